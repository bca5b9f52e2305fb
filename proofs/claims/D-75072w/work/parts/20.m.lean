def m_X3_thrown (μ : MS) : Option (Int32) := some (μ.1 0)
abbrev M_X3_thrown : MD := (yX3_thrown, cX3_thrown, 1, (some .int), [])
theorem ok_X3_thrown : mOK yX3_thrown 1 0 := ⟨⟨by decide +kernel, by decide +kernel⟩, by decide +kernel, by decide⟩
theorem w_X3_thrown {l : Launch} {g : GG} {h : AH} {B : BM} {μ : MS} {z : Int32} (hM : IsM B h μ) (hT : TX g h) (hn : m_X3_thrown μ = some z) : Sp l g M_X3_thrown 0 [.ref B.1] h (QZ (some (.int z)) h) := by
  refine Sp.ofV (L := [some (.ref B.1)]) rfl rfl (hcR hc0) (Nat.le_of_ble_eq_true rfl) rfl ?_
  have hM0 : MM B h h μ := ⟨hM, SameM.rf⟩
  unfold m_X3_thrown at hn
  refine V.aload_n dX3_thrown_0 rfl rfl IsR.ref ?_
  refine V.mgetI hM0 dX3_thrown_1 fo_X3_48_0 mi_0 ?_
  obtain rfl := Option.some.inj hn
  exact V.iret dX3_thrown_4 rfl ⟨rfl, rfl⟩
def m_X3_append_b23 (p1 : Int32) (p2 : Int32) (p3 : Int32) (p4 : Int32) (p5 : Int32) : (Int32 × MS) → Option ((Int32 × MS) ⊕ (MS)) := fun s => match s with
  | (i3, μ4) => if (20 : Int32) ≤ i3 then (some (.inr μ4)) else ((some (if (4 : Int32) ≤ i3 then (if (8 : Int32) ≤ i3 then (if (12 : Int32) ≤ i3 then (if (16 : Int32) ≤ i3 then (p5) else (p4)) else (p3)) else (p2)) else (p1))).bind fun v15 => (mSt μ4 6 1000 ((μ4.1 7) + i3) ((v15 >>> (((24 : Int32) - ((8 : Int32) * (i3 - i3 / (4 : Int32) * (4 : Int32)))) &&& 31)) &&& (255 : Int32))).bind fun μ17 => some (.inl (i3 + (1 : Int32), μ17)))
def m_X3_append (p1 : Int32) (p2 : Int32) (p3 : Int32) (p4 : Int32) (p5 : Int32) (μ : MS) : Option (Int32 × MS) := (some (mSF μ 0 (0 : Int32))).bind fun μ2 => if ((μ2.1 7) + (20 : Int32)) ≤ (1000 : Int32) then ((iter (m_X3_append_b23 p1 p2 p3 p4 p5) FUEL ((0 : Int32), μ2)).bind fun μ21 => (some (mSF μ21 7 ((μ21.1 7) + (20 : Int32)))).bind fun μ26 => some (μ26.1 7, μ26)) else (some ((-1 : Int32), μ2))
abbrev M_X3_append : MD := (yX3_append, cX3_append, 8, (some .int), [])
theorem ok_X3_append : mOK yX3_append 8 5 := ⟨⟨by decide +kernel, by decide +kernel⟩, by decide +kernel, by decide⟩
theorem w_X3_append {l : Launch} {g : GG} {h : AH} {B : BM} {μ : MS} {p1 : Int32} {p2 : Int32} {p3 : Int32} {p4 : Int32} {p5 : Int32} {z : Int32 × MS} (hM : IsM B h μ) (hT : TX g h) (hn : m_X3_append p1 p2 p3 p4 p5 μ = some z) : Sp l g M_X3_append 0 [.ref B.1, .int p1, .int p2, .int p3, .int p4, .int p5] h (QM B h (some (.int z.1)) z.2) := by
  refine Sp.ofV (L := [some (.ref B.1), some (.int p1), some (.int p2), some (.int p3), some (.int p4), some (.int p5), none, none]) rfl rfl (hcR (hcI (hcI (hcI (hcI (hcI hc0)))))) (Nat.le_of_ble_eq_true rfl) rfl ?_
  have hM0 : MM B h h μ := ⟨hM, SameM.rf⟩
  unfold m_X3_append at hn
  refine V.aload_n dX3_append_0 rfl rfl IsR.ref ?_
  refine V.iconst (v := 0) dX3_append_1 (by decide) ?_
  obtain ⟨μ2, e1, hn⟩ := bnd hn
  refine V.mputI hM0 dX3_append_2 po_M_48 mi_0 (fun h2 hM2 => ?_)
  rw [Option.some.inj e1] at hM2
  refine V.aload_n dX3_append_5 rfl rfl IsR.ref ?_
  refine V.mgetI hM2 dX3_append_6 fo_X3_59_0 mi_7 ?_
  refine V.bipush (v := 20) dX3_append_9 (by decide) ?_
  refine V.iadd dX3_append_11 ?_
  refine V.sipush (v := 1000) dX3_append_12 (by decide) ?_
  refine V.icmp_le (tgt := 20) dX3_append_15 (by decide) (fun hc30 => ?_) (fun hc30 => ?_)
  · rw [if_pos hc30] at hn
    refine V.iconst (v := 0) dX3_append_20 (by decide) ?_
    refine V.istore (i := 6) dX3_append_21 (by decide) ?_
    simp only [List.set_cons_zero, List.set_cons_succ]
    obtain ⟨b23, hL22, hn⟩ := bnd hn
    have hJ24 : ∀ (μ21 : MS), μ21 = b23 → ∀ h21, MM B h h21 μ21 → V l g M_X3_append 0 113 [some (.ref B.1), none, none, none, none, none, none, none] [] h21 (QM B h (some (.int z.1)) z.2) := by
      intro μ21 e27 h21 hM21
      subst e27
      (try dsimp only at hn)
      refine V.aload_n dX3_append_113 rfl rfl IsR.ref ?_
      refine V.dup dX3_append_114 rfl ?_
      refine V.mgetI hM21 dX3_append_115 fo_X3_59_0 mi_7 ?_
      refine V.bipush (v := 20) dX3_append_118 (by decide) ?_
      refine V.iadd dX3_append_120 ?_
      obtain ⟨μ26, e25, hn⟩ := bnd hn
      refine V.mputI hM21 dX3_append_121 po_M_59 mi_7 (fun h26 hM26 => ?_)
      rw [Option.some.inj e25] at hM26
      refine V.aload_n dX3_append_124 rfl rfl IsR.ref ?_
      refine V.mgetI hM26 dX3_append_125 fo_X3_59_0 mi_7 ?_
      obtain rfl := Option.some.inj hn
      exact V.iret dX3_append_128 rfl ⟨rfl, hM26⟩
    refine iter_ind (P := fun (σ : Int32 × MS) => match σ with | (i3, μ4) => ∀ h4, MM B h h4 μ4 → V l g M_X3_append 0 23 [some (.ref B.1), some (.int p1), some (.int p2), some (.int p3), some (.int p4), some (.int p5), some (.int i3), none] [] h4 (QM B h (some (.int z.1)) z.2)) (b := b23) ?_ FUEL ((0 : Int32), μ2) hL22 _ hM2
    rintro ⟨i3, μ4⟩ ρ28 hr5 hi6 hx7 h4 hM4
    unfold m_X3_append_b23 at hr5
    (try dsimp only at hr5)
    refine V.iload dX3_append_23 rfl ?_
    refine V.bipush (v := 20) dX3_append_25 (by decide) ?_
    refine V.icmp_ge (tgt := 113) dX3_append_27 (by decide) (fun hc20 => ?_) (fun hc20 => ?_)
    · rw [if_pos hc20] at hr5
      obtain rfl := Option.some.inj hr5
      have e29 := hx7 _ rfl
      exact V.forget (llS (llN (llN (llN (llN (llN (llN (llN ll0)))))))) (hJ24 _ e29 _ hM4)
    · rw [if_neg hc20] at hr5
      refine V.iload dX3_append_30 rfl ?_
      refine V.iconst (v := 4) dX3_append_32 (by decide) ?_
      obtain ⟨v15, e19, hr5⟩ := bnd hr5
      have e19 := Option.some.inj e19
      have hJ18 : V l g M_X3_append 0 76 [some (.ref B.1), some (.int p1), some (.int p2), some (.int p3), some (.int p4), some (.int p5), some (.int i3), none] [.int v15] h4 (QM B h (some (.int z.1)) z.2) := by
        refine V.istore (i := 7) dX3_append_76 (by decide) ?_
        simp only [List.set_cons_zero, List.set_cons_succ]
        refine V.aload_n dX3_append_78 rfl rfl IsR.ref ?_
        refine V.mgetA hM4 dX3_append_79 fo_X3_20_0 ma_6 ?_
        refine V.aload_n dX3_append_82 rfl rfl IsR.ref ?_
        refine V.mgetI hM4 dX3_append_83 fo_X3_59_0 mi_7 ?_
        refine V.iload dX3_append_86 rfl ?_
        refine V.iadd dX3_append_88 ?_
        refine V.iload dX3_append_89 rfl ?_
        refine V.bipush (v := 24) dX3_append_91 (by decide) ?_
        refine V.bipush (v := 8) dX3_append_93 (by decide) ?_
        refine V.iload dX3_append_95 rfl ?_
        refine V.iconst (v := 4) dX3_append_97 (by decide) ?_
        refine V.irem dX3_append_98 (by decide) ?_
        refine V.imul dX3_append_99 ?_
        refine V.isub dX3_append_100 ?_
        refine V.ishr dX3_append_101 ?_
        refine V.sipush (v := 255) dX3_append_102 (by decide) ?_
        refine V.iand dX3_append_105 ?_
        obtain ⟨μ17, e16, hr5⟩ := bnd hr5
        refine V.miast hM4 dX3_append_106 ma_6 (mSt_some e16) (fun h17 hM17 => ?_)
        refine V.iinc (v := i3 + (1 : Int32)) (i := 6) dX3_append_107 rfl (by rfl) (by decide) ?_
        simp only [List.set_cons_zero, List.set_cons_succ]
        refine V.goto (tgt := 23) dX3_append_110 (by decide) ?_
        obtain rfl := Option.some.inj hr5
        have hi6P := hi6 _ rfl
        exact V.forget (llS (llS (llS (llS (llS (llS (llS (llN ll0)))))))) (hi6P _ hM17)
      refine V.icmp_ge (tgt := 40) dX3_append_33 (by decide) (fun hc14 => ?_) (fun hc14 => ?_)
      · skip
        refine V.iload dX3_append_40 rfl ?_
        refine V.bipush (v := 8) dX3_append_42 (by decide) ?_
        refine V.icmp_ge (tgt := 51) dX3_append_44 (by decide) (fun hc13 => ?_) (fun hc13 => ?_)
        · skip
          refine V.iload dX3_append_51 rfl ?_
          refine V.bipush (v := 12) dX3_append_53 (by decide) ?_
          refine V.icmp_ge (tgt := 62) dX3_append_55 (by decide) (fun hc12 => ?_) (fun hc12 => ?_)
          · skip
            refine V.iload dX3_append_62 rfl ?_
            refine V.bipush (v := 16) dX3_append_64 (by decide) ?_
            refine V.icmp_ge (tgt := 74) dX3_append_66 (by decide) (fun hc11 => ?_) (fun hc11 => ?_)
            · skip
              refine V.iload dX3_append_74 rfl ?_
              rw [if_pos hc14, if_pos hc13, if_pos hc12, if_pos hc11] at e19
              subst e19
              exact hJ18
            · skip
              refine V.iload dX3_append_69 rfl ?_
              refine V.goto (tgt := 76) dX3_append_71 (by decide) ?_
              rw [if_pos hc14, if_pos hc13, if_pos hc12, if_neg hc11] at e19
              subst e19
              exact hJ18
          · skip
            refine V.iload_n dX3_append_58 rfl rfl ?_
            refine V.goto (tgt := 76) dX3_append_59 (by decide) ?_
            rw [if_pos hc14, if_pos hc13, if_neg hc12] at e19
            subst e19
            exact hJ18
        · skip
          refine V.iload_n dX3_append_47 rfl rfl ?_
          refine V.goto (tgt := 76) dX3_append_48 (by decide) ?_
          rw [if_pos hc14, if_neg hc13] at e19
          subst e19
          exact hJ18
      · skip
        refine V.iload_n dX3_append_36 rfl rfl ?_
        refine V.goto (tgt := 76) dX3_append_37 (by decide) ?_
        rw [if_neg hc14] at e19
        subst e19
        exact hJ18
  · rw [if_neg hc30] at hn
    refine V.iconst (v := -1) dX3_append_18 (by decide) ?_
    obtain rfl := Option.some.inj hn
    exact V.iret dX3_append_19 rfl ⟨rfl, hM2⟩
def m_X3_buffered (μ : MS) : Option (Int32 × MS) := (some (mSF μ 0 (0 : Int32))).bind fun μ2 => some (μ2.1 7, μ2)
abbrev M_X3_buffered : MD := (yX3_buffered, cX3_buffered, 1, (some .int), [])
theorem ok_X3_buffered : mOK yX3_buffered 1 0 := ⟨⟨by decide +kernel, by decide +kernel⟩, by decide +kernel, by decide⟩
theorem w_X3_buffered {l : Launch} {g : GG} {h : AH} {B : BM} {μ : MS} {z : Int32 × MS} (hM : IsM B h μ) (hT : TX g h) (hn : m_X3_buffered μ = some z) : Sp l g M_X3_buffered 0 [.ref B.1] h (QM B h (some (.int z.1)) z.2) := by
  refine Sp.ofV (L := [some (.ref B.1)]) rfl rfl (hcR hc0) (Nat.le_of_ble_eq_true rfl) rfl ?_
  have hM0 : MM B h h μ := ⟨hM, SameM.rf⟩
  unfold m_X3_buffered at hn
  refine V.aload_n dX3_buffered_0 rfl rfl IsR.ref ?_
  refine V.iconst (v := 0) dX3_buffered_1 (by decide) ?_
  obtain ⟨μ2, e1, hn⟩ := bnd hn
  refine V.mputI hM0 dX3_buffered_2 po_M_48 mi_0 (fun h2 hM2 => ?_)
  rw [Option.some.inj e1] at hM2
  refine V.aload_n dX3_buffered_5 rfl rfl IsR.ref ?_
  refine V.mgetI hM2 dX3_buffered_6 fo_X3_59_0 mi_7 ?_
  obtain rfl := Option.some.inj hn
  exact V.iret dX3_buffered_9 rfl ⟨rfl, hM2⟩
def m_X3_parseError (μ : MS) : Option (Int32 × MS) := (some (mSF μ 0 (0 : Int32))).bind fun μ2 => some (μ2.1 8, μ2)
abbrev M_X3_parseError : MD := (yX3_parseError, cX3_parseError, 1, (some .int), [])
theorem ok_X3_parseError : mOK yX3_parseError 1 0 := ⟨⟨by decide +kernel, by decide +kernel⟩, by decide +kernel, by decide⟩
theorem w_X3_parseError {l : Launch} {g : GG} {h : AH} {B : BM} {μ : MS} {z : Int32 × MS} (hM : IsM B h μ) (hT : TX g h) (hn : m_X3_parseError μ = some z) : Sp l g M_X3_parseError 0 [.ref B.1] h (QM B h (some (.int z.1)) z.2) := by
  refine Sp.ofV (L := [some (.ref B.1)]) rfl rfl (hcR hc0) (Nat.le_of_ble_eq_true rfl) rfl ?_
  have hM0 : MM B h h μ := ⟨hM, SameM.rf⟩
  unfold m_X3_parseError at hn
  refine V.aload_n dX3_parseError_0 rfl rfl IsR.ref ?_
  refine V.iconst (v := 0) dX3_parseError_1 (by decide) ?_
  obtain ⟨μ2, e1, hn⟩ := bnd hn
  refine V.mputI hM0 dX3_parseError_2 po_M_48 mi_0 (fun h2 hM2 => ?_)
  rw [Option.some.inj e1] at hM2
  refine V.aload_n dX3_parseError_5 rfl rfl IsR.ref ?_
  refine V.mgetI hM2 dX3_parseError_6 fo_X3_62_0 mi_8 ?_
  obtain rfl := Option.some.inj hn
  exact V.iret dX3_parseError_9 rfl ⟨rfl, hM2⟩
def m_X3_errorPosition (μ : MS) : Option (Int32 × MS) := (some (mSF μ 0 (0 : Int32))).bind fun μ2 => some (μ2.1 9, μ2)
abbrev M_X3_errorPosition : MD := (yX3_errorPosition, cX3_errorPosition, 1, (some .int), [])
theorem ok_X3_errorPosition : mOK yX3_errorPosition 1 0 := ⟨⟨by decide +kernel, by decide +kernel⟩, by decide +kernel, by decide⟩
theorem w_X3_errorPosition {l : Launch} {g : GG} {h : AH} {B : BM} {μ : MS} {z : Int32 × MS} (hM : IsM B h μ) (hT : TX g h) (hn : m_X3_errorPosition μ = some z) : Sp l g M_X3_errorPosition 0 [.ref B.1] h (QM B h (some (.int z.1)) z.2) := by
  refine Sp.ofV (L := [some (.ref B.1)]) rfl rfl (hcR hc0) (Nat.le_of_ble_eq_true rfl) rfl ?_
  have hM0 : MM B h h μ := ⟨hM, SameM.rf⟩
  unfold m_X3_errorPosition at hn
  refine V.aload_n dX3_errorPosition_0 rfl rfl IsR.ref ?_
  refine V.iconst (v := 0) dX3_errorPosition_1 (by decide) ?_
  obtain ⟨μ2, e1, hn⟩ := bnd hn
  refine V.mputI hM0 dX3_errorPosition_2 po_M_48 mi_0 (fun h2 hM2 => ?_)
  rw [Option.some.inj e1] at hM2
  refine V.aload_n dX3_errorPosition_5 rfl rfl IsR.ref ?_
  refine V.mgetI hM2 dX3_errorPosition_6 fo_X3_23_0 mi_9 ?_
  obtain rfl := Option.some.inj hn
  exact V.iret dX3_errorPosition_9 rfl ⟨rfl, hM2⟩
def m_X3_in (p1 : Int32) (p2 : Int32) (p3 : Int32) : Option (Int32) := if p1 < p2 then (some (0 : Int32)) else (if p3 < p1 then (some (0 : Int32)) else (some (1 : Int32)))
abbrev M_X3_in : MD := (yX3_in, cX3_in, 3, (some .boolean), [])
theorem ok_X3_in : mOK yX3_in 3 3 := ⟨⟨by decide +kernel, by decide +kernel⟩, by decide +kernel, by decide⟩
theorem w_X3_in {l : Launch} {g : GG} {h : AH} {p1 : Int32} {p2 : Int32} {p3 : Int32} {z : Int32} (hn : m_X3_in p1 p2 p3 = some z) : Sp l g M_X3_in 0 [.int p1, .int p2, .int p3] h (QZ (some (.int z)) h) := by
  refine Sp.ofV (L := [some (.int p1), some (.int p2), some (.int p3)]) rfl rfl (hcI (hcI (hcI hc0))) (Nat.le_of_ble_eq_true rfl) rfl ?_
  unfold m_X3_in at hn
  refine V.iload_n dX3_in_0 rfl rfl ?_
  refine V.iload_n dX3_in_1 rfl rfl ?_
  refine V.icmp_lt (tgt := 14) dX3_in_2 (by decide) (fun hc2 => ?_) (fun hc2 => ?_)
  · rw [if_pos hc2] at hn
    refine V.iconst (v := 0) dX3_in_14 (by decide) ?_
    obtain rfl := Option.some.inj hn
    exact V.zret dX3_in_15 rfl rfl ⟨rfl, rfl⟩
  · rw [if_neg hc2] at hn
    refine V.iload_n dX3_in_5 rfl rfl ?_
    refine V.iload_n dX3_in_6 rfl rfl ?_
    refine V.icmp_gt (tgt := 14) dX3_in_7 (by decide) (fun hc1 => ?_) (fun hc1 => ?_)
    · rw [if_pos hc1] at hn
      refine V.iconst (v := 0) dX3_in_14 (by decide) ?_
      obtain rfl := Option.some.inj hn
      exact V.zret dX3_in_15 rfl rfl ⟨rfl, rfl⟩
    · rw [if_neg hc1] at hn
      refine V.iconst (v := 1) dX3_in_10 (by decide) ?_
      refine V.goto (tgt := 15) dX3_in_11 (by decide) ?_
      obtain rfl := Option.some.inj hn
      exact V.zret dX3_in_15 rfl rfl ⟨rfl, rfl⟩
def m_X3_refuse (p1 : Int32) (p2 : Int32) (μ : MS) : Option (Int32 × MS) := (if (μ.1 0) = (0 : Int32) then (if p1 = (0 : Int32) then (some μ) else ((some (mSF μ 0 p2)).bind fun μ4 => some μ4)) else (some μ) : Option (MS)).bind fun μ7 => if (μ7.1 0) = (0 : Int32) then (some ((0 : Int32), μ7)) else (some ((1 : Int32), μ7))
abbrev M_X3_refuse : MD := (yX3_refuse, cX3_refuse, 3, (some .boolean), [])
theorem ok_X3_refuse : mOK yX3_refuse 3 2 := ⟨⟨by decide +kernel, by decide +kernel⟩, by decide +kernel, by decide⟩
theorem w_X3_refuse {l : Launch} {g : GG} {h : AH} {B : BM} {μ : MS} {p1 : Int32} {p2 : Int32} {z : Int32 × MS} (hM : IsM B h μ) (hT : TX g h) (hn : m_X3_refuse p1 p2 μ = some z) : Sp l g M_X3_refuse 0 [.ref B.1, .int p1, .int p2] h (QM B h (some (.int z.1)) z.2) := by
  refine Sp.ofV (L := [some (.ref B.1), some (.int p1), some (.int p2)]) rfl rfl (hcR (hcI (hcI hc0))) (Nat.le_of_ble_eq_true rfl) rfl ?_
  have hM0 : MM B h h μ := ⟨hM, SameM.rf⟩
  unfold m_X3_refuse at hn
  refine V.aload_n dX3_refuse_0 rfl rfl IsR.ref ?_
  refine V.mgetI hM0 dX3_refuse_1 fo_X3_48_0 mi_0 ?_
  obtain ⟨μ7, hA2, hn⟩ := bnd hn
  (try dsimp only at hn)
  have hJ9 : ∀ h7, MM B h h7 μ7 → V l g M_X3_refuse 0 16 [some (.ref B.1), none, none] [] h7 (QM B h (some (.int z.1)) z.2) := by
    intro h7 hM7
    refine V.aload_n dX3_refuse_16 rfl rfl IsR.ref ?_
    refine V.mgetI hM7 dX3_refuse_17 fo_X3_48_0 mi_0 ?_
    refine V.if_eq (tgt := 27) dX3_refuse_20 (by decide) (fun hc8 => ?_) (fun hc8 => ?_)
    · rw [if_pos hc8] at hn
      refine V.iconst (v := 0) dX3_refuse_27 (by decide) ?_
      obtain rfl := Option.some.inj hn
      exact V.zret dX3_refuse_28 rfl rfl ⟨rfl, hM7⟩
    · rw [if_neg hc8] at hn
      refine V.iconst (v := 1) dX3_refuse_23 (by decide) ?_
      refine V.goto (tgt := 28) dX3_refuse_24 (by decide) ?_
      obtain rfl := Option.some.inj hn
      exact V.zret dX3_refuse_28 rfl rfl ⟨rfl, hM7⟩
  refine V.if_ne (tgt := 16) dX3_refuse_4 (by decide) (fun hc6 => ?_) (fun hc6 => ?_)
  · rw [if_neg hc6] at hA2
    obtain rfl := Option.some.inj hA2
    exact V.forget (llS (llN (llN ll0))) (hJ9 _ hM0)
  · rw [if_pos hc6] at hA2
    refine V.iload_n dX3_refuse_7 rfl rfl ?_
    refine V.if_eq (tgt := 16) dX3_refuse_8 (by decide) (fun hc5 => ?_) (fun hc5 => ?_)
    · rw [if_pos hc5] at hA2
      obtain rfl := Option.some.inj hA2
      exact V.forget (llS (llN (llN ll0))) (hJ9 _ hM0)
    · rw [if_neg hc5] at hA2
      refine V.aload_n dX3_refuse_11 rfl rfl IsR.ref ?_
      refine V.iload_n dX3_refuse_12 rfl rfl ?_
      obtain ⟨μ4, e3, hA2⟩ := bnd hA2
      refine V.mputI hM0 dX3_refuse_13 po_M_48 mi_0 (fun h4 hM4 => ?_)
      rw [Option.some.inj e3] at hM4
      obtain rfl := Option.some.inj hA2
      exact V.forget (llS (llN (llN ll0))) (hJ9 _ hM4)
def m_X3_seen (p1 : Int32) (μ : MS) : Option (Int32) := if (μ.1 10) ≤ p1 then (some (-1 : Int32)) else ((mLd μ 6 1000 p1).bind fun x1 => some x1)
abbrev M_X3_seen : MD := (yX3_seen, cX3_seen, 2, (some .int), [])
theorem ok_X3_seen : mOK yX3_seen 2 1 := ⟨⟨by decide +kernel, by decide +kernel⟩, by decide +kernel, by decide⟩
theorem w_X3_seen {l : Launch} {g : GG} {h : AH} {B : BM} {μ : MS} {p1 : Int32} {z : Int32} (hM : IsM B h μ) (hT : TX g h) (hn : m_X3_seen p1 μ = some z) : Sp l g M_X3_seen 0 [.ref B.1, .int p1] h (QZ (some (.int z)) h) := by
  refine Sp.ofV (L := [some (.ref B.1), some (.int p1)]) rfl rfl (hcR (hcI hc0)) (Nat.le_of_ble_eq_true rfl) rfl ?_
  have hM0 : MM B h h μ := ⟨hM, SameM.rf⟩
  unfold m_X3_seen at hn
  refine V.iload_n dX3_seen_0 rfl rfl ?_
  refine V.aload_n dX3_seen_1 rfl rfl IsR.ref ?_
  refine V.mgetI hM0 dX3_seen_2 fo_X3_65_0 mi_10 ?_
  refine V.icmp_ge (tgt := 17) dX3_seen_5 (by decide) (fun hc3 => ?_) (fun hc3 => ?_)
  · rw [if_pos hc3] at hn
    refine V.iconst (v := -1) dX3_seen_17 (by decide) ?_
    obtain rfl := Option.some.inj hn
    exact V.iret dX3_seen_18 rfl ⟨rfl, rfl⟩
  · rw [if_neg hc3] at hn
    refine V.aload_n dX3_seen_8 rfl rfl IsR.ref ?_
    refine V.mgetA hM0 dX3_seen_9 fo_X3_20_0 ma_6 ?_
    refine V.iload_n dX3_seen_12 rfl rfl ?_
    obtain ⟨x1, e2, hn⟩ := bnd hn
    refine V.miald hM0 dX3_seen_13 ma_6 (mLd_some e2) ?_
    refine V.goto (tgt := 18) dX3_seen_14 (by decide) ?_
    obtain rfl := Option.some.inj hn
    exact V.iret dX3_seen_18 rfl ⟨rfl, rfl⟩
def m_X3_isLetter (p1 : Int32) : Option (Int32) := if p1 < (97 : Int32) then (some (0 : Int32)) else (if (122 : Int32) < p1 then (some (0 : Int32)) else (some (1 : Int32)))
abbrev M_X3_isLetter : MD := (yX3_isLetter, cX3_isLetter, 1, (some .boolean), [])
theorem ok_X3_isLetter : mOK yX3_isLetter 1 1 := ⟨⟨by decide +kernel, by decide +kernel⟩, by decide +kernel, by decide⟩
theorem w_X3_isLetter {l : Launch} {g : GG} {h : AH} {p1 : Int32} {z : Int32} (hn : m_X3_isLetter p1 = some z) : Sp l g M_X3_isLetter 0 [.int p1] h (QZ (some (.int z)) h) := by
  refine Sp.ofV (L := [some (.int p1)]) rfl rfl (hcI hc0) (Nat.le_of_ble_eq_true rfl) rfl ?_
  unfold m_X3_isLetter at hn
  refine V.iload_n dX3_isLetter_0 rfl rfl ?_
  refine V.bipush (v := 97) dX3_isLetter_1 (by decide) ?_
  refine V.icmp_lt (tgt := 16) dX3_isLetter_3 (by decide) (fun hc2 => ?_) (fun hc2 => ?_)
  · rw [if_pos hc2] at hn
    refine V.iconst (v := 0) dX3_isLetter_16 (by decide) ?_
    obtain rfl := Option.some.inj hn
    exact V.zret dX3_isLetter_17 rfl rfl ⟨rfl, rfl⟩
  · rw [if_neg hc2] at hn
    refine V.iload_n dX3_isLetter_6 rfl rfl ?_
    refine V.bipush (v := 122) dX3_isLetter_7 (by decide) ?_
    refine V.icmp_gt (tgt := 16) dX3_isLetter_9 (by decide) (fun hc1 => ?_) (fun hc1 => ?_)
    · rw [if_pos hc1] at hn
      refine V.iconst (v := 0) dX3_isLetter_16 (by decide) ?_
      obtain rfl := Option.some.inj hn
      exact V.zret dX3_isLetter_17 rfl rfl ⟨rfl, rfl⟩
    · rw [if_neg hc1] at hn
      refine V.iconst (v := 1) dX3_isLetter_12 (by decide) ?_
      refine V.goto (tgt := 17) dX3_isLetter_13 (by decide) ?_
      obtain rfl := Option.some.inj hn
      exact V.zret dX3_isLetter_17 rfl rfl ⟨rfl, rfl⟩
def m_X3_isDigit (p1 : Int32) : Option (Int32) := if p1 < (48 : Int32) then (some (0 : Int32)) else (if (57 : Int32) < p1 then (some (0 : Int32)) else (some (1 : Int32)))
abbrev M_X3_isDigit : MD := (yX3_isDigit, cX3_isDigit, 1, (some .boolean), [])
theorem ok_X3_isDigit : mOK yX3_isDigit 1 1 := ⟨⟨by decide +kernel, by decide +kernel⟩, by decide +kernel, by decide⟩
theorem w_X3_isDigit {l : Launch} {g : GG} {h : AH} {p1 : Int32} {z : Int32} (hn : m_X3_isDigit p1 = some z) : Sp l g M_X3_isDigit 0 [.int p1] h (QZ (some (.int z)) h) := by
  refine Sp.ofV (L := [some (.int p1)]) rfl rfl (hcI hc0) (Nat.le_of_ble_eq_true rfl) rfl ?_
  unfold m_X3_isDigit at hn
  refine V.iload_n dX3_isDigit_0 rfl rfl ?_
  refine V.bipush (v := 48) dX3_isDigit_1 (by decide) ?_
  refine V.icmp_lt (tgt := 16) dX3_isDigit_3 (by decide) (fun hc2 => ?_) (fun hc2 => ?_)
  · rw [if_pos hc2] at hn
    refine V.iconst (v := 0) dX3_isDigit_16 (by decide) ?_
    obtain rfl := Option.some.inj hn
    exact V.zret dX3_isDigit_17 rfl rfl ⟨rfl, rfl⟩
  · rw [if_neg hc2] at hn
    refine V.iload_n dX3_isDigit_6 rfl rfl ?_
    refine V.bipush (v := 57) dX3_isDigit_7 (by decide) ?_
    refine V.icmp_gt (tgt := 16) dX3_isDigit_9 (by decide) (fun hc1 => ?_) (fun hc1 => ?_)
    · rw [if_pos hc1] at hn
      refine V.iconst (v := 0) dX3_isDigit_16 (by decide) ?_
      obtain rfl := Option.some.inj hn
      exact V.zret dX3_isDigit_17 rfl rfl ⟨rfl, rfl⟩
    · rw [if_neg hc1] at hn
      refine V.iconst (v := 1) dX3_isDigit_12 (by decide) ?_
      refine V.goto (tgt := 17) dX3_isDigit_13 (by decide) ?_
      obtain rfl := Option.some.inj hn
      exact V.zret dX3_isDigit_17 rfl rfl ⟨rfl, rfl⟩
def m_X3_token_b0 : (MS) → Option ((MS) ⊕ (MS)) := fun μ1 => (m_X3_seen (μ1.1 11) μ1).bind fun x6 => if x6 = (32 : Int32) then ((some (mSF μ1 11 ((μ1.1 11) + (1 : Int32)))).bind fun μ9 => some (.inl μ9)) else (some (.inr μ1))
def m_X3_token_b166 : (Int32 × MS) → Option ((Int32 × MS) ⊕ (Int32 × MS)) := fun s => match s with
  | (i35, μ36) => (m_X3_seen (μ36.1 11) μ36).bind fun x41 => (m_X3_isDigit x41).bind fun x43 => if x43 = (0 : Int32) then (some (.inr (i35, μ36))) else ((if (5 : Int32) ≤ i35 then (some (0 : Int32)) else ((m_X3_seen (μ36.1 11) μ36).bind fun x47 => some ((((10 : Int32) * (μ36.1 16)) + x47) - (48 : Int32))) : Option (Int32)).bind fun v50 => (some (mSF μ36 16 v50)).bind fun μ52 => (some (mSF μ52 11 ((μ52.1 11) + (1 : Int32)))).bind fun μ54 => some (.inl (i35 + (1 : Int32), μ54)))
def m_X3_token_b68 : (MS) → Option ((MS) ⊕ (MS)) := fun μ73 => (m_X3_seen (μ73.1 11) μ73).bind fun x78 => (m_X3_isLetter x78).bind fun x80 => if x80 = (0 : Int32) then (some (.inr μ73)) else ((if (6 : Int32) ≤ (μ73.1 15) then (some μ73) else ((m_X3_seen (μ73.1 11) μ73).bind fun x84 => (mSt μ73 14 6 (μ73.1 15) x84).bind fun μ87 => some μ87) : Option (MS)).bind fun μ89 => (some (mSF μ89 15 ((μ89.1 15) + (1 : Int32)))).bind fun μ91 => (some (mSF μ91 11 ((μ91.1 11) + (1 : Int32)))).bind fun μ93 => some (.inl μ93))
def m_X3_token (μ : MS) : Option (MS) := (iter (m_X3_token_b0) FUEL μ).bind fun μ11 => (some (mSF μ11 12 (μ11.1 11))).bind fun μ16 => (m_X3_seen (μ16.1 11) μ16).bind fun x17 => if x17 = (-1 : Int32) then ((some (mSF μ16 13 (0 : Int32))).bind fun μ110 => some μ110) else ((m_X3_isLetter x17).bind fun x19 => if x19 = (0 : Int32) then ((m_X3_isDigit x17).bind fun x21 => if x21 = (0 : Int32) then ((some (if x17 = (59 : Int32) then ((3 : Int32)) else ((4 : Int32)))).bind fun v26 => (some (mSF μ16 13 v26)).bind fun μ28 => (some (mSF μ28 11 ((μ28.1 11) + (1 : Int32)))).bind fun μ30 => some μ30) else ((some (mSF μ16 16 (0 : Int32))).bind fun μ34 => (iter (m_X3_token_b166) FUEL ((0 : Int32), μ34)).bind fun y => match y with | (v57, μ58) => if v57 ≤ (5 : Int32) then ((some (mSF μ58 13 (2 : Int32))).bind fun μ63 => some μ63) else ((some (mSF μ58 13 (4 : Int32))).bind fun μ65 => some μ65))) else ((some (mSF μ16 15 (0 : Int32))).bind fun μ72 => (iter (m_X3_token_b68) FUEL μ72).bind fun μ96 => if (μ96.1 15) ≤ (6 : Int32) then ((some (mSF μ96 13 (1 : Int32))).bind fun μ101 => some μ101) else ((some (mSF μ96 13 (4 : Int32))).bind fun μ103 => some μ103)))
abbrev M_X3_token : MD := (yX3_token, cX3_token, 3, none, [])
theorem ok_X3_token : mOK yX3_token 3 0 := ⟨⟨by decide +kernel, by decide +kernel⟩, by decide +kernel, by decide⟩
theorem w_X3_token {l : Launch} {g : GG} {h : AH} {B : BM} {μ : MS} {z : MS} (hM : IsM B h μ) (hT : TX g h) (hn : m_X3_token μ = some z) : Sp l g M_X3_token 1 [.ref B.1] h (QM B h none z) := by
  refine Sp.ofV (L := [some (.ref B.1), none, none]) rfl rfl (hcR hc0) (Nat.le_of_ble_eq_true rfl) rfl ?_
  have hM0 : MM B h h μ := ⟨hM, SameM.rf⟩
  unfold m_X3_token at hn
  obtain ⟨b13, hL12, hn⟩ := bnd hn
  have hJ14 : ∀ (μ11 : MS), μ11 = b13 → ∀ h11, MM B h h11 μ11 → V l g M_X3_token 1 26 [some (.ref B.1), none, none] [] h11 (QM B h none z) := by
    intro μ11 e112 h11 hM11
    subst e112
    (try dsimp only at hn)
    refine V.aload_n dX3_token_26 rfl rfl IsR.ref ?_
    refine V.aload_n dX3_token_27 rfl rfl IsR.ref ?_
    refine V.mgetI hM11 dX3_token_28 fo_X3_68_0 mi_11 ?_
    obtain ⟨μ16, e15, hn⟩ := bnd hn
    refine V.mputI hM11 dX3_token_31 po_M_75 mi_12 (fun h16 hM16 => ?_)
    rw [Option.some.inj e15] at hM16
    refine V.aload_n dX3_token_34 rfl rfl IsR.ref ?_
    refine V.aload_n dX3_token_35 rfl rfl IsR.ref ?_
    refine V.mgetI hM16 dX3_token_36 fo_X3_68_0 mi_11 ?_
    obtain ⟨x17, e18, hn⟩ := bnd hn
    refine V.invV (as := [.int (μ16.1 11)]) (b := B.1) (ci := 0) (w := true) (rc := rc0) dX3_token_39 ok_X3_seen (lw_V q2323 q2325 qs70 q151 q2326) rfl hM16.1.1 rfl (by decide) (Nat.le_of_ble_eq_true rfl) (w_X3_seen hM16.1 (hT.mm hM hM16) e18) (krI ?_) kxZ
    refine V.istore_n (i := 1) dX3_token_42 rfl (by decide) ?_
    simp only [List.set_cons_zero, List.set_cons_succ]
    refine V.iload_n dX3_token_43 rfl rfl ?_
    refine V.iconst (v := -1) dX3_token_44 (by decide) ?_
    refine V.icmp_ne (tgt := 56) dX3_token_45 (by decide) (fun hc111 => ?_) (fun hc111 => ?_)
    · rw [if_neg hc111] at hn
      refine V.iload_n dX3_token_56 rfl rfl ?_
      obtain ⟨x19, e20, hn⟩ := bnd hn
      refine V.invS (as := [.int x17]) dX3_token_57 ok_X3_isLetter (lw_S q2327 q2328 q151 q2329) (by decide) (Nat.le_of_ble_eq_true rfl) (w_X3_isLetter e20) (krI ?_) kxZ
      refine V.if_eq (tgt := 152) dX3_token_60 (by decide) (fun hc108 => ?_) (fun hc108 => ?_)
      · rw [if_pos hc108] at hn
        refine V.iload_n dX3_token_152 rfl rfl ?_
        obtain ⟨x21, e22, hn⟩ := bnd hn
        refine V.invS (as := [.int x17]) dX3_token_153 ok_X3_isDigit (lw_S q2330 q2331 q151 q2332) (by decide) (Nat.le_of_ble_eq_true rfl) (w_X3_isDigit e22) (krI ?_) kxZ
        refine V.if_eq (tgt := 245) dX3_token_156 (by decide) (fun hc70 => ?_) (fun hc70 => ?_)
        · rw [if_pos hc70] at hn
          refine V.aload_n dX3_token_245 rfl rfl IsR.ref ?_
          refine V.iload_n dX3_token_246 rfl rfl ?_
          refine V.bipush (v := 59) dX3_token_247 (by decide) ?_
          obtain ⟨v26, e32, hn⟩ := bnd hn
          have e32 := Option.some.inj e32
          have hJ31 : V l g M_X3_token 1 257 [some (.ref B.1), none, none] [.int v26, .ref B.1] h16 (QM B h none z) := by
            obtain ⟨μ28, e27, hn⟩ := bnd hn
            refine V.mputI hM16 dX3_token_257 po_M_78 mi_13 (fun h28 hM28 => ?_)
            rw [Option.some.inj e27] at hM28
            refine V.aload_n dX3_token_260 rfl rfl IsR.ref ?_
            refine V.dup dX3_token_261 rfl ?_
            refine V.mgetI hM28 dX3_token_262 fo_X3_68_0 mi_11 ?_
            refine V.iconst (v := 1) dX3_token_265 (by decide) ?_
            refine V.iadd dX3_token_266 ?_
            obtain ⟨μ30, e29, hn⟩ := bnd hn
            refine V.mputI hM28 dX3_token_267 po_M_68 mi_11 (fun h30 hM30 => ?_)
            rw [Option.some.inj e29] at hM30
            obtain rfl := Option.some.inj hn
            exact V.vret dX3_token_270 rfl ⟨rfl, hM30⟩
          refine V.icmp_ne (tgt := 256) dX3_token_249 (by decide) (fun hc25 => ?_) (fun hc25 => ?_)
          · skip
            refine V.iconst (v := 4) dX3_token_256 (by decide) ?_
            rw [if_neg hc25] at e32
            subst e32
            exact V.forget (llS (llN (llN ll0))) (hJ31)
          · skip
            refine V.iconst (v := 3) dX3_token_252 (by decide) ?_
            refine V.goto (tgt := 257) dX3_token_253 (by decide) ?_
            rw [if_pos hc25] at e32
            subst e32
            exact V.forget (llS (llN (llN ll0))) (hJ31)
        · rw [if_neg hc70] at hn
          refine V.iconst (v := 0) dX3_token_159 (by decide) ?_
          refine V.istore_n (i := 2) dX3_token_160 rfl (by decide) ?_
          simp only [List.set_cons_zero, List.set_cons_succ]
          refine V.aload_n dX3_token_161 rfl rfl IsR.ref ?_
          refine V.iconst (v := 0) dX3_token_162 (by decide) ?_
          obtain ⟨μ34, e33, hn⟩ := bnd hn
          refine V.mputI hM16 dX3_token_163 po_M_91 mi_16 (fun h34 hM34 => ?_)
          rw [Option.some.inj e33] at hM34
          obtain ⟨b60, hL59, hn⟩ := bnd hn
          have hJ61 : ∀ (v57 : Int32) (μ58 : MS), (v57, μ58) = b60 → ∀ h58, MM B h h58 μ58 → V l g M_X3_token 1 228 [some (.ref B.1), none, some (.int v57)] [] h58 (QM B h none z) := by
            intro v57 μ58 e67 h58 hM58
            subst e67
            (try dsimp only at hn)
            refine V.aload_n dX3_token_228 rfl rfl IsR.ref ?_
            refine V.iload_n dX3_token_229 rfl rfl ?_
            refine V.iconst (v := 5) dX3_token_230 (by decide) ?_
            refine V.icmp_le (tgt := 238) dX3_token_231 (by decide) (fun hc66 => ?_) (fun hc66 => ?_)
            · rw [if_pos hc66] at hn
              refine V.iconst (v := 2) dX3_token_238 (by decide) ?_
              obtain ⟨μ63, e62, hn⟩ := bnd hn
              refine V.mputI hM58 dX3_token_239 po_M_78 mi_13 (fun h63 hM63 => ?_)
              rw [Option.some.inj e62] at hM63
              refine V.goto (tgt := 270) dX3_token_242 (by decide) ?_
              obtain rfl := Option.some.inj hn
              exact V.vret dX3_token_270 rfl ⟨rfl, hM63⟩
            · rw [if_neg hc66] at hn
              refine V.iconst (v := 4) dX3_token_234 (by decide) ?_
              refine V.goto (tgt := 239) dX3_token_235 (by decide) ?_
              obtain ⟨μ65, e64, hn⟩ := bnd hn
              refine V.mputI hM58 dX3_token_239 po_M_78 mi_13 (fun h65 hM65 => ?_)
              rw [Option.some.inj e64] at hM65
              refine V.goto (tgt := 270) dX3_token_242 (by decide) ?_
              obtain rfl := Option.some.inj hn
              exact V.vret dX3_token_270 rfl ⟨rfl, hM65⟩
          refine V.forget (llS (llN (llS ll0))) (iter_ind (P := fun (σ : Int32 × MS) => match σ with | (i35, μ36) => ∀ h36, MM B h h36 μ36 → V l g M_X3_token 1 166 [some (.ref B.1), none, some (.int i35)] [] h36 (QM B h none z)) (b := b60) ?_ FUEL ((0 : Int32), μ34) hL59 _ hM34)
          rintro ⟨i35, μ36⟩ ρ68 hr37 hi38 hx39 h36 hM36
          unfold m_X3_token_b166 at hr37
          (try dsimp only at hr37)
          refine V.aload_n dX3_token_166 rfl rfl IsR.ref ?_
          refine V.aload_n dX3_token_167 rfl rfl IsR.ref ?_
          refine V.mgetI hM36 dX3_token_168 fo_X3_68_0 mi_11 ?_
          obtain ⟨x41, e42, hr37⟩ := bnd hr37
          refine V.invV (as := [.int (μ36.1 11)]) (b := B.1) (ci := 0) (w := true) (rc := rc0) dX3_token_171 ok_X3_seen (lw_V q2323 q2325 qs70 q151 q2326) rfl hM36.1.1 rfl (by decide) (Nat.le_of_ble_eq_true rfl) (w_X3_seen hM36.1 (hT.mm hM hM36) e42) (krI ?_) kxZ
          obtain ⟨x43, e44, hr37⟩ := bnd hr37
          refine V.invS (as := [.int x41]) dX3_token_174 ok_X3_isDigit (lw_S q2330 q2331 q151 q2332) (by decide) (Nat.le_of_ble_eq_true rfl) (w_X3_isDigit e44) (krI ?_) kxZ
          refine V.if_eq (tgt := 228) dX3_token_177 (by decide) (fun hc56 => ?_) (fun hc56 => ?_)
          · rw [if_pos hc56] at hr37
            obtain rfl := Option.some.inj hr37
            have e69 := hx39 _ rfl
            exact hJ61 _ _ e69 _ hM36
          · rw [if_neg hc56] at hr37
            refine V.aload_n dX3_token_180 rfl rfl IsR.ref ?_
            refine V.iload_n dX3_token_181 rfl rfl ?_
            refine V.iconst (v := 5) dX3_token_182 (by decide) ?_
            obtain ⟨v50, hA46, hr37⟩ := bnd hr37
            (try dsimp only at hr37)
            have hJ55 : V l g M_X3_token 1 209 [some (.ref B.1), none, some (.int i35)] [.int v50, .ref B.1] h36 (QM B h none z) := by
              obtain ⟨μ52, e51, hr37⟩ := bnd hr37
              refine V.mputI hM36 dX3_token_209 po_M_91 mi_16 (fun h52 hM52 => ?_)
              rw [Option.some.inj e51] at hM52
              refine V.iinc (v := i35 + (1 : Int32)) (i := 2) dX3_token_212 rfl (by rfl) (by decide) ?_
              simp only [List.set_cons_zero, List.set_cons_succ]
              refine V.aload_n dX3_token_215 rfl rfl IsR.ref ?_
              refine V.dup dX3_token_216 rfl ?_
              refine V.mgetI hM52 dX3_token_217 fo_X3_68_0 mi_11 ?_
              refine V.iconst (v := 1) dX3_token_220 (by decide) ?_
              refine V.iadd dX3_token_221 ?_
              obtain ⟨μ54, e53, hr37⟩ := bnd hr37
              refine V.mputI hM52 dX3_token_222 po_M_68 mi_11 (fun h54 hM54 => ?_)
              rw [Option.some.inj e53] at hM54
              refine V.goto (tgt := 166) dX3_token_225 (by decide) ?_
              obtain rfl := Option.some.inj hr37
              have hi38P := hi38 _ rfl
              exact hi38P _ hM54
            refine V.icmp_ge (tgt := 208) dX3_token_183 (by decide) (fun hc49 => ?_) (fun hc49 => ?_)
            · rw [if_pos hc49] at hA46
              refine V.iconst (v := 0) dX3_token_208 (by decide) ?_
              obtain rfl := Option.some.inj hA46
              exact hJ55
            · rw [if_neg hc49] at hA46
              refine V.bipush (v := 10) dX3_token_186 (by decide) ?_
              refine V.aload_n dX3_token_188 rfl rfl IsR.ref ?_
              refine V.mgetI hM36 dX3_token_189 fo_X3_91_0 mi_16 ?_
              refine V.imul dX3_token_192 ?_
              refine V.aload_n dX3_token_193 rfl rfl IsR.ref ?_
              refine V.aload_n dX3_token_194 rfl rfl IsR.ref ?_
              refine V.mgetI hM36 dX3_token_195 fo_X3_68_0 mi_11 ?_
              obtain ⟨x47, e48, hA46⟩ := bnd hA46
              refine V.invV (as := [.int (μ36.1 11)]) (b := B.1) (ci := 0) (w := true) (rc := rc0) dX3_token_198 ok_X3_seen (lw_V q2323 q2325 qs70 q151 q2326) rfl hM36.1.1 rfl (by decide) (Nat.le_of_ble_eq_true rfl) (w_X3_seen hM36.1 (hT.mm hM hM36) e48) (krI ?_) kxZ
              refine V.iadd dX3_token_201 ?_
              refine V.bipush (v := 48) dX3_token_202 (by decide) ?_
              refine V.isub dX3_token_204 ?_
              refine V.goto (tgt := 209) dX3_token_205 (by decide) ?_
              obtain rfl := Option.some.inj hA46
              exact hJ55
      · rw [if_neg hc108] at hn
        refine V.aload_n dX3_token_63 rfl rfl IsR.ref ?_
        refine V.iconst (v := 0) dX3_token_64 (by decide) ?_
        obtain ⟨μ72, e71, hn⟩ := bnd hn
        refine V.mputI hM16 dX3_token_65 po_M_85 mi_15 (fun h72 hM72 => ?_)
        rw [Option.some.inj e71] at hM72
        obtain ⟨b98, hL97, hn⟩ := bnd hn
        have hJ99 : ∀ (μ96 : MS), μ96 = b98 → ∀ h96, MM B h h96 μ96 → V l g M_X3_token 1 131 [some (.ref B.1), none, none] [] h96 (QM B h none z) := by
          intro μ96 e105 h96 hM96
          subst e105
          (try dsimp only at hn)
          refine V.aload_n dX3_token_131 rfl rfl IsR.ref ?_
          refine V.aload_n dX3_token_132 rfl rfl IsR.ref ?_
          refine V.mgetI hM96 dX3_token_133 fo_X3_85_0 mi_15 ?_
          refine V.bipush (v := 6) dX3_token_136 (by decide) ?_
          refine V.icmp_le (tgt := 145) dX3_token_138 (by decide) (fun hc104 => ?_) (fun hc104 => ?_)
          · rw [if_pos hc104] at hn
            refine V.iconst (v := 1) dX3_token_145 (by decide) ?_
            obtain ⟨μ101, e100, hn⟩ := bnd hn
            refine V.mputI hM96 dX3_token_146 po_M_78 mi_13 (fun h101 hM101 => ?_)
            rw [Option.some.inj e100] at hM101
            refine V.goto (tgt := 270) dX3_token_149 (by decide) ?_
            obtain rfl := Option.some.inj hn
            exact V.vret dX3_token_270 rfl ⟨rfl, hM101⟩
          · rw [if_neg hc104] at hn
            refine V.iconst (v := 4) dX3_token_141 (by decide) ?_
            refine V.goto (tgt := 146) dX3_token_142 (by decide) ?_
            obtain ⟨μ103, e102, hn⟩ := bnd hn
            refine V.mputI hM96 dX3_token_146 po_M_78 mi_13 (fun h103 hM103 => ?_)
            rw [Option.some.inj e102] at hM103
            refine V.goto (tgt := 270) dX3_token_149 (by decide) ?_
            obtain rfl := Option.some.inj hn
            exact V.vret dX3_token_270 rfl ⟨rfl, hM103⟩
        refine V.forget (llS (llN (llN ll0))) (iter_ind (P := fun (μ73 : MS) => ∀ h73, MM B h h73 μ73 → V l g M_X3_token 1 68 [some (.ref B.1), none, none] [] h73 (QM B h none z)) (b := b98) ?_ FUEL μ72 hL97 _ hM72)
        rintro μ73 ρ106 hr74 hi75 hx76 h73 hM73
        unfold m_X3_token_b68 at hr74
        (try dsimp only at hr74)
        refine V.aload_n dX3_token_68 rfl rfl IsR.ref ?_
        refine V.aload_n dX3_token_69 rfl rfl IsR.ref ?_
        refine V.mgetI hM73 dX3_token_70 fo_X3_68_0 mi_11 ?_
        obtain ⟨x78, e79, hr74⟩ := bnd hr74
        refine V.invV (as := [.int (μ73.1 11)]) (b := B.1) (ci := 0) (w := true) (rc := rc0) dX3_token_73 ok_X3_seen (lw_V q2323 q2325 qs70 q151 q2326) rfl hM73.1.1 rfl (by decide) (Nat.le_of_ble_eq_true rfl) (w_X3_seen hM73.1 (hT.mm hM hM73) e79) (krI ?_) kxZ
        obtain ⟨x80, e81, hr74⟩ := bnd hr74
        refine V.invS (as := [.int x78]) dX3_token_76 ok_X3_isLetter (lw_S q2327 q2328 q151 q2329) (by decide) (Nat.le_of_ble_eq_true rfl) (w_X3_isLetter e81) (krI ?_) kxZ
        refine V.if_eq (tgt := 131) dX3_token_79 (by decide) (fun hc95 => ?_) (fun hc95 => ?_)
        · rw [if_pos hc95] at hr74
          obtain rfl := Option.some.inj hr74
          have e107 := hx76 _ rfl
          exact hJ99 _ e107 _ hM73
        · rw [if_neg hc95] at hr74
          refine V.aload_n dX3_token_82 rfl rfl IsR.ref ?_
          refine V.mgetI hM73 dX3_token_83 fo_X3_85_0 mi_15 ?_
          refine V.bipush (v := 6) dX3_token_86 (by decide) ?_
          obtain ⟨μ89, hA83, hr74⟩ := bnd hr74
          (try dsimp only at hr74)
          have hJ94 : ∀ h89, MM B h h89 μ89 → V l g M_X3_token 1 108 [some (.ref B.1), none, none] [] h89 (QM B h none z) := by
            intro h89 hM89
            refine V.aload_n dX3_token_108 rfl rfl IsR.ref ?_
            refine V.dup dX3_token_109 rfl ?_
            refine V.mgetI hM89 dX3_token_110 fo_X3_85_0 mi_15 ?_
            refine V.iconst (v := 1) dX3_token_113 (by decide) ?_
            refine V.iadd dX3_token_114 ?_
            obtain ⟨μ91, e90, hr74⟩ := bnd hr74
            refine V.mputI hM89 dX3_token_115 po_M_85 mi_15 (fun h91 hM91 => ?_)
            rw [Option.some.inj e90] at hM91
            refine V.aload_n dX3_token_118 rfl rfl IsR.ref ?_
            refine V.dup dX3_token_119 rfl ?_
            refine V.mgetI hM91 dX3_token_120 fo_X3_68_0 mi_11 ?_
            refine V.iconst (v := 1) dX3_token_123 (by decide) ?_
            refine V.iadd dX3_token_124 ?_
            obtain ⟨μ93, e92, hr74⟩ := bnd hr74
            refine V.mputI hM91 dX3_token_125 po_M_68 mi_11 (fun h93 hM93 => ?_)
            rw [Option.some.inj e92] at hM93
            refine V.goto (tgt := 68) dX3_token_128 (by decide) ?_
            obtain rfl := Option.some.inj hr74
            have hi75P := hi75 _ rfl
            exact hi75P _ hM93
          refine V.icmp_ge (tgt := 108) dX3_token_88 (by decide) (fun hc88 => ?_) (fun hc88 => ?_)
          · rw [if_pos hc88] at hA83
            obtain rfl := Option.some.inj hA83
            exact hJ94 _ hM73
          · rw [if_neg hc88] at hA83
            refine V.aload_n dX3_token_91 rfl rfl IsR.ref ?_
            refine V.mgetA hM73 dX3_token_92 fo_X3_27_0 ma_14 ?_
            refine V.aload_n dX3_token_95 rfl rfl IsR.ref ?_
            refine V.mgetI hM73 dX3_token_96 fo_X3_85_0 mi_15 ?_
            refine V.aload_n dX3_token_99 rfl rfl IsR.ref ?_
            refine V.aload_n dX3_token_100 rfl rfl IsR.ref ?_
            refine V.mgetI hM73 dX3_token_101 fo_X3_68_0 mi_11 ?_
            obtain ⟨x84, e85, hA83⟩ := bnd hA83
            refine V.invV (as := [.int (μ73.1 11)]) (b := B.1) (ci := 0) (w := true) (rc := rc0) dX3_token_104 ok_X3_seen (lw_V q2323 q2325 qs70 q151 q2326) rfl hM73.1.1 rfl (by decide) (Nat.le_of_ble_eq_true rfl) (w_X3_seen hM73.1 (hT.mm hM hM73) e85) (krI ?_) kxZ
            obtain ⟨μ87, e86, hA83⟩ := bnd hA83
            refine V.miast hM73 dX3_token_107 ma_14 (mSt_some e86) (fun h87 hM87 => ?_)
            obtain rfl := Option.some.inj hA83
            exact hJ94 _ hM87
    · rw [if_pos hc111] at hn
      refine V.aload_n dX3_token_48 rfl rfl IsR.ref ?_
      refine V.iconst (v := 0) dX3_token_49 (by decide) ?_
      obtain ⟨μ110, e109, hn⟩ := bnd hn
      refine V.mputI hM16 dX3_token_50 po_M_78 mi_13 (fun h110 hM110 => ?_)
      rw [Option.some.inj e109] at hM110
      refine V.goto (tgt := 270) dX3_token_53 (by decide) ?_
      obtain rfl := Option.some.inj hn
      exact V.vret dX3_token_270 rfl ⟨rfl, hM110⟩
  refine iter_ind (P := fun (μ1 : MS) => ∀ h1, MM B h h1 μ1 → V l g M_X3_token 1 0 [some (.ref B.1), none, none] [] h1 (QM B h none z)) (b := b13) ?_ FUEL μ hL12 _ hM0
  rintro μ1 ρ113 hr2 hi3 hx4 h1 hM1
  unfold m_X3_token_b0 at hr2
  (try dsimp only at hr2)
  refine V.aload_n dX3_token_0 rfl rfl IsR.ref ?_
  refine V.aload_n dX3_token_1 rfl rfl IsR.ref ?_
  refine V.mgetI hM1 dX3_token_2 fo_X3_68_0 mi_11 ?_
  obtain ⟨x6, e7, hr2⟩ := bnd hr2
  refine V.invV (as := [.int (μ1.1 11)]) (b := B.1) (ci := 0) (w := true) (rc := rc0) dX3_token_5 ok_X3_seen (lw_V q2323 q2325 qs70 q151 q2326) rfl hM1.1.1 rfl (by decide) (Nat.le_of_ble_eq_true rfl) (w_X3_seen hM1.1 (hT.mm hM hM1) e7) (krI ?_) kxZ
  refine V.bipush (v := 32) dX3_token_8 (by decide) ?_
  refine V.icmp_ne (tgt := 26) dX3_token_10 (by decide) (fun hc10 => ?_) (fun hc10 => ?_)
  · rw [if_neg hc10] at hr2
    obtain rfl := Option.some.inj hr2
    have e114 := hx4 _ rfl
    exact hJ14 _ e114 _ hM1
  · rw [if_pos hc10] at hr2
    refine V.aload_n dX3_token_13 rfl rfl IsR.ref ?_
    refine V.dup dX3_token_14 rfl ?_
    refine V.mgetI hM1 dX3_token_15 fo_X3_68_0 mi_11 ?_
    refine V.iconst (v := 1) dX3_token_18 (by decide) ?_
    refine V.iadd dX3_token_19 ?_
    obtain ⟨μ9, e8, hr2⟩ := bnd hr2
    refine V.mputI hM1 dX3_token_20 po_M_68 mi_11 (fun h9 hM9 => ?_)
    rw [Option.some.inj e8] at hM9
    refine V.goto (tgt := 0) dX3_token_23 (by decide) ?_
    obtain rfl := Option.some.inj hr2
    have hi3P := hi3 _ rfl
    exact hi3P _ hM9
def m_X3_isWord_b30 (p1 : Nat) (μ : MS) : (Int32) → Option ((Int32) ⊕ ((Unit) ⊕ (Int32))) := fun i3 => if (μ.1 15) ≤ i3 then (some (.inr (.inr (1 : Int32)))) else ((mLd μ 14 6 i3).bind fun x9 => (sAt p1 i3).bind fun x11 => if x9 = x11 then (some (.inl (i3 + (1 : Int32)))) else (some (.inr (.inl ()))))
def m_X3_isWord (p1 : Nat) (μ : MS) : Option (Int32) := if (μ.1 17) = (0 : Int32) then (if (μ.1 13) = (1 : Int32) then ((sLen p1).bind fun x1 => if (μ.1 15) = x1 then ((iter (m_X3_isWord_b30 p1 μ) FUEL (0 : Int32)).bind fun y => match y with | .inr e => some e | .inl _u => some (0 : Int32)) else (some (0 : Int32))) else (some (0 : Int32))) else (some (0 : Int32))
abbrev M_X3_isWord : MD := (yX3_isWord, cX3_isWord, 3, (some .boolean), [])
theorem ok_X3_isWord : mOK yX3_isWord 3 1 := ⟨⟨by decide +kernel, by decide +kernel⟩, by decide +kernel, by decide⟩
theorem w_X3_isWord {l : Launch} {g : GG} {h : AH} {B : BM} {μ : MS} {p1 : Nat} {z : Int32} (hM : IsM B h μ) (hT : TX g h) (hn : m_X3_isWord p1 μ = some z) : Sp l g M_X3_isWord 5 [.ref B.1, .ref (gT g p1)] h (QZ (some (.int z)) h) := by
  refine Sp.ofV (L := [some (.ref B.1), some (.ref (gT g p1)), none]) rfl rfl (hcR (hcR hc0)) (Nat.le_of_ble_eq_true rfl) rfl ?_
  have hM0 : MM B h h μ := ⟨hM, SameM.rf⟩
  unfold m_X3_isWord at hn
  refine V.aload_n dX3_isWord_0 rfl rfl IsR.ref ?_
  refine V.mgetI hM0 dX3_isWord_1 fo_X3_94_0 mi_17 ?_
  refine V.if_ne (tgt := 26) dX3_isWord_4 (by decide) (fun hc23 => ?_) (fun hc23 => ?_)
  · rw [if_neg hc23] at hn
    refine V.iconst (v := 0) dX3_isWord_26 (by decide) ?_
    obtain rfl := Option.some.inj hn
    exact V.zret dX3_isWord_27 rfl rfl ⟨rfl, rfl⟩
  · rw [if_pos hc23] at hn
    refine V.aload_n dX3_isWord_7 rfl rfl IsR.ref ?_
    refine V.mgetI hM0 dX3_isWord_8 fo_X3_78_0 mi_13 ?_
    refine V.iconst (v := 1) dX3_isWord_11 (by decide) ?_
    refine V.icmp_ne (tgt := 26) dX3_isWord_12 (by decide) (fun hc22 => ?_) (fun hc22 => ?_)
    · rw [if_neg hc22] at hn
      refine V.iconst (v := 0) dX3_isWord_26 (by decide) ?_
      obtain rfl := Option.some.inj hn
      exact V.zret dX3_isWord_27 rfl rfl ⟨rfl, rfl⟩
    · rw [if_pos hc22] at hn
      refine V.aload_n dX3_isWord_15 rfl rfl IsR.ref ?_
      refine V.mgetI hM0 dX3_isWord_16 fo_X3_85_0 mi_15 ?_
      refine V.aload_n dX3_isWord_19 rfl rfl IsR.ref ?_
      obtain ⟨x1, e2, hn⟩ := bnd hn
      refine V.sLen dX3_isWord_20 q2346 (hT.mm hM hM0) e2 (by decide) (Nat.le_of_ble_eq_true rfl) ?_
      refine V.icmp_eq (tgt := 28) dX3_isWord_23 (by decide) (fun hc21 => ?_) (fun hc21 => ?_)
      · rw [if_pos hc21] at hn
        refine V.iconst (v := 0) dX3_isWord_28 (by decide) ?_
        refine V.istore_n (i := 2) dX3_isWord_29 rfl (by decide) ?_
        simp only [List.set_cons_zero, List.set_cons_succ]
        obtain ⟨b16, hL15, hn⟩ := bnd hn
        have hJ17 : ∀ (_u : Unit), .inl _u = b16 → V l g M_X3_isWord 5 52 [none, none, none] [] h (QZ (some (.int z)) h) := by
          intro _u e18
          subst e18
          (try dsimp only at hn)
          refine V.iconst (v := 0) dX3_isWord_52 (by decide) ?_
          obtain rfl := Option.some.inj hn
          exact V.zret dX3_isWord_53 rfl rfl ⟨rfl, rfl⟩
        refine iter_ind (P := fun (i3 : Int32) => V l g M_X3_isWord 5 30 [some (.ref B.1), some (.ref (gT g p1)), some (.int i3)] [] h (QZ (some (.int z)) h)) (b := b16) ?_ FUEL (0 : Int32) hL15
        rintro i3 ρ19 hr4 hi5 hx6
        unfold m_X3_isWord_b30 at hr4
        (try dsimp only at hr4)
        refine V.iload_n dX3_isWord_30 rfl rfl ?_
        refine V.aload_n dX3_isWord_31 rfl rfl IsR.ref ?_
        refine V.mgetI hM0 dX3_isWord_32 fo_X3_85_0 mi_15 ?_
        refine V.icmp_ge (tgt := 60) dX3_isWord_35 (by decide) (fun hc14 => ?_) (fun hc14 => ?_)
        · rw [if_pos hc14] at hr4
          refine V.iconst (v := 1) dX3_isWord_60 (by decide) ?_
          obtain rfl := Option.some.inj hr4
          have e8 := hx6 _ rfl
          subst e8
          (try dsimp only at hn)
          obtain rfl := Option.some.inj hn
          exact V.zret dX3_isWord_61 rfl rfl ⟨rfl, rfl⟩
        · rw [if_neg hc14] at hr4
          refine V.aload_n dX3_isWord_38 rfl rfl IsR.ref ?_
          refine V.mgetA hM0 dX3_isWord_39 fo_X3_27_0 ma_14 ?_
          refine V.iload_n dX3_isWord_42 rfl rfl ?_
          obtain ⟨x9, e10, hr4⟩ := bnd hr4
          refine V.miald hM0 dX3_isWord_43 ma_14 (mLd_some e10) ?_
          refine V.aload_n dX3_isWord_44 rfl rfl IsR.ref ?_
          refine V.iload_n dX3_isWord_45 rfl rfl ?_
          obtain ⟨x11, e12, hr4⟩ := bnd hr4
          refine V.sAt dX3_isWord_46 q2347 (hT.mm hM hM0) e12 (by decide) (Nat.le_of_ble_eq_true rfl) ?_
          refine V.icmp_eq (tgt := 54) dX3_isWord_49 (by decide) (fun hc13 => ?_) (fun hc13 => ?_)
          · rw [if_pos hc13] at hr4
            refine V.iinc (v := i3 + (1 : Int32)) (i := 2) dX3_isWord_54 rfl (by rfl) (by decide) ?_
            simp only [List.set_cons_zero, List.set_cons_succ]
            refine V.goto (tgt := 30) dX3_isWord_57 (by decide) ?_
            obtain rfl := Option.some.inj hr4
            have hi5P := hi5 _ rfl
            exact hi5P
          · rw [if_neg hc13] at hr4
            obtain rfl := Option.some.inj hr4
            have e20 := hx6 _ rfl
            exact V.forget (llN (llN (llN ll0))) (hJ17 _ e20)
      · rw [if_neg hc21] at hn
        refine V.iconst (v := 0) dX3_isWord_26 (by decide) ?_
        obtain rfl := Option.some.inj hn
        exact V.zret dX3_isWord_27 rfl rfl ⟨rfl, rfl⟩
def m_X3_fails (p1 : Int32) (μ : MS) : Option (MS) := if (μ.1 17) = (0 : Int32) then ((some (mSF μ 17 p1)).bind fun μ2 => (some (mSF μ2 18 (μ2.1 12))).bind fun μ4 => some μ4) else (some μ)
abbrev M_X3_fails : MD := (yX3_fails, cX3_fails, 2, none, [])
theorem ok_X3_fails : mOK yX3_fails 2 1 := ⟨⟨by decide +kernel, by decide +kernel⟩, by decide +kernel, by decide⟩
theorem w_X3_fails {l : Launch} {g : GG} {h : AH} {B : BM} {μ : MS} {p1 : Int32} {z : MS} (hM : IsM B h μ) (hT : TX g h) (hn : m_X3_fails p1 μ = some z) : Sp l g M_X3_fails 0 [.ref B.1, .int p1] h (QM B h none z) := by
  refine Sp.ofV (L := [some (.ref B.1), some (.int p1)]) rfl rfl (hcR (hcI hc0)) (Nat.le_of_ble_eq_true rfl) rfl ?_
  have hM0 : MM B h h μ := ⟨hM, SameM.rf⟩
  unfold m_X3_fails at hn
  refine V.aload_n dX3_fails_0 rfl rfl IsR.ref ?_
  refine V.mgetI hM0 dX3_fails_1 fo_X3_94_0 mi_17 ?_
  refine V.if_ne (tgt := 20) dX3_fails_4 (by decide) (fun hc5 => ?_) (fun hc5 => ?_)
  · rw [if_neg hc5] at hn
    obtain rfl := Option.some.inj hn
    exact V.vret dX3_fails_20 rfl ⟨rfl, hM0⟩
  · rw [if_pos hc5] at hn
    refine V.aload_n dX3_fails_7 rfl rfl IsR.ref ?_
    refine V.iload_n dX3_fails_8 rfl rfl ?_
    obtain ⟨μ2, e1, hn⟩ := bnd hn
    refine V.mputI hM0 dX3_fails_9 po_M_94 mi_17 (fun h2 hM2 => ?_)
    rw [Option.some.inj e1] at hM2
    refine V.aload_n dX3_fails_12 rfl rfl IsR.ref ?_
    refine V.aload_n dX3_fails_13 rfl rfl IsR.ref ?_
    refine V.mgetI hM2 dX3_fails_14 fo_X3_75_0 mi_12 ?_
    obtain ⟨μ4, e3, hn⟩ := bnd hn
    refine V.mputI hM2 dX3_fails_17 po_M_97 mi_18 (fun h4 hM4 => ?_)
    rw [Option.some.inj e3] at hM4
    obtain rfl := Option.some.inj hn
    exact V.vret dX3_fails_20 rfl ⟨rfl, hM4⟩
def m_X3_goesOn (μ : MS) : Option (MS) := if (μ.1 17) = (0 : Int32) then ((m_X3_token μ).bind fun μ1 => some μ1) else (some μ)
abbrev M_X3_goesOn : MD := (yX3_goesOn, cX3_goesOn, 1, none, [])
theorem ok_X3_goesOn : mOK yX3_goesOn 1 0 := ⟨⟨by decide +kernel, by decide +kernel⟩, by decide +kernel, by decide⟩
theorem w_X3_goesOn {l : Launch} {g : GG} {h : AH} {B : BM} {μ : MS} {z : MS} (hM : IsM B h μ) (hT : TX g h) (hn : m_X3_goesOn μ = some z) : Sp l g M_X3_goesOn 2 [.ref B.1] h (QM B h none z) := by
  refine Sp.ofV (L := [some (.ref B.1)]) rfl rfl (hcR hc0) (Nat.le_of_ble_eq_true rfl) rfl ?_
  have hM0 : MM B h h μ := ⟨hM, SameM.rf⟩
  unfold m_X3_goesOn at hn
  refine V.aload_n dX3_goesOn_0 rfl rfl IsR.ref ?_
  refine V.mgetI hM0 dX3_goesOn_1 fo_X3_94_0 mi_17 ?_
  refine V.if_ne (tgt := 11) dX3_goesOn_4 (by decide) (fun hc3 => ?_) (fun hc3 => ?_)
  · rw [if_neg hc3] at hn
    obtain rfl := Option.some.inj hn
    exact V.vret dX3_goesOn_11 rfl ⟨rfl, hM0⟩
  · rw [if_pos hc3] at hn
    refine V.aload_n dX3_goesOn_7 rfl rfl IsR.ref ?_
    obtain ⟨μ1, e2, hn⟩ := bnd hn
    refine V.invV (as := []) (b := B.1) (ci := 0) (w := true) (rc := rc0) dX3_goesOn_8 ok_X3_token (lw_V q2319 q2321 qs69 q151 q2322) rfl hM0.1.1 rfl (by decide) (Nat.le_of_ble_eq_true rfl) (w_X3_token hM0.1 (hT.mm hM hM0) e2) (kmV hM0.2 (fun h1 hM1 => ?_)) kxM
    obtain rfl := Option.some.inj hn
    exact V.vret dX3_goesOn_11 rfl ⟨rfl, hM1⟩
def m_X3_must (p1 : Nat) (μ : MS) : Option (MS) := (m_X3_isWord p1 μ).bind fun x1 => (if x1 = (0 : Int32) then ((m_X3_fails (1 : Int32) μ).bind fun μ5 => some μ5) else (some μ) : Option (MS)).bind fun μ8 => (m_X3_goesOn μ8).bind fun μ9 => some μ9
abbrev M_X3_must : MD := (yX3_must, cX3_must, 2, none, [])
theorem ok_X3_must : mOK yX3_must 2 1 := ⟨⟨by decide +kernel, by decide +kernel⟩, by decide +kernel, by decide⟩
theorem w_X3_must {l : Launch} {g : GG} {h : AH} {B : BM} {μ : MS} {p1 : Nat} {z : MS} (hM : IsM B h μ) (hT : TX g h) (hn : m_X3_must p1 μ = some z) : Sp l g M_X3_must 6 [.ref B.1, .ref (gT g p1)] h (QM B h none z) := by
  refine Sp.ofV (L := [some (.ref B.1), some (.ref (gT g p1))]) rfl rfl (hcR (hcR hc0)) (Nat.le_of_ble_eq_true rfl) rfl ?_
  have hM0 : MM B h h μ := ⟨hM, SameM.rf⟩
  unfold m_X3_must at hn
  refine V.aload_n dX3_must_0 rfl rfl IsR.ref ?_
  refine V.aload_n dX3_must_1 rfl rfl IsR.ref ?_
  obtain ⟨x1, e2, hn⟩ := bnd hn
  refine V.invV (as := [.ref (gT g p1)]) (b := B.1) (ci := 0) (w := true) (rc := rc0) dX3_must_2 ok_X3_isWord (lw_V q2342 q2344 qs73 q151 q2345) rfl hM0.1.1 rfl (by decide) (Nat.le_of_ble_eq_true rfl) (w_X3_isWord hM0.1 (hT.mm hM hM0) e2) (krI ?_) kxZ
  obtain ⟨μ8, hA4, hn⟩ := bnd hn
  (try dsimp only at hn)
  have hJ11 : ∀ h8, MM B h h8 μ8 → V l g M_X3_must 6 13 [some (.ref B.1), none] [] h8 (QM B h none z) := by
    intro h8 hM8
    refine V.aload_n dX3_must_13 rfl rfl IsR.ref ?_
    obtain ⟨μ9, e10, hn⟩ := bnd hn
    refine V.invV (as := []) (b := B.1) (ci := 0) (w := true) (rc := rc0) dX3_must_14 ok_X3_goesOn (lw_V q2362 q2364 qs75 q151 q2365) rfl hM8.1.1 rfl (by decide) (Nat.le_of_ble_eq_true rfl) (w_X3_goesOn hM8.1 (hT.mm hM hM8) e10) (kmV hM8.2 (fun h9 hM9 => ?_)) kxM
    obtain rfl := Option.some.inj hn
    exact V.vret dX3_must_17 rfl ⟨rfl, hM9⟩
  refine V.if_ne (tgt := 13) dX3_must_5 (by decide) (fun hc7 => ?_) (fun hc7 => ?_)
  · rw [if_neg hc7] at hA4
    obtain rfl := Option.some.inj hA4
    exact V.forget (llS (llN ll0)) (hJ11 _ hM0)
  · rw [if_pos hc7] at hA4
    refine V.aload_n dX3_must_8 rfl rfl IsR.ref ?_
    refine V.iconst (v := 1) dX3_must_9 (by decide) ?_
    obtain ⟨μ5, e6, hA4⟩ := bnd hA4
    refine V.invV (as := [.int (1 : Int32)]) (b := B.1) (ci := 0) (w := true) (rc := rc0) dX3_must_10 ok_X3_fails (lw_V q2358 q2360 qs74 q151 q2361) rfl hM0.1.1 rfl (by decide) (Nat.le_of_ble_eq_true rfl) (w_X3_fails hM0.1 (hT.mm hM hM0) e6) (kmV hM0.2 (fun h5 hM5 => ?_)) kxM
    obtain rfl := Option.some.inj hA4
    exact V.forget (llS (llN ll0)) (hJ11 _ hM5)
def m_X3_numberHere (p1 : Int32) (p2 : Int32) (μ : MS) : Option (Int32 × MS) := (if (μ.1 13) = (2 : Int32) then ((m_X3_in (μ.1 16) p1 p2).bind fun x3 => if x3 = (0 : Int32) then ((m_X3_fails (2 : Int32) μ).bind fun μ5 => some μ5) else (some μ)) else ((m_X3_fails (1 : Int32) μ).bind fun μ8 => some μ8) : Option (MS)).bind fun μ11 => if (μ11.1 17) = (0 : Int32) then (some (μ11.1 16, μ11)) else (some (p1, μ11))
abbrev M_X3_numberHere : MD := (yX3_numberHere, cX3_numberHere, 3, (some .int), [])
theorem ok_X3_numberHere : mOK yX3_numberHere 3 2 := ⟨⟨by decide +kernel, by decide +kernel⟩, by decide +kernel, by decide⟩
theorem w_X3_numberHere {l : Launch} {g : GG} {h : AH} {B : BM} {μ : MS} {p1 : Int32} {p2 : Int32} {z : Int32 × MS} (hM : IsM B h μ) (hT : TX g h) (hn : m_X3_numberHere p1 p2 μ = some z) : Sp l g M_X3_numberHere 1 [.ref B.1, .int p1, .int p2] h (QM B h (some (.int z.1)) z.2) := by
  refine Sp.ofV (L := [some (.ref B.1), some (.int p1), some (.int p2)]) rfl rfl (hcR (hcI (hcI hc0))) (Nat.le_of_ble_eq_true rfl) rfl ?_
  have hM0 : MM B h h μ := ⟨hM, SameM.rf⟩
  unfold m_X3_numberHere at hn
  refine V.aload_n dX3_numberHere_0 rfl rfl IsR.ref ?_
  refine V.mgetI hM0 dX3_numberHere_1 fo_X3_78_0 mi_13 ?_
  refine V.iconst (v := 2) dX3_numberHere_4 (by decide) ?_
  obtain ⟨μ11, hA2, hn⟩ := bnd hn
  (try dsimp only at hn)
  have hJ13 : ∀ h11, MM B h h11 μ11 → V l g M_X3_numberHere 1 33 [some (.ref B.1), some (.int p1), none] [] h11 (QM B h (some (.int z.1)) z.2) := by
    intro h11 hM11
    refine V.aload_n dX3_numberHere_33 rfl rfl IsR.ref ?_
    refine V.mgetI hM11 dX3_numberHere_34 fo_X3_94_0 mi_17 ?_
    refine V.if_eq (tgt := 44) dX3_numberHere_37 (by decide) (fun hc12 => ?_) (fun hc12 => ?_)
    · rw [if_pos hc12] at hn
      refine V.aload_n dX3_numberHere_44 rfl rfl IsR.ref ?_
      refine V.mgetI hM11 dX3_numberHere_45 fo_X3_91_0 mi_16 ?_
      obtain rfl := Option.some.inj hn
      exact V.iret dX3_numberHere_48 rfl ⟨rfl, hM11⟩
    · rw [if_neg hc12] at hn
      refine V.iload_n dX3_numberHere_40 rfl rfl ?_
      refine V.goto (tgt := 48) dX3_numberHere_41 (by decide) ?_
      obtain rfl := Option.some.inj hn
      exact V.iret dX3_numberHere_48 rfl ⟨rfl, hM11⟩
  refine V.icmp_eq (tgt := 16) dX3_numberHere_5 (by decide) (fun hc10 => ?_) (fun hc10 => ?_)
  · rw [if_pos hc10] at hA2
    refine V.aload_n dX3_numberHere_16 rfl rfl IsR.ref ?_
    refine V.mgetI hM0 dX3_numberHere_17 fo_X3_91_0 mi_16 ?_
    refine V.iload_n dX3_numberHere_20 rfl rfl ?_
    refine V.iload_n dX3_numberHere_21 rfl rfl ?_
    obtain ⟨x3, e4, hA2⟩ := bnd hA2
    refine V.invS (as := [.int (μ.1 16), .int p1, .int p2]) dX3_numberHere_22 ok_X3_in (lw_S q2308 q2309 q151 q2310) (by decide) (Nat.le_of_ble_eq_true rfl) (w_X3_in e4) (krI ?_) kxZ
    refine V.if_ne (tgt := 33) dX3_numberHere_25 (by decide) (fun hc7 => ?_) (fun hc7 => ?_)
    · rw [if_neg hc7] at hA2
      obtain rfl := Option.some.inj hA2
      exact V.forget (llS (llS (llN ll0))) (hJ13 _ hM0)
    · rw [if_pos hc7] at hA2
      refine V.aload_n dX3_numberHere_28 rfl rfl IsR.ref ?_
      refine V.iconst (v := 2) dX3_numberHere_29 (by decide) ?_
      obtain ⟨μ5, e6, hA2⟩ := bnd hA2
      refine V.invV (as := [.int (2 : Int32)]) (b := B.1) (ci := 0) (w := true) (rc := rc0) dX3_numberHere_30 ok_X3_fails (lw_V q2358 q2360 qs74 q151 q2361) rfl hM0.1.1 rfl (by decide) (Nat.le_of_ble_eq_true rfl) (w_X3_fails hM0.1 (hT.mm hM hM0) e6) (kmV hM0.2 (fun h5 hM5 => ?_)) kxM
      obtain rfl := Option.some.inj hA2
      exact V.forget (llS (llS (llN ll0))) (hJ13 _ hM5)
  · rw [if_neg hc10] at hA2
    refine V.aload_n dX3_numberHere_8 rfl rfl IsR.ref ?_
    refine V.iconst (v := 1) dX3_numberHere_9 (by decide) ?_
    obtain ⟨μ8, e9, hA2⟩ := bnd hA2
    refine V.invV (as := [.int (1 : Int32)]) (b := B.1) (ci := 0) (w := true) (rc := rc0) dX3_numberHere_10 ok_X3_fails (lw_V q2358 q2360 qs74 q151 q2361) rfl hM0.1.1 rfl (by decide) (Nat.le_of_ble_eq_true rfl) (w_X3_fails hM0.1 (hT.mm hM hM0) e9) (kmV hM0.2 (fun h8 hM8 => ?_)) kxM
    refine V.goto (tgt := 33) dX3_numberHere_13 (by decide) ?_
    obtain rfl := Option.some.inj hA2
    exact V.forget (llS (llS (llN ll0))) (hJ13 _ hM8)
def m_X3_takes_2 (p1 : Int32) (p2 : Int32) (μ : MS) : Option (Int32 × MS) := (m_X3_numberHere p1 p2 μ).bind fun y1 => (m_X3_goesOn y1.2).bind fun μ4 => some (y1.1, μ4)
abbrev M_X3_takes_2 : MD := (yX3_takes_2, cX3_takes_2, 4, (some .int), [])
theorem ok_X3_takes_2 : mOK yX3_takes_2 4 2 := ⟨⟨by decide +kernel, by decide +kernel⟩, by decide +kernel, by decide⟩
theorem w_X3_takes_2 {l : Launch} {g : GG} {h : AH} {B : BM} {μ : MS} {p1 : Int32} {p2 : Int32} {z : Int32 × MS} (hM : IsM B h μ) (hT : TX g h) (hn : m_X3_takes_2 p1 p2 μ = some z) : Sp l g M_X3_takes_2 3 [.ref B.1, .int p1, .int p2] h (QM B h (some (.int z.1)) z.2) := by
  refine Sp.ofV (L := [some (.ref B.1), some (.int p1), some (.int p2), none]) rfl rfl (hcR (hcI (hcI hc0))) (Nat.le_of_ble_eq_true rfl) rfl ?_
  have hM0 : MM B h h μ := ⟨hM, SameM.rf⟩
  unfold m_X3_takes_2 at hn
  refine V.aload_n dX3_takes_2_0 rfl rfl IsR.ref ?_
  refine V.iload_n dX3_takes_2_1 rfl rfl ?_
  refine V.iload_n dX3_takes_2_2 rfl rfl ?_
  obtain ⟨y1, e3, hn⟩ := bnd hn
  refine V.invV (as := [.int p1, .int p2]) (b := B.1) (ci := 0) (w := true) (rc := rc0) dX3_takes_2_3 ok_X3_numberHere (lw_V q2375 q2377 qs78 q151 q2378) rfl hM0.1.1 rfl (by decide) (Nat.le_of_ble_eq_true rfl) (w_X3_numberHere hM0.1 (hT.mm hM hM0) e3) (kmI hM0.2 (fun h2 hM2 => ?_)) kxM
  refine V.istore_n (i := 3) dX3_takes_2_6 rfl (by decide) ?_
  simp only [List.set_cons_zero, List.set_cons_succ]
  refine V.aload_n dX3_takes_2_7 rfl rfl IsR.ref ?_
  obtain ⟨μ4, e5, hn⟩ := bnd hn
  refine V.invV (as := []) (b := B.1) (ci := 0) (w := true) (rc := rc0) dX3_takes_2_8 ok_X3_goesOn (lw_V q2362 q2364 qs75 q151 q2365) rfl hM2.1.1 rfl (by decide) (Nat.le_of_ble_eq_true rfl) (w_X3_goesOn hM2.1 (hT.mm hM hM2) e5) (kmV hM2.2 (fun h4 hM4 => ?_)) kxM
  refine V.iload_n dX3_takes_2_11 rfl rfl ?_
  obtain rfl := Option.some.inj hn
  exact V.iret dX3_takes_2_12 rfl ⟨rfl, hM4⟩
def m_X3_takes (p1 : Nat) (p2 : Int32) (p3 : Int32) (μ : MS) : Option (Int32 × MS) := (m_X3_must p1 μ).bind fun μ1 => (m_X3_takes_2 p2 p3 μ1).bind fun y3 => some (y3.1, y3.2)
abbrev M_X3_takes : MD := (yX3_takes, cX3_takes, 4, (some .int), [])
theorem ok_X3_takes : mOK yX3_takes 4 3 := ⟨⟨by decide +kernel, by decide +kernel⟩, by decide +kernel, by decide⟩
theorem w_X3_takes {l : Launch} {g : GG} {h : AH} {B : BM} {μ : MS} {p1 : Nat} {p2 : Int32} {p3 : Int32} {z : Int32 × MS} (hM : IsM B h μ) (hT : TX g h) (hn : m_X3_takes p1 p2 p3 μ = some z) : Sp l g M_X3_takes 7 [.ref B.1, .ref (gT g p1), .int p2, .int p3] h (QM B h (some (.int z.1)) z.2) := by
  refine Sp.ofV (L := [some (.ref B.1), some (.ref (gT g p1)), some (.int p2), some (.int p3)]) rfl rfl (hcR (hcR (hcI (hcI hc0)))) (Nat.le_of_ble_eq_true rfl) rfl ?_
  have hM0 : MM B h h μ := ⟨hM, SameM.rf⟩
  unfold m_X3_takes at hn
  refine V.aload_n dX3_takes_0 rfl rfl IsR.ref ?_
  refine V.aload_n dX3_takes_1 rfl rfl IsR.ref ?_
  obtain ⟨μ1, e2, hn⟩ := bnd hn
  refine V.invV (as := [.ref (gT g p1)]) (b := B.1) (ci := 0) (w := true) (rc := rc0) dX3_takes_2 ok_X3_must (lw_V q2338 q2340 qs72 q151 q2341) rfl hM0.1.1 rfl (by decide) (Nat.le_of_ble_eq_true rfl) (w_X3_must hM0.1 (hT.mm hM hM0) e2) (kmV hM0.2 (fun h1 hM1 => ?_)) kxM
  refine V.aload_n dX3_takes_5 rfl rfl IsR.ref ?_
  refine V.iload_n dX3_takes_6 rfl rfl ?_
  refine V.iload_n dX3_takes_7 rfl rfl ?_
  obtain ⟨y3, e5, hn⟩ := bnd hn
  refine V.invV (as := [.int p2, .int p3]) (b := B.1) (ci := 0) (w := true) (rc := rc0) dX3_takes_8 ok_X3_takes_2 (lw_V q2371 q2373 qs77 q151 q2374) rfl hM1.1.1 rfl (by decide) (Nat.le_of_ble_eq_true rfl) (w_X3_takes_2 hM1.1 (hT.mm hM hM1) e5) (kmI hM1.2 (fun h4 hM4 => ?_)) kxM
  obtain rfl := Option.some.inj hn
  exact V.iret dX3_takes_11 rfl ⟨rfl, hM4⟩
def m_X3_rules (μ : MS) : Option (MS) := (m_X3_must 9 μ).bind fun μ1 => (m_X3_takes 21 (0 : Int32) (120 : Int32) μ1).bind fun y3 => (mSt y3.2 19 184 (0 : Int32) y3.1).bind fun μ7 => (m_X3_takes 13 (0 : Int32) (120 : Int32) μ7).bind fun y8 => (mSt y8.2 19 184 (1 : Int32) y8.1).bind fun μ12 => (m_X3_takes_2 (100 : Int32) (400 : Int32) μ12).bind fun y13 => (mSt y13.2 19 184 (2 : Int32) y13.1).bind fun μ17 => (m_X3_takes 6 (0 : Int32) (20 : Int32) μ17).bind fun y18 => (mSt y18.2 19 184 (3 : Int32) y18.1).bind fun μ22 => (m_X3_takes_2 (0 : Int32) (20 : Int32) μ22).bind fun y23 => (mSt y23.2 19 184 (4 : Int32) y23.1).bind fun μ27 => (m_X3_takes 11 (0 : Int32) (60 : Int32) μ27).bind fun y28 => (mSt y28.2 19 184 (5 : Int32) y28.1).bind fun μ32 => (m_X3_takes 12 (0 : Int32) (999 : Int32) μ32).bind fun y33 => (mSt y33.2 19 184 (6 : Int32) y33.1).bind fun μ37 => some μ37
abbrev M_X3_rules : MD := (yX3_rules, cX3_rules, 1, none, [])
theorem ok_X3_rules : mOK yX3_rules 1 0 := ⟨⟨by decide +kernel, by decide +kernel⟩, by decide +kernel, by decide⟩
theorem w_X3_rules {l : Launch} {g : GG} {h : AH} {B : BM} {μ : MS} {z : MS} (hM : IsM B h μ) (hT : TX g h) (hn : m_X3_rules μ = some z) : Sp l g M_X3_rules 8 [.ref B.1] h (QM B h none z) := by
  refine Sp.ofV (L := [some (.ref B.1)]) rfl rfl (hcR hc0) (Nat.le_of_ble_eq_true rfl) rfl ?_
  have hM0 : MM B h h μ := ⟨hM, SameM.rf⟩
  unfold m_X3_rules at hn
  refine V.aload_n dX3_rules_0 rfl rfl IsR.ref ?_
  refine V.ldcS (sid := 9) dX3_rules_1 (List.mem_of_getElem? (i := 19) rfl) ?_
  obtain ⟨μ1, e2, hn⟩ := bnd hn
  refine V.invV (as := [.ref (gT g 9)]) (b := B.1) (ci := 0) (w := true) (rc := rc0) dX3_rules_3 ok_X3_must (lw_V q2338 q2340 qs72 q151 q2341) rfl hM0.1.1 rfl (by decide) (Nat.le_of_ble_eq_true rfl) (w_X3_must hM0.1 (hT.mm hM hM0) e2) (kmV hM0.2 (fun h1 hM1 => ?_)) kxM
  refine V.aload_n dX3_rules_6 rfl rfl IsR.ref ?_
  refine V.mgetA hM1 dX3_rules_7 fo_X3_30_0 ma_19 ?_
  refine V.iconst (v := 0) dX3_rules_10 (by decide) ?_
  refine V.aload_n dX3_rules_11 rfl rfl IsR.ref ?_
  refine V.ldcS (sid := 21) dX3_rules_12 (List.mem_of_getElem? (i := 20) rfl) ?_
  refine V.iconst (v := 0) dX3_rules_14 (by decide) ?_
  refine V.bipush (v := 120) dX3_rules_15 (by decide) ?_
  obtain ⟨y3, e5, hn⟩ := bnd hn
  refine V.invV (as := [.ref (gT g 21), .int (0 : Int32), .int (120 : Int32)]) (b := B.1) (ci := 0) (w := true) (rc := rc0) dX3_rules_17 ok_X3_takes (lw_V q2367 q2369 qs76 q151 q2370) rfl hM1.1.1 rfl (by decide) (Nat.le_of_ble_eq_true rfl) (w_X3_takes hM1.1 (hT.mm hM hM1) e5) (kmI hM1.2 (fun h4 hM4 => ?_)) kxM
  obtain ⟨μ7, e6, hn⟩ := bnd hn
  refine V.miast hM4 dX3_rules_20 ma_19 (mSt_some e6) (fun h7 hM7 => ?_)
  refine V.aload_n dX3_rules_21 rfl rfl IsR.ref ?_
  refine V.mgetA hM7 dX3_rules_22 fo_X3_30_0 ma_19 ?_
  refine V.iconst (v := 1) dX3_rules_25 (by decide) ?_
  refine V.aload_n dX3_rules_26 rfl rfl IsR.ref ?_
  refine V.ldcS (sid := 13) dX3_rules_27 (List.mem_of_getElem? (i := 21) rfl) ?_
  refine V.iconst (v := 0) dX3_rules_29 (by decide) ?_
  refine V.bipush (v := 120) dX3_rules_30 (by decide) ?_
  obtain ⟨y8, e10, hn⟩ := bnd hn
  refine V.invV (as := [.ref (gT g 13), .int (0 : Int32), .int (120 : Int32)]) (b := B.1) (ci := 0) (w := true) (rc := rc0) dX3_rules_32 ok_X3_takes (lw_V q2367 q2369 qs76 q151 q2370) rfl hM7.1.1 rfl (by decide) (Nat.le_of_ble_eq_true rfl) (w_X3_takes hM7.1 (hT.mm hM hM7) e10) (kmI hM7.2 (fun h9 hM9 => ?_)) kxM
  obtain ⟨μ12, e11, hn⟩ := bnd hn
  refine V.miast hM9 dX3_rules_35 ma_19 (mSt_some e11) (fun h12 hM12 => ?_)
  refine V.aload_n dX3_rules_36 rfl rfl IsR.ref ?_
  refine V.mgetA hM12 dX3_rules_37 fo_X3_30_0 ma_19 ?_
  refine V.iconst (v := 2) dX3_rules_40 (by decide) ?_
  refine V.aload_n dX3_rules_41 rfl rfl IsR.ref ?_
  refine V.bipush (v := 100) dX3_rules_42 (by decide) ?_
  refine V.sipush (v := 400) dX3_rules_44 (by decide) ?_
  obtain ⟨y13, e15, hn⟩ := bnd hn
  refine V.invV (as := [.int (100 : Int32), .int (400 : Int32)]) (b := B.1) (ci := 0) (w := true) (rc := rc0) dX3_rules_47 ok_X3_takes_2 (lw_V q2371 q2373 qs77 q151 q2374) rfl hM12.1.1 rfl (by decide) (Nat.le_of_ble_eq_true rfl) (w_X3_takes_2 hM12.1 (hT.mm hM hM12) e15) (kmI hM12.2 (fun h14 hM14 => ?_)) kxM
  obtain ⟨μ17, e16, hn⟩ := bnd hn
  refine V.miast hM14 dX3_rules_50 ma_19 (mSt_some e16) (fun h17 hM17 => ?_)
  refine V.aload_n dX3_rules_51 rfl rfl IsR.ref ?_
  refine V.mgetA hM17 dX3_rules_52 fo_X3_30_0 ma_19 ?_
  refine V.iconst (v := 3) dX3_rules_55 (by decide) ?_
  refine V.aload_n dX3_rules_56 rfl rfl IsR.ref ?_
  refine V.ldcS (sid := 6) dX3_rules_57 (List.mem_of_getElem? (i := 22) rfl) ?_
  refine V.iconst (v := 0) dX3_rules_59 (by decide) ?_
  refine V.bipush (v := 20) dX3_rules_60 (by decide) ?_
  obtain ⟨y18, e20, hn⟩ := bnd hn
  refine V.invV (as := [.ref (gT g 6), .int (0 : Int32), .int (20 : Int32)]) (b := B.1) (ci := 0) (w := true) (rc := rc0) dX3_rules_62 ok_X3_takes (lw_V q2367 q2369 qs76 q151 q2370) rfl hM17.1.1 rfl (by decide) (Nat.le_of_ble_eq_true rfl) (w_X3_takes hM17.1 (hT.mm hM hM17) e20) (kmI hM17.2 (fun h19 hM19 => ?_)) kxM
  obtain ⟨μ22, e21, hn⟩ := bnd hn
  refine V.miast hM19 dX3_rules_65 ma_19 (mSt_some e21) (fun h22 hM22 => ?_)
  refine V.aload_n dX3_rules_66 rfl rfl IsR.ref ?_
  refine V.mgetA hM22 dX3_rules_67 fo_X3_30_0 ma_19 ?_
  refine V.iconst (v := 4) dX3_rules_70 (by decide) ?_
  refine V.aload_n dX3_rules_71 rfl rfl IsR.ref ?_
  refine V.iconst (v := 0) dX3_rules_72 (by decide) ?_
  refine V.bipush (v := 20) dX3_rules_73 (by decide) ?_
  obtain ⟨y23, e25, hn⟩ := bnd hn
  refine V.invV (as := [.int (0 : Int32), .int (20 : Int32)]) (b := B.1) (ci := 0) (w := true) (rc := rc0) dX3_rules_75 ok_X3_takes_2 (lw_V q2371 q2373 qs77 q151 q2374) rfl hM22.1.1 rfl (by decide) (Nat.le_of_ble_eq_true rfl) (w_X3_takes_2 hM22.1 (hT.mm hM hM22) e25) (kmI hM22.2 (fun h24 hM24 => ?_)) kxM
  obtain ⟨μ27, e26, hn⟩ := bnd hn
  refine V.miast hM24 dX3_rules_78 ma_19 (mSt_some e26) (fun h27 hM27 => ?_)
  refine V.aload_n dX3_rules_79 rfl rfl IsR.ref ?_
  refine V.mgetA hM27 dX3_rules_80 fo_X3_30_0 ma_19 ?_
  refine V.iconst (v := 5) dX3_rules_83 (by decide) ?_
  refine V.aload_n dX3_rules_84 rfl rfl IsR.ref ?_
  refine V.ldcS (sid := 11) dX3_rules_85 (List.mem_of_getElem? (i := 23) rfl) ?_
  refine V.iconst (v := 0) dX3_rules_87 (by decide) ?_
  refine V.bipush (v := 60) dX3_rules_88 (by decide) ?_
  obtain ⟨y28, e30, hn⟩ := bnd hn
  refine V.invV (as := [.ref (gT g 11), .int (0 : Int32), .int (60 : Int32)]) (b := B.1) (ci := 0) (w := true) (rc := rc0) dX3_rules_90 ok_X3_takes (lw_V q2367 q2369 qs76 q151 q2370) rfl hM27.1.1 rfl (by decide) (Nat.le_of_ble_eq_true rfl) (w_X3_takes hM27.1 (hT.mm hM hM27) e30) (kmI hM27.2 (fun h29 hM29 => ?_)) kxM
  obtain ⟨μ32, e31, hn⟩ := bnd hn
  refine V.miast hM29 dX3_rules_93 ma_19 (mSt_some e31) (fun h32 hM32 => ?_)
  refine V.aload_n dX3_rules_94 rfl rfl IsR.ref ?_
  refine V.mgetA hM32 dX3_rules_95 fo_X3_30_0 ma_19 ?_
  refine V.bipush (v := 6) dX3_rules_98 (by decide) ?_
  refine V.aload_n dX3_rules_100 rfl rfl IsR.ref ?_
  refine V.ldcS (sid := 12) dX3_rules_101 (List.mem_of_getElem? (i := 24) rfl) ?_
  refine V.iconst (v := 0) dX3_rules_103 (by decide) ?_
  refine V.sipush (v := 999) dX3_rules_104 (by decide) ?_
  obtain ⟨y33, e35, hn⟩ := bnd hn
  refine V.invV (as := [.ref (gT g 12), .int (0 : Int32), .int (999 : Int32)]) (b := B.1) (ci := 0) (w := true) (rc := rc0) dX3_rules_107 ok_X3_takes (lw_V q2367 q2369 qs76 q151 q2370) rfl hM32.1.1 rfl (by decide) (Nat.le_of_ble_eq_true rfl) (w_X3_takes hM32.1 (hT.mm hM hM32) e35) (kmI hM32.2 (fun h34 hM34 => ?_)) kxM
  obtain ⟨μ37, e36, hn⟩ := bnd hn
  refine V.miast hM34 dX3_rules_110 ma_19 (mSt_some e36) (fun h37 hM37 => ?_)
  obtain rfl := Option.some.inj hn
  exact V.vret dX3_rules_111 rfl ⟨rfl, hM37⟩
def m_X3_begins (p1 : Int32) (p2 : Int32) (μ : MS) : Option (MS) := (if p1 = (9 : Int32) then (some μ) else ((mLd μ 19 184 (9 : Int32)).bind fun x3 => if x3 ≤ (0 : Int32) then (some μ) else ((m_X3_fails (4 : Int32) μ).bind fun μ5 => some μ5)) : Option (MS)).bind fun μ9 => (mLd μ9 19 184 p1).bind fun x10 => (if x10 = p2 then ((m_X3_fails (5 : Int32) μ9).bind fun μ14 => some μ14) else (some μ9) : Option (MS)).bind fun μ17 => (m_X3_goesOn μ17).bind fun μ18 => some μ18
abbrev M_X3_begins : MD := (yX3_begins, cX3_begins, 3, none, [])
theorem ok_X3_begins : mOK yX3_begins 3 2 := ⟨⟨by decide +kernel, by decide +kernel⟩, by decide +kernel, by decide⟩
theorem w_X3_begins {l : Launch} {g : GG} {h : AH} {B : BM} {μ : MS} {p1 : Int32} {p2 : Int32} {z : MS} (hM : IsM B h μ) (hT : TX g h) (hn : m_X3_begins p1 p2 μ = some z) : Sp l g M_X3_begins 3 [.ref B.1, .int p1, .int p2] h (QM B h none z) := by
  refine Sp.ofV (L := [some (.ref B.1), some (.int p1), some (.int p2)]) rfl rfl (hcR (hcI (hcI hc0))) (Nat.le_of_ble_eq_true rfl) rfl ?_
  have hM0 : MM B h h μ := ⟨hM, SameM.rf⟩
  unfold m_X3_begins at hn
  refine V.iload_n dX3_begins_0 rfl rfl ?_
  refine V.bipush (v := 9) dX3_begins_1 (by decide) ?_
  obtain ⟨μ9, hA2, hn⟩ := bnd hn
  (try dsimp only at hn)
  have hJ21 : ∀ h9, MM B h h9 μ9 → V l g M_X3_begins 3 21 [some (.ref B.1), some (.int p1), some (.int p2)] [] h9 (QM B h none z) := by
    intro h9 hM9
    refine V.aload_n dX3_begins_21 rfl rfl IsR.ref ?_
    refine V.mgetA hM9 dX3_begins_22 fo_X3_30_0 ma_19 ?_
    refine V.iload_n dX3_begins_25 rfl rfl ?_
    obtain ⟨x10, e11, hn⟩ := bnd hn
    refine V.miald hM9 dX3_begins_26 ma_19 (mLd_some e11) ?_
    refine V.iload_n dX3_begins_27 rfl rfl ?_
    obtain ⟨μ17, hA13, hn⟩ := bnd hn
    (try dsimp only at hn)
    have hJ20 : ∀ h17, MM B h h17 μ17 → V l g M_X3_begins 3 36 [some (.ref B.1), none, none] [] h17 (QM B h none z) := by
      intro h17 hM17
      refine V.aload_n dX3_begins_36 rfl rfl IsR.ref ?_
      obtain ⟨μ18, e19, hn⟩ := bnd hn
      refine V.invV (as := []) (b := B.1) (ci := 0) (w := true) (rc := rc0) dX3_begins_37 ok_X3_goesOn (lw_V q2362 q2364 qs75 q151 q2365) rfl hM17.1.1 rfl (by decide) (Nat.le_of_ble_eq_true rfl) (w_X3_goesOn hM17.1 (hT.mm hM hM17) e19) (kmV hM17.2 (fun h18 hM18 => ?_)) kxM
      obtain rfl := Option.some.inj hn
      exact V.vret dX3_begins_40 rfl ⟨rfl, hM18⟩
    refine V.icmp_ne (tgt := 36) dX3_begins_28 (by decide) (fun hc16 => ?_) (fun hc16 => ?_)
    · rw [if_neg hc16] at hA13
      obtain rfl := Option.some.inj hA13
      exact V.forget (llS (llN (llN ll0))) (hJ20 _ hM9)
    · rw [if_pos hc16] at hA13
      refine V.aload_n dX3_begins_31 rfl rfl IsR.ref ?_
      refine V.iconst (v := 5) dX3_begins_32 (by decide) ?_
      obtain ⟨μ14, e15, hA13⟩ := bnd hA13
      refine V.invV (as := [.int (5 : Int32)]) (b := B.1) (ci := 0) (w := true) (rc := rc0) dX3_begins_33 ok_X3_fails (lw_V q2358 q2360 qs74 q151 q2361) rfl hM9.1.1 rfl (by decide) (Nat.le_of_ble_eq_true rfl) (w_X3_fails hM9.1 (hT.mm hM hM9) e15) (kmV hM9.2 (fun h14 hM14 => ?_)) kxM
      obtain rfl := Option.some.inj hA13
      exact V.forget (llS (llN (llN ll0))) (hJ20 _ hM14)
  refine V.icmp_eq (tgt := 21) dX3_begins_3 (by decide) (fun hc8 => ?_) (fun hc8 => ?_)
  · rw [if_pos hc8] at hA2
    obtain rfl := Option.some.inj hA2
    exact hJ21 _ hM0
  · rw [if_neg hc8] at hA2
    refine V.aload_n dX3_begins_6 rfl rfl IsR.ref ?_
    refine V.mgetA hM0 dX3_begins_7 fo_X3_30_0 ma_19 ?_
    refine V.bipush (v := 9) dX3_begins_10 (by decide) ?_
    obtain ⟨x3, e4, hA2⟩ := bnd hA2
    refine V.miald hM0 dX3_begins_12 ma_19 (mLd_some e4) ?_
    refine V.if_le (tgt := 21) dX3_begins_13 (by decide) (fun hc7 => ?_) (fun hc7 => ?_)
    · rw [if_pos hc7] at hA2
      obtain rfl := Option.some.inj hA2
      exact hJ21 _ hM0
    · rw [if_neg hc7] at hA2
      refine V.aload_n dX3_begins_16 rfl rfl IsR.ref ?_
      refine V.iconst (v := 4) dX3_begins_17 (by decide) ?_
      obtain ⟨μ5, e6, hA2⟩ := bnd hA2
      refine V.invV (as := [.int (4 : Int32)]) (b := B.1) (ci := 0) (w := true) (rc := rc0) dX3_begins_18 ok_X3_fails (lw_V q2358 q2360 qs74 q151 q2361) rfl hM0.1.1 rfl (by decide) (Nat.le_of_ble_eq_true rfl) (w_X3_fails hM0.1 (hT.mm hM hM0) e6) (kmV hM0.2 (fun h5 hM5 => ?_)) kxM
      obtain rfl := Option.some.inj hA2
      exact hJ21 _ hM5
def m_X3_riverLine_b25 (x1 : Int32) (y5 : Int32 × MS) : (Int32 × MS) → Option ((Int32 × MS) ⊕ (MS)) := fun s => match s with
  | (i8, μ9) => if x1 ≤ i8 then (some (.inr μ9)) else ((mLd μ9 19 184 ((10 : Int32) + ((2 : Int32) * i8))).bind fun x14 => if x14 = y5.1 then ((m_X3_fails (3 : Int32) μ9).bind fun μ16 => some (.inl (i8 + (1 : Int32), μ16))) else (some (.inl (i8 + (1 : Int32), μ9))))
def m_X3_riverLine (μ : MS) : Option (MS) := (mLd μ 19 184 (7 : Int32)).bind fun x1 => (m_X3_begins (7 : Int32) (3 : Int32) μ).bind fun μ3 => (m_X3_numberHere (1 : Int32) (99 : Int32) μ3).bind fun y5 => (iter (m_X3_riverLine_b25 x1 y5) FUEL ((0 : Int32), y5.2)).bind fun μ20 => (m_X3_goesOn μ20).bind fun μ24 => (m_X3_takes_2 (1 : Int32) (30 : Int32) μ24).bind fun y26 => if (y26.2.1 17) = (0 : Int32) then ((mSt y26.2 19 184 ((10 : Int32) + ((2 : Int32) * x1)) y5.1).bind fun μ30 => (mSt μ30 19 184 (((10 : Int32) + ((2 : Int32) * x1)) + (1 : Int32)) y26.1).bind fun μ32 => (mLd μ32 19 184 (7 : Int32)).bind fun x33 => (mSt μ32 19 184 (7 : Int32) (x33 + (1 : Int32))).bind fun μ36 => some μ36) else (some y26.2)
abbrev M_X3_riverLine : MD := (yX3_riverLine, cX3_riverLine, 4, none, [])
theorem ok_X3_riverLine : mOK yX3_riverLine 4 0 := ⟨⟨by decide +kernel, by decide +kernel⟩, by decide +kernel, by decide⟩
theorem w_X3_riverLine {l : Launch} {g : GG} {h : AH} {B : BM} {μ : MS} {z : MS} (hM : IsM B h μ) (hT : TX g h) (hn : m_X3_riverLine μ = some z) : Sp l g M_X3_riverLine 4 [.ref B.1] h (QM B h none z) := by
  refine Sp.ofV (L := [some (.ref B.1), none, none, none]) rfl rfl (hcR hc0) (Nat.le_of_ble_eq_true rfl) rfl ?_
  have hM0 : MM B h h μ := ⟨hM, SameM.rf⟩
  unfold m_X3_riverLine at hn
  refine V.aload_n dX3_riverLine_0 rfl rfl IsR.ref ?_
  refine V.mgetA hM0 dX3_riverLine_1 fo_X3_30_0 ma_19 ?_
  refine V.bipush (v := 7) dX3_riverLine_4 (by decide) ?_
  obtain ⟨x1, e2, hn⟩ := bnd hn
  refine V.miald hM0 dX3_riverLine_6 ma_19 (mLd_some e2) ?_
  refine V.istore_n (i := 1) dX3_riverLine_7 rfl (by decide) ?_
  simp only [List.set_cons_zero, List.set_cons_succ]
  refine V.aload_n dX3_riverLine_8 rfl rfl IsR.ref ?_
  refine V.bipush (v := 7) dX3_riverLine_9 (by decide) ?_
  refine V.iconst (v := 3) dX3_riverLine_11 (by decide) ?_
  obtain ⟨μ3, e4, hn⟩ := bnd hn
  refine V.invV (as := [.int (7 : Int32), .int (3 : Int32)]) (b := B.1) (ci := 0) (w := true) (rc := rc0) dX3_riverLine_12 ok_X3_begins (lw_V q2388 q2390 qs80 q151 q2391) rfl hM0.1.1 rfl (by decide) (Nat.le_of_ble_eq_true rfl) (w_X3_begins hM0.1 (hT.mm hM hM0) e4) (kmV hM0.2 (fun h3 hM3 => ?_)) kxM
  refine V.aload_n dX3_riverLine_15 rfl rfl IsR.ref ?_
  refine V.iconst (v := 1) dX3_riverLine_16 (by decide) ?_
  refine V.bipush (v := 99) dX3_riverLine_17 (by decide) ?_
  obtain ⟨y5, e7, hn⟩ := bnd hn
  refine V.invV (as := [.int (1 : Int32), .int (99 : Int32)]) (b := B.1) (ci := 0) (w := true) (rc := rc0) dX3_riverLine_19 ok_X3_numberHere (lw_V q2375 q2377 qs78 q151 q2378) rfl hM3.1.1 rfl (by decide) (Nat.le_of_ble_eq_true rfl) (w_X3_numberHere hM3.1 (hT.mm hM hM3) e7) (kmI hM3.2 (fun h6 hM6 => ?_)) kxM
  refine V.istore_n (i := 2) dX3_riverLine_22 rfl (by decide) ?_
  simp only [List.set_cons_zero, List.set_cons_succ]
  refine V.iconst (v := 0) dX3_riverLine_23 (by decide) ?_
  refine V.istore_n (i := 3) dX3_riverLine_24 rfl (by decide) ?_
  simp only [List.set_cons_zero, List.set_cons_succ]
  obtain ⟨b22, hL21, hn⟩ := bnd hn
  have hJ23 : ∀ (μ20 : MS), μ20 = b22 → ∀ h20, MM B h h20 μ20 → V l g M_X3_riverLine 4 56 [some (.ref B.1), some (.int x1), some (.int y5.1), none] [] h20 (QM B h none z) := by
    intro μ20 e38 h20 hM20
    subst e38
    (try dsimp only at hn)
    refine V.aload_n dX3_riverLine_56 rfl rfl IsR.ref ?_
    obtain ⟨μ24, e25, hn⟩ := bnd hn
    refine V.invV (as := []) (b := B.1) (ci := 0) (w := true) (rc := rc0) dX3_riverLine_57 ok_X3_goesOn (lw_V q2362 q2364 qs75 q151 q2365) rfl hM20.1.1 rfl (by decide) (Nat.le_of_ble_eq_true rfl) (w_X3_goesOn hM20.1 (hT.mm hM hM20) e25) (kmV hM20.2 (fun h24 hM24 => ?_)) kxM
    refine V.aload_n dX3_riverLine_60 rfl rfl IsR.ref ?_
    refine V.iconst (v := 1) dX3_riverLine_61 (by decide) ?_
    refine V.bipush (v := 30) dX3_riverLine_62 (by decide) ?_
    obtain ⟨y26, e28, hn⟩ := bnd hn
    refine V.invV (as := [.int (1 : Int32), .int (30 : Int32)]) (b := B.1) (ci := 0) (w := true) (rc := rc0) dX3_riverLine_64 ok_X3_takes_2 (lw_V q2371 q2373 qs77 q151 q2374) rfl hM24.1.1 rfl (by decide) (Nat.le_of_ble_eq_true rfl) (w_X3_takes_2 hM24.1 (hT.mm hM hM24) e28) (kmI hM24.2 (fun h27 hM27 => ?_)) kxM
    refine V.istore_n (i := 3) dX3_riverLine_67 rfl (by decide) ?_
    simp only [List.set_cons_zero, List.set_cons_succ]
    refine V.aload_n dX3_riverLine_68 rfl rfl IsR.ref ?_
    refine V.mgetI hM27 dX3_riverLine_69 fo_X3_94_0 mi_17 ?_
    refine V.if_ne (tgt := 112) dX3_riverLine_72 (by decide) (fun hc37 => ?_) (fun hc37 => ?_)
    · rw [if_neg hc37] at hn
      obtain rfl := Option.some.inj hn
      exact V.vret dX3_riverLine_112 rfl ⟨rfl, hM27⟩
    · rw [if_pos hc37] at hn
      refine V.aload_n dX3_riverLine_75 rfl rfl IsR.ref ?_
      refine V.mgetA hM27 dX3_riverLine_76 fo_X3_30_0 ma_19 ?_
      refine V.bipush (v := 10) dX3_riverLine_79 (by decide) ?_
      refine V.iconst (v := 2) dX3_riverLine_81 (by decide) ?_
      refine V.iload_n dX3_riverLine_82 rfl rfl ?_
      refine V.imul dX3_riverLine_83 ?_
      refine V.iadd dX3_riverLine_84 ?_
      refine V.iload_n dX3_riverLine_85 rfl rfl ?_
      obtain ⟨μ30, e29, hn⟩ := bnd hn
      refine V.miast hM27 dX3_riverLine_86 ma_19 (mSt_some e29) (fun h30 hM30 => ?_)
      refine V.aload_n dX3_riverLine_87 rfl rfl IsR.ref ?_
      refine V.mgetA hM30 dX3_riverLine_88 fo_X3_30_0 ma_19 ?_
      refine V.bipush (v := 10) dX3_riverLine_91 (by decide) ?_
      refine V.iconst (v := 2) dX3_riverLine_93 (by decide) ?_
      refine V.iload_n dX3_riverLine_94 rfl rfl ?_
      refine V.imul dX3_riverLine_95 ?_
      refine V.iadd dX3_riverLine_96 ?_
      refine V.iconst (v := 1) dX3_riverLine_97 (by decide) ?_
      refine V.iadd dX3_riverLine_98 ?_
      refine V.iload_n dX3_riverLine_99 rfl rfl ?_
      obtain ⟨μ32, e31, hn⟩ := bnd hn
      refine V.miast hM30 dX3_riverLine_100 ma_19 (mSt_some e31) (fun h32 hM32 => ?_)
      refine V.aload_n dX3_riverLine_101 rfl rfl IsR.ref ?_
      refine V.mgetA hM32 dX3_riverLine_102 fo_X3_30_0 ma_19 ?_
      refine V.bipush (v := 7) dX3_riverLine_105 (by decide) ?_
      refine V.dup2 dX3_riverLine_107 rfl rfl ?_
      obtain ⟨x33, e34, hn⟩ := bnd hn
      refine V.miald hM32 dX3_riverLine_108 ma_19 (mLd_some e34) ?_
      refine V.iconst (v := 1) dX3_riverLine_109 (by decide) ?_
      refine V.iadd dX3_riverLine_110 ?_
      obtain ⟨μ36, e35, hn⟩ := bnd hn
      refine V.miast hM32 dX3_riverLine_111 ma_19 (mSt_some e35) (fun h36 hM36 => ?_)
      obtain rfl := Option.some.inj hn
      exact V.vret dX3_riverLine_112 rfl ⟨rfl, hM36⟩
  refine iter_ind (P := fun (σ : Int32 × MS) => match σ with | (i8, μ9) => ∀ h9, MM B h h9 μ9 → V l g M_X3_riverLine 4 25 [some (.ref B.1), some (.int x1), some (.int y5.1), some (.int i8)] [] h9 (QM B h none z)) (b := b22) ?_ FUEL ((0 : Int32), y5.2) hL21 _ hM6
  rintro ⟨i8, μ9⟩ ρ39 hr10 hi11 hx12 h9 hM9
  unfold m_X3_riverLine_b25 at hr10
  (try dsimp only at hr10)
  refine V.iload_n dX3_riverLine_25 rfl rfl ?_
  refine V.iload_n dX3_riverLine_26 rfl rfl ?_
  refine V.icmp_ge (tgt := 56) dX3_riverLine_27 (by decide) (fun hc19 => ?_) (fun hc19 => ?_)
  · rw [if_pos hc19] at hr10
    obtain rfl := Option.some.inj hr10
    have e40 := hx12 _ rfl
    exact V.forget (llS (llS (llS (llN ll0)))) (hJ23 _ e40 _ hM9)
  · rw [if_neg hc19] at hr10
    refine V.aload_n dX3_riverLine_30 rfl rfl IsR.ref ?_
    refine V.mgetA hM9 dX3_riverLine_31 fo_X3_30_0 ma_19 ?_
    refine V.bipush (v := 10) dX3_riverLine_34 (by decide) ?_
    refine V.iconst (v := 2) dX3_riverLine_36 (by decide) ?_
    refine V.iload_n dX3_riverLine_37 rfl rfl ?_
    refine V.imul dX3_riverLine_38 ?_
    refine V.iadd dX3_riverLine_39 ?_
    obtain ⟨x14, e15, hr10⟩ := bnd hr10
    refine V.miald hM9 dX3_riverLine_40 ma_19 (mLd_some e15) ?_
    refine V.iload_n dX3_riverLine_41 rfl rfl ?_
    refine V.icmp_ne (tgt := 50) dX3_riverLine_42 (by decide) (fun hc18 => ?_) (fun hc18 => ?_)
    · rw [if_neg hc18] at hr10
      refine V.iinc (v := i8 + (1 : Int32)) (i := 3) dX3_riverLine_50 rfl (by rfl) (by decide) ?_
      simp only [List.set_cons_zero, List.set_cons_succ]
      refine V.goto (tgt := 25) dX3_riverLine_53 (by decide) ?_
      obtain rfl := Option.some.inj hr10
      have hi11P := hi11 _ rfl
      exact hi11P _ hM9
    · rw [if_pos hc18] at hr10
      refine V.aload_n dX3_riverLine_45 rfl rfl IsR.ref ?_
      refine V.iconst (v := 3) dX3_riverLine_46 (by decide) ?_
      obtain ⟨μ16, e17, hr10⟩ := bnd hr10
      refine V.invV (as := [.int (3 : Int32)]) (b := B.1) (ci := 0) (w := true) (rc := rc0) dX3_riverLine_47 ok_X3_fails (lw_V q2358 q2360 qs74 q151 q2361) rfl hM9.1.1 rfl (by decide) (Nat.le_of_ble_eq_true rfl) (w_X3_fails hM9.1 (hT.mm hM hM9) e17) (kmV hM9.2 (fun h16 hM16 => ?_)) kxM
      refine V.iinc (v := i8 + (1 : Int32)) (i := 3) dX3_riverLine_50 rfl (by rfl) (by decide) ?_
      simp only [List.set_cons_zero, List.set_cons_succ]
      refine V.goto (tgt := 25) dX3_riverLine_53 (by decide) ?_
      obtain rfl := Option.some.inj hr10
      have hi11P := hi11 _ rfl
      exact hi11P _ hM16
def m_X3_vanLine (μ : MS) : Option (MS) := (m_X3_begins (8 : Int32) (4 : Int32) μ).bind fun μ1 => (m_X3_takes_2 (0 : Int32) (99 : Int32) μ1).bind fun y3 => (m_X3_takes_2 (0 : Int32) (99 : Int32) y3.2).bind fun y6 => (m_X3_takes 15 (0 : Int32) (8 : Int32) y6.2).bind fun y9 => (m_X3_takes 20 (0 : Int32) (3 : Int32) y9.2).bind fun y12 => (m_X3_takes 10 (0 : Int32) (1440 : Int32) y12.2).bind fun y15 => (m_X3_takes 17 y15.1 (1440 : Int32) y15.2).bind fun y18 => if (y18.2.1 17) = (0 : Int32) then ((mLd y18.2 19 184 (8 : Int32)).bind fun x21 => (mSt y18.2 19 184 ((16 : Int32) + ((6 : Int32) * x21)) y3.1).bind fun μ24 => (mSt μ24 19 184 (((16 : Int32) + ((6 : Int32) * x21)) + (1 : Int32)) y6.1).bind fun μ26 => (mSt μ26 19 184 (((16 : Int32) + ((6 : Int32) * x21)) + (2 : Int32)) y9.1).bind fun μ28 => (mSt μ28 19 184 (((16 : Int32) + ((6 : Int32) * x21)) + (3 : Int32)) y12.1).bind fun μ30 => (mSt μ30 19 184 (((16 : Int32) + ((6 : Int32) * x21)) + (4 : Int32)) y15.1).bind fun μ32 => (mSt μ32 19 184 (((16 : Int32) + ((6 : Int32) * x21)) + (5 : Int32)) y18.1).bind fun μ34 => (mLd μ34 19 184 (8 : Int32)).bind fun x35 => (mSt μ34 19 184 (8 : Int32) (x35 + (1 : Int32))).bind fun μ38 => some μ38) else (some y18.2)
abbrev M_X3_vanLine : MD := (yX3_vanLine, cX3_vanLine, 8, none, [])
theorem ok_X3_vanLine : mOK yX3_vanLine 8 0 := ⟨⟨by decide +kernel, by decide +kernel⟩, by decide +kernel, by decide⟩
theorem w_X3_vanLine {l : Launch} {g : GG} {h : AH} {B : BM} {μ : MS} {z : MS} (hM : IsM B h μ) (hT : TX g h) (hn : m_X3_vanLine μ = some z) : Sp l g M_X3_vanLine 8 [.ref B.1] h (QM B h none z) := by
  refine Sp.ofV (L := [some (.ref B.1), none, none, none, none, none, none, none]) rfl rfl (hcR hc0) (Nat.le_of_ble_eq_true rfl) rfl ?_
  have hM0 : MM B h h μ := ⟨hM, SameM.rf⟩
  unfold m_X3_vanLine at hn
  refine V.aload_n dX3_vanLine_0 rfl rfl IsR.ref ?_
  refine V.bipush (v := 8) dX3_vanLine_1 (by decide) ?_
  refine V.iconst (v := 4) dX3_vanLine_3 (by decide) ?_
  obtain ⟨μ1, e2, hn⟩ := bnd hn
  refine V.invV (as := [.int (8 : Int32), .int (4 : Int32)]) (b := B.1) (ci := 0) (w := true) (rc := rc0) dX3_vanLine_4 ok_X3_begins (lw_V q2388 q2390 qs80 q151 q2391) rfl hM0.1.1 rfl (by decide) (Nat.le_of_ble_eq_true rfl) (w_X3_begins hM0.1 (hT.mm hM hM0) e2) (kmV hM0.2 (fun h1 hM1 => ?_)) kxM
  refine V.aload_n dX3_vanLine_7 rfl rfl IsR.ref ?_
  refine V.iconst (v := 0) dX3_vanLine_8 (by decide) ?_
  refine V.bipush (v := 99) dX3_vanLine_9 (by decide) ?_
  obtain ⟨y3, e5, hn⟩ := bnd hn
  refine V.invV (as := [.int (0 : Int32), .int (99 : Int32)]) (b := B.1) (ci := 0) (w := true) (rc := rc0) dX3_vanLine_11 ok_X3_takes_2 (lw_V q2371 q2373 qs77 q151 q2374) rfl hM1.1.1 rfl (by decide) (Nat.le_of_ble_eq_true rfl) (w_X3_takes_2 hM1.1 (hT.mm hM hM1) e5) (kmI hM1.2 (fun h4 hM4 => ?_)) kxM
  refine V.istore_n (i := 1) dX3_vanLine_14 rfl (by decide) ?_
  simp only [List.set_cons_zero, List.set_cons_succ]
  refine V.aload_n dX3_vanLine_15 rfl rfl IsR.ref ?_
  refine V.iconst (v := 0) dX3_vanLine_16 (by decide) ?_
  refine V.bipush (v := 99) dX3_vanLine_17 (by decide) ?_
  obtain ⟨y6, e8, hn⟩ := bnd hn
  refine V.invV (as := [.int (0 : Int32), .int (99 : Int32)]) (b := B.1) (ci := 0) (w := true) (rc := rc0) dX3_vanLine_19 ok_X3_takes_2 (lw_V q2371 q2373 qs77 q151 q2374) rfl hM4.1.1 rfl (by decide) (Nat.le_of_ble_eq_true rfl) (w_X3_takes_2 hM4.1 (hT.mm hM hM4) e8) (kmI hM4.2 (fun h7 hM7 => ?_)) kxM
  refine V.istore_n (i := 2) dX3_vanLine_22 rfl (by decide) ?_
  simp only [List.set_cons_zero, List.set_cons_succ]
  refine V.aload_n dX3_vanLine_23 rfl rfl IsR.ref ?_
  refine V.ldcS (sid := 15) dX3_vanLine_24 (List.mem_of_getElem? (i := 25) rfl) ?_
  refine V.iconst (v := 0) dX3_vanLine_26 (by decide) ?_
  refine V.bipush (v := 8) dX3_vanLine_27 (by decide) ?_
  obtain ⟨y9, e11, hn⟩ := bnd hn
  refine V.invV (as := [.ref (gT g 15), .int (0 : Int32), .int (8 : Int32)]) (b := B.1) (ci := 0) (w := true) (rc := rc0) dX3_vanLine_29 ok_X3_takes (lw_V q2367 q2369 qs76 q151 q2370) rfl hM7.1.1 rfl (by decide) (Nat.le_of_ble_eq_true rfl) (w_X3_takes hM7.1 (hT.mm hM hM7) e11) (kmI hM7.2 (fun h10 hM10 => ?_)) kxM
  refine V.istore_n (i := 3) dX3_vanLine_32 rfl (by decide) ?_
  simp only [List.set_cons_zero, List.set_cons_succ]
  refine V.aload_n dX3_vanLine_33 rfl rfl IsR.ref ?_
  refine V.ldcS (sid := 20) dX3_vanLine_34 (List.mem_of_getElem? (i := 26) rfl) ?_
  refine V.iconst (v := 0) dX3_vanLine_36 (by decide) ?_
  refine V.iconst (v := 3) dX3_vanLine_37 (by decide) ?_
  obtain ⟨y12, e14, hn⟩ := bnd hn
  refine V.invV (as := [.ref (gT g 20), .int (0 : Int32), .int (3 : Int32)]) (b := B.1) (ci := 0) (w := true) (rc := rc0) dX3_vanLine_38 ok_X3_takes (lw_V q2367 q2369 qs76 q151 q2370) rfl hM10.1.1 rfl (by decide) (Nat.le_of_ble_eq_true rfl) (w_X3_takes hM10.1 (hT.mm hM hM10) e14) (kmI hM10.2 (fun h13 hM13 => ?_)) kxM
  refine V.istore (i := 4) dX3_vanLine_41 (by decide) ?_
  simp only [List.set_cons_zero, List.set_cons_succ]
  refine V.aload_n dX3_vanLine_43 rfl rfl IsR.ref ?_
  refine V.ldcS (sid := 10) dX3_vanLine_44 (List.mem_of_getElem? (i := 27) rfl) ?_
  refine V.iconst (v := 0) dX3_vanLine_46 (by decide) ?_
  refine V.sipush (v := 1440) dX3_vanLine_47 (by decide) ?_
  obtain ⟨y15, e17, hn⟩ := bnd hn
  refine V.invV (as := [.ref (gT g 10), .int (0 : Int32), .int (1440 : Int32)]) (b := B.1) (ci := 0) (w := true) (rc := rc0) dX3_vanLine_50 ok_X3_takes (lw_V q2367 q2369 qs76 q151 q2370) rfl hM13.1.1 rfl (by decide) (Nat.le_of_ble_eq_true rfl) (w_X3_takes hM13.1 (hT.mm hM hM13) e17) (kmI hM13.2 (fun h16 hM16 => ?_)) kxM
  refine V.istore (i := 5) dX3_vanLine_53 (by decide) ?_
  simp only [List.set_cons_zero, List.set_cons_succ]
  refine V.aload_n dX3_vanLine_55 rfl rfl IsR.ref ?_
  refine V.ldcS (sid := 17) dX3_vanLine_56 (List.mem_of_getElem? (i := 28) rfl) ?_
  refine V.iload dX3_vanLine_58 rfl ?_
  refine V.sipush (v := 1440) dX3_vanLine_60 (by decide) ?_
  obtain ⟨y18, e20, hn⟩ := bnd hn
  refine V.invV (as := [.ref (gT g 17), .int y15.1, .int (1440 : Int32)]) (b := B.1) (ci := 0) (w := true) (rc := rc0) dX3_vanLine_63 ok_X3_takes (lw_V q2367 q2369 qs76 q151 q2370) rfl hM16.1.1 rfl (by decide) (Nat.le_of_ble_eq_true rfl) (w_X3_takes hM16.1 (hT.mm hM hM16) e20) (kmI hM16.2 (fun h19 hM19 => ?_)) kxM
  refine V.istore (i := 6) dX3_vanLine_66 (by decide) ?_
  simp only [List.set_cons_zero, List.set_cons_succ]
  refine V.aload_n dX3_vanLine_68 rfl rfl IsR.ref ?_
  refine V.mgetI hM19 dX3_vanLine_69 fo_X3_94_0 mi_17 ?_
  refine V.if_eq (tgt := 76) dX3_vanLine_72 (by decide) (fun hc39 => ?_) (fun hc39 => ?_)
  · rw [if_pos hc39] at hn
    refine V.bipush (v := 16) dX3_vanLine_76 (by decide) ?_
    refine V.bipush (v := 6) dX3_vanLine_78 (by decide) ?_
    refine V.aload_n dX3_vanLine_80 rfl rfl IsR.ref ?_
    refine V.mgetA hM19 dX3_vanLine_81 fo_X3_30_0 ma_19 ?_
    refine V.bipush (v := 8) dX3_vanLine_84 (by decide) ?_
    obtain ⟨x21, e22, hn⟩ := bnd hn
    refine V.miald hM19 dX3_vanLine_86 ma_19 (mLd_some e22) ?_
    refine V.imul dX3_vanLine_87 ?_
    refine V.iadd dX3_vanLine_88 ?_
    refine V.istore (i := 7) dX3_vanLine_89 (by decide) ?_
    simp only [List.set_cons_zero, List.set_cons_succ]
    refine V.aload_n dX3_vanLine_91 rfl rfl IsR.ref ?_
    refine V.mgetA hM19 dX3_vanLine_92 fo_X3_30_0 ma_19 ?_
    refine V.iload dX3_vanLine_95 rfl ?_
    refine V.iload_n dX3_vanLine_97 rfl rfl ?_
    obtain ⟨μ24, e23, hn⟩ := bnd hn
    refine V.miast hM19 dX3_vanLine_98 ma_19 (mSt_some e23) (fun h24 hM24 => ?_)
    refine V.aload_n dX3_vanLine_99 rfl rfl IsR.ref ?_
    refine V.mgetA hM24 dX3_vanLine_100 fo_X3_30_0 ma_19 ?_
    refine V.iload dX3_vanLine_103 rfl ?_
    refine V.iconst (v := 1) dX3_vanLine_105 (by decide) ?_
    refine V.iadd dX3_vanLine_106 ?_
    refine V.iload_n dX3_vanLine_107 rfl rfl ?_
    obtain ⟨μ26, e25, hn⟩ := bnd hn
    refine V.miast hM24 dX3_vanLine_108 ma_19 (mSt_some e25) (fun h26 hM26 => ?_)
    refine V.aload_n dX3_vanLine_109 rfl rfl IsR.ref ?_
    refine V.mgetA hM26 dX3_vanLine_110 fo_X3_30_0 ma_19 ?_
    refine V.iload dX3_vanLine_113 rfl ?_
    refine V.iconst (v := 2) dX3_vanLine_115 (by decide) ?_
    refine V.iadd dX3_vanLine_116 ?_
    refine V.iload_n dX3_vanLine_117 rfl rfl ?_
    obtain ⟨μ28, e27, hn⟩ := bnd hn
    refine V.miast hM26 dX3_vanLine_118 ma_19 (mSt_some e27) (fun h28 hM28 => ?_)
    refine V.aload_n dX3_vanLine_119 rfl rfl IsR.ref ?_
    refine V.mgetA hM28 dX3_vanLine_120 fo_X3_30_0 ma_19 ?_
    refine V.iload dX3_vanLine_123 rfl ?_
    refine V.iconst (v := 3) dX3_vanLine_125 (by decide) ?_
    refine V.iadd dX3_vanLine_126 ?_
    refine V.iload dX3_vanLine_127 rfl ?_
    obtain ⟨μ30, e29, hn⟩ := bnd hn
    refine V.miast hM28 dX3_vanLine_129 ma_19 (mSt_some e29) (fun h30 hM30 => ?_)
    refine V.aload_n dX3_vanLine_130 rfl rfl IsR.ref ?_
    refine V.mgetA hM30 dX3_vanLine_131 fo_X3_30_0 ma_19 ?_
    refine V.iload dX3_vanLine_134 rfl ?_
    refine V.iconst (v := 4) dX3_vanLine_136 (by decide) ?_
    refine V.iadd dX3_vanLine_137 ?_
    refine V.iload dX3_vanLine_138 rfl ?_
    obtain ⟨μ32, e31, hn⟩ := bnd hn
    refine V.miast hM30 dX3_vanLine_140 ma_19 (mSt_some e31) (fun h32 hM32 => ?_)
    refine V.aload_n dX3_vanLine_141 rfl rfl IsR.ref ?_
    refine V.mgetA hM32 dX3_vanLine_142 fo_X3_30_0 ma_19 ?_
    refine V.iload dX3_vanLine_145 rfl ?_
    refine V.iconst (v := 5) dX3_vanLine_147 (by decide) ?_
    refine V.iadd dX3_vanLine_148 ?_
    refine V.iload dX3_vanLine_149 rfl ?_
    obtain ⟨μ34, e33, hn⟩ := bnd hn
    refine V.miast hM32 dX3_vanLine_151 ma_19 (mSt_some e33) (fun h34 hM34 => ?_)
    refine V.aload_n dX3_vanLine_152 rfl rfl IsR.ref ?_
    refine V.mgetA hM34 dX3_vanLine_153 fo_X3_30_0 ma_19 ?_
    refine V.bipush (v := 8) dX3_vanLine_156 (by decide) ?_
    refine V.dup2 dX3_vanLine_158 rfl rfl ?_
    obtain ⟨x35, e36, hn⟩ := bnd hn
    refine V.miald hM34 dX3_vanLine_159 ma_19 (mLd_some e36) ?_
    refine V.iconst (v := 1) dX3_vanLine_160 (by decide) ?_
    refine V.iadd dX3_vanLine_161 ?_
    obtain ⟨μ38, e37, hn⟩ := bnd hn
    refine V.miast hM34 dX3_vanLine_162 ma_19 (mSt_some e37) (fun h38 hM38 => ?_)
    obtain rfl := Option.some.inj hn
    exact V.vret dX3_vanLine_163 rfl ⟨rfl, hM38⟩
  · rw [if_neg hc39] at hn
    obtain rfl := Option.some.inj hn
    exact V.vret dX3_vanLine_75 rfl ⟨rfl, hM19⟩
def m_X3_callLine_b24 (x3 : Int32) : (Int32 × MS) → Option ((Int32 × MS) ⊕ (MS)) := fun s => match s with
  | (i5, μ6) => if (4 : Int32) ≤ i5 then (some (.inr μ6)) else ((m_X3_takes_2 (0 : Int32) (99 : Int32) μ6).bind fun y11 => if (y11.2.1 17) = (0 : Int32) then ((mSt y11.2 19 184 (((40 : Int32) + ((6 : Int32) * x3)) + i5) y11.1).bind fun μ15 => some (.inl (i5 + (1 : Int32), μ15))) else (some (.inl (i5 + (1 : Int32), y11.2))))
def m_X3_callLine (μ : MS) : Option (MS) := (m_X3_begins (9 : Int32) (24 : Int32) μ).bind fun μ1 => (mLd μ1 19 184 (9 : Int32)).bind fun x3 => (iter (m_X3_callLine_b24 x3) FUEL ((0 : Int32), μ1)).bind fun μ18 => (m_X3_isWord 19 μ18).bind fun x22 => (if x22 = (0 : Int32) then ((m_X3_isWord 8 μ18).bind fun x26 => if x26 = (0 : Int32) then (some (2 : Int32)) else (some (1 : Int32))) else (some (0 : Int32)) : Option (Int32)).bind fun v30 => (if v30 = (2 : Int32) then ((m_X3_isWord 5 μ18).bind fun x33 => if x33 = (0 : Int32) then ((m_X3_fails (1 : Int32) μ18).bind fun μ35 => some μ35) else (some μ18)) else (some μ18) : Option (MS)).bind fun μ39 => (m_X3_goesOn μ39).bind fun μ40 => (m_X3_takes_2 (0 : Int32) (1440 : Int32) μ40).bind fun y42 => if (y42.2.1 17) = (0 : Int32) then ((mSt y42.2 19 184 (((40 : Int32) + ((6 : Int32) * x3)) + (4 : Int32)) v30).bind fun μ46 => (mSt μ46 19 184 (((40 : Int32) + ((6 : Int32) * x3)) + (5 : Int32)) y42.1).bind fun μ48 => (mLd μ48 19 184 (9 : Int32)).bind fun x49 => (mSt μ48 19 184 (9 : Int32) (x49 + (1 : Int32))).bind fun μ52 => some μ52) else (some y42.2)
abbrev M_X3_callLine : MD := (yX3_callLine, cX3_callLine, 4, none, [])
theorem ok_X3_callLine : mOK yX3_callLine 4 0 := ⟨⟨by decide +kernel, by decide +kernel⟩, by decide +kernel, by decide⟩
theorem w_X3_callLine {l : Launch} {g : GG} {h : AH} {B : BM} {μ : MS} {z : MS} (hM : IsM B h μ) (hT : TX g h) (hn : m_X3_callLine μ = some z) : Sp l g M_X3_callLine 6 [.ref B.1] h (QM B h none z) := by
  refine Sp.ofV (L := [some (.ref B.1), none, none, none]) rfl rfl (hcR hc0) (Nat.le_of_ble_eq_true rfl) rfl ?_
  have hM0 : MM B h h μ := ⟨hM, SameM.rf⟩
  unfold m_X3_callLine at hn
  refine V.aload_n dX3_callLine_0 rfl rfl IsR.ref ?_
  refine V.bipush (v := 9) dX3_callLine_1 (by decide) ?_
  refine V.bipush (v := 24) dX3_callLine_3 (by decide) ?_
  obtain ⟨μ1, e2, hn⟩ := bnd hn
  refine V.invV (as := [.int (9 : Int32), .int (24 : Int32)]) (b := B.1) (ci := 0) (w := true) (rc := rc0) dX3_callLine_5 ok_X3_begins (lw_V q2388 q2390 qs80 q151 q2391) rfl hM0.1.1 rfl (by decide) (Nat.le_of_ble_eq_true rfl) (w_X3_begins hM0.1 (hT.mm hM hM0) e2) (kmV hM0.2 (fun h1 hM1 => ?_)) kxM
  refine V.bipush (v := 40) dX3_callLine_8 (by decide) ?_
  refine V.bipush (v := 6) dX3_callLine_10 (by decide) ?_
  refine V.aload_n dX3_callLine_12 rfl rfl IsR.ref ?_
  refine V.mgetA hM1 dX3_callLine_13 fo_X3_30_0 ma_19 ?_
  refine V.bipush (v := 9) dX3_callLine_16 (by decide) ?_
  obtain ⟨x3, e4, hn⟩ := bnd hn
  refine V.miald hM1 dX3_callLine_18 ma_19 (mLd_some e4) ?_
  refine V.imul dX3_callLine_19 ?_
  refine V.iadd dX3_callLine_20 ?_
  refine V.istore_n (i := 1) dX3_callLine_21 rfl (by decide) ?_
  simp only [List.set_cons_zero, List.set_cons_succ]
  refine V.iconst (v := 0) dX3_callLine_22 (by decide) ?_
  refine V.istore_n (i := 2) dX3_callLine_23 rfl (by decide) ?_
  simp only [List.set_cons_zero, List.set_cons_succ]
  obtain ⟨b20, hL19, hn⟩ := bnd hn
  have hJ21 : ∀ (μ18 : MS), μ18 = b20 → ∀ h18, MM B h h18 μ18 → V l g M_X3_callLine 6 59 [some (.ref B.1), some (.int ((40 : Int32) + ((6 : Int32) * x3))), none, none] [] h18 (QM B h none z) := by
    intro μ18 e56 h18 hM18
    subst e56
    (try dsimp only at hn)
    refine V.aload_n dX3_callLine_59 rfl rfl IsR.ref ?_
    refine V.ldcS (sid := 19) dX3_callLine_60 (List.mem_of_getElem? (i := 29) rfl) ?_
    obtain ⟨x22, e23, hn⟩ := bnd hn
    refine V.invV (as := [.ref (gT g 19)]) (b := B.1) (ci := 0) (w := true) (rc := rc0) dX3_callLine_62 ok_X3_isWord (lw_V q2342 q2344 qs73 q151 q2345) rfl hM18.1.1 rfl (by decide) (Nat.le_of_ble_eq_true rfl) (w_X3_isWord hM18.1 (hT.mm hM hM18) e23) (krI ?_) kxZ
    obtain ⟨v30, hA25, hn⟩ := bnd hn
    (try dsimp only at hn)
    have hJ55 : V l g M_X3_callLine 6 86 [some (.ref B.1), some (.int ((40 : Int32) + ((6 : Int32) * x3))), none, none] [.int v30] h18 (QM B h none z) := by
      refine V.istore_n (i := 2) dX3_callLine_86 rfl (by decide) ?_
      simp only [List.set_cons_zero, List.set_cons_succ]
      refine V.iload_n dX3_callLine_87 rfl rfl ?_
      refine V.iconst (v := 2) dX3_callLine_88 (by decide) ?_
      obtain ⟨μ39, hA32, hn⟩ := bnd hn
      (try dsimp only at hn)
      have hJ54 : ∀ h39, MM B h h39 μ39 → V l g M_X3_callLine 6 106 [some (.ref B.1), some (.int ((40 : Int32) + ((6 : Int32) * x3))), some (.int v30), none] [] h39 (QM B h none z) := by
        intro h39 hM39
        refine V.aload_n dX3_callLine_106 rfl rfl IsR.ref ?_
        obtain ⟨μ40, e41, hn⟩ := bnd hn
        refine V.invV (as := []) (b := B.1) (ci := 0) (w := true) (rc := rc0) dX3_callLine_107 ok_X3_goesOn (lw_V q2362 q2364 qs75 q151 q2365) rfl hM39.1.1 rfl (by decide) (Nat.le_of_ble_eq_true rfl) (w_X3_goesOn hM39.1 (hT.mm hM hM39) e41) (kmV hM39.2 (fun h40 hM40 => ?_)) kxM
        refine V.aload_n dX3_callLine_110 rfl rfl IsR.ref ?_
        refine V.iconst (v := 0) dX3_callLine_111 (by decide) ?_
        refine V.sipush (v := 1440) dX3_callLine_112 (by decide) ?_
        obtain ⟨y42, e44, hn⟩ := bnd hn
        refine V.invV (as := [.int (0 : Int32), .int (1440 : Int32)]) (b := B.1) (ci := 0) (w := true) (rc := rc0) dX3_callLine_115 ok_X3_takes_2 (lw_V q2371 q2373 qs77 q151 q2374) rfl hM40.1.1 rfl (by decide) (Nat.le_of_ble_eq_true rfl) (w_X3_takes_2 hM40.1 (hT.mm hM hM40) e44) (kmI hM40.2 (fun h43 hM43 => ?_)) kxM
        refine V.istore_n (i := 3) dX3_callLine_118 rfl (by decide) ?_
        simp only [List.set_cons_zero, List.set_cons_succ]
        refine V.aload_n dX3_callLine_119 rfl rfl IsR.ref ?_
        refine V.mgetI hM43 dX3_callLine_120 fo_X3_94_0 mi_17 ?_
        refine V.if_ne (tgt := 155) dX3_callLine_123 (by decide) (fun hc53 => ?_) (fun hc53 => ?_)
        · rw [if_neg hc53] at hn
          obtain rfl := Option.some.inj hn
          exact V.vret dX3_callLine_155 rfl ⟨rfl, hM43⟩
        · rw [if_pos hc53] at hn
          refine V.aload_n dX3_callLine_126 rfl rfl IsR.ref ?_
          refine V.mgetA hM43 dX3_callLine_127 fo_X3_30_0 ma_19 ?_
          refine V.iload_n dX3_callLine_130 rfl rfl ?_
          refine V.iconst (v := 4) dX3_callLine_131 (by decide) ?_
          refine V.iadd dX3_callLine_132 ?_
          refine V.iload_n dX3_callLine_133 rfl rfl ?_
          obtain ⟨μ46, e45, hn⟩ := bnd hn
          refine V.miast hM43 dX3_callLine_134 ma_19 (mSt_some e45) (fun h46 hM46 => ?_)
          refine V.aload_n dX3_callLine_135 rfl rfl IsR.ref ?_
          refine V.mgetA hM46 dX3_callLine_136 fo_X3_30_0 ma_19 ?_
          refine V.iload_n dX3_callLine_139 rfl rfl ?_
          refine V.iconst (v := 5) dX3_callLine_140 (by decide) ?_
          refine V.iadd dX3_callLine_141 ?_
          refine V.iload_n dX3_callLine_142 rfl rfl ?_
          obtain ⟨μ48, e47, hn⟩ := bnd hn
          refine V.miast hM46 dX3_callLine_143 ma_19 (mSt_some e47) (fun h48 hM48 => ?_)
          refine V.aload_n dX3_callLine_144 rfl rfl IsR.ref ?_
          refine V.mgetA hM48 dX3_callLine_145 fo_X3_30_0 ma_19 ?_
          refine V.bipush (v := 9) dX3_callLine_148 (by decide) ?_
          refine V.dup2 dX3_callLine_150 rfl rfl ?_
          obtain ⟨x49, e50, hn⟩ := bnd hn
          refine V.miald hM48 dX3_callLine_151 ma_19 (mLd_some e50) ?_
          refine V.iconst (v := 1) dX3_callLine_152 (by decide) ?_
          refine V.iadd dX3_callLine_153 ?_
          obtain ⟨μ52, e51, hn⟩ := bnd hn
          refine V.miast hM48 dX3_callLine_154 ma_19 (mSt_some e51) (fun h52 hM52 => ?_)
          obtain rfl := Option.some.inj hn
          exact V.vret dX3_callLine_155 rfl ⟨rfl, hM52⟩
      refine V.icmp_ne (tgt := 106) dX3_callLine_89 (by decide) (fun hc38 => ?_) (fun hc38 => ?_)
      · rw [if_neg hc38] at hA32
        obtain rfl := Option.some.inj hA32
        exact hJ54 _ hM18
      · rw [if_pos hc38] at hA32
        refine V.aload_n dX3_callLine_92 rfl rfl IsR.ref ?_
        refine V.ldcS (sid := 5) dX3_callLine_93 (List.mem_of_getElem? (i := 31) rfl) ?_
        obtain ⟨x33, e34, hA32⟩ := bnd hA32
        refine V.invV (as := [.ref (gT g 5)]) (b := B.1) (ci := 0) (w := true) (rc := rc0) dX3_callLine_95 ok_X3_isWord (lw_V q2342 q2344 qs73 q151 q2345) rfl hM18.1.1 rfl (by decide) (Nat.le_of_ble_eq_true rfl) (w_X3_isWord hM18.1 (hT.mm hM hM18) e34) (krI ?_) kxZ
        refine V.if_ne (tgt := 106) dX3_callLine_98 (by decide) (fun hc37 => ?_) (fun hc37 => ?_)
        · rw [if_neg hc37] at hA32
          obtain rfl := Option.some.inj hA32
          exact hJ54 _ hM18
        · rw [if_pos hc37] at hA32
          refine V.aload_n dX3_callLine_101 rfl rfl IsR.ref ?_
          refine V.iconst (v := 1) dX3_callLine_102 (by decide) ?_
          obtain ⟨μ35, e36, hA32⟩ := bnd hA32
          refine V.invV (as := [.int (1 : Int32)]) (b := B.1) (ci := 0) (w := true) (rc := rc0) dX3_callLine_103 ok_X3_fails (lw_V q2358 q2360 qs74 q151 q2361) rfl hM18.1.1 rfl (by decide) (Nat.le_of_ble_eq_true rfl) (w_X3_fails hM18.1 (hT.mm hM hM18) e36) (kmV hM18.2 (fun h35 hM35 => ?_)) kxM
          obtain rfl := Option.some.inj hA32
          exact hJ54 _ hM35
    refine V.if_eq (tgt := 72) dX3_callLine_65 (by decide) (fun hc29 => ?_) (fun hc29 => ?_)
    · rw [if_pos hc29] at hA25
      refine V.aload_n dX3_callLine_72 rfl rfl IsR.ref ?_
      refine V.ldcS (sid := 8) dX3_callLine_73 (List.mem_of_getElem? (i := 30) rfl) ?_
      obtain ⟨x26, e27, hA25⟩ := bnd hA25
      refine V.invV (as := [.ref (gT g 8)]) (b := B.1) (ci := 0) (w := true) (rc := rc0) dX3_callLine_75 ok_X3_isWord (lw_V q2342 q2344 qs73 q151 q2345) rfl hM18.1.1 rfl (by decide) (Nat.le_of_ble_eq_true rfl) (w_X3_isWord hM18.1 (hT.mm hM hM18) e27) (krI ?_) kxZ
      refine V.if_eq (tgt := 85) dX3_callLine_78 (by decide) (fun hc28 => ?_) (fun hc28 => ?_)
      · rw [if_pos hc28] at hA25
        refine V.iconst (v := 2) dX3_callLine_85 (by decide) ?_
        obtain rfl := Option.some.inj hA25
        exact hJ55
      · rw [if_neg hc28] at hA25
        refine V.iconst (v := 1) dX3_callLine_81 (by decide) ?_
        refine V.goto (tgt := 86) dX3_callLine_82 (by decide) ?_
        obtain rfl := Option.some.inj hA25
        exact hJ55
    · rw [if_neg hc29] at hA25
      refine V.iconst (v := 0) dX3_callLine_68 (by decide) ?_
      refine V.goto (tgt := 86) dX3_callLine_69 (by decide) ?_
      obtain rfl := Option.some.inj hA25
      exact hJ55
  refine iter_ind (P := fun (σ : Int32 × MS) => match σ with | (i5, μ6) => ∀ h6, MM B h h6 μ6 → V l g M_X3_callLine 6 24 [some (.ref B.1), some (.int ((40 : Int32) + ((6 : Int32) * x3))), some (.int i5), none] [] h6 (QM B h none z)) (b := b20) ?_ FUEL ((0 : Int32), μ1) hL19 _ hM1
  rintro ⟨i5, μ6⟩ ρ57 hr7 hi8 hx9 h6 hM6
  unfold m_X3_callLine_b24 at hr7
  (try dsimp only at hr7)
  refine V.iload_n dX3_callLine_24 rfl rfl ?_
  refine V.iconst (v := 4) dX3_callLine_25 (by decide) ?_
  refine V.icmp_ge (tgt := 59) dX3_callLine_26 (by decide) (fun hc17 => ?_) (fun hc17 => ?_)
  · rw [if_pos hc17] at hr7
    obtain rfl := Option.some.inj hr7
    have e58 := hx9 _ rfl
    exact V.forget (llS (llS (llN (llN ll0)))) (hJ21 _ e58 _ hM6)
  · rw [if_neg hc17] at hr7
    refine V.aload_n dX3_callLine_29 rfl rfl IsR.ref ?_
    refine V.iconst (v := 0) dX3_callLine_30 (by decide) ?_
    refine V.bipush (v := 99) dX3_callLine_31 (by decide) ?_
    obtain ⟨y11, e13, hr7⟩ := bnd hr7
    refine V.invV (as := [.int (0 : Int32), .int (99 : Int32)]) (b := B.1) (ci := 0) (w := true) (rc := rc0) dX3_callLine_33 ok_X3_takes_2 (lw_V q2371 q2373 qs77 q151 q2374) rfl hM6.1.1 rfl (by decide) (Nat.le_of_ble_eq_true rfl) (w_X3_takes_2 hM6.1 (hT.mm hM hM6) e13) (kmI hM6.2 (fun h12 hM12 => ?_)) kxM
    refine V.istore_n (i := 3) dX3_callLine_36 rfl (by decide) ?_
    simp only [List.set_cons_zero, List.set_cons_succ]
    refine V.aload_n dX3_callLine_37 rfl rfl IsR.ref ?_
    refine V.mgetI hM12 dX3_callLine_38 fo_X3_94_0 mi_17 ?_
    refine V.if_ne (tgt := 53) dX3_callLine_41 (by decide) (fun hc16 => ?_) (fun hc16 => ?_)
    · rw [if_neg hc16] at hr7
      refine V.iinc (v := i5 + (1 : Int32)) (i := 2) dX3_callLine_53 rfl (by rfl) (by decide) ?_
      simp only [List.set_cons_zero, List.set_cons_succ]
      refine V.goto (tgt := 24) dX3_callLine_56 (by decide) ?_
      obtain rfl := Option.some.inj hr7
      have hi8P := hi8 _ rfl
      exact V.forget (llS (llS (llS (llN ll0)))) (hi8P _ hM12)
    · rw [if_pos hc16] at hr7
      refine V.aload_n dX3_callLine_44 rfl rfl IsR.ref ?_
      refine V.mgetA hM12 dX3_callLine_45 fo_X3_30_0 ma_19 ?_
      refine V.iload_n dX3_callLine_48 rfl rfl ?_
      refine V.iload_n dX3_callLine_49 rfl rfl ?_
      refine V.iadd dX3_callLine_50 ?_
      refine V.iload_n dX3_callLine_51 rfl rfl ?_
      obtain ⟨μ15, e14, hr7⟩ := bnd hr7
      refine V.miast hM12 dX3_callLine_52 ma_19 (mSt_some e14) (fun h15 hM15 => ?_)
      refine V.iinc (v := i5 + (1 : Int32)) (i := 2) dX3_callLine_53 rfl (by rfl) (by decide) ?_
      simp only [List.set_cons_zero, List.set_cons_succ]
      refine V.goto (tgt := 24) dX3_callLine_56 (by decide) ?_
      obtain rfl := Option.some.inj hr7
      have hi8P := hi8 _ rfl
      exact V.forget (llS (llS (llS (llN ll0)))) (hi8P _ hM15)
def m_X3_reads_b22 : (Int32 × MS) → Option ((Int32 × MS) ⊕ (MS)) := fun s => match s with
  | (i9, μ10) => if (184 : Int32) ≤ i9 then (some (.inr μ10)) else ((mSt μ10 19 184 i9 (0 : Int32)).bind fun μ16 => some (.inl (i9 + (1 : Int32), μ16)))
def m_X3_reads_b50 : (MS) → Option ((MS) ⊕ (MS)) := fun μ26 => if (μ26.1 17) = (0 : Int32) then (if (μ26.1 13) = (3 : Int32) then ((m_X3_token μ26).bind fun μ31 => (m_X3_isWord 14 μ31).bind fun x33 => if x33 = (0 : Int32) then ((m_X3_isWord 18 μ31).bind fun x35 => if x35 = (0 : Int32) then ((m_X3_isWord 7 μ31).bind fun x37 => if x37 = (0 : Int32) then ((m_X3_fails (1 : Int32) μ31).bind fun μ39 => some (.inl μ39)) else ((m_X3_callLine μ31).bind fun μ41 => some (.inl μ41))) else ((m_X3_vanLine μ31).bind fun μ44 => some (.inl μ44))) else ((m_X3_riverLine μ31).bind fun μ47 => some (.inl μ47))) else (some (.inr μ26))) else (some (.inr μ26))
def m_X3_reads (p1 : Int32) (μ : MS) : Option (MS) := (some (mSF μ 10 p1)).bind fun μ2 => (some (mSF μ2 11 (0 : Int32))).bind fun μ4 => (some (mSF μ4 17 (0 : Int32))).bind fun μ6 => (some (mSF μ6 18 (-1 : Int32))).bind fun μ8 => (iter (m_X3_reads_b22) FUEL ((0 : Int32), μ8)).bind fun μ18 => (m_X3_token μ18).bind fun μ22 => (m_X3_rules μ22).bind fun μ24 => (iter (m_X3_reads_b50) FUEL μ24).bind fun μ52 => if (μ52.1 13) = (0 : Int32) then ((mLd μ52 19 184 (8 : Int32)).bind fun x56 => if x56 = (0 : Int32) then ((m_X3_fails (6 : Int32) μ52).bind fun μ58 => some μ58) else (some μ52)) else ((m_X3_fails (1 : Int32) μ52).bind fun μ61 => some μ61)
abbrev M_X3_reads : MD := (yX3_reads, cX3_reads, 3, none, [])
theorem ok_X3_reads : mOK yX3_reads 3 1 := ⟨⟨by decide +kernel, by decide +kernel⟩, by decide +kernel, by decide⟩
theorem w_X3_reads {l : Launch} {g : GG} {h : AH} {B : BM} {μ : MS} {p1 : Int32} {z : MS} (hM : IsM B h μ) (hT : TX g h) (hn : m_X3_reads p1 μ = some z) : Sp l g M_X3_reads 9 [.ref B.1, .int p1] h (QM B h none z) := by
  refine Sp.ofV (L := [some (.ref B.1), some (.int p1), none]) rfl rfl (hcR (hcI hc0)) (Nat.le_of_ble_eq_true rfl) rfl ?_
  have hM0 : MM B h h μ := ⟨hM, SameM.rf⟩
  unfold m_X3_reads at hn
  refine V.aload_n dX3_reads_0 rfl rfl IsR.ref ?_
  refine V.iload_n dX3_reads_1 rfl rfl ?_
  obtain ⟨μ2, e1, hn⟩ := bnd hn
  refine V.mputI hM0 dX3_reads_2 po_M_65 mi_10 (fun h2 hM2 => ?_)
  rw [Option.some.inj e1] at hM2
  refine V.aload_n dX3_reads_5 rfl rfl IsR.ref ?_
  refine V.iconst (v := 0) dX3_reads_6 (by decide) ?_
  obtain ⟨μ4, e3, hn⟩ := bnd hn
  refine V.mputI hM2 dX3_reads_7 po_M_68 mi_11 (fun h4 hM4 => ?_)
  rw [Option.some.inj e3] at hM4
  refine V.aload_n dX3_reads_10 rfl rfl IsR.ref ?_
  refine V.iconst (v := 0) dX3_reads_11 (by decide) ?_
  obtain ⟨μ6, e5, hn⟩ := bnd hn
  refine V.mputI hM4 dX3_reads_12 po_M_94 mi_17 (fun h6 hM6 => ?_)
  rw [Option.some.inj e5] at hM6
  refine V.aload_n dX3_reads_15 rfl rfl IsR.ref ?_
  refine V.iconst (v := -1) dX3_reads_16 (by decide) ?_
  obtain ⟨μ8, e7, hn⟩ := bnd hn
  refine V.mputI hM6 dX3_reads_17 po_M_97 mi_18 (fun h8 hM8 => ?_)
  rw [Option.some.inj e7] at hM8
  refine V.iconst (v := 0) dX3_reads_20 (by decide) ?_
  refine V.istore_n (i := 2) dX3_reads_21 rfl (by decide) ?_
  simp only [List.set_cons_zero, List.set_cons_succ]
  obtain ⟨b20, hL19, hn⟩ := bnd hn
  have hJ21 : ∀ (μ18 : MS), μ18 = b20 → ∀ h18, MM B h h18 μ18 → V l g M_X3_reads 9 42 [some (.ref B.1), none, none] [] h18 (QM B h none z) := by
    intro μ18 e68 h18 hM18
    subst e68
    (try dsimp only at hn)
    refine V.aload_n dX3_reads_42 rfl rfl IsR.ref ?_
    obtain ⟨μ22, e23, hn⟩ := bnd hn
    refine V.invV (as := []) (b := B.1) (ci := 0) (w := true) (rc := rc0) dX3_reads_43 ok_X3_token (lw_V q2319 q2321 qs69 q151 q2322) rfl hM18.1.1 rfl (by decide) (Nat.le_of_ble_eq_true rfl) (w_X3_token hM18.1 (hT.mm hM hM18) e23) (kmV hM18.2 (fun h22 hM22 => ?_)) kxM
    refine V.aload_n dX3_reads_46 rfl rfl IsR.ref ?_
    obtain ⟨μ24, e25, hn⟩ := bnd hn
    refine V.invV (as := []) (b := B.1) (ci := 0) (w := true) (rc := rc0) dX3_reads_47 ok_X3_rules (lw_V q2333 q2335 qs71 q151 q2336) rfl hM22.1.1 rfl (by decide) (Nat.le_of_ble_eq_true rfl) (w_X3_rules hM22.1 (hT.mm hM hM22) e25) (kmV hM22.2 (fun h24 hM24 => ?_)) kxM
    obtain ⟨b54, hL53, hn⟩ := bnd hn
    have hJ55 : ∀ (μ52 : MS), μ52 = b54 → ∀ h52, MM B h h52 μ52 → V l g M_X3_reads 9 125 [some (.ref B.1), none, none] [] h52 (QM B h none z) := by
      intro μ52 e64 h52 hM52
      subst e64
      (try dsimp only at hn)
      refine V.aload_n dX3_reads_125 rfl rfl IsR.ref ?_
      refine V.mgetI hM52 dX3_reads_126 fo_X3_78_0 mi_13 ?_
      refine V.if_eq (tgt := 140) dX3_reads_129 (by decide) (fun hc63 => ?_) (fun hc63 => ?_)
      · rw [if_pos hc63] at hn
        refine V.aload_n dX3_reads_140 rfl rfl IsR.ref ?_
        refine V.mgetA hM52 dX3_reads_141 fo_X3_30_0 ma_19 ?_
        refine V.bipush (v := 8) dX3_reads_144 (by decide) ?_
        obtain ⟨x56, e57, hn⟩ := bnd hn
        refine V.miald hM52 dX3_reads_146 ma_19 (mLd_some e57) ?_
        refine V.if_ne (tgt := 156) dX3_reads_147 (by decide) (fun hc60 => ?_) (fun hc60 => ?_)
        · rw [if_neg hc60] at hn
          obtain rfl := Option.some.inj hn
          exact V.vret dX3_reads_156 rfl ⟨rfl, hM52⟩
        · rw [if_pos hc60] at hn
          refine V.aload_n dX3_reads_150 rfl rfl IsR.ref ?_
          refine V.bipush (v := 6) dX3_reads_151 (by decide) ?_
          obtain ⟨μ58, e59, hn⟩ := bnd hn
          refine V.invV (as := [.int (6 : Int32)]) (b := B.1) (ci := 0) (w := true) (rc := rc0) dX3_reads_153 ok_X3_fails (lw_V q2358 q2360 qs74 q151 q2361) rfl hM52.1.1 rfl (by decide) (Nat.le_of_ble_eq_true rfl) (w_X3_fails hM52.1 (hT.mm hM hM52) e59) (kmV hM52.2 (fun h58 hM58 => ?_)) kxM
          obtain rfl := Option.some.inj hn
          exact V.vret dX3_reads_156 rfl ⟨rfl, hM58⟩
      · rw [if_neg hc63] at hn
        refine V.aload_n dX3_reads_132 rfl rfl IsR.ref ?_
        refine V.iconst (v := 1) dX3_reads_133 (by decide) ?_
        obtain ⟨μ61, e62, hn⟩ := bnd hn
        refine V.invV (as := [.int (1 : Int32)]) (b := B.1) (ci := 0) (w := true) (rc := rc0) dX3_reads_134 ok_X3_fails (lw_V q2358 q2360 qs74 q151 q2361) rfl hM52.1.1 rfl (by decide) (Nat.le_of_ble_eq_true rfl) (w_X3_fails hM52.1 (hT.mm hM hM52) e62) (kmV hM52.2 (fun h61 hM61 => ?_)) kxM
        refine V.goto (tgt := 156) dX3_reads_137 (by decide) ?_
        obtain rfl := Option.some.inj hn
        exact V.vret dX3_reads_156 rfl ⟨rfl, hM61⟩
    refine iter_ind (P := fun (μ26 : MS) => ∀ h26, MM B h h26 μ26 → V l g M_X3_reads 9 50 [some (.ref B.1), none, none] [] h26 (QM B h none z)) (b := b54) ?_ FUEL μ24 hL53 _ hM24
    rintro μ26 ρ65 hr27 hi28 hx29 h26 hM26
    unfold m_X3_reads_b50 at hr27
    (try dsimp only at hr27)
    refine V.aload_n dX3_reads_50 rfl rfl IsR.ref ?_
    refine V.mgetI hM26 dX3_reads_51 fo_X3_94_0 mi_17 ?_
    refine V.if_ne (tgt := 125) dX3_reads_54 (by decide) (fun hc51 => ?_) (fun hc51 => ?_)
    · rw [if_neg hc51] at hr27
      obtain rfl := Option.some.inj hr27
      have e66 := hx29 _ rfl
      exact hJ55 _ e66 _ hM26
    · rw [if_pos hc51] at hr27
      refine V.aload_n dX3_reads_57 rfl rfl IsR.ref ?_
      refine V.mgetI hM26 dX3_reads_58 fo_X3_78_0 mi_13 ?_
      refine V.iconst (v := 3) dX3_reads_61 (by decide) ?_
      refine V.icmp_ne (tgt := 125) dX3_reads_62 (by decide) (fun hc50 => ?_) (fun hc50 => ?_)
      · rw [if_neg hc50] at hr27
        obtain rfl := Option.some.inj hr27
        have e67 := hx29 _ rfl
        exact hJ55 _ e67 _ hM26
      · rw [if_pos hc50] at hr27
        refine V.aload_n dX3_reads_65 rfl rfl IsR.ref ?_
        obtain ⟨μ31, e32, hr27⟩ := bnd hr27
        refine V.invV (as := []) (b := B.1) (ci := 0) (w := true) (rc := rc0) dX3_reads_66 ok_X3_token (lw_V q2319 q2321 qs69 q151 q2322) rfl hM26.1.1 rfl (by decide) (Nat.le_of_ble_eq_true rfl) (w_X3_token hM26.1 (hT.mm hM hM26) e32) (kmV hM26.2 (fun h31 hM31 => ?_)) kxM
        refine V.aload_n dX3_reads_69 rfl rfl IsR.ref ?_
        refine V.ldcS (sid := 14) dX3_reads_70 (List.mem_of_getElem? (i := 32) rfl) ?_
        obtain ⟨x33, e34, hr27⟩ := bnd hr27
        refine V.invV (as := [.ref (gT g 14)]) (b := B.1) (ci := 0) (w := true) (rc := rc0) dX3_reads_72 ok_X3_isWord (lw_V q2342 q2344 qs73 q151 q2345) rfl hM31.1.1 rfl (by decide) (Nat.le_of_ble_eq_true rfl) (w_X3_isWord hM31.1 (hT.mm hM hM31) e34) (krI ?_) kxZ
        refine V.if_eq (tgt := 85) dX3_reads_75 (by decide) (fun hc49 => ?_) (fun hc49 => ?_)
        · rw [if_pos hc49] at hr27
          refine V.aload_n dX3_reads_85 rfl rfl IsR.ref ?_
          refine V.ldcS (sid := 18) dX3_reads_86 (List.mem_of_getElem? (i := 33) rfl) ?_
          obtain ⟨x35, e36, hr27⟩ := bnd hr27
          refine V.invV (as := [.ref (gT g 18)]) (b := B.1) (ci := 0) (w := true) (rc := rc0) dX3_reads_88 ok_X3_isWord (lw_V q2342 q2344 qs73 q151 q2345) rfl hM31.1.1 rfl (by decide) (Nat.le_of_ble_eq_true rfl) (w_X3_isWord hM31.1 (hT.mm hM hM31) e36) (krI ?_) kxZ
          refine V.if_eq (tgt := 101) dX3_reads_91 (by decide) (fun hc46 => ?_) (fun hc46 => ?_)
          · rw [if_pos hc46] at hr27
            refine V.aload_n dX3_reads_101 rfl rfl IsR.ref ?_
            refine V.ldcS (sid := 7) dX3_reads_102 (List.mem_of_getElem? (i := 34) rfl) ?_
            obtain ⟨x37, e38, hr27⟩ := bnd hr27
            refine V.invV (as := [.ref (gT g 7)]) (b := B.1) (ci := 0) (w := true) (rc := rc0) dX3_reads_104 ok_X3_isWord (lw_V q2342 q2344 qs73 q151 q2345) rfl hM31.1.1 rfl (by decide) (Nat.le_of_ble_eq_true rfl) (w_X3_isWord hM31.1 (hT.mm hM hM31) e38) (krI ?_) kxZ
            refine V.if_eq (tgt := 117) dX3_reads_107 (by decide) (fun hc43 => ?_) (fun hc43 => ?_)
            · rw [if_pos hc43] at hr27
              refine V.aload_n dX3_reads_117 rfl rfl IsR.ref ?_
              refine V.iconst (v := 1) dX3_reads_118 (by decide) ?_
              obtain ⟨μ39, e40, hr27⟩ := bnd hr27
              refine V.invV (as := [.int (1 : Int32)]) (b := B.1) (ci := 0) (w := true) (rc := rc0) dX3_reads_119 ok_X3_fails (lw_V q2358 q2360 qs74 q151 q2361) rfl hM31.1.1 rfl (by decide) (Nat.le_of_ble_eq_true rfl) (w_X3_fails hM31.1 (hT.mm hM hM31) e40) (kmV hM31.2 (fun h39 hM39 => ?_)) kxM
              refine V.goto (tgt := 50) dX3_reads_122 (by decide) ?_
              obtain rfl := Option.some.inj hr27
              have hi28P := hi28 _ rfl
              exact hi28P _ hM39
            · rw [if_neg hc43] at hr27
              refine V.aload_n dX3_reads_110 rfl rfl IsR.ref ?_
              obtain ⟨μ41, e42, hr27⟩ := bnd hr27
              refine V.invV (as := []) (b := B.1) (ci := 0) (w := true) (rc := rc0) dX3_reads_111 ok_X3_callLine (lw_V q2402 q2404 qs82 q151 q2405) rfl hM31.1.1 rfl (by decide) (Nat.le_of_ble_eq_true rfl) (w_X3_callLine hM31.1 (hT.mm hM hM31) e42) (kmV hM31.2 (fun h41 hM41 => ?_)) kxM
              refine V.goto (tgt := 50) dX3_reads_114 (by decide) ?_
              obtain rfl := Option.some.inj hr27
              have hi28P := hi28 _ rfl
              exact hi28P _ hM41
          · rw [if_neg hc46] at hr27
            refine V.aload_n dX3_reads_94 rfl rfl IsR.ref ?_
            obtain ⟨μ44, e45, hr27⟩ := bnd hr27
            refine V.invV (as := []) (b := B.1) (ci := 0) (w := true) (rc := rc0) dX3_reads_95 ok_X3_vanLine (lw_V q2393 q2395 qs81 q151 q2396) rfl hM31.1.1 rfl (by decide) (Nat.le_of_ble_eq_true rfl) (w_X3_vanLine hM31.1 (hT.mm hM hM31) e45) (kmV hM31.2 (fun h44 hM44 => ?_)) kxM
            refine V.goto (tgt := 50) dX3_reads_98 (by decide) ?_
            obtain rfl := Option.some.inj hr27
            have hi28P := hi28 _ rfl
            exact hi28P _ hM44
        · rw [if_neg hc49] at hr27
          refine V.aload_n dX3_reads_78 rfl rfl IsR.ref ?_
          obtain ⟨μ47, e48, hr27⟩ := bnd hr27
          refine V.invV (as := []) (b := B.1) (ci := 0) (w := true) (rc := rc0) dX3_reads_79 ok_X3_riverLine (lw_V q2384 q2386 qs79 q151 q2387) rfl hM31.1.1 rfl (by decide) (Nat.le_of_ble_eq_true rfl) (w_X3_riverLine hM31.1 (hT.mm hM hM31) e48) (kmV hM31.2 (fun h47 hM47 => ?_)) kxM
          refine V.goto (tgt := 50) dX3_reads_82 (by decide) ?_
          obtain rfl := Option.some.inj hr27
          have hi28P := hi28 _ rfl
          exact hi28P _ hM47
  refine V.forget (llS (llN (llS ll0))) (iter_ind (P := fun (σ : Int32 × MS) => match σ with | (i9, μ10) => ∀ h10, MM B h h10 μ10 → V l g M_X3_reads 9 22 [some (.ref B.1), none, some (.int i9)] [] h10 (QM B h none z)) (b := b20) ?_ FUEL ((0 : Int32), μ8) hL19 _ hM8)
  rintro ⟨i9, μ10⟩ ρ69 hr11 hi12 hx13 h10 hM10
  unfold m_X3_reads_b22 at hr11
  (try dsimp only at hr11)
  refine V.iload_n dX3_reads_22 rfl rfl ?_
  refine V.sipush (v := 184) dX3_reads_23 (by decide) ?_
  refine V.icmp_ge (tgt := 42) dX3_reads_26 (by decide) (fun hc17 => ?_) (fun hc17 => ?_)
  · rw [if_pos hc17] at hr11
    obtain rfl := Option.some.inj hr11
    have e70 := hx13 _ rfl
    exact V.forget (llS (llN (llN ll0))) (hJ21 _ e70 _ hM10)
  · rw [if_neg hc17] at hr11
    refine V.aload_n dX3_reads_29 rfl rfl IsR.ref ?_
    refine V.mgetA hM10 dX3_reads_30 fo_X3_30_0 ma_19 ?_
    refine V.iload_n dX3_reads_33 rfl rfl ?_
    refine V.iconst (v := 0) dX3_reads_34 (by decide) ?_
    obtain ⟨μ16, e15, hr11⟩ := bnd hr11
    refine V.miast hM10 dX3_reads_35 ma_19 (mSt_some e15) (fun h16 hM16 => ?_)
    refine V.iinc (v := i9 + (1 : Int32)) (i := 2) dX3_reads_36 rfl (by rfl) (by decide) ?_
    simp only [List.set_cons_zero, List.set_cons_succ]
    refine V.goto (tgt := 22) dX3_reads_39 (by decide) ?_
    obtain rfl := Option.some.inj hr11
    have hi12P := hi12 _ rfl
    exact hi12P _ hM16
def m_X3_van (p1 : Int32) (p2 : Int32) (μ : MS) : Option (Int32) := (mLd μ 20 184 (((16 : Int32) + ((6 : Int32) * p1)) + p2)).bind fun x1 => some x1
abbrev M_X3_van : MD := (yX3_van, cX3_van, 3, (some .int), [])
theorem ok_X3_van : mOK yX3_van 3 2 := ⟨⟨by decide +kernel, by decide +kernel⟩, by decide +kernel, by decide⟩
theorem w_X3_van {l : Launch} {g : GG} {h : AH} {B : BM} {μ : MS} {p1 : Int32} {p2 : Int32} {z : Int32} (hM : IsM B h μ) (hT : TX g h) (hn : m_X3_van p1 p2 μ = some z) : Sp l g M_X3_van 0 [.ref B.1, .int p1, .int p2] h (QZ (some (.int z)) h) := by
  refine Sp.ofV (L := [some (.ref B.1), some (.int p1), some (.int p2)]) rfl rfl (hcR (hcI (hcI hc0))) (Nat.le_of_ble_eq_true rfl) rfl ?_
  have hM0 : MM B h h μ := ⟨hM, SameM.rf⟩
  unfold m_X3_van at hn
  refine V.aload_n dX3_van_0 rfl rfl IsR.ref ?_
  refine V.mgetA hM0 dX3_van_1 fo_X3_33_0 ma_20 ?_
  refine V.bipush (v := 16) dX3_van_4 (by decide) ?_
  refine V.bipush (v := 6) dX3_van_6 (by decide) ?_
  refine V.iload_n dX3_van_8 rfl rfl ?_
  refine V.imul dX3_van_9 ?_
  refine V.iadd dX3_van_10 ?_
  refine V.iload_n dX3_van_11 rfl rfl ?_
  refine V.iadd dX3_van_12 ?_
  obtain ⟨x1, e2, hn⟩ := bnd hn
  refine V.miald hM0 dX3_van_13 ma_20 (mLd_some e2) ?_
  obtain rfl := Option.some.inj hn
  exact V.iret dX3_van_14 rfl ⟨rfl, rfl⟩
def m_X3_lets (p1 : Int32) (p2 : Int32) (p3 : Int32) (μ : MS) : Option (MS) := (mSt μ 2 835 (((610 : Int32) + ((9 : Int32) * p1)) + p2) p3).bind fun μ2 => some μ2
abbrev M_X3_lets : MD := (yX3_lets, cX3_lets, 4, none, [])
theorem ok_X3_lets : mOK yX3_lets 4 3 := ⟨⟨by decide +kernel, by decide +kernel⟩, by decide +kernel, by decide⟩
theorem w_X3_lets {l : Launch} {g : GG} {h : AH} {B : BM} {μ : MS} {p1 : Int32} {p2 : Int32} {p3 : Int32} {z : MS} (hM : IsM B h μ) (hT : TX g h) (hn : m_X3_lets p1 p2 p3 μ = some z) : Sp l g M_X3_lets 0 [.ref B.1, .int p1, .int p2, .int p3] h (QM B h none z) := by
  refine Sp.ofV (L := [some (.ref B.1), some (.int p1), some (.int p2), some (.int p3)]) rfl rfl (hcR (hcI (hcI (hcI hc0)))) (Nat.le_of_ble_eq_true rfl) rfl ?_
  have hM0 : MM B h h μ := ⟨hM, SameM.rf⟩
  unfold m_X3_lets at hn
  refine V.aload_n dX3_lets_0 rfl rfl IsR.ref ?_
  refine V.mgetA hM0 dX3_lets_1 fo_X3_7_0 ma_2 ?_
  refine V.sipush (v := 610) dX3_lets_4 (by decide) ?_
  refine V.bipush (v := 9) dX3_lets_7 (by decide) ?_
  refine V.iload_n dX3_lets_9 rfl rfl ?_
  refine V.imul dX3_lets_10 ?_
  refine V.iadd dX3_lets_11 ?_
  refine V.iload_n dX3_lets_12 rfl rfl ?_
  refine V.iadd dX3_lets_13 ?_
  refine V.iload_n dX3_lets_14 rfl rfl ?_
  obtain ⟨μ2, e1, hn⟩ := bnd hn
  refine V.miast hM0 dX3_lets_15 ma_2 (mSt_some e1) (fun h2 hM2 => ?_)
  obtain rfl := Option.some.inj hn
  exact V.vret dX3_lets_16 rfl ⟨rfl, hM2⟩
def m_X3_cell (p1 : Int32) (p2 : Int32) (p3 : Int32) : Option (Int32) := some (((10 : Int32) + ((((50 : Int32) * p1) + p2) * (3 : Int32))) + p3)
abbrev M_X3_cell : MD := (yX3_cell, cX3_cell, 3, (some .int), [])
theorem ok_X3_cell : mOK yX3_cell 3 3 := ⟨⟨by decide +kernel, by decide +kernel⟩, by decide +kernel, by decide⟩
theorem w_X3_cell {l : Launch} {g : GG} {h : AH} {p1 : Int32} {p2 : Int32} {p3 : Int32} {z : Int32} (hn : m_X3_cell p1 p2 p3 = some z) : Sp l g M_X3_cell 0 [.int p1, .int p2, .int p3] h (QZ (some (.int z)) h) := by
  refine Sp.ofV (L := [some (.int p1), some (.int p2), some (.int p3)]) rfl rfl (hcI (hcI (hcI hc0))) (Nat.le_of_ble_eq_true rfl) rfl ?_
  unfold m_X3_cell at hn
  refine V.bipush (v := 10) dX3_cell_0 (by decide) ?_
  refine V.bipush (v := 50) dX3_cell_2 (by decide) ?_
  refine V.iload_n dX3_cell_4 rfl rfl ?_
  refine V.imul dX3_cell_5 ?_
  refine V.iload_n dX3_cell_6 rfl rfl ?_
  refine V.iadd dX3_cell_7 ?_
  refine V.iconst (v := 3) dX3_cell_8 (by decide) ?_
  refine V.imul dX3_cell_9 ?_
  refine V.iadd dX3_cell_10 ?_
  refine V.iload_n dX3_cell_11 rfl rfl ?_
  refine V.iadd dX3_cell_12 ?_
  obtain rfl := Option.some.inj hn
  exact V.iret dX3_cell_13 rfl ⟨rfl, rfl⟩
def m_X3_stop (p1 : Int32) (p2 : Int32) (μ : MS) : Option (Int32) := (m_X3_cell p1 p2 (0 : Int32)).bind fun x1 => (mLd μ 2 835 x1).bind fun x3 => some x3
abbrev M_X3_stop : MD := (yX3_stop, cX3_stop, 3, (some .int), [])
theorem ok_X3_stop : mOK yX3_stop 3 2 := ⟨⟨by decide +kernel, by decide +kernel⟩, by decide +kernel, by decide⟩
theorem w_X3_stop {l : Launch} {g : GG} {h : AH} {B : BM} {μ : MS} {p1 : Int32} {p2 : Int32} {z : Int32} (hM : IsM B h μ) (hT : TX g h) (hn : m_X3_stop p1 p2 μ = some z) : Sp l g M_X3_stop 1 [.ref B.1, .int p1, .int p2] h (QZ (some (.int z)) h) := by
  refine Sp.ofV (L := [some (.ref B.1), some (.int p1), some (.int p2)]) rfl rfl (hcR (hcI (hcI hc0))) (Nat.le_of_ble_eq_true rfl) rfl ?_
  have hM0 : MM B h h μ := ⟨hM, SameM.rf⟩
  unfold m_X3_stop at hn
  refine V.aload_n dX3_stop_0 rfl rfl IsR.ref ?_
  refine V.mgetA hM0 dX3_stop_1 fo_X3_7_0 ma_2 ?_
  refine V.iload_n dX3_stop_4 rfl rfl ?_
  refine V.iload_n dX3_stop_5 rfl rfl ?_
  refine V.iconst (v := 0) dX3_stop_6 (by decide) ?_
  obtain ⟨x1, e2, hn⟩ := bnd hn
  refine V.invS (as := [.int p1, .int p2, .int (0 : Int32)]) dX3_stop_7 ok_X3_cell (lw_S q2445 q2446 q151 q2447) (by decide) (Nat.le_of_ble_eq_true rfl) (w_X3_cell e2) (krI ?_) kxZ
  obtain ⟨x3, e4, hn⟩ := bnd hn
  refine V.miald hM0 dX3_stop_10 ma_2 (mLd_some e4) ?_
  obtain rfl := Option.some.inj hn
  exact V.iret dX3_stop_11 rfl ⟨rfl, rfl⟩
def m_X3_callOf (p1 : Int32) (p2 : Int32) (μ : MS) : Option (Int32) := (m_X3_stop p1 p2 μ).bind fun x1 => some (x1 / (2 : Int32))
abbrev M_X3_callOf : MD := (yX3_callOf, cX3_callOf, 3, (some .int), [])
theorem ok_X3_callOf : mOK yX3_callOf 3 2 := ⟨⟨by decide +kernel, by decide +kernel⟩, by decide +kernel, by decide⟩
theorem w_X3_callOf {l : Launch} {g : GG} {h : AH} {B : BM} {μ : MS} {p1 : Int32} {p2 : Int32} {z : Int32} (hM : IsM B h μ) (hT : TX g h) (hn : m_X3_callOf p1 p2 μ = some z) : Sp l g M_X3_callOf 2 [.ref B.1, .int p1, .int p2] h (QZ (some (.int z)) h) := by
  refine Sp.ofV (L := [some (.ref B.1), some (.int p1), some (.int p2)]) rfl rfl (hcR (hcI (hcI hc0))) (Nat.le_of_ble_eq_true rfl) rfl ?_
  have hM0 : MM B h h μ := ⟨hM, SameM.rf⟩
  unfold m_X3_callOf at hn
  refine V.aload_n dX3_callOf_0 rfl rfl IsR.ref ?_
  refine V.iload_n dX3_callOf_1 rfl rfl ?_
  refine V.iload_n dX3_callOf_2 rfl rfl ?_
  obtain ⟨x1, e2, hn⟩ := bnd hn
  refine V.invV (as := [.int p1, .int p2]) (b := B.1) (ci := 0) (w := true) (rc := rc0) dX3_callOf_3 ok_X3_stop (lw_V q2441 q2443 qs91 q151 q2444) rfl hM0.1.1 rfl (by decide) (Nat.le_of_ble_eq_true rfl) (w_X3_stop hM0.1 (hT.mm hM hM0) e2) (krI ?_) kxZ
  refine V.iconst (v := 2) dX3_callOf_6 (by decide) ?_
  refine V.idiv dX3_callOf_7 (by decide) ?_
  obtain rfl := Option.some.inj hn
  exact V.iret dX3_callOf_8 rfl ⟨rfl, rfl⟩
def m_X3_call (p1 : Int32) (p2 : Int32) (μ : MS) : Option (Int32) := (mLd μ 2 835 (((610 : Int32) + ((9 : Int32) * p1)) + p2)).bind fun x1 => some x1
abbrev M_X3_call : MD := (yX3_call, cX3_call, 3, (some .int), [])
theorem ok_X3_call : mOK yX3_call 3 2 := ⟨⟨by decide +kernel, by decide +kernel⟩, by decide +kernel, by decide⟩
theorem w_X3_call {l : Launch} {g : GG} {h : AH} {B : BM} {μ : MS} {p1 : Int32} {p2 : Int32} {z : Int32} (hM : IsM B h μ) (hT : TX g h) (hn : m_X3_call p1 p2 μ = some z) : Sp l g M_X3_call 0 [.ref B.1, .int p1, .int p2] h (QZ (some (.int z)) h) := by
  refine Sp.ofV (L := [some (.ref B.1), some (.int p1), some (.int p2)]) rfl rfl (hcR (hcI (hcI hc0))) (Nat.le_of_ble_eq_true rfl) rfl ?_
  have hM0 : MM B h h μ := ⟨hM, SameM.rf⟩
  unfold m_X3_call at hn
  refine V.aload_n dX3_call_0 rfl rfl IsR.ref ?_
  refine V.mgetA hM0 dX3_call_1 fo_X3_7_0 ma_2 ?_
  refine V.sipush (v := 610) dX3_call_4 (by decide) ?_
  refine V.bipush (v := 9) dX3_call_7 (by decide) ?_
  refine V.iload_n dX3_call_9 rfl rfl ?_
  refine V.imul dX3_call_10 ?_
  refine V.iadd dX3_call_11 ?_
  refine V.iload_n dX3_call_12 rfl rfl ?_
  refine V.iadd dX3_call_13 ?_
  obtain ⟨x1, e2, hn⟩ := bnd hn
  refine V.miald hM0 dX3_call_14 ma_2 (mLd_some e2) ?_
  obtain rfl := Option.some.inj hn
  exact V.iret dX3_call_15 rfl ⟨rfl, rfl⟩
def m_X3_isDrop (p1 : Int32) (p2 : Int32) (μ : MS) : Option (Int32) := (m_X3_stop p1 p2 μ).bind fun x1 => if (x1 - x1 / (2 : Int32) * (2 : Int32)) = (1 : Int32) then (some (1 : Int32)) else (some (0 : Int32))
abbrev M_X3_isDrop : MD := (yX3_isDrop, cX3_isDrop, 3, (some .boolean), [])
theorem ok_X3_isDrop : mOK yX3_isDrop 3 2 := ⟨⟨by decide +kernel, by decide +kernel⟩, by decide +kernel, by decide⟩
theorem w_X3_isDrop {l : Launch} {g : GG} {h : AH} {B : BM} {μ : MS} {p1 : Int32} {p2 : Int32} {z : Int32} (hM : IsM B h μ) (hT : TX g h) (hn : m_X3_isDrop p1 p2 μ = some z) : Sp l g M_X3_isDrop 2 [.ref B.1, .int p1, .int p2] h (QZ (some (.int z)) h) := by
  refine Sp.ofV (L := [some (.ref B.1), some (.int p1), some (.int p2)]) rfl rfl (hcR (hcI (hcI hc0))) (Nat.le_of_ble_eq_true rfl) rfl ?_
  have hM0 : MM B h h μ := ⟨hM, SameM.rf⟩
  unfold m_X3_isDrop at hn
  refine V.aload_n dX3_isDrop_0 rfl rfl IsR.ref ?_
  refine V.iload_n dX3_isDrop_1 rfl rfl ?_
  refine V.iload_n dX3_isDrop_2 rfl rfl ?_
  obtain ⟨x1, e2, hn⟩ := bnd hn
  refine V.invV (as := [.int p1, .int p2]) (b := B.1) (ci := 0) (w := true) (rc := rc0) dX3_isDrop_3 ok_X3_stop (lw_V q2441 q2443 qs91 q151 q2444) rfl hM0.1.1 rfl (by decide) (Nat.le_of_ble_eq_true rfl) (w_X3_stop hM0.1 (hT.mm hM hM0) e2) (krI ?_) kxZ
  refine V.iconst (v := 2) dX3_isDrop_6 (by decide) ?_
  refine V.irem dX3_isDrop_7 (by decide) ?_
  refine V.iconst (v := 1) dX3_isDrop_8 (by decide) ?_
  refine V.icmp_ne (tgt := 16) dX3_isDrop_9 (by decide) (fun hc3 => ?_) (fun hc3 => ?_)
  · rw [if_neg hc3] at hn
    refine V.iconst (v := 0) dX3_isDrop_16 (by decide) ?_
    obtain rfl := Option.some.inj hn
    exact V.zret dX3_isDrop_17 rfl rfl ⟨rfl, rfl⟩
  · rw [if_pos hc3] at hn
    refine V.iconst (v := 1) dX3_isDrop_12 (by decide) ?_
    refine V.goto (tgt := 17) dX3_isDrop_13 (by decide) ?_
    obtain rfl := Option.some.inj hn
    exact V.zret dX3_isDrop_17 rfl rfl ⟨rfl, rfl⟩
def m_X3_isFixed (p1 : Int32) (p2 : Int32) (μ : MS) : Option (Int32) := (m_X3_callOf p1 p2 μ).bind fun x1 => (m_X3_call x1 (6 : Int32) μ).bind fun x3 => (m_X3_cell p1 p2 (1 : Int32)).bind fun x5 => (mLd μ 2 835 x5).bind fun x7 => (mLd μ 2 835 (0 : Int32)).bind fun x9 => if x7 < x9 then (some (1 : Int32)) else ((m_X3_isDrop p1 p2 μ).bind fun x11 => (some (if x11 = (0 : Int32) then ((2 : Int32)) else ((3 : Int32)))).bind fun v16 => if x3 < v16 then (some (0 : Int32)) else (some (1 : Int32)))
abbrev M_X3_isFixed : MD := (yX3_isFixed, cX3_isFixed, 4, (some .boolean), [])
theorem ok_X3_isFixed : mOK yX3_isFixed 4 2 := ⟨⟨by decide +kernel, by decide +kernel⟩, by decide +kernel, by decide⟩
theorem w_X3_isFixed {l : Launch} {g : GG} {h : AH} {B : BM} {μ : MS} {p1 : Int32} {p2 : Int32} {z : Int32} (hM : IsM B h μ) (hT : TX g h) (hn : m_X3_isFixed p1 p2 μ = some z) : Sp l g M_X3_isFixed 3 [.ref B.1, .int p1, .int p2] h (QZ (some (.int z)) h) := by
  refine Sp.ofV (L := [some (.ref B.1), some (.int p1), some (.int p2), none]) rfl rfl (hcR (hcI (hcI hc0))) (Nat.le_of_ble_eq_true rfl) rfl ?_
  have hM0 : MM B h h μ := ⟨hM, SameM.rf⟩
  unfold m_X3_isFixed at hn
  refine V.aload_n dX3_isFixed_0 rfl rfl IsR.ref ?_
  refine V.aload_n dX3_isFixed_1 rfl rfl IsR.ref ?_
  refine V.iload_n dX3_isFixed_2 rfl rfl ?_
  refine V.iload_n dX3_isFixed_3 rfl rfl ?_
  obtain ⟨x1, e2, hn⟩ := bnd hn
  refine V.invV (as := [.int p1, .int p2]) (b := B.1) (ci := 0) (w := true) (rc := rc0) dX3_isFixed_4 ok_X3_callOf (lw_V q2437 q2439 qs90 q151 q2440) rfl hM0.1.1 rfl (by decide) (Nat.le_of_ble_eq_true rfl) (w_X3_callOf hM0.1 (hT.mm hM hM0) e2) (krI ?_) kxZ
  refine V.bipush (v := 6) dX3_isFixed_7 (by decide) ?_
  obtain ⟨x3, e4, hn⟩ := bnd hn
  refine V.invV (as := [.int x1, .int (6 : Int32)]) (b := B.1) (ci := 0) (w := true) (rc := rc0) dX3_isFixed_9 ok_X3_call (lw_V q2448 q2450 qs92 q151 q2451) rfl hM0.1.1 rfl (by decide) (Nat.le_of_ble_eq_true rfl) (w_X3_call hM0.1 (hT.mm hM hM0) e4) (krI ?_) kxZ
  refine V.istore_n (i := 3) dX3_isFixed_12 rfl (by decide) ?_
  simp only [List.set_cons_zero, List.set_cons_succ]
  refine V.aload_n dX3_isFixed_13 rfl rfl IsR.ref ?_
  refine V.mgetA hM0 dX3_isFixed_14 fo_X3_7_0 ma_2 ?_
  refine V.iload_n dX3_isFixed_17 rfl rfl ?_
  refine V.iload_n dX3_isFixed_18 rfl rfl ?_
  refine V.iconst (v := 1) dX3_isFixed_19 (by decide) ?_
  obtain ⟨x5, e6, hn⟩ := bnd hn
  refine V.invS (as := [.int p1, .int p2, .int (1 : Int32)]) dX3_isFixed_20 ok_X3_cell (lw_S q2445 q2446 q151 q2447) (by decide) (Nat.le_of_ble_eq_true rfl) (w_X3_cell e6) (krI ?_) kxZ
  obtain ⟨x7, e8, hn⟩ := bnd hn
  refine V.miald hM0 dX3_isFixed_23 ma_2 (mLd_some e8) ?_
  refine V.aload_n dX3_isFixed_24 rfl rfl IsR.ref ?_
  refine V.mgetA hM0 dX3_isFixed_25 fo_X3_7_0 ma_2 ?_
  refine V.iconst (v := 0) dX3_isFixed_28 (by decide) ?_
  obtain ⟨x9, e10, hn⟩ := bnd hn
  refine V.miald hM0 dX3_isFixed_29 ma_2 (mLd_some e10) ?_
  refine V.icmp_lt (tgt := 51) dX3_isFixed_30 (by decide) (fun hc20 => ?_) (fun hc20 => ?_)
  · rw [if_pos hc20] at hn
    refine V.iconst (v := 1) dX3_isFixed_51 (by decide) ?_
    refine V.goto (tgt := 56) dX3_isFixed_52 (by decide) ?_
    obtain rfl := Option.some.inj hn
    exact V.zret dX3_isFixed_56 rfl rfl ⟨rfl, rfl⟩
  · rw [if_neg hc20] at hn
    refine V.iload_n dX3_isFixed_33 rfl rfl ?_
    refine V.aload_n dX3_isFixed_34 rfl rfl IsR.ref ?_
    refine V.iload_n dX3_isFixed_35 rfl rfl ?_
    refine V.iload_n dX3_isFixed_36 rfl rfl ?_
    obtain ⟨x11, e12, hn⟩ := bnd hn
    refine V.invV (as := [.int p1, .int p2]) (b := B.1) (ci := 0) (w := true) (rc := rc0) dX3_isFixed_37 ok_X3_isDrop (lw_V q2452 q2454 qs93 q151 q2455) rfl hM0.1.1 rfl (by decide) (Nat.le_of_ble_eq_true rfl) (w_X3_isDrop hM0.1 (hT.mm hM hM0) e12) (krI ?_) kxZ
    obtain ⟨v16, e19, hn⟩ := bnd hn
    have e19 := Option.some.inj e19
    have hJ18 : V l g M_X3_isFixed 3 48 [none, none, none, none] [.int v16, .int x3] h (QZ (some (.int z)) h) := by
      refine V.icmp_lt (tgt := 55) dX3_isFixed_48 (by decide) (fun hc17 => ?_) (fun hc17 => ?_)
      · rw [if_pos hc17] at hn
        refine V.iconst (v := 0) dX3_isFixed_55 (by decide) ?_
        obtain rfl := Option.some.inj hn
        exact V.zret dX3_isFixed_56 rfl rfl ⟨rfl, rfl⟩
      · rw [if_neg hc17] at hn
        refine V.iconst (v := 1) dX3_isFixed_51 (by decide) ?_
        refine V.goto (tgt := 56) dX3_isFixed_52 (by decide) ?_
        obtain rfl := Option.some.inj hn
        exact V.zret dX3_isFixed_56 rfl rfl ⟨rfl, rfl⟩
    refine V.if_eq (tgt := 47) dX3_isFixed_40 (by decide) (fun hc15 => ?_) (fun hc15 => ?_)
    · skip
      refine V.iconst (v := 2) dX3_isFixed_47 (by decide) ?_
      rw [if_pos hc15] at e19
      subst e19
      exact V.forget (llN (llN (llN (llN ll0)))) (hJ18)
    · skip
      refine V.iconst (v := 3) dX3_isFixed_43 (by decide) ?_
      refine V.goto (tgt := 48) dX3_isFixed_44 (by decide) ?_
      rw [if_neg hc15] at e19
      subst e19
      exact V.forget (llN (llN (llN (llN ll0)))) (hJ18)
def m_X3_fixed_b2 (p1 : Int32) (μ : MS) : (Int32) → Option ((Int32) ⊕ (Int32)) := fun i1 => (mLd μ 2 835 ((6 : Int32) + p1)).bind fun x6 => if x6 ≤ i1 then (some (.inr i1)) else ((m_X3_isFixed p1 i1 μ).bind fun x8 => if x8 = (0 : Int32) then (some (.inr i1)) else (some (.inl (i1 + (1 : Int32)))))
def m_X3_fixed (p1 : Int32) (μ : MS) : Option (Int32) := (iter (m_X3_fixed_b2 p1 μ) FUEL (0 : Int32)).bind fun v12 => some v12
abbrev M_X3_fixed : MD := (yX3_fixed, cX3_fixed, 3, (some .int), [])
theorem ok_X3_fixed : mOK yX3_fixed 3 1 := ⟨⟨by decide +kernel, by decide +kernel⟩, by decide +kernel, by decide⟩
theorem w_X3_fixed {l : Launch} {g : GG} {h : AH} {B : BM} {μ : MS} {p1 : Int32} {z : Int32} (hM : IsM B h μ) (hT : TX g h) (hn : m_X3_fixed p1 μ = some z) : Sp l g M_X3_fixed 4 [.ref B.1, .int p1] h (QZ (some (.int z)) h) := by
  refine Sp.ofV (L := [some (.ref B.1), some (.int p1), none]) rfl rfl (hcR (hcI hc0)) (Nat.le_of_ble_eq_true rfl) rfl ?_
  have hM0 : MM B h h μ := ⟨hM, SameM.rf⟩
  unfold m_X3_fixed at hn
  refine V.iconst (v := 0) dX3_fixed_0 (by decide) ?_
  refine V.istore_n (i := 2) dX3_fixed_1 rfl (by decide) ?_
  simp only [List.set_cons_zero, List.set_cons_succ]
  obtain ⟨b14, hL13, hn⟩ := bnd hn
  have hJ15 : ∀ (v12 : Int32), v12 = b14 → V l g M_X3_fixed 4 30 [none, none, some (.int v12)] [] h (QZ (some (.int z)) h) := by
    intro v12 e16
    subst e16
    (try dsimp only at hn)
    refine V.iload_n dX3_fixed_30 rfl rfl ?_
    obtain rfl := Option.some.inj hn
    exact V.iret dX3_fixed_31 rfl ⟨rfl, rfl⟩
  refine iter_ind (P := fun (i1 : Int32) => V l g M_X3_fixed 4 2 [some (.ref B.1), some (.int p1), some (.int i1)] [] h (QZ (some (.int z)) h)) (b := b14) ?_ FUEL (0 : Int32) hL13
  rintro i1 ρ17 hr2 hi3 hx4
  unfold m_X3_fixed_b2 at hr2
  (try dsimp only at hr2)
  refine V.iload_n dX3_fixed_2 rfl rfl ?_
  refine V.aload_n dX3_fixed_3 rfl rfl IsR.ref ?_
  refine V.mgetA hM0 dX3_fixed_4 fo_X3_7_0 ma_2 ?_
  refine V.bipush (v := 6) dX3_fixed_7 (by decide) ?_
  refine V.iload_n dX3_fixed_9 rfl rfl ?_
  refine V.iadd dX3_fixed_10 ?_
  obtain ⟨x6, e7, hr2⟩ := bnd hr2
  refine V.miald hM0 dX3_fixed_11 ma_2 (mLd_some e7) ?_
  refine V.icmp_ge (tgt := 30) dX3_fixed_12 (by decide) (fun hc11 => ?_) (fun hc11 => ?_)
  · rw [if_pos hc11] at hr2
    obtain rfl := Option.some.inj hr2
    have e18 := hx4 _ rfl
    exact V.forget (llN (llN (llS ll0))) (hJ15 _ e18)
  · rw [if_neg hc11] at hr2
    refine V.aload_n dX3_fixed_15 rfl rfl IsR.ref ?_
    refine V.iload_n dX3_fixed_16 rfl rfl ?_
    refine V.iload_n dX3_fixed_17 rfl rfl ?_
    obtain ⟨x8, e9, hr2⟩ := bnd hr2
    refine V.invV (as := [.int p1, .int i1]) (b := B.1) (ci := 0) (w := true) (rc := rc0) dX3_fixed_18 ok_X3_isFixed (lw_V q2433 q2435 qs89 q151 q2436) rfl hM0.1.1 rfl (by decide) (Nat.le_of_ble_eq_true rfl) (w_X3_isFixed hM0.1 (hT.mm hM hM0) e9) (krI ?_) kxZ
    refine V.if_eq (tgt := 30) dX3_fixed_21 (by decide) (fun hc10 => ?_) (fun hc10 => ?_)
    · rw [if_pos hc10] at hr2
      obtain rfl := Option.some.inj hr2
      have e19 := hx4 _ rfl
      exact V.forget (llN (llN (llS ll0))) (hJ15 _ e19)
    · rw [if_neg hc10] at hr2
      refine V.iinc (v := i1 + (1 : Int32)) (i := 2) dX3_fixed_24 rfl (by rfl) (by decide) ?_
      simp only [List.set_cons_zero, List.set_cons_succ]
      refine V.goto (tgt := 2) dX3_fixed_27 (by decide) ?_
      obtain rfl := Option.some.inj hr2
      have hi3P := hi3 _ rfl
      exact hi3P
def m_X3_begin (p1 : Int32) (p2 : Int32) (μ : MS) : Option (Int32) := (m_X3_cell p1 p2 (2 : Int32)).bind fun x1 => (mLd μ 2 835 x1).bind fun x3 => some x3
abbrev M_X3_begin : MD := (yX3_begin, cX3_begin, 3, (some .int), [])
theorem ok_X3_begin : mOK yX3_begin 3 2 := ⟨⟨by decide +kernel, by decide +kernel⟩, by decide +kernel, by decide⟩
theorem w_X3_begin {l : Launch} {g : GG} {h : AH} {B : BM} {μ : MS} {p1 : Int32} {p2 : Int32} {z : Int32} (hM : IsM B h μ) (hT : TX g h) (hn : m_X3_begin p1 p2 μ = some z) : Sp l g M_X3_begin 1 [.ref B.1, .int p1, .int p2] h (QZ (some (.int z)) h) := by
  refine Sp.ofV (L := [some (.ref B.1), some (.int p1), some (.int p2)]) rfl rfl (hcR (hcI (hcI hc0))) (Nat.le_of_ble_eq_true rfl) rfl ?_
  have hM0 : MM B h h μ := ⟨hM, SameM.rf⟩
  unfold m_X3_begin at hn
  refine V.aload_n dX3_begin_0 rfl rfl IsR.ref ?_
  refine V.mgetA hM0 dX3_begin_1 fo_X3_7_0 ma_2 ?_
  refine V.iload_n dX3_begin_4 rfl rfl ?_
  refine V.iload_n dX3_begin_5 rfl rfl ?_
  refine V.iconst (v := 2) dX3_begin_6 (by decide) ?_
  obtain ⟨x1, e2, hn⟩ := bnd hn
  refine V.invS (as := [.int p1, .int p2, .int (2 : Int32)]) dX3_begin_7 ok_X3_cell (lw_S q2445 q2446 q151 q2447) (by decide) (Nat.le_of_ble_eq_true rfl) (w_X3_cell e2) (krI ?_) kxZ
  obtain ⟨x3, e4, hn⟩ := bnd hn
  refine V.miald hM0 dX3_begin_10 ma_2 (mLd_some e4) ?_
  obtain rfl := Option.some.inj hn
  exact V.iret dX3_begin_11 rfl ⟨rfl, rfl⟩
def m_X3_service (p1 : Int32) (μ : MS) : Option (Int32) := (m_X3_call p1 (4 : Int32) μ).bind fun x1 => if x1 = (0 : Int32) then ((mLd μ 20 184 (3 : Int32)).bind fun x5 => some x5) else ((mLd μ 20 184 (4 : Int32)).bind fun x3 => some x3)
abbrev M_X3_service : MD := (yX3_service, cX3_service, 2, (some .int), [])
theorem ok_X3_service : mOK yX3_service 2 1 := ⟨⟨by decide +kernel, by decide +kernel⟩, by decide +kernel, by decide⟩
theorem w_X3_service {l : Launch} {g : GG} {h : AH} {B : BM} {μ : MS} {p1 : Int32} {z : Int32} (hM : IsM B h μ) (hT : TX g h) (hn : m_X3_service p1 μ = some z) : Sp l g M_X3_service 1 [.ref B.1, .int p1] h (QZ (some (.int z)) h) := by
  refine Sp.ofV (L := [some (.ref B.1), some (.int p1)]) rfl rfl (hcR (hcI hc0)) (Nat.le_of_ble_eq_true rfl) rfl ?_
  have hM0 : MM B h h μ := ⟨hM, SameM.rf⟩
  unfold m_X3_service at hn
  refine V.aload_n dX3_service_0 rfl rfl IsR.ref ?_
  refine V.iload_n dX3_service_1 rfl rfl ?_
  refine V.iconst (v := 4) dX3_service_2 (by decide) ?_
  obtain ⟨x1, e2, hn⟩ := bnd hn
  refine V.invV (as := [.int p1, .int (4 : Int32)]) (b := B.1) (ci := 0) (w := true) (rc := rc0) dX3_service_3 ok_X3_call (lw_V q2448 q2450 qs92 q151 q2451) rfl hM0.1.1 rfl (by decide) (Nat.le_of_ble_eq_true rfl) (w_X3_call hM0.1 (hT.mm hM hM0) e2) (krI ?_) kxZ
  refine V.if_ne (tgt := 18) dX3_service_6 (by decide) (fun hc7 => ?_) (fun hc7 => ?_)
  · rw [if_neg hc7] at hn
    refine V.aload_n dX3_service_18 rfl rfl IsR.ref ?_
    refine V.mgetA hM0 dX3_service_19 fo_X3_33_0 ma_20 ?_
    refine V.iconst (v := 4) dX3_service_22 (by decide) ?_
    obtain ⟨x3, e4, hn⟩ := bnd hn
    refine V.miald hM0 dX3_service_23 ma_20 (mLd_some e4) ?_
    obtain rfl := Option.some.inj hn
    exact V.iret dX3_service_24 rfl ⟨rfl, rfl⟩
  · rw [if_pos hc7] at hn
    refine V.aload_n dX3_service_9 rfl rfl IsR.ref ?_
    refine V.mgetA hM0 dX3_service_10 fo_X3_33_0 ma_20 ?_
    refine V.iconst (v := 3) dX3_service_13 (by decide) ?_
    obtain ⟨x5, e6, hn⟩ := bnd hn
    refine V.miald hM0 dX3_service_14 ma_20 (mLd_some e6) ?_
    refine V.goto (tgt := 24) dX3_service_15 (by decide) ?_
    obtain rfl := Option.some.inj hn
    exact V.iret dX3_service_24 rfl ⟨rfl, rfl⟩
def m_X3_finished (p1 : Int32) (p2 : Int32) (μ : MS) : Option (Int32) := (m_X3_begin p1 p2 μ).bind fun x1 => (m_X3_callOf p1 p2 μ).bind fun x3 => (m_X3_service x3 μ).bind fun x5 => some (x1 + x5)
abbrev M_X3_finished : MD := (yX3_finished, cX3_finished, 3, (some .int), [])
theorem ok_X3_finished : mOK yX3_finished 3 2 := ⟨⟨by decide +kernel, by decide +kernel⟩, by decide +kernel, by decide⟩
theorem w_X3_finished {l : Launch} {g : GG} {h : AH} {B : BM} {μ : MS} {p1 : Int32} {p2 : Int32} {z : Int32} (hM : IsM B h μ) (hT : TX g h) (hn : m_X3_finished p1 p2 μ = some z) : Sp l g M_X3_finished 3 [.ref B.1, .int p1, .int p2] h (QZ (some (.int z)) h) := by
  refine Sp.ofV (L := [some (.ref B.1), some (.int p1), some (.int p2)]) rfl rfl (hcR (hcI (hcI hc0))) (Nat.le_of_ble_eq_true rfl) rfl ?_
  have hM0 : MM B h h μ := ⟨hM, SameM.rf⟩
  unfold m_X3_finished at hn
  refine V.aload_n dX3_finished_0 rfl rfl IsR.ref ?_
  refine V.iload_n dX3_finished_1 rfl rfl ?_
  refine V.iload_n dX3_finished_2 rfl rfl ?_
  obtain ⟨x1, e2, hn⟩ := bnd hn
  refine V.invV (as := [.int p1, .int p2]) (b := B.1) (ci := 0) (w := true) (rc := rc0) dX3_finished_3 ok_X3_begin (lw_V q2464 q2466 qs96 q151 q2467) rfl hM0.1.1 rfl (by decide) (Nat.le_of_ble_eq_true rfl) (w_X3_begin hM0.1 (hT.mm hM hM0) e2) (krI ?_) kxZ
  refine V.aload_n dX3_finished_6 rfl rfl IsR.ref ?_
  refine V.aload_n dX3_finished_7 rfl rfl IsR.ref ?_
  refine V.iload_n dX3_finished_8 rfl rfl ?_
  refine V.iload_n dX3_finished_9 rfl rfl ?_
  obtain ⟨x3, e4, hn⟩ := bnd hn
  refine V.invV (as := [.int p1, .int p2]) (b := B.1) (ci := 0) (w := true) (rc := rc0) dX3_finished_10 ok_X3_callOf (lw_V q2437 q2439 qs90 q151 q2440) rfl hM0.1.1 rfl (by decide) (Nat.le_of_ble_eq_true rfl) (w_X3_callOf hM0.1 (hT.mm hM hM0) e4) (krI ?_) kxZ
  obtain ⟨x5, e6, hn⟩ := bnd hn
  refine V.invV (as := [.int x3]) (b := B.1) (ci := 0) (w := true) (rc := rc0) dX3_finished_13 ok_X3_service (lw_V q2468 q2470 qs97 q151 q2471) rfl hM0.1.1 rfl (by decide) (Nat.le_of_ble_eq_true rfl) (w_X3_service hM0.1 (hT.mm hM hM0) e6) (krI ?_) kxZ
  refine V.iadd dX3_finished_16 ?_
  obtain rfl := Option.some.inj hn
  exact V.iret dX3_finished_17 rfl ⟨rfl, rfl⟩
def m_X3_xAt (p1 : Int32) (p2 : Int32) (μ : MS) : Option (Int32) := if p2 < (0 : Int32) then ((m_X3_van p1 (0 : Int32) μ).bind fun x1 => some x1) else ((mLd μ 2 835 ((6 : Int32) + p1)).bind fun x3 => if p2 < x3 then ((m_X3_callOf p1 p2 μ).bind fun x5 => (m_X3_isDrop p1 p2 μ).bind fun x7 => (some (if x7 = (0 : Int32) then ((0 : Int32)) else ((2 : Int32)))).bind fun v12 => (m_X3_call x5 v12 μ).bind fun x13 => some x13) else ((m_X3_van p1 (0 : Int32) μ).bind fun x17 => some x17))
abbrev M_X3_xAt : MD := (yX3_xAt, cX3_xAt, 3, (some .int), [])
theorem ok_X3_xAt : mOK yX3_xAt 3 2 := ⟨⟨by decide +kernel, by decide +kernel⟩, by decide +kernel, by decide⟩
theorem w_X3_xAt {l : Launch} {g : GG} {h : AH} {B : BM} {μ : MS} {p1 : Int32} {p2 : Int32} {z : Int32} (hM : IsM B h μ) (hT : TX g h) (hn : m_X3_xAt p1 p2 μ = some z) : Sp l g M_X3_xAt 3 [.ref B.1, .int p1, .int p2] h (QZ (some (.int z)) h) := by
  refine Sp.ofV (L := [some (.ref B.1), some (.int p1), some (.int p2)]) rfl rfl (hcR (hcI (hcI hc0))) (Nat.le_of_ble_eq_true rfl) rfl ?_
  have hM0 : MM B h h μ := ⟨hM, SameM.rf⟩
  unfold m_X3_xAt at hn
  refine V.iload_n dX3_xAt_0 rfl rfl ?_
  refine V.if_lt (tgt := 17) dX3_xAt_1 (by decide) (fun hc20 => ?_) (fun hc20 => ?_)
  · rw [if_pos hc20] at hn
    refine V.aload_n dX3_xAt_17 rfl rfl IsR.ref ?_
    refine V.iload_n dX3_xAt_18 rfl rfl ?_
    refine V.iconst (v := 0) dX3_xAt_19 (by decide) ?_
    obtain ⟨x1, e2, hn⟩ := bnd hn
    refine V.invV (as := [.int p1, .int (0 : Int32)]) (b := B.1) (ci := 0) (w := true) (rc := rc0) dX3_xAt_20 ok_X3_van (lw_V q2409 q2411 qs83 q151 q2412) rfl hM0.1.1 rfl (by decide) (Nat.le_of_ble_eq_true rfl) (w_X3_van hM0.1 (hT.mm hM hM0) e2) (krI ?_) kxZ
    refine V.goto (tgt := 50) dX3_xAt_23 (by decide) ?_
    obtain rfl := Option.some.inj hn
    exact V.iret dX3_xAt_50 rfl ⟨rfl, rfl⟩
  · rw [if_neg hc20] at hn
    refine V.iload_n dX3_xAt_4 rfl rfl ?_
    refine V.aload_n dX3_xAt_5 rfl rfl IsR.ref ?_
    refine V.mgetA hM0 dX3_xAt_6 fo_X3_7_0 ma_2 ?_
    refine V.bipush (v := 6) dX3_xAt_9 (by decide) ?_
    refine V.iload_n dX3_xAt_11 rfl rfl ?_
    refine V.iadd dX3_xAt_12 ?_
    obtain ⟨x3, e4, hn⟩ := bnd hn
    refine V.miald hM0 dX3_xAt_13 ma_2 (mLd_some e4) ?_
    refine V.icmp_lt (tgt := 26) dX3_xAt_14 (by decide) (fun hc19 => ?_) (fun hc19 => ?_)
    · rw [if_pos hc19] at hn
      refine V.aload_n dX3_xAt_26 rfl rfl IsR.ref ?_
      refine V.aload_n dX3_xAt_27 rfl rfl IsR.ref ?_
      refine V.iload_n dX3_xAt_28 rfl rfl ?_
      refine V.iload_n dX3_xAt_29 rfl rfl ?_
      obtain ⟨x5, e6, hn⟩ := bnd hn
      refine V.invV (as := [.int p1, .int p2]) (b := B.1) (ci := 0) (w := true) (rc := rc0) dX3_xAt_30 ok_X3_callOf (lw_V q2437 q2439 qs90 q151 q2440) rfl hM0.1.1 rfl (by decide) (Nat.le_of_ble_eq_true rfl) (w_X3_callOf hM0.1 (hT.mm hM hM0) e6) (krI ?_) kxZ
      refine V.aload_n dX3_xAt_33 rfl rfl IsR.ref ?_
      refine V.iload_n dX3_xAt_34 rfl rfl ?_
      refine V.iload_n dX3_xAt_35 rfl rfl ?_
      obtain ⟨x7, e8, hn⟩ := bnd hn
      refine V.invV (as := [.int p1, .int p2]) (b := B.1) (ci := 0) (w := true) (rc := rc0) dX3_xAt_36 ok_X3_isDrop (lw_V q2452 q2454 qs93 q151 q2455) rfl hM0.1.1 rfl (by decide) (Nat.le_of_ble_eq_true rfl) (w_X3_isDrop hM0.1 (hT.mm hM hM0) e8) (krI ?_) kxZ
      obtain ⟨v12, e16, hn⟩ := bnd hn
      have e16 := Option.some.inj e16
      have hJ15 : V l g M_X3_xAt 3 47 [none, none, none] [.int v12, .int x5, .ref B.1] h (QZ (some (.int z)) h) := by
        obtain ⟨x13, e14, hn⟩ := bnd hn
        refine V.invV (as := [.int x5, .int v12]) (b := B.1) (ci := 0) (w := true) (rc := rc0) dX3_xAt_47 ok_X3_call (lw_V q2448 q2450 qs92 q151 q2451) rfl hM0.1.1 rfl (by decide) (Nat.le_of_ble_eq_true rfl) (w_X3_call hM0.1 (hT.mm hM hM0) e14) (krI ?_) kxZ
        obtain rfl := Option.some.inj hn
        exact V.iret dX3_xAt_50 rfl ⟨rfl, rfl⟩
      refine V.if_eq (tgt := 46) dX3_xAt_39 (by decide) (fun hc11 => ?_) (fun hc11 => ?_)
      · skip
        refine V.iconst (v := 0) dX3_xAt_46 (by decide) ?_
        rw [if_pos hc11] at e16
        subst e16
        exact V.forget (llN (llN (llN ll0))) (hJ15)
      · skip
        refine V.iconst (v := 2) dX3_xAt_42 (by decide) ?_
        refine V.goto (tgt := 47) dX3_xAt_43 (by decide) ?_
        rw [if_neg hc11] at e16
        subst e16
        exact V.forget (llN (llN (llN ll0))) (hJ15)
    · rw [if_neg hc19] at hn
      refine V.aload_n dX3_xAt_17 rfl rfl IsR.ref ?_
      refine V.iload_n dX3_xAt_18 rfl rfl ?_
      refine V.iconst (v := 0) dX3_xAt_19 (by decide) ?_
      obtain ⟨x17, e18, hn⟩ := bnd hn
      refine V.invV (as := [.int p1, .int (0 : Int32)]) (b := B.1) (ci := 0) (w := true) (rc := rc0) dX3_xAt_20 ok_X3_van (lw_V q2409 q2411 qs83 q151 q2412) rfl hM0.1.1 rfl (by decide) (Nat.le_of_ble_eq_true rfl) (w_X3_van hM0.1 (hT.mm hM hM0) e18) (krI ?_) kxZ
      refine V.goto (tgt := 50) dX3_xAt_23 (by decide) ?_
      obtain rfl := Option.some.inj hn
      exact V.iret dX3_xAt_50 rfl ⟨rfl, rfl⟩
def m_X3_yAt (p1 : Int32) (p2 : Int32) (μ : MS) : Option (Int32) := if p2 < (0 : Int32) then ((m_X3_van p1 (1 : Int32) μ).bind fun x1 => some x1) else ((mLd μ 2 835 ((6 : Int32) + p1)).bind fun x3 => if p2 < x3 then ((m_X3_callOf p1 p2 μ).bind fun x5 => (m_X3_isDrop p1 p2 μ).bind fun x7 => (some (if x7 = (0 : Int32) then ((1 : Int32)) else ((3 : Int32)))).bind fun v12 => (m_X3_call x5 v12 μ).bind fun x13 => some x13) else ((m_X3_van p1 (1 : Int32) μ).bind fun x17 => some x17))
abbrev M_X3_yAt : MD := (yX3_yAt, cX3_yAt, 3, (some .int), [])
theorem ok_X3_yAt : mOK yX3_yAt 3 2 := ⟨⟨by decide +kernel, by decide +kernel⟩, by decide +kernel, by decide⟩
theorem w_X3_yAt {l : Launch} {g : GG} {h : AH} {B : BM} {μ : MS} {p1 : Int32} {p2 : Int32} {z : Int32} (hM : IsM B h μ) (hT : TX g h) (hn : m_X3_yAt p1 p2 μ = some z) : Sp l g M_X3_yAt 3 [.ref B.1, .int p1, .int p2] h (QZ (some (.int z)) h) := by
  refine Sp.ofV (L := [some (.ref B.1), some (.int p1), some (.int p2)]) rfl rfl (hcR (hcI (hcI hc0))) (Nat.le_of_ble_eq_true rfl) rfl ?_
  have hM0 : MM B h h μ := ⟨hM, SameM.rf⟩
  unfold m_X3_yAt at hn
  refine V.iload_n dX3_yAt_0 rfl rfl ?_
  refine V.if_lt (tgt := 17) dX3_yAt_1 (by decide) (fun hc20 => ?_) (fun hc20 => ?_)
  · rw [if_pos hc20] at hn
    refine V.aload_n dX3_yAt_17 rfl rfl IsR.ref ?_
    refine V.iload_n dX3_yAt_18 rfl rfl ?_
    refine V.iconst (v := 1) dX3_yAt_19 (by decide) ?_
    obtain ⟨x1, e2, hn⟩ := bnd hn
    refine V.invV (as := [.int p1, .int (1 : Int32)]) (b := B.1) (ci := 0) (w := true) (rc := rc0) dX3_yAt_20 ok_X3_van (lw_V q2409 q2411 qs83 q151 q2412) rfl hM0.1.1 rfl (by decide) (Nat.le_of_ble_eq_true rfl) (w_X3_van hM0.1 (hT.mm hM hM0) e2) (krI ?_) kxZ
    refine V.goto (tgt := 50) dX3_yAt_23 (by decide) ?_
    obtain rfl := Option.some.inj hn
    exact V.iret dX3_yAt_50 rfl ⟨rfl, rfl⟩
  · rw [if_neg hc20] at hn
    refine V.iload_n dX3_yAt_4 rfl rfl ?_
    refine V.aload_n dX3_yAt_5 rfl rfl IsR.ref ?_
    refine V.mgetA hM0 dX3_yAt_6 fo_X3_7_0 ma_2 ?_
    refine V.bipush (v := 6) dX3_yAt_9 (by decide) ?_
    refine V.iload_n dX3_yAt_11 rfl rfl ?_
    refine V.iadd dX3_yAt_12 ?_
    obtain ⟨x3, e4, hn⟩ := bnd hn
    refine V.miald hM0 dX3_yAt_13 ma_2 (mLd_some e4) ?_
    refine V.icmp_lt (tgt := 26) dX3_yAt_14 (by decide) (fun hc19 => ?_) (fun hc19 => ?_)
    · rw [if_pos hc19] at hn
      refine V.aload_n dX3_yAt_26 rfl rfl IsR.ref ?_
      refine V.aload_n dX3_yAt_27 rfl rfl IsR.ref ?_
      refine V.iload_n dX3_yAt_28 rfl rfl ?_
      refine V.iload_n dX3_yAt_29 rfl rfl ?_
      obtain ⟨x5, e6, hn⟩ := bnd hn
      refine V.invV (as := [.int p1, .int p2]) (b := B.1) (ci := 0) (w := true) (rc := rc0) dX3_yAt_30 ok_X3_callOf (lw_V q2437 q2439 qs90 q151 q2440) rfl hM0.1.1 rfl (by decide) (Nat.le_of_ble_eq_true rfl) (w_X3_callOf hM0.1 (hT.mm hM hM0) e6) (krI ?_) kxZ
      refine V.aload_n dX3_yAt_33 rfl rfl IsR.ref ?_
      refine V.iload_n dX3_yAt_34 rfl rfl ?_
      refine V.iload_n dX3_yAt_35 rfl rfl ?_
      obtain ⟨x7, e8, hn⟩ := bnd hn
      refine V.invV (as := [.int p1, .int p2]) (b := B.1) (ci := 0) (w := true) (rc := rc0) dX3_yAt_36 ok_X3_isDrop (lw_V q2452 q2454 qs93 q151 q2455) rfl hM0.1.1 rfl (by decide) (Nat.le_of_ble_eq_true rfl) (w_X3_isDrop hM0.1 (hT.mm hM hM0) e8) (krI ?_) kxZ
      obtain ⟨v12, e16, hn⟩ := bnd hn
      have e16 := Option.some.inj e16
      have hJ15 : V l g M_X3_yAt 3 47 [none, none, none] [.int v12, .int x5, .ref B.1] h (QZ (some (.int z)) h) := by
        obtain ⟨x13, e14, hn⟩ := bnd hn
        refine V.invV (as := [.int x5, .int v12]) (b := B.1) (ci := 0) (w := true) (rc := rc0) dX3_yAt_47 ok_X3_call (lw_V q2448 q2450 qs92 q151 q2451) rfl hM0.1.1 rfl (by decide) (Nat.le_of_ble_eq_true rfl) (w_X3_call hM0.1 (hT.mm hM hM0) e14) (krI ?_) kxZ
        obtain rfl := Option.some.inj hn
        exact V.iret dX3_yAt_50 rfl ⟨rfl, rfl⟩
      refine V.if_eq (tgt := 46) dX3_yAt_39 (by decide) (fun hc11 => ?_) (fun hc11 => ?_)
      · skip
        refine V.iconst (v := 1) dX3_yAt_46 (by decide) ?_
        rw [if_pos hc11] at e16
        subst e16
        exact V.forget (llN (llN (llN ll0))) (hJ15)
      · skip
        refine V.iconst (v := 3) dX3_yAt_42 (by decide) ?_
        refine V.goto (tgt := 47) dX3_yAt_43 (by decide) ?_
        rw [if_neg hc11] at e16
        subst e16
        exact V.forget (llN (llN (llN ll0))) (hJ15)
    · rw [if_neg hc19] at hn
      refine V.aload_n dX3_yAt_17 rfl rfl IsR.ref ?_
      refine V.iload_n dX3_yAt_18 rfl rfl ?_
      refine V.iconst (v := 1) dX3_yAt_19 (by decide) ?_
      obtain ⟨x17, e18, hn⟩ := bnd hn
      refine V.invV (as := [.int p1, .int (1 : Int32)]) (b := B.1) (ci := 0) (w := true) (rc := rc0) dX3_yAt_20 ok_X3_van (lw_V q2409 q2411 qs83 q151 q2412) rfl hM0.1.1 rfl (by decide) (Nat.le_of_ble_eq_true rfl) (w_X3_van hM0.1 (hT.mm hM hM0) e18) (krI ?_) kxZ
      refine V.goto (tgt := 50) dX3_yAt_23 (by decide) ?_
      obtain rfl := Option.some.inj hn
      exact V.iret dX3_yAt_50 rfl ⟨rfl, rfl⟩
def m_X3_taken_b6 (p1 : Int32) (p2 : Int32) (p3 : Int32) (μ : MS) : (Int32 × Int32) → Option ((Int32 × Int32) ⊕ (Int32)) := fun s => match s with
  | (i1, i2) => if p2 < i2 then (some (.inr i1)) else ((m_X3_callOf p1 i2 μ).bind fun x7 => (m_X3_call x7 (4 : Int32) μ).bind fun x9 => (some (if p3 = (0 : Int32) then (if x9 = (1 : Int32) then ((0 : Int32)) else ((1 : Int32))) else (if x9 ≤ (0 : Int32) then ((0 : Int32)) else ((1 : Int32))))).bind fun v16 => if v16 = (0 : Int32) then (some (.inl (i1 + (0 : Int32), i2 + (1 : Int32)))) else ((m_X3_isDrop p1 i2 μ).bind fun x17 => if x17 = (0 : Int32) then (some (.inl (i1 + (1 : Int32), i2 + (1 : Int32)))) else (some (.inl (i1 + (-1 : Int32), i2 + (1 : Int32))))))
def m_X3_taken (p1 : Int32) (p2 : Int32) (p3 : Int32) (μ : MS) : Option (Int32) := (iter (m_X3_taken_b6 p1 p2 p3 μ) FUEL ((0 : Int32), (0 : Int32))).bind fun v24 => some v24
abbrev M_X3_taken : MD := (yX3_taken, cX3_taken, 8, (some .int), [])
theorem ok_X3_taken : mOK yX3_taken 8 3 := ⟨⟨by decide +kernel, by decide +kernel⟩, by decide +kernel, by decide⟩
theorem w_X3_taken {l : Launch} {g : GG} {h : AH} {B : BM} {μ : MS} {p1 : Int32} {p2 : Int32} {p3 : Int32} {z : Int32} (hM : IsM B h μ) (hT : TX g h) (hn : m_X3_taken p1 p2 p3 μ = some z) : Sp l g M_X3_taken 3 [.ref B.1, .int p1, .int p2, .int p3] h (QZ (some (.int z)) h) := by
  refine Sp.ofV (L := [some (.ref B.1), some (.int p1), some (.int p2), some (.int p3), none, none, none, none]) rfl rfl (hcR (hcI (hcI (hcI hc0)))) (Nat.le_of_ble_eq_true rfl) rfl ?_
  have hM0 : MM B h h μ := ⟨hM, SameM.rf⟩
  unfold m_X3_taken at hn
  refine V.iconst (v := 0) dX3_taken_0 (by decide) ?_
  refine V.istore (i := 4) dX3_taken_1 (by decide) ?_
  simp only [List.set_cons_zero, List.set_cons_succ]
  refine V.iconst (v := 0) dX3_taken_3 (by decide) ?_
  refine V.istore (i := 5) dX3_taken_4 (by decide) ?_
  simp only [List.set_cons_zero, List.set_cons_succ]
  obtain ⟨b26, hL25, hn⟩ := bnd hn
  have hJ27 : ∀ (v24 : Int32), v24 = b26 → V l g M_X3_taken 3 91 [none, none, none, none, some (.int v24), none, none, none] [] h (QZ (some (.int z)) h) := by
    intro v24 e28
    subst e28
    (try dsimp only at hn)
    refine V.iload dX3_taken_91 rfl ?_
    obtain rfl := Option.some.inj hn
    exact V.iret dX3_taken_93 rfl ⟨rfl, rfl⟩
  refine iter_ind (P := fun (σ : Int32 × Int32) => match σ with | (i1, i2) => V l g M_X3_taken 3 6 [some (.ref B.1), some (.int p1), some (.int p2), some (.int p3), some (.int i1), some (.int i2), none, none] [] h (QZ (some (.int z)) h)) (b := b26) ?_ FUEL ((0 : Int32), (0 : Int32)) hL25
  rintro ⟨i1, i2⟩ ρ29 hr3 hi4 hx5
  unfold m_X3_taken_b6 at hr3
  (try dsimp only at hr3)
  refine V.iload dX3_taken_6 rfl ?_
  refine V.iload_n dX3_taken_8 rfl rfl ?_
  refine V.icmp_gt (tgt := 91) dX3_taken_9 (by decide) (fun hc23 => ?_) (fun hc23 => ?_)
  · rw [if_pos hc23] at hr3
    obtain rfl := Option.some.inj hr3
    have e30 := hx5 _ rfl
    exact V.forget (llN (llN (llN (llN (llS (llN (llN (llN ll0)))))))) (hJ27 _ e30)
  · rw [if_neg hc23] at hr3
    refine V.aload_n dX3_taken_12 rfl rfl IsR.ref ?_
    refine V.aload_n dX3_taken_13 rfl rfl IsR.ref ?_
    refine V.iload_n dX3_taken_14 rfl rfl ?_
    refine V.iload dX3_taken_15 rfl ?_
    obtain ⟨x7, e8, hr3⟩ := bnd hr3
    refine V.invV (as := [.int p1, .int i2]) (b := B.1) (ci := 0) (w := true) (rc := rc0) dX3_taken_17 ok_X3_callOf (lw_V q2437 q2439 qs90 q151 q2440) rfl hM0.1.1 rfl (by decide) (Nat.le_of_ble_eq_true rfl) (w_X3_callOf hM0.1 (hT.mm hM hM0) e8) (krI ?_) kxZ
    refine V.iconst (v := 4) dX3_taken_20 (by decide) ?_
    obtain ⟨x9, e10, hr3⟩ := bnd hr3
    refine V.invV (as := [.int x7, .int (4 : Int32)]) (b := B.1) (ci := 0) (w := true) (rc := rc0) dX3_taken_21 ok_X3_call (lw_V q2448 q2450 qs92 q151 q2451) rfl hM0.1.1 rfl (by decide) (Nat.le_of_ble_eq_true rfl) (w_X3_call hM0.1 (hT.mm hM hM0) e10) (krI ?_) kxZ
    refine V.istore (i := 6) dX3_taken_24 (by decide) ?_
    simp only [List.set_cons_zero, List.set_cons_succ]
    refine V.iload_n dX3_taken_26 rfl rfl ?_
    obtain ⟨v16, e22, hr3⟩ := bnd hr3
    have e22 := Option.some.inj e22
    have hJ21 : V l g M_X3_taken 3 54 [some (.ref B.1), some (.int p1), some (.int p2), some (.int p3), some (.int i1), some (.int i2), none, none] [.int v16] h (QZ (some (.int z)) h) := by
      refine V.istore (i := 7) dX3_taken_54 (by decide) ?_
      simp only [List.set_cons_zero, List.set_cons_succ]
      refine V.iload dX3_taken_56 rfl ?_
      refine V.iload dX3_taken_58 rfl ?_
      refine V.if_ne (tgt := 67) dX3_taken_60 (by decide) (fun hc20 => ?_) (fun hc20 => ?_)
      · rw [if_neg hc20] at hr3
        refine V.aload_n dX3_taken_67 rfl rfl IsR.ref ?_
        refine V.iload_n dX3_taken_68 rfl rfl ?_
        refine V.iload dX3_taken_69 rfl ?_
        obtain ⟨x17, e18, hr3⟩ := bnd hr3
        refine V.invV (as := [.int p1, .int i2]) (b := B.1) (ci := 0) (w := true) (rc := rc0) dX3_taken_71 ok_X3_isDrop (lw_V q2452 q2454 qs93 q151 q2455) rfl hM0.1.1 rfl (by decide) (Nat.le_of_ble_eq_true rfl) (w_X3_isDrop hM0.1 (hT.mm hM hM0) e18) (krI ?_) kxZ
        refine V.if_eq (tgt := 81) dX3_taken_74 (by decide) (fun hc19 => ?_) (fun hc19 => ?_)
        · rw [if_pos hc19] at hr3
          refine V.iconst (v := 1) dX3_taken_81 (by decide) ?_
          refine V.iadd dX3_taken_82 ?_
          refine V.istore (i := 4) dX3_taken_83 (by decide) ?_
          simp only [List.set_cons_zero, List.set_cons_succ]
          refine V.iinc (v := i2 + (1 : Int32)) (i := 5) dX3_taken_85 rfl (by rfl) (by decide) ?_
          simp only [List.set_cons_zero, List.set_cons_succ]
          refine V.goto (tgt := 6) dX3_taken_88 (by decide) ?_
          obtain rfl := Option.some.inj hr3
          have hi4P := hi4 _ rfl
          exact V.forget (llS (llS (llS (llS (llS (llS (llN (llN ll0)))))))) (hi4P)
        · rw [if_neg hc19] at hr3
          refine V.iconst (v := -1) dX3_taken_77 (by decide) ?_
          refine V.goto (tgt := 82) dX3_taken_78 (by decide) ?_
          refine V.iadd dX3_taken_82 ?_
          refine V.istore (i := 4) dX3_taken_83 (by decide) ?_
          simp only [List.set_cons_zero, List.set_cons_succ]
          refine V.iinc (v := i2 + (1 : Int32)) (i := 5) dX3_taken_85 rfl (by rfl) (by decide) ?_
          simp only [List.set_cons_zero, List.set_cons_succ]
          refine V.goto (tgt := 6) dX3_taken_88 (by decide) ?_
          obtain rfl := Option.some.inj hr3
          have hi4P := hi4 _ rfl
          exact V.forget (llS (llS (llS (llS (llS (llS (llN (llN ll0)))))))) (hi4P)
      · rw [if_pos hc20] at hr3
        refine V.iconst (v := 0) dX3_taken_63 (by decide) ?_
        refine V.goto (tgt := 82) dX3_taken_64 (by decide) ?_
        refine V.iadd dX3_taken_82 ?_
        refine V.istore (i := 4) dX3_taken_83 (by decide) ?_
        simp only [List.set_cons_zero, List.set_cons_succ]
        refine V.iinc (v := i2 + (1 : Int32)) (i := 5) dX3_taken_85 rfl (by rfl) (by decide) ?_
        simp only [List.set_cons_zero, List.set_cons_succ]
        refine V.goto (tgt := 6) dX3_taken_88 (by decide) ?_
        obtain rfl := Option.some.inj hr3
        have hi4P := hi4 _ rfl
        exact V.forget (llS (llS (llS (llS (llS (llS (llN (llN ll0)))))))) (hi4P)
    refine V.if_eq (tgt := 43) dX3_taken_27 (by decide) (fun hc15 => ?_) (fun hc15 => ?_)
    · skip
      refine V.iload dX3_taken_43 rfl ?_
      refine V.iconst (v := 1) dX3_taken_45 (by decide) ?_
      refine V.icmp_eq (tgt := 53) dX3_taken_46 (by decide) (fun hc13 => ?_) (fun hc13 => ?_)
      · skip
        refine V.iconst (v := 0) dX3_taken_53 (by decide) ?_
        rw [if_pos hc15, if_pos hc13] at e22
        subst e22
        exact V.forget (llS (llS (llS (llS (llS (llS (llN (llN ll0)))))))) (hJ21)
      · skip
        refine V.iconst (v := 1) dX3_taken_49 (by decide) ?_
        refine V.goto (tgt := 54) dX3_taken_50 (by decide) ?_
        rw [if_pos hc15, if_neg hc13] at e22
        subst e22
        exact V.forget (llS (llS (llS (llS (llS (llS (llN (llN ll0)))))))) (hJ21)
    · skip
      refine V.iload dX3_taken_30 rfl ?_
      refine V.if_le (tgt := 39) dX3_taken_32 (by decide) (fun hc14 => ?_) (fun hc14 => ?_)
      · skip
        refine V.iconst (v := 0) dX3_taken_39 (by decide) ?_
        refine V.goto (tgt := 54) dX3_taken_40 (by decide) ?_
        rw [if_neg hc15, if_pos hc14] at e22
        subst e22
        exact V.forget (llS (llS (llS (llS (llS (llS (llN (llN ll0)))))))) (hJ21)
      · skip
        refine V.iconst (v := 1) dX3_taken_35 (by decide) ?_
        refine V.goto (tgt := 54) dX3_taken_36 (by decide) ?_
        rw [if_neg hc15, if_neg hc14] at e22
        subst e22
        exact V.forget (llS (llS (llS (llS (llS (llS (llN (llN ll0)))))))) (hJ21)
def m_X3_startsWalk_b112 (p1 : Int32) (p2 : Int32) : (Int32 × MS) → Option ((Int32 × MS) ⊕ (MS)) := fun s => match s with
  | (i39, μ40) => if p2 ≤ i39 then (some (.inr μ40)) else ((m_X3_isDrop p1 i39 μ40).bind fun x45 => if x45 = (0 : Int32) then ((m_X3_callOf p1 i39 μ40).bind fun x47 => (m_X3_finished p1 i39 μ40).bind fun x49 => (mSt μ40 31 25 x47 x49).bind fun μ52 => some (.inl (i39 + (1 : Int32), μ52))) else (some (.inl (i39 + (1 : Int32), μ40))))
def m_X3_startsWalk (p1 : Int32) (p2 : Int32) (μ : MS) : Option (MS) := (some (mSF μ 25 p1)).bind fun μ2 => (if p2 = (0 : Int32) then ((m_X3_van p1 (4 : Int32) μ2).bind fun x7 => some x7) else ((m_X3_finished p1 (p2 - (1 : Int32)) μ2).bind fun x5 => some x5) : Option (Int32)).bind fun v10 => (some (mSF μ2 26 v10)).bind fun μ12 => (mLd μ12 2 835 (0 : Int32)).bind fun x13 => (if x13 ≤ (μ12.1 26) then (some (μ12.1 26)) else ((mLd μ12 2 835 (0 : Int32)).bind fun x17 => some x17) : Option (Int32)).bind fun v20 => (some (mSF μ12 26 v20)).bind fun μ22 => (m_X3_xAt p1 (p2 - (1 : Int32)) μ22).bind fun x23 => (some (mSF μ22 27 x23)).bind fun μ26 => (m_X3_yAt p1 (p2 - (1 : Int32)) μ26).bind fun x27 => (some (mSF μ26 28 x27)).bind fun μ30 => (m_X3_taken p1 (p2 - (1 : Int32)) (0 : Int32) μ30).bind fun x31 => (some (mSF μ30 29 x31)).bind fun μ34 => (m_X3_taken p1 (p2 - (1 : Int32)) (1 : Int32) μ34).bind fun x35 => (some (mSF μ34 30 x35)).bind fun μ38 => (iter (m_X3_startsWalk_b112 p1 p2) FUEL ((0 : Int32), μ38)).bind fun μ55 => some μ55
abbrev M_X3_startsWalk : MD := (yX3_startsWalk, cX3_startsWalk, 4, none, [])
theorem ok_X3_startsWalk : mOK yX3_startsWalk 4 2 := ⟨⟨by decide +kernel, by decide +kernel⟩, by decide +kernel, by decide⟩
theorem w_X3_startsWalk {l : Launch} {g : GG} {h : AH} {B : BM} {μ : MS} {p1 : Int32} {p2 : Int32} {z : MS} (hM : IsM B h μ) (hT : TX g h) (hn : m_X3_startsWalk p1 p2 μ = some z) : Sp l g M_X3_startsWalk 4 [.ref B.1, .int p1, .int p2] h (QM B h none z) := by
  refine Sp.ofV (L := [some (.ref B.1), some (.int p1), some (.int p2), none]) rfl rfl (hcR (hcI (hcI hc0))) (Nat.le_of_ble_eq_true rfl) rfl ?_
  have hM0 : MM B h h μ := ⟨hM, SameM.rf⟩
  unfold m_X3_startsWalk at hn
  refine V.aload_n dX3_startsWalk_0 rfl rfl IsR.ref ?_
  refine V.iload_n dX3_startsWalk_1 rfl rfl ?_
  obtain ⟨μ2, e1, hn⟩ := bnd hn
  refine V.mputI hM0 dX3_startsWalk_2 po_M_275 mi_25 (fun h2 hM2 => ?_)
  rw [Option.some.inj e1] at hM2
  refine V.aload_n dX3_startsWalk_5 rfl rfl IsR.ref ?_
  refine V.iload_n dX3_startsWalk_6 rfl rfl ?_
  obtain ⟨v10, hA4, hn⟩ := bnd hn
  (try dsimp only at hn)
  have hJ63 : V l g M_X3_startsWalk 4 27 [some (.ref B.1), some (.int p1), some (.int p2), none] [.int v10, .ref B.1] h2 (QM B h none z) := by
    obtain ⟨μ12, e11, hn⟩ := bnd hn
    refine V.mputI hM2 dX3_startsWalk_27 po_M_278 mi_26 (fun h12 hM12 => ?_)
    rw [Option.some.inj e11] at hM12
    refine V.aload_n dX3_startsWalk_30 rfl rfl IsR.ref ?_
    refine V.aload_n dX3_startsWalk_31 rfl rfl IsR.ref ?_
    refine V.mgetA hM12 dX3_startsWalk_32 fo_X3_7_0 ma_2 ?_
    refine V.iconst (v := 0) dX3_startsWalk_35 (by decide) ?_
    obtain ⟨x13, e14, hn⟩ := bnd hn
    refine V.miald hM12 dX3_startsWalk_36 ma_2 (mLd_some e14) ?_
    refine V.aload_n dX3_startsWalk_37 rfl rfl IsR.ref ?_
    refine V.mgetI hM12 dX3_startsWalk_38 fo_X3_278_0 mi_26 ?_
    obtain ⟨v20, hA16, hn⟩ := bnd hn
    (try dsimp only at hn)
    have hJ62 : V l g M_X3_startsWalk 4 57 [some (.ref B.1), some (.int p1), some (.int p2), none] [.int v20, .ref B.1] h12 (QM B h none z) := by
      obtain ⟨μ22, e21, hn⟩ := bnd hn
      refine V.mputI hM12 dX3_startsWalk_57 po_M_278 mi_26 (fun h22 hM22 => ?_)
      rw [Option.some.inj e21] at hM22
      refine V.aload_n dX3_startsWalk_60 rfl rfl IsR.ref ?_
      refine V.aload_n dX3_startsWalk_61 rfl rfl IsR.ref ?_
      refine V.iload_n dX3_startsWalk_62 rfl rfl ?_
      refine V.iload_n dX3_startsWalk_63 rfl rfl ?_
      refine V.iconst (v := 1) dX3_startsWalk_64 (by decide) ?_
      refine V.isub dX3_startsWalk_65 ?_
      obtain ⟨x23, e24, hn⟩ := bnd hn
      refine V.invV (as := [.int p1, .int (p2 - (1 : Int32))]) (b := B.1) (ci := 0) (w := true) (rc := rc0) dX3_startsWalk_66 ok_X3_xAt (lw_V q2472 q2474 qs98 q151 q2475) rfl hM22.1.1 rfl (by decide) (Nat.le_of_ble_eq_true rfl) (w_X3_xAt hM22.1 (hT.mm hM hM22) e24) (krI ?_) kxZ
      obtain ⟨μ26, e25, hn⟩ := bnd hn
      refine V.mputI hM22 dX3_startsWalk_69 po_M_281 mi_27 (fun h26 hM26 => ?_)
      rw [Option.some.inj e25] at hM26
      refine V.aload_n dX3_startsWalk_72 rfl rfl IsR.ref ?_
      refine V.aload_n dX3_startsWalk_73 rfl rfl IsR.ref ?_
      refine V.iload_n dX3_startsWalk_74 rfl rfl ?_
      refine V.iload_n dX3_startsWalk_75 rfl rfl ?_
      refine V.iconst (v := 1) dX3_startsWalk_76 (by decide) ?_
      refine V.isub dX3_startsWalk_77 ?_
      obtain ⟨x27, e28, hn⟩ := bnd hn
      refine V.invV (as := [.int p1, .int (p2 - (1 : Int32))]) (b := B.1) (ci := 0) (w := true) (rc := rc0) dX3_startsWalk_78 ok_X3_yAt (lw_V q2476 q2478 qs99 q151 q2479) rfl hM26.1.1 rfl (by decide) (Nat.le_of_ble_eq_true rfl) (w_X3_yAt hM26.1 (hT.mm hM hM26) e28) (krI ?_) kxZ
      obtain ⟨μ30, e29, hn⟩ := bnd hn
      refine V.mputI hM26 dX3_startsWalk_81 po_M_284 mi_28 (fun h30 hM30 => ?_)
      rw [Option.some.inj e29] at hM30
      refine V.aload_n dX3_startsWalk_84 rfl rfl IsR.ref ?_
      refine V.aload_n dX3_startsWalk_85 rfl rfl IsR.ref ?_
      refine V.iload_n dX3_startsWalk_86 rfl rfl ?_
      refine V.iload_n dX3_startsWalk_87 rfl rfl ?_
      refine V.iconst (v := 1) dX3_startsWalk_88 (by decide) ?_
      refine V.isub dX3_startsWalk_89 ?_
      refine V.iconst (v := 0) dX3_startsWalk_90 (by decide) ?_
      obtain ⟨x31, e32, hn⟩ := bnd hn
      refine V.invV (as := [.int p1, .int (p2 - (1 : Int32)), .int (0 : Int32)]) (b := B.1) (ci := 0) (w := true) (rc := rc0) dX3_startsWalk_91 ok_X3_taken (lw_V q2480 q2482 qs100 q151 q2483) rfl hM30.1.1 rfl (by decide) (Nat.le_of_ble_eq_true rfl) (w_X3_taken hM30.1 (hT.mm hM hM30) e32) (krI ?_) kxZ
      obtain ⟨μ34, e33, hn⟩ := bnd hn
      refine V.mputI hM30 dX3_startsWalk_94 po_M_287 mi_29 (fun h34 hM34 => ?_)
      rw [Option.some.inj e33] at hM34
      refine V.aload_n dX3_startsWalk_97 rfl rfl IsR.ref ?_
      refine V.aload_n dX3_startsWalk_98 rfl rfl IsR.ref ?_
      refine V.iload_n dX3_startsWalk_99 rfl rfl ?_
      refine V.iload_n dX3_startsWalk_100 rfl rfl ?_
      refine V.iconst (v := 1) dX3_startsWalk_101 (by decide) ?_
      refine V.isub dX3_startsWalk_102 ?_
      refine V.iconst (v := 1) dX3_startsWalk_103 (by decide) ?_
      obtain ⟨x35, e36, hn⟩ := bnd hn
      refine V.invV (as := [.int p1, .int (p2 - (1 : Int32)), .int (1 : Int32)]) (b := B.1) (ci := 0) (w := true) (rc := rc0) dX3_startsWalk_104 ok_X3_taken (lw_V q2480 q2482 qs100 q151 q2483) rfl hM34.1.1 rfl (by decide) (Nat.le_of_ble_eq_true rfl) (w_X3_taken hM34.1 (hT.mm hM hM34) e36) (krI ?_) kxZ
      obtain ⟨μ38, e37, hn⟩ := bnd hn
      refine V.mputI hM34 dX3_startsWalk_107 po_M_290 mi_30 (fun h38 hM38 => ?_)
      rw [Option.some.inj e37] at hM38
      refine V.iconst (v := 0) dX3_startsWalk_110 (by decide) ?_
      refine V.istore_n (i := 3) dX3_startsWalk_111 rfl (by decide) ?_
      simp only [List.set_cons_zero, List.set_cons_succ]
      obtain ⟨b57, hL56, hn⟩ := bnd hn
      have hJ58 : ∀ (μ55 : MS), μ55 = b57 → ∀ h55, MM B h h55 μ55 → V l g M_X3_startsWalk 4 149 [none, none, none, none] [] h55 (QM B h none z) := by
        intro μ55 e59 h55 hM55
        subst e59
        (try dsimp only at hn)
        obtain rfl := Option.some.inj hn
        exact V.vret dX3_startsWalk_149 rfl ⟨rfl, hM55⟩
      refine iter_ind (P := fun (σ : Int32 × MS) => match σ with | (i39, μ40) => ∀ h40, MM B h h40 μ40 → V l g M_X3_startsWalk 4 112 [some (.ref B.1), some (.int p1), some (.int p2), some (.int i39)] [] h40 (QM B h none z)) (b := b57) ?_ FUEL ((0 : Int32), μ38) hL56 _ hM38
      rintro ⟨i39, μ40⟩ ρ60 hr41 hi42 hx43 h40 hM40
      unfold m_X3_startsWalk_b112 at hr41
      (try dsimp only at hr41)
      refine V.iload_n dX3_startsWalk_112 rfl rfl ?_
      refine V.iload_n dX3_startsWalk_113 rfl rfl ?_
      refine V.icmp_ge (tgt := 149) dX3_startsWalk_114 (by decide) (fun hc54 => ?_) (fun hc54 => ?_)
      · rw [if_pos hc54] at hr41
        obtain rfl := Option.some.inj hr41
        have e61 := hx43 _ rfl
        exact V.forget (llN (llN (llN (llN ll0)))) (hJ58 _ e61 _ hM40)
      · rw [if_neg hc54] at hr41
        refine V.aload_n dX3_startsWalk_117 rfl rfl IsR.ref ?_
        refine V.iload_n dX3_startsWalk_118 rfl rfl ?_
        refine V.iload_n dX3_startsWalk_119 rfl rfl ?_
        obtain ⟨x45, e46, hr41⟩ := bnd hr41
        refine V.invV (as := [.int p1, .int i39]) (b := B.1) (ci := 0) (w := true) (rc := rc0) dX3_startsWalk_120 ok_X3_isDrop (lw_V q2452 q2454 qs93 q151 q2455) rfl hM40.1.1 rfl (by decide) (Nat.le_of_ble_eq_true rfl) (w_X3_isDrop hM40.1 (hT.mm hM hM40) e46) (krI ?_) kxZ
        refine V.if_ne (tgt := 143) dX3_startsWalk_123 (by decide) (fun hc53 => ?_) (fun hc53 => ?_)
        · rw [if_neg hc53] at hr41
          refine V.iinc (v := i39 + (1 : Int32)) (i := 3) dX3_startsWalk_143 rfl (by rfl) (by decide) ?_
          simp only [List.set_cons_zero, List.set_cons_succ]
          refine V.goto (tgt := 112) dX3_startsWalk_146 (by decide) ?_
          obtain rfl := Option.some.inj hr41
          have hi42P := hi42 _ rfl
          exact hi42P _ hM40
        · rw [if_pos hc53] at hr41
          refine V.aload_n dX3_startsWalk_126 rfl rfl IsR.ref ?_
          refine V.mgetA hM40 dX3_startsWalk_127 fo_X3_36_0 ma_31 ?_
          refine V.aload_n dX3_startsWalk_130 rfl rfl IsR.ref ?_
          refine V.iload_n dX3_startsWalk_131 rfl rfl ?_
          refine V.iload_n dX3_startsWalk_132 rfl rfl ?_
          obtain ⟨x47, e48, hr41⟩ := bnd hr41
          refine V.invV (as := [.int p1, .int i39]) (b := B.1) (ci := 0) (w := true) (rc := rc0) dX3_startsWalk_133 ok_X3_callOf (lw_V q2437 q2439 qs90 q151 q2440) rfl hM40.1.1 rfl (by decide) (Nat.le_of_ble_eq_true rfl) (w_X3_callOf hM40.1 (hT.mm hM hM40) e48) (krI ?_) kxZ
          refine V.aload_n dX3_startsWalk_136 rfl rfl IsR.ref ?_
          refine V.iload_n dX3_startsWalk_137 rfl rfl ?_
          refine V.iload_n dX3_startsWalk_138 rfl rfl ?_
          obtain ⟨x49, e50, hr41⟩ := bnd hr41
          refine V.invV (as := [.int p1, .int i39]) (b := B.1) (ci := 0) (w := true) (rc := rc0) dX3_startsWalk_139 ok_X3_finished (lw_V q2460 q2462 qs95 q151 q2463) rfl hM40.1.1 rfl (by decide) (Nat.le_of_ble_eq_true rfl) (w_X3_finished hM40.1 (hT.mm hM hM40) e50) (krI ?_) kxZ
          obtain ⟨μ52, e51, hr41⟩ := bnd hr41
          refine V.miast hM40 dX3_startsWalk_142 ma_31 (mSt_some e51) (fun h52 hM52 => ?_)
          refine V.iinc (v := i39 + (1 : Int32)) (i := 3) dX3_startsWalk_143 rfl (by rfl) (by decide) ?_
          simp only [List.set_cons_zero, List.set_cons_succ]
          refine V.goto (tgt := 112) dX3_startsWalk_146 (by decide) ?_
          obtain rfl := Option.some.inj hr41
          have hi42P := hi42 _ rfl
          exact hi42P _ hM52
    refine V.icmp_le (tgt := 53) dX3_startsWalk_41 (by decide) (fun hc19 => ?_) (fun hc19 => ?_)
    · rw [if_pos hc19] at hA16
      refine V.aload_n dX3_startsWalk_53 rfl rfl IsR.ref ?_
      refine V.mgetI hM12 dX3_startsWalk_54 fo_X3_278_0 mi_26 ?_
      obtain rfl := Option.some.inj hA16
      exact hJ62
    · rw [if_neg hc19] at hA16
      refine V.aload_n dX3_startsWalk_44 rfl rfl IsR.ref ?_
      refine V.mgetA hM12 dX3_startsWalk_45 fo_X3_7_0 ma_2 ?_
      refine V.iconst (v := 0) dX3_startsWalk_48 (by decide) ?_
      obtain ⟨x17, e18, hA16⟩ := bnd hA16
      refine V.miald hM12 dX3_startsWalk_49 ma_2 (mLd_some e18) ?_
      refine V.goto (tgt := 57) dX3_startsWalk_50 (by decide) ?_
      obtain rfl := Option.some.inj hA16
      exact hJ62
  refine V.if_ne (tgt := 19) dX3_startsWalk_7 (by decide) (fun hc9 => ?_) (fun hc9 => ?_)
  · rw [if_neg hc9] at hA4
    refine V.aload_n dX3_startsWalk_19 rfl rfl IsR.ref ?_
    refine V.iload_n dX3_startsWalk_20 rfl rfl ?_
    refine V.iload_n dX3_startsWalk_21 rfl rfl ?_
    refine V.iconst (v := 1) dX3_startsWalk_22 (by decide) ?_
    refine V.isub dX3_startsWalk_23 ?_
    obtain ⟨x5, e6, hA4⟩ := bnd hA4
    refine V.invV (as := [.int p1, .int (p2 - (1 : Int32))]) (b := B.1) (ci := 0) (w := true) (rc := rc0) dX3_startsWalk_24 ok_X3_finished (lw_V q2460 q2462 qs95 q151 q2463) rfl hM2.1.1 rfl (by decide) (Nat.le_of_ble_eq_true rfl) (w_X3_finished hM2.1 (hT.mm hM hM2) e6) (krI ?_) kxZ
    obtain rfl := Option.some.inj hA4
    exact hJ63
  · rw [if_pos hc9] at hA4
    refine V.aload_n dX3_startsWalk_10 rfl rfl IsR.ref ?_
    refine V.iload_n dX3_startsWalk_11 rfl rfl ?_
    refine V.iconst (v := 4) dX3_startsWalk_12 (by decide) ?_
    obtain ⟨x7, e8, hA4⟩ := bnd hA4
    refine V.invV (as := [.int p1, .int (4 : Int32)]) (b := B.1) (ci := 0) (w := true) (rc := rc0) dX3_startsWalk_13 ok_X3_van (lw_V q2409 q2411 qs83 q151 q2412) rfl hM2.1.1 rfl (by decide) (Nat.le_of_ble_eq_true rfl) (w_X3_van hM2.1 (hT.mm hM hM2) e8) (krI ?_) kxZ
    refine V.goto (tgt := 27) dX3_startsWalk_16 (by decide) ?_
    obtain rfl := Option.some.inj hA4
    exact hJ63
def m_X3_way_b37 (p1 : Int32) (p3 : Int32) (μ : MS) : (Int32 × Int32) → Option ((Int32 × Int32) ⊕ (Int32)) := fun s => match s with
  | (i9, i10) => (mLd μ 20 184 (7 : Int32)).bind fun x15 => if x15 ≤ i10 then (some (.inr i9)) else ((mLd μ 20 184 ((10 : Int32) + ((2 : Int32) * i10))).bind fun x17 => (some (if x17 ≤ p1 then ((0 : Int32)) else ((1 : Int32)))).bind fun v22 => (some (if x17 ≤ p3 then ((0 : Int32)) else ((1 : Int32)))).bind fun v26 => if v22 = v26 then (some (.inl (i9 + (0 : Int32), i10 + (1 : Int32)))) else ((mLd μ 20 184 (((10 : Int32) + ((2 : Int32) * i10)) + (1 : Int32))).bind fun x27 => some (.inl (i9 + x27, i10 + (1 : Int32)))))
def m_X3_way (p1 : Int32) (p2 : Int32) (p3 : Int32) (p4 : Int32) (μ : MS) : Option (Int32) := (some (if p3 ≤ p1 then (p1 - p3) else (p3 - p1))).bind fun v4 => (some (if p4 ≤ p2 then (p2 - p4) else (p4 - p2))).bind fun v8 => (iter (m_X3_way_b37 p1 p3 μ) FUEL (v4 + v8, (0 : Int32))).bind fun v35 => some v35
abbrev M_X3_way : MD := (yX3_way, cX3_way, 8, (some .int), [])
theorem ok_X3_way : mOK yX3_way 8 4 := ⟨⟨by decide +kernel, by decide +kernel⟩, by decide +kernel, by decide⟩
theorem w_X3_way {l : Launch} {g : GG} {h : AH} {B : BM} {μ : MS} {p1 : Int32} {p2 : Int32} {p3 : Int32} {p4 : Int32} {z : Int32} (hM : IsM B h μ) (hT : TX g h) (hn : m_X3_way p1 p2 p3 p4 μ = some z) : Sp l g M_X3_way 0 [.ref B.1, .int p1, .int p2, .int p3, .int p4] h (QZ (some (.int z)) h) := by
  refine Sp.ofV (L := [some (.ref B.1), some (.int p1), some (.int p2), some (.int p3), some (.int p4), none, none, none]) rfl rfl (hcR (hcI (hcI (hcI (hcI hc0))))) (Nat.le_of_ble_eq_true rfl) rfl ?_
  have hM0 : MM B h h μ := ⟨hM, SameM.rf⟩
  unfold m_X3_way at hn
  refine V.iload_n dX3_way_0 rfl rfl ?_
  refine V.iload_n dX3_way_1 rfl rfl ?_
  obtain ⟨v4, e45, hn⟩ := bnd hn
  have e45 := Option.some.inj e45
  have hJ44 : V l g M_X3_way 0 14 [some (.ref B.1), some (.int p1), some (.int p2), some (.int p3), some (.int p4), none, none, none] [.int v4] h (QZ (some (.int z)) h) := by
    refine V.iload_n dX3_way_14 rfl rfl ?_
    refine V.iload dX3_way_15 rfl ?_
    obtain ⟨v8, e43, hn⟩ := bnd hn
    have e43 := Option.some.inj e43
    have hJ42 : V l g M_X3_way 0 31 [some (.ref B.1), some (.int p1), none, some (.int p3), none, none, none, none] [.int v8, .int v4] h (QZ (some (.int z)) h) := by
      refine V.iadd dX3_way_31 ?_
      refine V.istore (i := 5) dX3_way_32 (by decide) ?_
      simp only [List.set_cons_zero, List.set_cons_succ]
      refine V.iconst (v := 0) dX3_way_34 (by decide) ?_
      refine V.istore (i := 6) dX3_way_35 (by decide) ?_
      simp only [List.set_cons_zero, List.set_cons_succ]
      obtain ⟨b37, hL36, hn⟩ := bnd hn
      have hJ38 : ∀ (v35 : Int32), v35 = b37 → V l g M_X3_way 0 117 [none, none, none, none, none, some (.int v35), none, none] [] h (QZ (some (.int z)) h) := by
        intro v35 e39
        subst e39
        (try dsimp only at hn)
        refine V.iload dX3_way_117 rfl ?_
        obtain rfl := Option.some.inj hn
        exact V.iret dX3_way_119 rfl ⟨rfl, rfl⟩
      refine iter_ind (P := fun (σ : Int32 × Int32) => match σ with | (i9, i10) => V l g M_X3_way 0 37 [some (.ref B.1), some (.int p1), none, some (.int p3), none, some (.int i9), some (.int i10), none] [] h (QZ (some (.int z)) h)) (b := b37) ?_ FUEL (v4 + v8, (0 : Int32)) hL36
      rintro ⟨i9, i10⟩ ρ40 hr11 hi12 hx13
      unfold m_X3_way_b37 at hr11
      (try dsimp only at hr11)
      refine V.iload dX3_way_37 rfl ?_
      refine V.aload_n dX3_way_39 rfl rfl IsR.ref ?_
      refine V.mgetA hM0 dX3_way_40 fo_X3_33_0 ma_20 ?_
      refine V.bipush (v := 7) dX3_way_43 (by decide) ?_
      obtain ⟨x15, e16, hr11⟩ := bnd hr11
      refine V.miald hM0 dX3_way_45 ma_20 (mLd_some e16) ?_
      refine V.icmp_ge (tgt := 117) dX3_way_46 (by decide) (fun hc34 => ?_) (fun hc34 => ?_)
      · rw [if_pos hc34] at hr11
        obtain rfl := Option.some.inj hr11
        have e41 := hx13 _ rfl
        exact V.forget (llN (llN (llN (llN (llN (llS (llN (llN ll0)))))))) (hJ38 _ e41)
      · rw [if_neg hc34] at hr11
        refine V.aload_n dX3_way_49 rfl rfl IsR.ref ?_
        refine V.mgetA hM0 dX3_way_50 fo_X3_33_0 ma_20 ?_
        refine V.bipush (v := 10) dX3_way_53 (by decide) ?_
        refine V.iconst (v := 2) dX3_way_55 (by decide) ?_
        refine V.iload dX3_way_56 rfl ?_
        refine V.imul dX3_way_58 ?_
        refine V.iadd dX3_way_59 ?_
        obtain ⟨x17, e18, hr11⟩ := bnd hr11
        refine V.miald hM0 dX3_way_60 ma_20 (mLd_some e18) ?_
        refine V.istore (i := 7) dX3_way_61 (by decide) ?_
        simp only [List.set_cons_zero, List.set_cons_succ]
        refine V.iload dX3_way_63 rfl ?_
        refine V.iload_n dX3_way_65 rfl rfl ?_
        refine V.iload dX3_way_66 rfl ?_
        obtain ⟨v22, e33, hr11⟩ := bnd hr11
        have e33 := Option.some.inj e33
        have hJ32 : V l g M_X3_way 0 76 [some (.ref B.1), some (.int p1), none, some (.int p3), none, none, some (.int i10), some (.int x17)] [.int v22, .int i9] h (QZ (some (.int z)) h) := by
          refine V.iload_n dX3_way_76 rfl rfl ?_
          refine V.iload dX3_way_77 rfl ?_
          obtain ⟨v26, e31, hr11⟩ := bnd hr11
          have e31 := Option.some.inj e31
          have hJ30 : V l g M_X3_way 0 87 [some (.ref B.1), some (.int p1), none, some (.int p3), none, none, some (.int i10), none] [.int v26, .int v22, .int i9] h (QZ (some (.int z)) h) := by
            refine V.icmp_ne (tgt := 94) dX3_way_87 (by decide) (fun hc29 => ?_) (fun hc29 => ?_)
            · rw [if_neg hc29] at hr11
              refine V.aload_n dX3_way_94 rfl rfl IsR.ref ?_
              refine V.mgetA hM0 dX3_way_95 fo_X3_33_0 ma_20 ?_
              refine V.bipush (v := 10) dX3_way_98 (by decide) ?_
              refine V.iconst (v := 2) dX3_way_100 (by decide) ?_
              refine V.iload dX3_way_101 rfl ?_
              refine V.imul dX3_way_103 ?_
              refine V.iadd dX3_way_104 ?_
              refine V.iconst (v := 1) dX3_way_105 (by decide) ?_
              refine V.iadd dX3_way_106 ?_
              obtain ⟨x27, e28, hr11⟩ := bnd hr11
              refine V.miald hM0 dX3_way_107 ma_20 (mLd_some e28) ?_
              refine V.iadd dX3_way_108 ?_
              refine V.istore (i := 5) dX3_way_109 (by decide) ?_
              simp only [List.set_cons_zero, List.set_cons_succ]
              refine V.iinc (v := i10 + (1 : Int32)) (i := 6) dX3_way_111 rfl (by rfl) (by decide) ?_
              simp only [List.set_cons_zero, List.set_cons_succ]
              refine V.goto (tgt := 37) dX3_way_114 (by decide) ?_
              obtain rfl := Option.some.inj hr11
              have hi12P := hi12 _ rfl
              exact hi12P
            · rw [if_pos hc29] at hr11
              refine V.iconst (v := 0) dX3_way_90 (by decide) ?_
              refine V.goto (tgt := 108) dX3_way_91 (by decide) ?_
              refine V.iadd dX3_way_108 ?_
              refine V.istore (i := 5) dX3_way_109 (by decide) ?_
              simp only [List.set_cons_zero, List.set_cons_succ]
              refine V.iinc (v := i10 + (1 : Int32)) (i := 6) dX3_way_111 rfl (by rfl) (by decide) ?_
              simp only [List.set_cons_zero, List.set_cons_succ]
              refine V.goto (tgt := 37) dX3_way_114 (by decide) ?_
              obtain rfl := Option.some.inj hr11
              have hi12P := hi12 _ rfl
              exact hi12P
          refine V.icmp_ge (tgt := 86) dX3_way_79 (by decide) (fun hc25 => ?_) (fun hc25 => ?_)
          · skip
            refine V.iconst (v := 0) dX3_way_86 (by decide) ?_
            rw [if_pos hc25] at e31
            subst e31
            exact V.forget (llS (llS (llN (llS (llN (llN (llS (llN ll0)))))))) (hJ30)
          · skip
            refine V.iconst (v := 1) dX3_way_82 (by decide) ?_
            refine V.goto (tgt := 87) dX3_way_83 (by decide) ?_
            rw [if_neg hc25] at e31
            subst e31
            exact V.forget (llS (llS (llN (llS (llN (llN (llS (llN ll0)))))))) (hJ30)
        refine V.icmp_ge (tgt := 75) dX3_way_68 (by decide) (fun hc21 => ?_) (fun hc21 => ?_)
        · skip
          refine V.iconst (v := 0) dX3_way_75 (by decide) ?_
          rw [if_pos hc21] at e33
          subst e33
          exact V.forget (llS (llS (llN (llS (llN (llN (llS (llS ll0)))))))) (hJ32)
        · skip
          refine V.iconst (v := 1) dX3_way_71 (by decide) ?_
          refine V.goto (tgt := 76) dX3_way_72 (by decide) ?_
          rw [if_neg hc21] at e33
          subst e33
          exact V.forget (llS (llS (llN (llS (llN (llN (llS (llS ll0)))))))) (hJ32)
    refine V.icmp_ge (tgt := 27) dX3_way_17 (by decide) (fun hc7 => ?_) (fun hc7 => ?_)
    · skip
      refine V.iload_n dX3_way_27 rfl rfl ?_
      refine V.iload dX3_way_28 rfl ?_
      refine V.isub dX3_way_30 ?_
      rw [if_pos hc7] at e43
      subst e43
      exact V.forget (llS (llS (llN (llS (llN (llN (llN (llN ll0)))))))) (hJ42)
    · skip
      refine V.iload dX3_way_20 rfl ?_
      refine V.iload_n dX3_way_22 rfl rfl ?_
      refine V.isub dX3_way_23 ?_
      refine V.goto (tgt := 31) dX3_way_24 (by decide) ?_
      rw [if_neg hc7] at e43
      subst e43
      exact V.forget (llS (llS (llN (llS (llN (llN (llN (llN ll0)))))))) (hJ42)
  refine V.icmp_ge (tgt := 11) dX3_way_2 (by decide) (fun hc3 => ?_) (fun hc3 => ?_)
  · skip
    refine V.iload_n dX3_way_11 rfl rfl ?_
    refine V.iload_n dX3_way_12 rfl rfl ?_
    refine V.isub dX3_way_13 ?_
    rw [if_pos hc3] at e45
    subst e45
    exact hJ44
  · skip
    refine V.iload_n dX3_way_5 rfl rfl ?_
    refine V.iload_n dX3_way_6 rfl rfl ?_
    refine V.isub dX3_way_7 ?_
    refine V.goto (tgt := 14) dX3_way_8 (by decide) ?_
    rw [if_neg hc3] at e45
    subst e45
    exact hJ44
def m_X3_direct (p1 : Int32) (μ : MS) : Option (Int32) := (m_X3_call p1 (0 : Int32) μ).bind fun x1 => (m_X3_call p1 (1 : Int32) μ).bind fun x3 => (m_X3_call p1 (2 : Int32) μ).bind fun x5 => (m_X3_call p1 (3 : Int32) μ).bind fun x7 => (m_X3_way x1 x3 x5 x7 μ).bind fun x9 => some x9
abbrev M_X3_direct : MD := (yX3_direct, cX3_direct, 2, (some .int), [])
theorem ok_X3_direct : mOK yX3_direct 2 1 := ⟨⟨by decide +kernel, by decide +kernel⟩, by decide +kernel, by decide⟩
theorem w_X3_direct {l : Launch} {g : GG} {h : AH} {B : BM} {μ : MS} {p1 : Int32} {z : Int32} (hM : IsM B h μ) (hT : TX g h) (hn : m_X3_direct p1 μ = some z) : Sp l g M_X3_direct 1 [.ref B.1, .int p1] h (QZ (some (.int z)) h) := by
  refine Sp.ofV (L := [some (.ref B.1), some (.int p1)]) rfl rfl (hcR (hcI hc0)) (Nat.le_of_ble_eq_true rfl) rfl ?_
  have hM0 : MM B h h μ := ⟨hM, SameM.rf⟩
  unfold m_X3_direct at hn
  refine V.aload_n dX3_direct_0 rfl rfl IsR.ref ?_
  refine V.aload_n dX3_direct_1 rfl rfl IsR.ref ?_
  refine V.iload_n dX3_direct_2 rfl rfl ?_
  refine V.iconst (v := 0) dX3_direct_3 (by decide) ?_
  obtain ⟨x1, e2, hn⟩ := bnd hn
  refine V.invV (as := [.int p1, .int (0 : Int32)]) (b := B.1) (ci := 0) (w := true) (rc := rc0) dX3_direct_4 ok_X3_call (lw_V q2448 q2450 qs92 q151 q2451) rfl hM0.1.1 rfl (by decide) (Nat.le_of_ble_eq_true rfl) (w_X3_call hM0.1 (hT.mm hM hM0) e2) (krI ?_) kxZ
  refine V.aload_n dX3_direct_7 rfl rfl IsR.ref ?_
  refine V.iload_n dX3_direct_8 rfl rfl ?_
  refine V.iconst (v := 1) dX3_direct_9 (by decide) ?_
  obtain ⟨x3, e4, hn⟩ := bnd hn
  refine V.invV (as := [.int p1, .int (1 : Int32)]) (b := B.1) (ci := 0) (w := true) (rc := rc0) dX3_direct_10 ok_X3_call (lw_V q2448 q2450 qs92 q151 q2451) rfl hM0.1.1 rfl (by decide) (Nat.le_of_ble_eq_true rfl) (w_X3_call hM0.1 (hT.mm hM hM0) e4) (krI ?_) kxZ
  refine V.aload_n dX3_direct_13 rfl rfl IsR.ref ?_
  refine V.iload_n dX3_direct_14 rfl rfl ?_
  refine V.iconst (v := 2) dX3_direct_15 (by decide) ?_
  obtain ⟨x5, e6, hn⟩ := bnd hn
  refine V.invV (as := [.int p1, .int (2 : Int32)]) (b := B.1) (ci := 0) (w := true) (rc := rc0) dX3_direct_16 ok_X3_call (lw_V q2448 q2450 qs92 q151 q2451) rfl hM0.1.1 rfl (by decide) (Nat.le_of_ble_eq_true rfl) (w_X3_call hM0.1 (hT.mm hM hM0) e6) (krI ?_) kxZ
  refine V.aload_n dX3_direct_19 rfl rfl IsR.ref ?_
  refine V.iload_n dX3_direct_20 rfl rfl ?_
  refine V.iconst (v := 3) dX3_direct_21 (by decide) ?_
  obtain ⟨x7, e8, hn⟩ := bnd hn
  refine V.invV (as := [.int p1, .int (3 : Int32)]) (b := B.1) (ci := 0) (w := true) (rc := rc0) dX3_direct_22 ok_X3_call (lw_V q2448 q2450 qs92 q151 q2451) rfl hM0.1.1 rfl (by decide) (Nat.le_of_ble_eq_true rfl) (w_X3_call hM0.1 (hT.mm hM hM0) e8) (krI ?_) kxZ
  obtain ⟨x9, e10, hn⟩ := bnd hn
  refine V.invV (as := [.int x1, .int x3, .int x5, .int x7]) (b := B.1) (ci := 0) (w := true) (rc := rc0) dX3_direct_25 ok_X3_way (lw_V q2488 q2490 qs102 q151 q2491) rfl hM0.1.1 rfl (by decide) (Nat.le_of_ble_eq_true rfl) (w_X3_way hM0.1 (hT.mm hM hM0) e10) (krI ?_) kxZ
  obtain rfl := Option.some.inj hn
  exact V.iret dX3_direct_28 rfl ⟨rfl, rfl⟩
def m_X3_limit (p1 : Int32) (μ : MS) : Option (Int32) := (mLd μ 20 184 (1 : Int32)).bind fun x1 => (m_X3_direct p1 μ).bind fun x3 => (mLd μ 20 184 (2 : Int32)).bind fun x5 => some (x1 + ((x3 * x5) / (100 : Int32)))
abbrev M_X3_limit : MD := (yX3_limit, cX3_limit, 2, (some .int), [])
theorem ok_X3_limit : mOK yX3_limit 2 1 := ⟨⟨by decide +kernel, by decide +kernel⟩, by decide +kernel, by decide⟩
theorem w_X3_limit {l : Launch} {g : GG} {h : AH} {B : BM} {μ : MS} {p1 : Int32} {z : Int32} (hM : IsM B h μ) (hT : TX g h) (hn : m_X3_limit p1 μ = some z) : Sp l g M_X3_limit 2 [.ref B.1, .int p1] h (QZ (some (.int z)) h) := by
  refine Sp.ofV (L := [some (.ref B.1), some (.int p1)]) rfl rfl (hcR (hcI hc0)) (Nat.le_of_ble_eq_true rfl) rfl ?_
  have hM0 : MM B h h μ := ⟨hM, SameM.rf⟩
  unfold m_X3_limit at hn
  refine V.aload_n dX3_limit_0 rfl rfl IsR.ref ?_
  refine V.mgetA hM0 dX3_limit_1 fo_X3_33_0 ma_20 ?_
  refine V.iconst (v := 1) dX3_limit_4 (by decide) ?_
  obtain ⟨x1, e2, hn⟩ := bnd hn
  refine V.miald hM0 dX3_limit_5 ma_20 (mLd_some e2) ?_
  refine V.aload_n dX3_limit_6 rfl rfl IsR.ref ?_
  refine V.iload_n dX3_limit_7 rfl rfl ?_
  obtain ⟨x3, e4, hn⟩ := bnd hn
  refine V.invV (as := [.int p1]) (b := B.1) (ci := 0) (w := true) (rc := rc0) dX3_limit_8 ok_X3_direct (lw_V q2496 q2498 qs104 q151 q2499) rfl hM0.1.1 rfl (by decide) (Nat.le_of_ble_eq_true rfl) (w_X3_direct hM0.1 (hT.mm hM hM0) e4) (krI ?_) kxZ
  refine V.aload_n dX3_limit_11 rfl rfl IsR.ref ?_
  refine V.mgetA hM0 dX3_limit_12 fo_X3_33_0 ma_20 ?_
  refine V.iconst (v := 2) dX3_limit_15 (by decide) ?_
  obtain ⟨x5, e6, hn⟩ := bnd hn
  refine V.miald hM0 dX3_limit_16 ma_20 (mLd_some e6) ?_
  refine V.imul dX3_limit_17 ?_
  refine V.bipush (v := 100) dX3_limit_18 (by decide) ?_
  refine V.idiv dX3_limit_20 (by decide) ?_
  refine V.iadd dX3_limit_21 ?_
  obtain rfl := Option.some.inj hn
  exact V.iret dX3_limit_22 rfl ⟨rfl, rfl⟩
def m_X3_goesTo (p1 : Int32) (μ : MS) : Option (Int32 × MS) := (some (if (p1 - p1 / (2 : Int32) * (2 : Int32)) = (1 : Int32) then ((1 : Int32)) else ((0 : Int32)))).bind fun v4 => (some (if v4 = (0 : Int32) then ((0 : Int32)) else ((2 : Int32)))).bind fun v8 => (m_X3_call (p1 / (2 : Int32)) v8 μ).bind fun x9 => (some (if v4 = (0 : Int32) then ((1 : Int32)) else ((3 : Int32)))).bind fun v14 => (m_X3_call (p1 / (2 : Int32)) v14 μ).bind fun x15 => (m_X3_way (μ.1 27) (μ.1 28) x9 x15 μ).bind fun x17 => (some (mSF μ 26 ((μ.1 26) + x17))).bind fun μ20 => (some (mSF μ20 27 x9)).bind fun μ22 => (some (mSF μ22 28 x15)).bind fun μ24 => (m_X3_call (p1 / (2 : Int32)) (5 : Int32) μ24).bind fun x25 => (some (if v4 = (0 : Int32) then (if x25 ≤ (μ24.1 26) then (μ24.1 26) else (x25)) else (μ24.1 26))).bind fun v31 => (some (mSF μ24 26 v31)).bind fun μ33 => if v4 = (0 : Int32) then ((mLd μ33 20 184 (0 : Int32)).bind fun x34 => if (μ33.1 26) ≤ (x25 + x34) then ((some (if v4 = (0 : Int32) then ((1 : Int32)) else ((-1 : Int32)))).bind fun v39 => (m_X3_call (p1 / (2 : Int32)) (4 : Int32) μ33).bind fun x40 => (some (if x40 = (1 : Int32) then ((0 : Int32)) else (v39))).bind fun v45 => (some (mSF μ33 29 ((μ33.1 29) + v45))).bind fun μ47 => (m_X3_call (p1 / (2 : Int32)) (4 : Int32) μ47).bind fun x48 => (some (if x48 = (0 : Int32) then ((0 : Int32)) else (v39))).bind fun v53 => (some (mSF μ47 30 ((μ47.1 30) + v53))).bind fun μ55 => (m_X3_van (μ55.1 25) (2 : Int32) μ55).bind fun x56 => if x56 < (μ55.1 29) then (some ((0 : Int32), μ55)) else ((m_X3_van (μ55.1 25) (3 : Int32) μ55).bind fun x58 => if (μ55.1 30) ≤ x58 then ((m_X3_service (p1 / (2 : Int32)) μ55).bind fun x60 => (some (mSF μ55 26 ((μ55.1 26) + x60))).bind fun μ63 => if v4 = (0 : Int32) then ((mSt μ63 31 25 (p1 / (2 : Int32)) (μ63.1 26)).bind fun μ65 => some ((1 : Int32), μ65)) else ((mLd μ63 31 25 (p1 / (2 : Int32))).bind fun x66 => (mSt μ63 31 25 (p1 / (2 : Int32)) x66).bind fun μ69 => some ((1 : Int32), μ69))) else (some ((0 : Int32), μ55)))) else (some ((0 : Int32), μ33))) else ((mLd μ33 31 25 (p1 / (2 : Int32))).bind fun x80 => (m_X3_limit (p1 / (2 : Int32)) μ33).bind fun x82 => if ((μ33.1 26) - x80) ≤ x82 then ((some (if v4 = (0 : Int32) then ((1 : Int32)) else ((-1 : Int32)))).bind fun v87 => (m_X3_call (p1 / (2 : Int32)) (4 : Int32) μ33).bind fun x88 => (some (if x88 = (1 : Int32) then ((0 : Int32)) else (v87))).bind fun v93 => (some (mSF μ33 29 ((μ33.1 29) + v93))).bind fun μ95 => (m_X3_call (p1 / (2 : Int32)) (4 : Int32) μ95).bind fun x96 => (some (if x96 = (0 : Int32) then ((0 : Int32)) else (v87))).bind fun v101 => (some (mSF μ95 30 ((μ95.1 30) + v101))).bind fun μ103 => (m_X3_van (μ103.1 25) (2 : Int32) μ103).bind fun x104 => if x104 < (μ103.1 29) then (some ((0 : Int32), μ103)) else ((m_X3_van (μ103.1 25) (3 : Int32) μ103).bind fun x106 => if (μ103.1 30) ≤ x106 then ((m_X3_service (p1 / (2 : Int32)) μ103).bind fun x108 => (some (mSF μ103 26 ((μ103.1 26) + x108))).bind fun μ111 => if v4 = (0 : Int32) then ((mSt μ111 31 25 (p1 / (2 : Int32)) (μ111.1 26)).bind fun μ113 => some ((1 : Int32), μ113)) else ((mLd μ111 31 25 (p1 / (2 : Int32))).bind fun x114 => (mSt μ111 31 25 (p1 / (2 : Int32)) x114).bind fun μ117 => some ((1 : Int32), μ117))) else (some ((0 : Int32), μ103)))) else (some ((0 : Int32), μ33)))
abbrev M_X3_goesTo : MD := (yX3_goesTo, cX3_goesTo, 8, (some .boolean), [])
theorem ok_X3_goesTo : mOK yX3_goesTo 8 1 := ⟨⟨by decide +kernel, by decide +kernel⟩, by decide +kernel, by decide⟩
theorem w_X3_goesTo {l : Launch} {g : GG} {h : AH} {B : BM} {μ : MS} {p1 : Int32} {z : Int32 × MS} (hM : IsM B h μ) (hT : TX g h) (hn : m_X3_goesTo p1 μ = some z) : Sp l g M_X3_goesTo 3 [.ref B.1, .int p1] h (QM B h (some (.int z.1)) z.2) := by
  refine Sp.ofV (L := [some (.ref B.1), some (.int p1), none, none, none, none, none, none]) rfl rfl (hcR (hcI hc0)) (Nat.le_of_ble_eq_true rfl) rfl ?_
  have hM0 : MM B h h μ := ⟨hM, SameM.rf⟩
  unfold m_X3_goesTo at hn
  refine V.iload_n dX3_goesTo_0 rfl rfl ?_
  refine V.iconst (v := 2) dX3_goesTo_1 (by decide) ?_
  refine V.idiv dX3_goesTo_2 (by decide) ?_
  refine V.istore_n (i := 2) dX3_goesTo_3 rfl (by decide) ?_
  simp only [List.set_cons_zero, List.set_cons_succ]
  refine V.iload_n dX3_goesTo_4 rfl rfl ?_
  refine V.iconst (v := 2) dX3_goesTo_5 (by decide) ?_
  refine V.irem dX3_goesTo_6 (by decide) ?_
  refine V.iconst (v := 1) dX3_goesTo_7 (by decide) ?_
  obtain ⟨v4, e136, hn⟩ := bnd hn
  have e136 := Option.some.inj e136
  have hJ135 : V l g M_X3_goesTo 3 16 [some (.ref B.1), none, some (.int (p1 / (2 : Int32))), none, none, none, none, none] [.int v4] h (QM B h (some (.int z.1)) z.2) := by
    refine V.istore_n (i := 3) dX3_goesTo_16 rfl (by decide) ?_
    simp only [List.set_cons_zero, List.set_cons_succ]
    refine V.aload_n dX3_goesTo_17 rfl rfl IsR.ref ?_
    refine V.iload_n dX3_goesTo_18 rfl rfl ?_
    refine V.iload_n dX3_goesTo_19 rfl rfl ?_
    obtain ⟨v8, e134, hn⟩ := bnd hn
    have e134 := Option.some.inj e134
    have hJ133 : V l g M_X3_goesTo 3 28 [some (.ref B.1), none, some (.int (p1 / (2 : Int32))), some (.int v4), none, none, none, none] [.int v8, .int (p1 / (2 : Int32)), .ref B.1] h (QM B h (some (.int z.1)) z.2) := by
      obtain ⟨x9, e10, hn⟩ := bnd hn
      refine V.invV (as := [.int (p1 / (2 : Int32)), .int v8]) (b := B.1) (ci := 0) (w := true) (rc := rc0) dX3_goesTo_28 ok_X3_call (lw_V q2448 q2450 qs92 q151 q2451) rfl hM0.1.1 rfl (by decide) (Nat.le_of_ble_eq_true rfl) (w_X3_call hM0.1 (hT.mm hM hM0) e10) (krI ?_) kxZ
      refine V.istore (i := 4) dX3_goesTo_31 (by decide) ?_
      simp only [List.set_cons_zero, List.set_cons_succ]
      refine V.aload_n dX3_goesTo_33 rfl rfl IsR.ref ?_
      refine V.iload_n dX3_goesTo_34 rfl rfl ?_
      refine V.iload_n dX3_goesTo_35 rfl rfl ?_
      obtain ⟨v14, e132, hn⟩ := bnd hn
      have e132 := Option.some.inj e132
      have hJ131 : V l g M_X3_goesTo 3 44 [some (.ref B.1), none, some (.int (p1 / (2 : Int32))), some (.int v4), some (.int x9), none, none, none] [.int v14, .int (p1 / (2 : Int32)), .ref B.1] h (QM B h (some (.int z.1)) z.2) := by
        obtain ⟨x15, e16, hn⟩ := bnd hn
        refine V.invV (as := [.int (p1 / (2 : Int32)), .int v14]) (b := B.1) (ci := 0) (w := true) (rc := rc0) dX3_goesTo_44 ok_X3_call (lw_V q2448 q2450 qs92 q151 q2451) rfl hM0.1.1 rfl (by decide) (Nat.le_of_ble_eq_true rfl) (w_X3_call hM0.1 (hT.mm hM hM0) e16) (krI ?_) kxZ
        refine V.istore (i := 5) dX3_goesTo_47 (by decide) ?_
        simp only [List.set_cons_zero, List.set_cons_succ]
        refine V.aload_n dX3_goesTo_49 rfl rfl IsR.ref ?_
        refine V.dup dX3_goesTo_50 rfl ?_
        refine V.mgetI hM0 dX3_goesTo_51 fo_X3_278_0 mi_26 ?_
        refine V.aload_n dX3_goesTo_54 rfl rfl IsR.ref ?_
        refine V.aload_n dX3_goesTo_55 rfl rfl IsR.ref ?_
        refine V.mgetI hM0 dX3_goesTo_56 fo_X3_281_0 mi_27 ?_
        refine V.aload_n dX3_goesTo_59 rfl rfl IsR.ref ?_
        refine V.mgetI hM0 dX3_goesTo_60 fo_X3_284_0 mi_28 ?_
        refine V.iload dX3_goesTo_63 rfl ?_
        refine V.iload dX3_goesTo_65 rfl ?_
        obtain ⟨x17, e18, hn⟩ := bnd hn
        refine V.invV (as := [.int (μ.1 27), .int (μ.1 28), .int x9, .int x15]) (b := B.1) (ci := 0) (w := true) (rc := rc0) dX3_goesTo_67 ok_X3_way (lw_V q2488 q2490 qs102 q151 q2491) rfl hM0.1.1 rfl (by decide) (Nat.le_of_ble_eq_true rfl) (w_X3_way hM0.1 (hT.mm hM hM0) e18) (krI ?_) kxZ
        refine V.iadd dX3_goesTo_70 ?_
        obtain ⟨μ20, e19, hn⟩ := bnd hn
        refine V.mputI hM0 dX3_goesTo_71 po_M_278 mi_26 (fun h20 hM20 => ?_)
        rw [Option.some.inj e19] at hM20
        refine V.aload_n dX3_goesTo_74 rfl rfl IsR.ref ?_
        refine V.iload dX3_goesTo_75 rfl ?_
        obtain ⟨μ22, e21, hn⟩ := bnd hn
        refine V.mputI hM20 dX3_goesTo_77 po_M_281 mi_27 (fun h22 hM22 => ?_)
        rw [Option.some.inj e21] at hM22
        refine V.aload_n dX3_goesTo_80 rfl rfl IsR.ref ?_
        refine V.iload dX3_goesTo_81 rfl ?_
        obtain ⟨μ24, e23, hn⟩ := bnd hn
        refine V.mputI hM22 dX3_goesTo_83 po_M_284 mi_28 (fun h24 hM24 => ?_)
        rw [Option.some.inj e23] at hM24
        refine V.aload_n dX3_goesTo_86 rfl rfl IsR.ref ?_
        refine V.iload_n dX3_goesTo_87 rfl rfl ?_
        refine V.iconst (v := 5) dX3_goesTo_88 (by decide) ?_
        obtain ⟨x25, e26, hn⟩ := bnd hn
        refine V.invV (as := [.int (p1 / (2 : Int32)), .int (5 : Int32)]) (b := B.1) (ci := 0) (w := true) (rc := rc0) dX3_goesTo_89 ok_X3_call (lw_V q2448 q2450 qs92 q151 q2451) rfl hM24.1.1 rfl (by decide) (Nat.le_of_ble_eq_true rfl) (w_X3_call hM24.1 (hT.mm hM hM24) e26) (krI ?_) kxZ
        refine V.istore (i := 6) dX3_goesTo_92 (by decide) ?_
        simp only [List.set_cons_zero, List.set_cons_succ]
        refine V.aload_n dX3_goesTo_94 rfl rfl IsR.ref ?_
        refine V.iload_n dX3_goesTo_95 rfl rfl ?_
        obtain ⟨v31, e130, hn⟩ := bnd hn
        have e130 := Option.some.inj e130
        have hJ129 : V l g M_X3_goesTo 3 117 [some (.ref B.1), none, some (.int (p1 / (2 : Int32))), some (.int v4), none, none, some (.int x25), none] [.int v31, .ref B.1] h24 (QM B h (some (.int z.1)) z.2) := by
          obtain ⟨μ33, e32, hn⟩ := bnd hn
          refine V.mputI hM24 dX3_goesTo_117 po_M_278 mi_26 (fun h33 hM33 => ?_)
          rw [Option.some.inj e32] at hM33
          refine V.iload_n dX3_goesTo_120 rfl rfl ?_
          refine V.if_eq (tgt := 146) dX3_goesTo_121 (by decide) (fun hc128 => ?_) (fun hc128 => ?_)
          · rw [if_pos hc128] at hn
            refine V.aload_n dX3_goesTo_146 rfl rfl IsR.ref ?_
            refine V.mgetI hM33 dX3_goesTo_147 fo_X3_278_0 mi_26 ?_
            refine V.iload dX3_goesTo_150 rfl ?_
            refine V.aload_n dX3_goesTo_152 rfl rfl IsR.ref ?_
            refine V.mgetA hM33 dX3_goesTo_153 fo_X3_33_0 ma_20 ?_
            refine V.iconst (v := 0) dX3_goesTo_156 (by decide) ?_
            obtain ⟨x34, e35, hn⟩ := bnd hn
            refine V.miald hM33 dX3_goesTo_157 ma_20 (mLd_some e35) ?_
            refine V.iadd dX3_goesTo_158 ?_
            refine V.icmp_le (tgt := 164) dX3_goesTo_159 (by decide) (fun hc79 => ?_) (fun hc79 => ?_)
            · rw [if_pos hc79] at hn
              refine V.iload_n dX3_goesTo_164 rfl rfl ?_
              obtain ⟨v39, e78, hn⟩ := bnd hn
              have e78 := Option.some.inj e78
              have hJ77 : V l g M_X3_goesTo 3 173 [some (.ref B.1), none, some (.int (p1 / (2 : Int32))), some (.int v4), none, none, none, none] [.int v39] h33 (QM B h (some (.int z.1)) z.2) := by
                refine V.istore (i := 7) dX3_goesTo_173 (by decide) ?_
                simp only [List.set_cons_zero, List.set_cons_succ]
                refine V.aload_n dX3_goesTo_175 rfl rfl IsR.ref ?_
                refine V.dup dX3_goesTo_176 rfl ?_
                refine V.mgetI hM33 dX3_goesTo_177 fo_X3_287_0 mi_29 ?_
                refine V.aload_n dX3_goesTo_180 rfl rfl IsR.ref ?_
                refine V.iload_n dX3_goesTo_181 rfl rfl ?_
                refine V.iconst (v := 4) dX3_goesTo_182 (by decide) ?_
                obtain ⟨x40, e41, hn⟩ := bnd hn
                refine V.invV (as := [.int (p1 / (2 : Int32)), .int (4 : Int32)]) (b := B.1) (ci := 0) (w := true) (rc := rc0) dX3_goesTo_183 ok_X3_call (lw_V q2448 q2450 qs92 q151 q2451) rfl hM33.1.1 rfl (by decide) (Nat.le_of_ble_eq_true rfl) (w_X3_call hM33.1 (hT.mm hM hM33) e41) (krI ?_) kxZ
                refine V.iconst (v := 1) dX3_goesTo_186 (by decide) ?_
                obtain ⟨v45, e76, hn⟩ := bnd hn
                have e76 := Option.some.inj e76
                have hJ75 : V l g M_X3_goesTo 3 196 [some (.ref B.1), none, some (.int (p1 / (2 : Int32))), some (.int v4), none, none, none, some (.int v39)] [.int v45, .int (μ33.1 29), .ref B.1] h33 (QM B h (some (.int z.1)) z.2) := by
                  refine V.iadd dX3_goesTo_196 ?_
                  obtain ⟨μ47, e46, hn⟩ := bnd hn
                  refine V.mputI hM33 dX3_goesTo_197 po_M_287 mi_29 (fun h47 hM47 => ?_)
                  rw [Option.some.inj e46] at hM47
                  refine V.aload_n dX3_goesTo_200 rfl rfl IsR.ref ?_
                  refine V.dup dX3_goesTo_201 rfl ?_
                  refine V.mgetI hM47 dX3_goesTo_202 fo_X3_290_0 mi_30 ?_
                  refine V.aload_n dX3_goesTo_205 rfl rfl IsR.ref ?_
                  refine V.iload_n dX3_goesTo_206 rfl rfl ?_
                  refine V.iconst (v := 4) dX3_goesTo_207 (by decide) ?_
                  obtain ⟨x48, e49, hn⟩ := bnd hn
                  refine V.invV (as := [.int (p1 / (2 : Int32)), .int (4 : Int32)]) (b := B.1) (ci := 0) (w := true) (rc := rc0) dX3_goesTo_208 ok_X3_call (lw_V q2448 q2450 qs92 q151 q2451) rfl hM47.1.1 rfl (by decide) (Nat.le_of_ble_eq_true rfl) (w_X3_call hM47.1 (hT.mm hM hM47) e49) (krI ?_) kxZ
                  obtain ⟨v53, e74, hn⟩ := bnd hn
                  have e74 := Option.some.inj e74
                  have hJ73 : V l g M_X3_goesTo 3 220 [some (.ref B.1), none, some (.int (p1 / (2 : Int32))), some (.int v4), none, none, none, none] [.int v53, .int (μ47.1 30), .ref B.1] h47 (QM B h (some (.int z.1)) z.2) := by
                    refine V.iadd dX3_goesTo_220 ?_
                    obtain ⟨μ55, e54, hn⟩ := bnd hn
                    refine V.mputI hM47 dX3_goesTo_221 po_M_290 mi_30 (fun h55 hM55 => ?_)
                    rw [Option.some.inj e54] at hM55
                    refine V.aload_n dX3_goesTo_224 rfl rfl IsR.ref ?_
                    refine V.mgetI hM55 dX3_goesTo_225 fo_X3_287_0 mi_29 ?_
                    refine V.aload_n dX3_goesTo_228 rfl rfl IsR.ref ?_
                    refine V.aload_n dX3_goesTo_229 rfl rfl IsR.ref ?_
                    refine V.mgetI hM55 dX3_goesTo_230 fo_X3_275_0 mi_25 ?_
                    refine V.iconst (v := 2) dX3_goesTo_233 (by decide) ?_
                    obtain ⟨x56, e57, hn⟩ := bnd hn
                    refine V.invV (as := [.int (μ55.1 25), .int (2 : Int32)]) (b := B.1) (ci := 0) (w := true) (rc := rc0) dX3_goesTo_234 ok_X3_van (lw_V q2409 q2411 qs83 q151 q2412) rfl hM55.1.1 rfl (by decide) (Nat.le_of_ble_eq_true rfl) (w_X3_van hM55.1 (hT.mm hM hM55) e57) (krI ?_) kxZ
                    refine V.icmp_gt (tgt := 256) dX3_goesTo_237 (by decide) (fun hc72 => ?_) (fun hc72 => ?_)
                    · rw [if_pos hc72] at hn
                      refine V.iconst (v := 0) dX3_goesTo_256 (by decide) ?_
                      obtain rfl := Option.some.inj hn
                      exact V.zret dX3_goesTo_257 rfl rfl ⟨rfl, hM55⟩
                    · rw [if_neg hc72] at hn
                      refine V.aload_n dX3_goesTo_240 rfl rfl IsR.ref ?_
                      refine V.mgetI hM55 dX3_goesTo_241 fo_X3_290_0 mi_30 ?_
                      refine V.aload_n dX3_goesTo_244 rfl rfl IsR.ref ?_
                      refine V.aload_n dX3_goesTo_245 rfl rfl IsR.ref ?_
                      refine V.mgetI hM55 dX3_goesTo_246 fo_X3_275_0 mi_25 ?_
                      refine V.iconst (v := 3) dX3_goesTo_249 (by decide) ?_
                      obtain ⟨x58, e59, hn⟩ := bnd hn
                      refine V.invV (as := [.int (μ55.1 25), .int (3 : Int32)]) (b := B.1) (ci := 0) (w := true) (rc := rc0) dX3_goesTo_250 ok_X3_van (lw_V q2409 q2411 qs83 q151 q2412) rfl hM55.1.1 rfl (by decide) (Nat.le_of_ble_eq_true rfl) (w_X3_van hM55.1 (hT.mm hM hM55) e59) (krI ?_) kxZ
                      refine V.icmp_le (tgt := 258) dX3_goesTo_253 (by decide) (fun hc71 => ?_) (fun hc71 => ?_)
                      · rw [if_pos hc71] at hn
                        refine V.aload_n dX3_goesTo_258 rfl rfl IsR.ref ?_
                        refine V.dup dX3_goesTo_259 rfl ?_
                        refine V.mgetI hM55 dX3_goesTo_260 fo_X3_278_0 mi_26 ?_
                        refine V.aload_n dX3_goesTo_263 rfl rfl IsR.ref ?_
                        refine V.iload_n dX3_goesTo_264 rfl rfl ?_
                        obtain ⟨x60, e61, hn⟩ := bnd hn
                        refine V.invV (as := [.int (p1 / (2 : Int32))]) (b := B.1) (ci := 0) (w := true) (rc := rc0) dX3_goesTo_265 ok_X3_service (lw_V q2468 q2470 qs97 q151 q2471) rfl hM55.1.1 rfl (by decide) (Nat.le_of_ble_eq_true rfl) (w_X3_service hM55.1 (hT.mm hM hM55) e61) (krI ?_) kxZ
                        refine V.iadd dX3_goesTo_268 ?_
                        obtain ⟨μ63, e62, hn⟩ := bnd hn
                        refine V.mputI hM55 dX3_goesTo_269 po_M_278 mi_26 (fun h63 hM63 => ?_)
                        rw [Option.some.inj e62] at hM63
                        refine V.aload_n dX3_goesTo_272 rfl rfl IsR.ref ?_
                        refine V.mgetA hM63 dX3_goesTo_273 fo_X3_36_0 ma_31 ?_
                        refine V.iload_n dX3_goesTo_276 rfl rfl ?_
                        refine V.iload_n dX3_goesTo_277 rfl rfl ?_
                        refine V.if_eq (tgt := 290) dX3_goesTo_278 (by decide) (fun hc70 => ?_) (fun hc70 => ?_)
                        · rw [if_pos hc70] at hn
                          refine V.aload_n dX3_goesTo_290 rfl rfl IsR.ref ?_
                          refine V.mgetI hM63 dX3_goesTo_291 fo_X3_278_0 mi_26 ?_
                          obtain ⟨μ65, e64, hn⟩ := bnd hn
                          refine V.miast hM63 dX3_goesTo_294 ma_31 (mSt_some e64) (fun h65 hM65 => ?_)
                          refine V.iconst (v := 1) dX3_goesTo_295 (by decide) ?_
                          obtain rfl := Option.some.inj hn
                          exact V.zret dX3_goesTo_296 rfl rfl ⟨rfl, hM65⟩
                        · rw [if_neg hc70] at hn
                          refine V.aload_n dX3_goesTo_281 rfl rfl IsR.ref ?_
                          refine V.mgetA hM63 dX3_goesTo_282 fo_X3_36_0 ma_31 ?_
                          refine V.iload_n dX3_goesTo_285 rfl rfl ?_
                          obtain ⟨x66, e67, hn⟩ := bnd hn
                          refine V.miald hM63 dX3_goesTo_286 ma_31 (mLd_some e67) ?_
                          refine V.goto (tgt := 294) dX3_goesTo_287 (by decide) ?_
                          obtain ⟨μ69, e68, hn⟩ := bnd hn
                          refine V.miast hM63 dX3_goesTo_294 ma_31 (mSt_some e68) (fun h69 hM69 => ?_)
                          refine V.iconst (v := 1) dX3_goesTo_295 (by decide) ?_
                          obtain rfl := Option.some.inj hn
                          exact V.zret dX3_goesTo_296 rfl rfl ⟨rfl, hM69⟩
                      · rw [if_neg hc71] at hn
                        refine V.iconst (v := 0) dX3_goesTo_256 (by decide) ?_
                        obtain rfl := Option.some.inj hn
                        exact V.zret dX3_goesTo_257 rfl rfl ⟨rfl, hM55⟩
                  refine V.if_ne (tgt := 218) dX3_goesTo_211 (by decide) (fun hc52 => ?_) (fun hc52 => ?_)
                  · skip
                    refine V.iload dX3_goesTo_218 rfl ?_
                    rw [if_neg hc52] at e74
                    subst e74
                    exact V.forget (llS (llN (llS (llS (llN (llN (llN (llN ll0)))))))) (hJ73)
                  · skip
                    refine V.iconst (v := 0) dX3_goesTo_214 (by decide) ?_
                    refine V.goto (tgt := 220) dX3_goesTo_215 (by decide) ?_
                    rw [if_pos hc52] at e74
                    subst e74
                    exact V.forget (llS (llN (llS (llS (llN (llN (llN (llN ll0)))))))) (hJ73)
                refine V.icmp_ne (tgt := 194) dX3_goesTo_187 (by decide) (fun hc44 => ?_) (fun hc44 => ?_)
                · skip
                  refine V.iload dX3_goesTo_194 rfl ?_
                  rw [if_neg hc44] at e76
                  subst e76
                  exact hJ75
                · skip
                  refine V.iconst (v := 0) dX3_goesTo_190 (by decide) ?_
                  refine V.goto (tgt := 196) dX3_goesTo_191 (by decide) ?_
                  rw [if_pos hc44] at e76
                  subst e76
                  exact hJ75
              refine V.if_eq (tgt := 172) dX3_goesTo_165 (by decide) (fun hc38 => ?_) (fun hc38 => ?_)
              · skip
                refine V.iconst (v := 1) dX3_goesTo_172 (by decide) ?_
                rw [if_pos hc38] at e78
                subst e78
                exact V.forget (llS (llN (llS (llS (llN (llN (llN (llN ll0)))))))) (hJ77)
              · skip
                refine V.iconst (v := -1) dX3_goesTo_168 (by decide) ?_
                refine V.goto (tgt := 173) dX3_goesTo_169 (by decide) ?_
                rw [if_neg hc38] at e78
                subst e78
                exact V.forget (llS (llN (llS (llS (llN (llN (llN (llN ll0)))))))) (hJ77)
            · rw [if_neg hc79] at hn
              refine V.iconst (v := 0) dX3_goesTo_162 (by decide) ?_
              obtain rfl := Option.some.inj hn
              exact V.zret dX3_goesTo_163 rfl rfl ⟨rfl, hM33⟩
          · rw [if_neg hc128] at hn
            refine V.aload_n dX3_goesTo_124 rfl rfl IsR.ref ?_
            refine V.mgetI hM33 dX3_goesTo_125 fo_X3_278_0 mi_26 ?_
            refine V.aload_n dX3_goesTo_128 rfl rfl IsR.ref ?_
            refine V.mgetA hM33 dX3_goesTo_129 fo_X3_36_0 ma_31 ?_
            refine V.iload_n dX3_goesTo_132 rfl rfl ?_
            obtain ⟨x80, e81, hn⟩ := bnd hn
            refine V.miald hM33 dX3_goesTo_133 ma_31 (mLd_some e81) ?_
            refine V.isub dX3_goesTo_134 ?_
            refine V.aload_n dX3_goesTo_135 rfl rfl IsR.ref ?_
            refine V.iload_n dX3_goesTo_136 rfl rfl ?_
            obtain ⟨x82, e83, hn⟩ := bnd hn
            refine V.invV (as := [.int (p1 / (2 : Int32))]) (b := B.1) (ci := 0) (w := true) (rc := rc0) dX3_goesTo_137 ok_X3_limit (lw_V q2492 q2494 qs103 q151 q2495) rfl hM33.1.1 rfl (by decide) (Nat.le_of_ble_eq_true rfl) (w_X3_limit hM33.1 (hT.mm hM hM33) e83) (krI ?_) kxZ
            refine V.icmp_le (tgt := 164) dX3_goesTo_140 (by decide) (fun hc127 => ?_) (fun hc127 => ?_)
            · rw [if_pos hc127] at hn
              refine V.iload_n dX3_goesTo_164 rfl rfl ?_
              obtain ⟨v87, e126, hn⟩ := bnd hn
              have e126 := Option.some.inj e126
              have hJ125 : V l g M_X3_goesTo 3 173 [some (.ref B.1), none, some (.int (p1 / (2 : Int32))), some (.int v4), none, none, none, none] [.int v87] h33 (QM B h (some (.int z.1)) z.2) := by
                refine V.istore (i := 7) dX3_goesTo_173 (by decide) ?_
                simp only [List.set_cons_zero, List.set_cons_succ]
                refine V.aload_n dX3_goesTo_175 rfl rfl IsR.ref ?_
                refine V.dup dX3_goesTo_176 rfl ?_
                refine V.mgetI hM33 dX3_goesTo_177 fo_X3_287_0 mi_29 ?_
                refine V.aload_n dX3_goesTo_180 rfl rfl IsR.ref ?_
                refine V.iload_n dX3_goesTo_181 rfl rfl ?_
                refine V.iconst (v := 4) dX3_goesTo_182 (by decide) ?_
                obtain ⟨x88, e89, hn⟩ := bnd hn
                refine V.invV (as := [.int (p1 / (2 : Int32)), .int (4 : Int32)]) (b := B.1) (ci := 0) (w := true) (rc := rc0) dX3_goesTo_183 ok_X3_call (lw_V q2448 q2450 qs92 q151 q2451) rfl hM33.1.1 rfl (by decide) (Nat.le_of_ble_eq_true rfl) (w_X3_call hM33.1 (hT.mm hM hM33) e89) (krI ?_) kxZ
                refine V.iconst (v := 1) dX3_goesTo_186 (by decide) ?_
                obtain ⟨v93, e124, hn⟩ := bnd hn
                have e124 := Option.some.inj e124
                have hJ123 : V l g M_X3_goesTo 3 196 [some (.ref B.1), none, some (.int (p1 / (2 : Int32))), some (.int v4), none, none, none, some (.int v87)] [.int v93, .int (μ33.1 29), .ref B.1] h33 (QM B h (some (.int z.1)) z.2) := by
                  refine V.iadd dX3_goesTo_196 ?_
                  obtain ⟨μ95, e94, hn⟩ := bnd hn
                  refine V.mputI hM33 dX3_goesTo_197 po_M_287 mi_29 (fun h95 hM95 => ?_)
                  rw [Option.some.inj e94] at hM95
                  refine V.aload_n dX3_goesTo_200 rfl rfl IsR.ref ?_
                  refine V.dup dX3_goesTo_201 rfl ?_
                  refine V.mgetI hM95 dX3_goesTo_202 fo_X3_290_0 mi_30 ?_
                  refine V.aload_n dX3_goesTo_205 rfl rfl IsR.ref ?_
                  refine V.iload_n dX3_goesTo_206 rfl rfl ?_
                  refine V.iconst (v := 4) dX3_goesTo_207 (by decide) ?_
                  obtain ⟨x96, e97, hn⟩ := bnd hn
                  refine V.invV (as := [.int (p1 / (2 : Int32)), .int (4 : Int32)]) (b := B.1) (ci := 0) (w := true) (rc := rc0) dX3_goesTo_208 ok_X3_call (lw_V q2448 q2450 qs92 q151 q2451) rfl hM95.1.1 rfl (by decide) (Nat.le_of_ble_eq_true rfl) (w_X3_call hM95.1 (hT.mm hM hM95) e97) (krI ?_) kxZ
                  obtain ⟨v101, e122, hn⟩ := bnd hn
                  have e122 := Option.some.inj e122
                  have hJ121 : V l g M_X3_goesTo 3 220 [some (.ref B.1), none, some (.int (p1 / (2 : Int32))), some (.int v4), none, none, none, none] [.int v101, .int (μ95.1 30), .ref B.1] h95 (QM B h (some (.int z.1)) z.2) := by
                    refine V.iadd dX3_goesTo_220 ?_
                    obtain ⟨μ103, e102, hn⟩ := bnd hn
                    refine V.mputI hM95 dX3_goesTo_221 po_M_290 mi_30 (fun h103 hM103 => ?_)
                    rw [Option.some.inj e102] at hM103
                    refine V.aload_n dX3_goesTo_224 rfl rfl IsR.ref ?_
                    refine V.mgetI hM103 dX3_goesTo_225 fo_X3_287_0 mi_29 ?_
                    refine V.aload_n dX3_goesTo_228 rfl rfl IsR.ref ?_
                    refine V.aload_n dX3_goesTo_229 rfl rfl IsR.ref ?_
                    refine V.mgetI hM103 dX3_goesTo_230 fo_X3_275_0 mi_25 ?_
                    refine V.iconst (v := 2) dX3_goesTo_233 (by decide) ?_
                    obtain ⟨x104, e105, hn⟩ := bnd hn
                    refine V.invV (as := [.int (μ103.1 25), .int (2 : Int32)]) (b := B.1) (ci := 0) (w := true) (rc := rc0) dX3_goesTo_234 ok_X3_van (lw_V q2409 q2411 qs83 q151 q2412) rfl hM103.1.1 rfl (by decide) (Nat.le_of_ble_eq_true rfl) (w_X3_van hM103.1 (hT.mm hM hM103) e105) (krI ?_) kxZ
                    refine V.icmp_gt (tgt := 256) dX3_goesTo_237 (by decide) (fun hc120 => ?_) (fun hc120 => ?_)
                    · rw [if_pos hc120] at hn
                      refine V.iconst (v := 0) dX3_goesTo_256 (by decide) ?_
                      obtain rfl := Option.some.inj hn
                      exact V.zret dX3_goesTo_257 rfl rfl ⟨rfl, hM103⟩
                    · rw [if_neg hc120] at hn
                      refine V.aload_n dX3_goesTo_240 rfl rfl IsR.ref ?_
                      refine V.mgetI hM103 dX3_goesTo_241 fo_X3_290_0 mi_30 ?_
                      refine V.aload_n dX3_goesTo_244 rfl rfl IsR.ref ?_
                      refine V.aload_n dX3_goesTo_245 rfl rfl IsR.ref ?_
                      refine V.mgetI hM103 dX3_goesTo_246 fo_X3_275_0 mi_25 ?_
                      refine V.iconst (v := 3) dX3_goesTo_249 (by decide) ?_
                      obtain ⟨x106, e107, hn⟩ := bnd hn
                      refine V.invV (as := [.int (μ103.1 25), .int (3 : Int32)]) (b := B.1) (ci := 0) (w := true) (rc := rc0) dX3_goesTo_250 ok_X3_van (lw_V q2409 q2411 qs83 q151 q2412) rfl hM103.1.1 rfl (by decide) (Nat.le_of_ble_eq_true rfl) (w_X3_van hM103.1 (hT.mm hM hM103) e107) (krI ?_) kxZ
                      refine V.icmp_le (tgt := 258) dX3_goesTo_253 (by decide) (fun hc119 => ?_) (fun hc119 => ?_)
                      · rw [if_pos hc119] at hn
                        refine V.aload_n dX3_goesTo_258 rfl rfl IsR.ref ?_
                        refine V.dup dX3_goesTo_259 rfl ?_
                        refine V.mgetI hM103 dX3_goesTo_260 fo_X3_278_0 mi_26 ?_
                        refine V.aload_n dX3_goesTo_263 rfl rfl IsR.ref ?_
                        refine V.iload_n dX3_goesTo_264 rfl rfl ?_
                        obtain ⟨x108, e109, hn⟩ := bnd hn
                        refine V.invV (as := [.int (p1 / (2 : Int32))]) (b := B.1) (ci := 0) (w := true) (rc := rc0) dX3_goesTo_265 ok_X3_service (lw_V q2468 q2470 qs97 q151 q2471) rfl hM103.1.1 rfl (by decide) (Nat.le_of_ble_eq_true rfl) (w_X3_service hM103.1 (hT.mm hM hM103) e109) (krI ?_) kxZ
                        refine V.iadd dX3_goesTo_268 ?_
                        obtain ⟨μ111, e110, hn⟩ := bnd hn
                        refine V.mputI hM103 dX3_goesTo_269 po_M_278 mi_26 (fun h111 hM111 => ?_)
                        rw [Option.some.inj e110] at hM111
                        refine V.aload_n dX3_goesTo_272 rfl rfl IsR.ref ?_
                        refine V.mgetA hM111 dX3_goesTo_273 fo_X3_36_0 ma_31 ?_
                        refine V.iload_n dX3_goesTo_276 rfl rfl ?_
                        refine V.iload_n dX3_goesTo_277 rfl rfl ?_
                        refine V.if_eq (tgt := 290) dX3_goesTo_278 (by decide) (fun hc118 => ?_) (fun hc118 => ?_)
                        · rw [if_pos hc118] at hn
                          refine V.aload_n dX3_goesTo_290 rfl rfl IsR.ref ?_
                          refine V.mgetI hM111 dX3_goesTo_291 fo_X3_278_0 mi_26 ?_
                          obtain ⟨μ113, e112, hn⟩ := bnd hn
                          refine V.miast hM111 dX3_goesTo_294 ma_31 (mSt_some e112) (fun h113 hM113 => ?_)
                          refine V.iconst (v := 1) dX3_goesTo_295 (by decide) ?_
                          obtain rfl := Option.some.inj hn
                          exact V.zret dX3_goesTo_296 rfl rfl ⟨rfl, hM113⟩
                        · rw [if_neg hc118] at hn
                          refine V.aload_n dX3_goesTo_281 rfl rfl IsR.ref ?_
                          refine V.mgetA hM111 dX3_goesTo_282 fo_X3_36_0 ma_31 ?_
                          refine V.iload_n dX3_goesTo_285 rfl rfl ?_
                          obtain ⟨x114, e115, hn⟩ := bnd hn
                          refine V.miald hM111 dX3_goesTo_286 ma_31 (mLd_some e115) ?_
                          refine V.goto (tgt := 294) dX3_goesTo_287 (by decide) ?_
                          obtain ⟨μ117, e116, hn⟩ := bnd hn
                          refine V.miast hM111 dX3_goesTo_294 ma_31 (mSt_some e116) (fun h117 hM117 => ?_)
                          refine V.iconst (v := 1) dX3_goesTo_295 (by decide) ?_
                          obtain rfl := Option.some.inj hn
                          exact V.zret dX3_goesTo_296 rfl rfl ⟨rfl, hM117⟩
                      · rw [if_neg hc119] at hn
                        refine V.iconst (v := 0) dX3_goesTo_256 (by decide) ?_
                        obtain rfl := Option.some.inj hn
                        exact V.zret dX3_goesTo_257 rfl rfl ⟨rfl, hM103⟩
                  refine V.if_ne (tgt := 218) dX3_goesTo_211 (by decide) (fun hc100 => ?_) (fun hc100 => ?_)
                  · skip
                    refine V.iload dX3_goesTo_218 rfl ?_
                    rw [if_neg hc100] at e122
                    subst e122
                    exact V.forget (llS (llN (llS (llS (llN (llN (llN (llN ll0)))))))) (hJ121)
                  · skip
                    refine V.iconst (v := 0) dX3_goesTo_214 (by decide) ?_
                    refine V.goto (tgt := 220) dX3_goesTo_215 (by decide) ?_
                    rw [if_pos hc100] at e122
                    subst e122
                    exact V.forget (llS (llN (llS (llS (llN (llN (llN (llN ll0)))))))) (hJ121)
                refine V.icmp_ne (tgt := 194) dX3_goesTo_187 (by decide) (fun hc92 => ?_) (fun hc92 => ?_)
                · skip
                  refine V.iload dX3_goesTo_194 rfl ?_
                  rw [if_neg hc92] at e124
                  subst e124
                  exact hJ123
                · skip
                  refine V.iconst (v := 0) dX3_goesTo_190 (by decide) ?_
                  refine V.goto (tgt := 196) dX3_goesTo_191 (by decide) ?_
                  rw [if_pos hc92] at e124
                  subst e124
                  exact hJ123
              refine V.if_eq (tgt := 172) dX3_goesTo_165 (by decide) (fun hc86 => ?_) (fun hc86 => ?_)
              · skip
                refine V.iconst (v := 1) dX3_goesTo_172 (by decide) ?_
                rw [if_pos hc86] at e126
                subst e126
                exact V.forget (llS (llN (llS (llS (llN (llN (llN (llN ll0)))))))) (hJ125)
              · skip
                refine V.iconst (v := -1) dX3_goesTo_168 (by decide) ?_
                refine V.goto (tgt := 173) dX3_goesTo_169 (by decide) ?_
                rw [if_neg hc86] at e126
                subst e126
                exact V.forget (llS (llN (llS (llS (llN (llN (llN (llN ll0)))))))) (hJ125)
            · rw [if_neg hc127] at hn
              refine V.goto (tgt := 162) dX3_goesTo_143 (by decide) ?_
              refine V.iconst (v := 0) dX3_goesTo_162 (by decide) ?_
              obtain rfl := Option.some.inj hn
              exact V.zret dX3_goesTo_163 rfl rfl ⟨rfl, hM33⟩
        refine V.if_ne (tgt := 113) dX3_goesTo_96 (by decide) (fun hc30 => ?_) (fun hc30 => ?_)
        · skip
          refine V.aload_n dX3_goesTo_113 rfl rfl IsR.ref ?_
          refine V.mgetI hM24 dX3_goesTo_114 fo_X3_278_0 mi_26 ?_
          rw [if_neg hc30] at e130
          subst e130
          exact V.forget (llS (llN (llS (llS (llN (llN (llS (llN ll0)))))))) (hJ129)
        · skip
          refine V.iload dX3_goesTo_99 rfl ?_
          refine V.aload_n dX3_goesTo_101 rfl rfl IsR.ref ?_
          refine V.mgetI hM24 dX3_goesTo_102 fo_X3_278_0 mi_26 ?_
          refine V.icmp_le (tgt := 113) dX3_goesTo_105 (by decide) (fun hc29 => ?_) (fun hc29 => ?_)
          · skip
            refine V.aload_n dX3_goesTo_113 rfl rfl IsR.ref ?_
            refine V.mgetI hM24 dX3_goesTo_114 fo_X3_278_0 mi_26 ?_
            rw [if_pos hc30, if_pos hc29] at e130
            subst e130
            exact V.forget (llS (llN (llS (llS (llN (llN (llS (llN ll0)))))))) (hJ129)
          · skip
            refine V.iload dX3_goesTo_108 rfl ?_
            refine V.goto (tgt := 117) dX3_goesTo_110 (by decide) ?_
            rw [if_pos hc30, if_neg hc29] at e130
            subst e130
            exact V.forget (llS (llN (llS (llS (llN (llN (llS (llN ll0)))))))) (hJ129)
      refine V.if_eq (tgt := 43) dX3_goesTo_36 (by decide) (fun hc13 => ?_) (fun hc13 => ?_)
      · skip
        refine V.iconst (v := 1) dX3_goesTo_43 (by decide) ?_
        rw [if_pos hc13] at e132
        subst e132
        exact hJ131
      · skip
        refine V.iconst (v := 3) dX3_goesTo_39 (by decide) ?_
        refine V.goto (tgt := 44) dX3_goesTo_40 (by decide) ?_
        rw [if_neg hc13] at e132
        subst e132
        exact hJ131
    refine V.if_eq (tgt := 27) dX3_goesTo_20 (by decide) (fun hc7 => ?_) (fun hc7 => ?_)
    · skip
      refine V.iconst (v := 0) dX3_goesTo_27 (by decide) ?_
      rw [if_pos hc7] at e134
      subst e134
      exact hJ133
    · skip
      refine V.iconst (v := 2) dX3_goesTo_23 (by decide) ?_
      refine V.goto (tgt := 28) dX3_goesTo_24 (by decide) ?_
      rw [if_neg hc7] at e134
      subst e134
      exact hJ133
  refine V.icmp_ne (tgt := 15) dX3_goesTo_8 (by decide) (fun hc3 => ?_) (fun hc3 => ?_)
  · skip
    refine V.iconst (v := 0) dX3_goesTo_15 (by decide) ?_
    rw [if_neg hc3] at e136
    subst e136
    exact V.forget (llS (llN (llS (llN (llN (llN (llN (llN ll0)))))))) (hJ135)
  · skip
    refine V.iconst (v := 1) dX3_goesTo_11 (by decide) ?_
    refine V.goto (tgt := 16) dX3_goesTo_12 (by decide) ?_
    rw [if_pos hc3] at e136
    subst e136
    exact V.forget (llS (llN (llS (llN (llN (llN (llN (llN ll0)))))))) (hJ135)
def m_X3_wayTo (p1 : Int32) (p2 : Int32) (μ : MS) : Option (Int32) := (m_X3_xAt p1 (p2 - (1 : Int32)) μ).bind fun x1 => (m_X3_yAt p1 (p2 - (1 : Int32)) μ).bind fun x3 => (m_X3_xAt p1 p2 μ).bind fun x5 => (m_X3_yAt p1 p2 μ).bind fun x7 => (m_X3_way x1 x3 x5 x7 μ).bind fun x9 => some x9
abbrev M_X3_wayTo : MD := (yX3_wayTo, cX3_wayTo, 3, (some .int), [])
theorem ok_X3_wayTo : mOK yX3_wayTo 3 2 := ⟨⟨by decide +kernel, by decide +kernel⟩, by decide +kernel, by decide⟩
theorem w_X3_wayTo {l : Launch} {g : GG} {h : AH} {B : BM} {μ : MS} {p1 : Int32} {p2 : Int32} {z : Int32} (hM : IsM B h μ) (hT : TX g h) (hn : m_X3_wayTo p1 p2 μ = some z) : Sp l g M_X3_wayTo 4 [.ref B.1, .int p1, .int p2] h (QZ (some (.int z)) h) := by
  refine Sp.ofV (L := [some (.ref B.1), some (.int p1), some (.int p2)]) rfl rfl (hcR (hcI (hcI hc0))) (Nat.le_of_ble_eq_true rfl) rfl ?_
  have hM0 : MM B h h μ := ⟨hM, SameM.rf⟩
  unfold m_X3_wayTo at hn
  refine V.aload_n dX3_wayTo_0 rfl rfl IsR.ref ?_
  refine V.aload_n dX3_wayTo_1 rfl rfl IsR.ref ?_
  refine V.iload_n dX3_wayTo_2 rfl rfl ?_
  refine V.iload_n dX3_wayTo_3 rfl rfl ?_
  refine V.iconst (v := 1) dX3_wayTo_4 (by decide) ?_
  refine V.isub dX3_wayTo_5 ?_
  obtain ⟨x1, e2, hn⟩ := bnd hn
  refine V.invV (as := [.int p1, .int (p2 - (1 : Int32))]) (b := B.1) (ci := 0) (w := true) (rc := rc0) dX3_wayTo_6 ok_X3_xAt (lw_V q2472 q2474 qs98 q151 q2475) rfl hM0.1.1 rfl (by decide) (Nat.le_of_ble_eq_true rfl) (w_X3_xAt hM0.1 (hT.mm hM hM0) e2) (krI ?_) kxZ
  refine V.aload_n dX3_wayTo_9 rfl rfl IsR.ref ?_
  refine V.iload_n dX3_wayTo_10 rfl rfl ?_
  refine V.iload_n dX3_wayTo_11 rfl rfl ?_
  refine V.iconst (v := 1) dX3_wayTo_12 (by decide) ?_
  refine V.isub dX3_wayTo_13 ?_
  obtain ⟨x3, e4, hn⟩ := bnd hn
  refine V.invV (as := [.int p1, .int (p2 - (1 : Int32))]) (b := B.1) (ci := 0) (w := true) (rc := rc0) dX3_wayTo_14 ok_X3_yAt (lw_V q2476 q2478 qs99 q151 q2479) rfl hM0.1.1 rfl (by decide) (Nat.le_of_ble_eq_true rfl) (w_X3_yAt hM0.1 (hT.mm hM hM0) e4) (krI ?_) kxZ
  refine V.aload_n dX3_wayTo_17 rfl rfl IsR.ref ?_
  refine V.iload_n dX3_wayTo_18 rfl rfl ?_
  refine V.iload_n dX3_wayTo_19 rfl rfl ?_
  obtain ⟨x5, e6, hn⟩ := bnd hn
  refine V.invV (as := [.int p1, .int p2]) (b := B.1) (ci := 0) (w := true) (rc := rc0) dX3_wayTo_20 ok_X3_xAt (lw_V q2472 q2474 qs98 q151 q2475) rfl hM0.1.1 rfl (by decide) (Nat.le_of_ble_eq_true rfl) (w_X3_xAt hM0.1 (hT.mm hM hM0) e6) (krI ?_) kxZ
  refine V.aload_n dX3_wayTo_23 rfl rfl IsR.ref ?_
  refine V.iload_n dX3_wayTo_24 rfl rfl ?_
  refine V.iload_n dX3_wayTo_25 rfl rfl ?_
  obtain ⟨x7, e8, hn⟩ := bnd hn
  refine V.invV (as := [.int p1, .int p2]) (b := B.1) (ci := 0) (w := true) (rc := rc0) dX3_wayTo_26 ok_X3_yAt (lw_V q2476 q2478 qs99 q151 q2479) rfl hM0.1.1 rfl (by decide) (Nat.le_of_ble_eq_true rfl) (w_X3_yAt hM0.1 (hT.mm hM hM0) e8) (krI ?_) kxZ
  obtain ⟨x9, e10, hn⟩ := bnd hn
  refine V.invV (as := [.int x1, .int x3, .int x5, .int x7]) (b := B.1) (ci := 0) (w := true) (rc := rc0) dX3_wayTo_29 ok_X3_way (lw_V q2488 q2490 qs102 q151 q2491) rfl hM0.1.1 rfl (by decide) (Nat.le_of_ble_eq_true rfl) (w_X3_way hM0.1 (hT.mm hM hM0) e10) (krI ?_) kxZ
  obtain rfl := Option.some.inj hn
  exact V.iret dX3_wayTo_32 rfl ⟨rfl, rfl⟩
def m_X3_detour (p1 : Int32) (p2 : Int32) (p3 : Int32) (p4 : Int32) (μ : MS) : Option (Int32) := (m_X3_xAt p1 (p2 - (1 : Int32)) μ).bind fun x1 => (m_X3_yAt p1 (p2 - (1 : Int32)) μ).bind fun x3 => (m_X3_way x1 x3 p3 p4 μ).bind fun x5 => (m_X3_xAt p1 p2 μ).bind fun x7 => (m_X3_yAt p1 p2 μ).bind fun x9 => (m_X3_way p3 p4 x7 x9 μ).bind fun x11 => (m_X3_wayTo p1 p2 μ).bind fun x13 => some ((x5 + x11) - x13)
abbrev M_X3_detour : MD := (yX3_detour, cX3_detour, 5, (some .int), [])
theorem ok_X3_detour : mOK yX3_detour 5 4 := ⟨⟨by decide +kernel, by decide +kernel⟩, by decide +kernel, by decide⟩
theorem w_X3_detour {l : Launch} {g : GG} {h : AH} {B : BM} {μ : MS} {p1 : Int32} {p2 : Int32} {p3 : Int32} {p4 : Int32} {z : Int32} (hM : IsM B h μ) (hT : TX g h) (hn : m_X3_detour p1 p2 p3 p4 μ = some z) : Sp l g M_X3_detour 5 [.ref B.1, .int p1, .int p2, .int p3, .int p4] h (QZ (some (.int z)) h) := by
  refine Sp.ofV (L := [some (.ref B.1), some (.int p1), some (.int p2), some (.int p3), some (.int p4)]) rfl rfl (hcR (hcI (hcI (hcI (hcI hc0))))) (Nat.le_of_ble_eq_true rfl) rfl ?_
  have hM0 : MM B h h μ := ⟨hM, SameM.rf⟩
  unfold m_X3_detour at hn
  refine V.aload_n dX3_detour_0 rfl rfl IsR.ref ?_
  refine V.aload_n dX3_detour_1 rfl rfl IsR.ref ?_
  refine V.iload_n dX3_detour_2 rfl rfl ?_
  refine V.iload_n dX3_detour_3 rfl rfl ?_
  refine V.iconst (v := 1) dX3_detour_4 (by decide) ?_
  refine V.isub dX3_detour_5 ?_
  obtain ⟨x1, e2, hn⟩ := bnd hn
  refine V.invV (as := [.int p1, .int (p2 - (1 : Int32))]) (b := B.1) (ci := 0) (w := true) (rc := rc0) dX3_detour_6 ok_X3_xAt (lw_V q2472 q2474 qs98 q151 q2475) rfl hM0.1.1 rfl (by decide) (Nat.le_of_ble_eq_true rfl) (w_X3_xAt hM0.1 (hT.mm hM hM0) e2) (krI ?_) kxZ
  refine V.aload_n dX3_detour_9 rfl rfl IsR.ref ?_
  refine V.iload_n dX3_detour_10 rfl rfl ?_
  refine V.iload_n dX3_detour_11 rfl rfl ?_
  refine V.iconst (v := 1) dX3_detour_12 (by decide) ?_
  refine V.isub dX3_detour_13 ?_
  obtain ⟨x3, e4, hn⟩ := bnd hn
  refine V.invV (as := [.int p1, .int (p2 - (1 : Int32))]) (b := B.1) (ci := 0) (w := true) (rc := rc0) dX3_detour_14 ok_X3_yAt (lw_V q2476 q2478 qs99 q151 q2479) rfl hM0.1.1 rfl (by decide) (Nat.le_of_ble_eq_true rfl) (w_X3_yAt hM0.1 (hT.mm hM hM0) e4) (krI ?_) kxZ
  refine V.iload_n dX3_detour_17 rfl rfl ?_
  refine V.iload dX3_detour_18 rfl ?_
  obtain ⟨x5, e6, hn⟩ := bnd hn
  refine V.invV (as := [.int x1, .int x3, .int p3, .int p4]) (b := B.1) (ci := 0) (w := true) (rc := rc0) dX3_detour_20 ok_X3_way (lw_V q2488 q2490 qs102 q151 q2491) rfl hM0.1.1 rfl (by decide) (Nat.le_of_ble_eq_true rfl) (w_X3_way hM0.1 (hT.mm hM hM0) e6) (krI ?_) kxZ
  refine V.aload_n dX3_detour_23 rfl rfl IsR.ref ?_
  refine V.iload_n dX3_detour_24 rfl rfl ?_
  refine V.iload dX3_detour_25 rfl ?_
  refine V.aload_n dX3_detour_27 rfl rfl IsR.ref ?_
  refine V.iload_n dX3_detour_28 rfl rfl ?_
  refine V.iload_n dX3_detour_29 rfl rfl ?_
  obtain ⟨x7, e8, hn⟩ := bnd hn
  refine V.invV (as := [.int p1, .int p2]) (b := B.1) (ci := 0) (w := true) (rc := rc0) dX3_detour_30 ok_X3_xAt (lw_V q2472 q2474 qs98 q151 q2475) rfl hM0.1.1 rfl (by decide) (Nat.le_of_ble_eq_true rfl) (w_X3_xAt hM0.1 (hT.mm hM hM0) e8) (krI ?_) kxZ
  refine V.aload_n dX3_detour_33 rfl rfl IsR.ref ?_
  refine V.iload_n dX3_detour_34 rfl rfl ?_
  refine V.iload_n dX3_detour_35 rfl rfl ?_
  obtain ⟨x9, e10, hn⟩ := bnd hn
  refine V.invV (as := [.int p1, .int p2]) (b := B.1) (ci := 0) (w := true) (rc := rc0) dX3_detour_36 ok_X3_yAt (lw_V q2476 q2478 qs99 q151 q2479) rfl hM0.1.1 rfl (by decide) (Nat.le_of_ble_eq_true rfl) (w_X3_yAt hM0.1 (hT.mm hM hM0) e10) (krI ?_) kxZ
  obtain ⟨x11, e12, hn⟩ := bnd hn
  refine V.invV (as := [.int p3, .int p4, .int x7, .int x9]) (b := B.1) (ci := 0) (w := true) (rc := rc0) dX3_detour_39 ok_X3_way (lw_V q2488 q2490 qs102 q151 q2491) rfl hM0.1.1 rfl (by decide) (Nat.le_of_ble_eq_true rfl) (w_X3_way hM0.1 (hT.mm hM hM0) e12) (krI ?_) kxZ
  refine V.iadd dX3_detour_42 ?_
  refine V.aload_n dX3_detour_43 rfl rfl IsR.ref ?_
  refine V.iload_n dX3_detour_44 rfl rfl ?_
  refine V.iload_n dX3_detour_45 rfl rfl ?_
  obtain ⟨x13, e14, hn⟩ := bnd hn
  refine V.invV (as := [.int p1, .int p2]) (b := B.1) (ci := 0) (w := true) (rc := rc0) dX3_detour_46 ok_X3_wayTo (lw_V q2512 q2514 qs108 q151 q2515) rfl hM0.1.1 rfl (by decide) (Nat.le_of_ble_eq_true rfl) (w_X3_wayTo hM0.1 (hT.mm hM hM0) e14) (krI ?_) kxZ
  refine V.isub dX3_detour_49 ?_
  obtain rfl := Option.some.inj hn
  exact V.iret dX3_detour_50 rfl ⟨rfl, rfl⟩
def m_X3_moreBy (p1 : Int32) (p2 : Int32) (p3 : Int32) (p4 : Int32) (μ : MS) : Option (Int32) := (m_X3_call p2 (0 : Int32) μ).bind fun x1 => (m_X3_call p2 (1 : Int32) μ).bind fun x3 => (m_X3_call p2 (2 : Int32) μ).bind fun x5 => (m_X3_call p2 (3 : Int32) μ).bind fun x7 => if p4 ≤ p3 then ((m_X3_xAt p1 (p3 - (1 : Int32)) μ).bind fun x9 => (m_X3_yAt p1 (p3 - (1 : Int32)) μ).bind fun x11 => (m_X3_way x9 x11 x1 x3 μ).bind fun x13 => (m_X3_way x1 x3 x5 x7 μ).bind fun x15 => (m_X3_xAt p1 p3 μ).bind fun x17 => (m_X3_yAt p1 p3 μ).bind fun x19 => (m_X3_way x5 x7 x17 x19 μ).bind fun x21 => (m_X3_wayTo p1 p3 μ).bind fun x23 => some (((x13 + x15) + x21) - x23)) else ((m_X3_detour p1 p3 x1 x3 μ).bind fun x25 => (m_X3_detour p1 p4 x5 x7 μ).bind fun x27 => some (x25 + x27))
abbrev M_X3_moreBy : MD := (yX3_moreBy, cX3_moreBy, 9, (some .int), [])
theorem ok_X3_moreBy : mOK yX3_moreBy 9 4 := ⟨⟨by decide +kernel, by decide +kernel⟩, by decide +kernel, by decide⟩
theorem w_X3_moreBy {l : Launch} {g : GG} {h : AH} {B : BM} {μ : MS} {p1 : Int32} {p2 : Int32} {p3 : Int32} {p4 : Int32} {z : Int32} (hM : IsM B h μ) (hT : TX g h) (hn : m_X3_moreBy p1 p2 p3 p4 μ = some z) : Sp l g M_X3_moreBy 6 [.ref B.1, .int p1, .int p2, .int p3, .int p4] h (QZ (some (.int z)) h) := by
  refine Sp.ofV (L := [some (.ref B.1), some (.int p1), some (.int p2), some (.int p3), some (.int p4), none, none, none, none]) rfl rfl (hcR (hcI (hcI (hcI (hcI hc0))))) (Nat.le_of_ble_eq_true rfl) rfl ?_
  have hM0 : MM B h h μ := ⟨hM, SameM.rf⟩
  unfold m_X3_moreBy at hn
  refine V.aload_n dX3_moreBy_0 rfl rfl IsR.ref ?_
  refine V.iload_n dX3_moreBy_1 rfl rfl ?_
  refine V.iconst (v := 0) dX3_moreBy_2 (by decide) ?_
  obtain ⟨x1, e2, hn⟩ := bnd hn
  refine V.invV (as := [.int p2, .int (0 : Int32)]) (b := B.1) (ci := 0) (w := true) (rc := rc0) dX3_moreBy_3 ok_X3_call (lw_V q2448 q2450 qs92 q151 q2451) rfl hM0.1.1 rfl (by decide) (Nat.le_of_ble_eq_true rfl) (w_X3_call hM0.1 (hT.mm hM hM0) e2) (krI ?_) kxZ
  refine V.istore (i := 5) dX3_moreBy_6 (by decide) ?_
  simp only [List.set_cons_zero, List.set_cons_succ]
  refine V.aload_n dX3_moreBy_8 rfl rfl IsR.ref ?_
  refine V.iload_n dX3_moreBy_9 rfl rfl ?_
  refine V.iconst (v := 1) dX3_moreBy_10 (by decide) ?_
  obtain ⟨x3, e4, hn⟩ := bnd hn
  refine V.invV (as := [.int p2, .int (1 : Int32)]) (b := B.1) (ci := 0) (w := true) (rc := rc0) dX3_moreBy_11 ok_X3_call (lw_V q2448 q2450 qs92 q151 q2451) rfl hM0.1.1 rfl (by decide) (Nat.le_of_ble_eq_true rfl) (w_X3_call hM0.1 (hT.mm hM hM0) e4) (krI ?_) kxZ
  refine V.istore (i := 6) dX3_moreBy_14 (by decide) ?_
  simp only [List.set_cons_zero, List.set_cons_succ]
  refine V.aload_n dX3_moreBy_16 rfl rfl IsR.ref ?_
  refine V.iload_n dX3_moreBy_17 rfl rfl ?_
  refine V.iconst (v := 2) dX3_moreBy_18 (by decide) ?_
  obtain ⟨x5, e6, hn⟩ := bnd hn
  refine V.invV (as := [.int p2, .int (2 : Int32)]) (b := B.1) (ci := 0) (w := true) (rc := rc0) dX3_moreBy_19 ok_X3_call (lw_V q2448 q2450 qs92 q151 q2451) rfl hM0.1.1 rfl (by decide) (Nat.le_of_ble_eq_true rfl) (w_X3_call hM0.1 (hT.mm hM hM0) e6) (krI ?_) kxZ
  refine V.istore (i := 7) dX3_moreBy_22 (by decide) ?_
  simp only [List.set_cons_zero, List.set_cons_succ]
  refine V.aload_n dX3_moreBy_24 rfl rfl IsR.ref ?_
  refine V.iload_n dX3_moreBy_25 rfl rfl ?_
  refine V.iconst (v := 3) dX3_moreBy_26 (by decide) ?_
  obtain ⟨x7, e8, hn⟩ := bnd hn
  refine V.invV (as := [.int p2, .int (3 : Int32)]) (b := B.1) (ci := 0) (w := true) (rc := rc0) dX3_moreBy_27 ok_X3_call (lw_V q2448 q2450 qs92 q151 q2451) rfl hM0.1.1 rfl (by decide) (Nat.le_of_ble_eq_true rfl) (w_X3_call hM0.1 (hT.mm hM hM0) e8) (krI ?_) kxZ
  refine V.istore (i := 8) dX3_moreBy_30 (by decide) ?_
  simp only [List.set_cons_zero, List.set_cons_succ]
  refine V.iload_n dX3_moreBy_32 rfl rfl ?_
  refine V.iload dX3_moreBy_33 rfl ?_
  refine V.icmp_ge (tgt := 61) dX3_moreBy_35 (by decide) (fun hc29 => ?_) (fun hc29 => ?_)
  · rw [if_pos hc29] at hn
    refine V.aload_n dX3_moreBy_61 rfl rfl IsR.ref ?_
    refine V.aload_n dX3_moreBy_62 rfl rfl IsR.ref ?_
    refine V.iload_n dX3_moreBy_63 rfl rfl ?_
    refine V.iload_n dX3_moreBy_64 rfl rfl ?_
    refine V.iconst (v := 1) dX3_moreBy_65 (by decide) ?_
    refine V.isub dX3_moreBy_66 ?_
    obtain ⟨x9, e10, hn⟩ := bnd hn
    refine V.invV (as := [.int p1, .int (p3 - (1 : Int32))]) (b := B.1) (ci := 0) (w := true) (rc := rc0) dX3_moreBy_67 ok_X3_xAt (lw_V q2472 q2474 qs98 q151 q2475) rfl hM0.1.1 rfl (by decide) (Nat.le_of_ble_eq_true rfl) (w_X3_xAt hM0.1 (hT.mm hM hM0) e10) (krI ?_) kxZ
    refine V.aload_n dX3_moreBy_70 rfl rfl IsR.ref ?_
    refine V.iload_n dX3_moreBy_71 rfl rfl ?_
    refine V.iload_n dX3_moreBy_72 rfl rfl ?_
    refine V.iconst (v := 1) dX3_moreBy_73 (by decide) ?_
    refine V.isub dX3_moreBy_74 ?_
    obtain ⟨x11, e12, hn⟩ := bnd hn
    refine V.invV (as := [.int p1, .int (p3 - (1 : Int32))]) (b := B.1) (ci := 0) (w := true) (rc := rc0) dX3_moreBy_75 ok_X3_yAt (lw_V q2476 q2478 qs99 q151 q2479) rfl hM0.1.1 rfl (by decide) (Nat.le_of_ble_eq_true rfl) (w_X3_yAt hM0.1 (hT.mm hM hM0) e12) (krI ?_) kxZ
    refine V.iload dX3_moreBy_78 rfl ?_
    refine V.iload dX3_moreBy_80 rfl ?_
    obtain ⟨x13, e14, hn⟩ := bnd hn
    refine V.invV (as := [.int x9, .int x11, .int x1, .int x3]) (b := B.1) (ci := 0) (w := true) (rc := rc0) dX3_moreBy_82 ok_X3_way (lw_V q2488 q2490 qs102 q151 q2491) rfl hM0.1.1 rfl (by decide) (Nat.le_of_ble_eq_true rfl) (w_X3_way hM0.1 (hT.mm hM hM0) e14) (krI ?_) kxZ
    refine V.aload_n dX3_moreBy_85 rfl rfl IsR.ref ?_
    refine V.iload dX3_moreBy_86 rfl ?_
    refine V.iload dX3_moreBy_88 rfl ?_
    refine V.iload dX3_moreBy_90 rfl ?_
    refine V.iload dX3_moreBy_92 rfl ?_
    obtain ⟨x15, e16, hn⟩ := bnd hn
    refine V.invV (as := [.int x1, .int x3, .int x5, .int x7]) (b := B.1) (ci := 0) (w := true) (rc := rc0) dX3_moreBy_94 ok_X3_way (lw_V q2488 q2490 qs102 q151 q2491) rfl hM0.1.1 rfl (by decide) (Nat.le_of_ble_eq_true rfl) (w_X3_way hM0.1 (hT.mm hM hM0) e16) (krI ?_) kxZ
    refine V.iadd dX3_moreBy_97 ?_
    refine V.aload_n dX3_moreBy_98 rfl rfl IsR.ref ?_
    refine V.iload dX3_moreBy_99 rfl ?_
    refine V.iload dX3_moreBy_101 rfl ?_
    refine V.aload_n dX3_moreBy_103 rfl rfl IsR.ref ?_
    refine V.iload_n dX3_moreBy_104 rfl rfl ?_
    refine V.iload_n dX3_moreBy_105 rfl rfl ?_
    obtain ⟨x17, e18, hn⟩ := bnd hn
    refine V.invV (as := [.int p1, .int p3]) (b := B.1) (ci := 0) (w := true) (rc := rc0) dX3_moreBy_106 ok_X3_xAt (lw_V q2472 q2474 qs98 q151 q2475) rfl hM0.1.1 rfl (by decide) (Nat.le_of_ble_eq_true rfl) (w_X3_xAt hM0.1 (hT.mm hM hM0) e18) (krI ?_) kxZ
    refine V.aload_n dX3_moreBy_109 rfl rfl IsR.ref ?_
    refine V.iload_n dX3_moreBy_110 rfl rfl ?_
    refine V.iload_n dX3_moreBy_111 rfl rfl ?_
    obtain ⟨x19, e20, hn⟩ := bnd hn
    refine V.invV (as := [.int p1, .int p3]) (b := B.1) (ci := 0) (w := true) (rc := rc0) dX3_moreBy_112 ok_X3_yAt (lw_V q2476 q2478 qs99 q151 q2479) rfl hM0.1.1 rfl (by decide) (Nat.le_of_ble_eq_true rfl) (w_X3_yAt hM0.1 (hT.mm hM hM0) e20) (krI ?_) kxZ
    obtain ⟨x21, e22, hn⟩ := bnd hn
    refine V.invV (as := [.int x5, .int x7, .int x17, .int x19]) (b := B.1) (ci := 0) (w := true) (rc := rc0) dX3_moreBy_115 ok_X3_way (lw_V q2488 q2490 qs102 q151 q2491) rfl hM0.1.1 rfl (by decide) (Nat.le_of_ble_eq_true rfl) (w_X3_way hM0.1 (hT.mm hM hM0) e22) (krI ?_) kxZ
    refine V.iadd dX3_moreBy_118 ?_
    refine V.aload_n dX3_moreBy_119 rfl rfl IsR.ref ?_
    refine V.iload_n dX3_moreBy_120 rfl rfl ?_
    refine V.iload_n dX3_moreBy_121 rfl rfl ?_
    obtain ⟨x23, e24, hn⟩ := bnd hn
    refine V.invV (as := [.int p1, .int p3]) (b := B.1) (ci := 0) (w := true) (rc := rc0) dX3_moreBy_122 ok_X3_wayTo (lw_V q2512 q2514 qs108 q151 q2515) rfl hM0.1.1 rfl (by decide) (Nat.le_of_ble_eq_true rfl) (w_X3_wayTo hM0.1 (hT.mm hM hM0) e24) (krI ?_) kxZ
    refine V.isub dX3_moreBy_125 ?_
    obtain rfl := Option.some.inj hn
    exact V.iret dX3_moreBy_126 rfl ⟨rfl, rfl⟩
  · rw [if_neg hc29] at hn
    refine V.aload_n dX3_moreBy_38 rfl rfl IsR.ref ?_
    refine V.iload_n dX3_moreBy_39 rfl rfl ?_
    refine V.iload_n dX3_moreBy_40 rfl rfl ?_
    refine V.iload dX3_moreBy_41 rfl ?_
    refine V.iload dX3_moreBy_43 rfl ?_
    obtain ⟨x25, e26, hn⟩ := bnd hn
    refine V.invV (as := [.int p1, .int p3, .int x1, .int x3]) (b := B.1) (ci := 0) (w := true) (rc := rc0) dX3_moreBy_45 ok_X3_detour (lw_V q2508 q2510 qs107 q151 q2511) rfl hM0.1.1 rfl (by decide) (Nat.le_of_ble_eq_true rfl) (w_X3_detour hM0.1 (hT.mm hM hM0) e26) (krI ?_) kxZ
    refine V.aload_n dX3_moreBy_48 rfl rfl IsR.ref ?_
    refine V.iload_n dX3_moreBy_49 rfl rfl ?_
    refine V.iload dX3_moreBy_50 rfl ?_
    refine V.iload dX3_moreBy_52 rfl ?_
    refine V.iload dX3_moreBy_54 rfl ?_
    obtain ⟨x27, e28, hn⟩ := bnd hn
    refine V.invV (as := [.int p1, .int p4, .int x5, .int x7]) (b := B.1) (ci := 0) (w := true) (rc := rc0) dX3_moreBy_56 ok_X3_detour (lw_V q2508 q2510 qs107 q151 q2511) rfl hM0.1.1 rfl (by decide) (Nat.le_of_ble_eq_true rfl) (w_X3_detour hM0.1 (hT.mm hM hM0) e28) (krI ?_) kxZ
    refine V.iadd dX3_moreBy_59 ?_
    obtain rfl := Option.some.inj hn
    exact V.iret dX3_moreBy_60 rfl ⟨rfl, rfl⟩
def m_X3_goesBack (p1 : Int32) (p2 : Int32) (p3 : Int32) (p4 : Int32) (p5 : Int32) (μ : MS) : Option (MS) := (some (mSF μ 26 p1)).bind fun μ2 => (some (mSF μ2 27 p2)).bind fun μ4 => (some (mSF μ4 28 p3)).bind fun μ6 => (some (mSF μ6 29 p4)).bind fun μ8 => (some (mSF μ8 30 p5)).bind fun μ10 => some μ10
abbrev M_X3_goesBack : MD := (yX3_goesBack, cX3_goesBack, 6, none, [])
theorem ok_X3_goesBack : mOK yX3_goesBack 6 5 := ⟨⟨by decide +kernel, by decide +kernel⟩, by decide +kernel, by decide⟩
theorem w_X3_goesBack {l : Launch} {g : GG} {h : AH} {B : BM} {μ : MS} {p1 : Int32} {p2 : Int32} {p3 : Int32} {p4 : Int32} {p5 : Int32} {z : MS} (hM : IsM B h μ) (hT : TX g h) (hn : m_X3_goesBack p1 p2 p3 p4 p5 μ = some z) : Sp l g M_X3_goesBack 0 [.ref B.1, .int p1, .int p2, .int p3, .int p4, .int p5] h (QM B h none z) := by
  refine Sp.ofV (L := [some (.ref B.1), some (.int p1), some (.int p2), some (.int p3), some (.int p4), some (.int p5)]) rfl rfl (hcR (hcI (hcI (hcI (hcI (hcI hc0)))))) (Nat.le_of_ble_eq_true rfl) rfl ?_
  have hM0 : MM B h h μ := ⟨hM, SameM.rf⟩
  unfold m_X3_goesBack at hn
  refine V.aload_n dX3_goesBack_0 rfl rfl IsR.ref ?_
  refine V.iload_n dX3_goesBack_1 rfl rfl ?_
  obtain ⟨μ2, e1, hn⟩ := bnd hn
  refine V.mputI hM0 dX3_goesBack_2 po_M_278 mi_26 (fun h2 hM2 => ?_)
  rw [Option.some.inj e1] at hM2
  refine V.aload_n dX3_goesBack_5 rfl rfl IsR.ref ?_
  refine V.iload_n dX3_goesBack_6 rfl rfl ?_
  obtain ⟨μ4, e3, hn⟩ := bnd hn
  refine V.mputI hM2 dX3_goesBack_7 po_M_281 mi_27 (fun h4 hM4 => ?_)
  rw [Option.some.inj e3] at hM4
  refine V.aload_n dX3_goesBack_10 rfl rfl IsR.ref ?_
  refine V.iload_n dX3_goesBack_11 rfl rfl ?_
  obtain ⟨μ6, e5, hn⟩ := bnd hn
  refine V.mputI hM4 dX3_goesBack_12 po_M_284 mi_28 (fun h6 hM6 => ?_)
  rw [Option.some.inj e5] at hM6
  refine V.aload_n dX3_goesBack_15 rfl rfl IsR.ref ?_
  refine V.iload dX3_goesBack_16 rfl ?_
  obtain ⟨μ8, e7, hn⟩ := bnd hn
  refine V.mputI hM6 dX3_goesBack_18 po_M_287 mi_29 (fun h8 hM8 => ?_)
  rw [Option.some.inj e7] at hM8
  refine V.aload_n dX3_goesBack_21 rfl rfl IsR.ref ?_
  refine V.iload dX3_goesBack_22 rfl ?_
  obtain ⟨μ10, e9, hn⟩ := bnd hn
  refine V.mputI hM8 dX3_goesBack_24 po_M_290 mi_30 (fun h10 hM10 => ?_)
  rw [Option.some.inj e9] at hM10
  obtain rfl := Option.some.inj hn
  exact V.vret dX3_goesBack_27 rfl ⟨rfl, hM10⟩
def m_X3_comesHome_b44 (p1 : Int32) : (Int32 × Int32 × MS) → Option ((Int32 × Int32 × MS) ⊕ (Int32 × MS)) := fun s => match s with
  | (i4, i5, μ6) => (mLd μ6 2 835 ((6 : Int32) + p1)).bind fun x11 => if x11 ≤ i5 then (some (.inr (i4, μ6))) else (if i4 = (0 : Int32) then (some (.inr (i4, μ6))) else ((m_X3_stop p1 i5 μ6).bind fun x13 => (m_X3_goesTo x13 μ6).bind fun y15 => some (.inl (y15.1, i5 + (1 : Int32), y15.2))))
def m_X3_comesHome (p1 : Int32) (p2 : Int32) (p3 : Int32) (μ : MS) : Option (Int32 × MS) := (m_X3_goesTo (((2 : Int32) * p2) + (1 : Int32)) μ).bind fun y1 => (iter (m_X3_comesHome_b44 p1) FUEL (y1.1, p3, y1.2)).bind fun y => match y with | (v20, μ21) => (if v20 = (0 : Int32) then (some (0 : Int32)) else ((m_X3_van p1 (0 : Int32) μ21).bind fun x27 => (m_X3_van p1 (1 : Int32) μ21).bind fun x29 => (m_X3_way (μ21.1 27) (μ21.1 28) x27 x29 μ21).bind fun x31 => (mLd μ21 2 835 ((2 : Int32) + p1)).bind fun x33 => if x33 < ((μ21.1 26) + x31) then (some (0 : Int32)) else (some (1 : Int32))) : Option (Int32)).bind fun v37 => (m_X3_goesBack (μ.1 26) (μ.1 27) (μ.1 28) (μ.1 29) (μ.1 30) μ21).bind fun μ38 => (zg v37).bind fun _ => some (v37, μ38)
abbrev M_X3_comesHome : MD := (yX3_comesHome, cX3_comesHome, 11, (some .boolean), [])
theorem ok_X3_comesHome : mOK yX3_comesHome 11 3 := ⟨⟨by decide +kernel, by decide +kernel⟩, by decide +kernel, by decide⟩
theorem w_X3_comesHome {l : Launch} {g : GG} {h : AH} {B : BM} {μ : MS} {p1 : Int32} {p2 : Int32} {p3 : Int32} {z : Int32 × MS} (hM : IsM B h μ) (hT : TX g h) (hn : m_X3_comesHome p1 p2 p3 μ = some z) : Sp l g M_X3_comesHome 4 [.ref B.1, .int p1, .int p2, .int p3] h (QM B h (some (.int z.1)) z.2) := by
  refine Sp.ofV (L := [some (.ref B.1), some (.int p1), some (.int p2), some (.int p3), none, none, none, none, none, none, none]) rfl rfl (hcR (hcI (hcI (hcI hc0)))) (Nat.le_of_ble_eq_true rfl) rfl ?_
  have hM0 : MM B h h μ := ⟨hM, SameM.rf⟩
  unfold m_X3_comesHome at hn
  refine V.aload_n dX3_comesHome_0 rfl rfl IsR.ref ?_
  refine V.mgetI hM0 dX3_comesHome_1 fo_X3_278_0 mi_26 ?_
  refine V.istore (i := 4) dX3_comesHome_4 (by decide) ?_
  simp only [List.set_cons_zero, List.set_cons_succ]
  refine V.aload_n dX3_comesHome_6 rfl rfl IsR.ref ?_
  refine V.mgetI hM0 dX3_comesHome_7 fo_X3_281_0 mi_27 ?_
  refine V.istore (i := 5) dX3_comesHome_10 (by decide) ?_
  simp only [List.set_cons_zero, List.set_cons_succ]
  refine V.aload_n dX3_comesHome_12 rfl rfl IsR.ref ?_
  refine V.mgetI hM0 dX3_comesHome_13 fo_X3_284_0 mi_28 ?_
  refine V.istore (i := 6) dX3_comesHome_16 (by decide) ?_
  simp only [List.set_cons_zero, List.set_cons_succ]
  refine V.aload_n dX3_comesHome_18 rfl rfl IsR.ref ?_
  refine V.mgetI hM0 dX3_comesHome_19 fo_X3_287_0 mi_29 ?_
  refine V.istore (i := 7) dX3_comesHome_22 (by decide) ?_
  simp only [List.set_cons_zero, List.set_cons_succ]
  refine V.aload_n dX3_comesHome_24 rfl rfl IsR.ref ?_
  refine V.mgetI hM0 dX3_comesHome_25 fo_X3_290_0 mi_30 ?_
  refine V.istore (i := 8) dX3_comesHome_28 (by decide) ?_
  simp only [List.set_cons_zero, List.set_cons_succ]
  refine V.aload_n dX3_comesHome_30 rfl rfl IsR.ref ?_
  refine V.iconst (v := 2) dX3_comesHome_31 (by decide) ?_
  refine V.iload_n dX3_comesHome_32 rfl rfl ?_
  refine V.imul dX3_comesHome_33 ?_
  refine V.iconst (v := 1) dX3_comesHome_34 (by decide) ?_
  refine V.iadd dX3_comesHome_35 ?_
  obtain ⟨y1, e3, hn⟩ := bnd hn
  refine V.invV (as := [.int (((2 : Int32) * p2) + (1 : Int32))]) (b := B.1) (ci := 0) (w := true) (rc := rc0) dX3_comesHome_36 ok_X3_goesTo (lw_V q2484 q2486 qs101 q151 q2487) rfl hM0.1.1 rfl (by decide) (Nat.le_of_ble_eq_true rfl) (w_X3_goesTo hM0.1 (hT.mm hM hM0) e3) (kmI hM0.2 (fun h2 hM2 => ?_)) kxM
  refine V.istore (i := 9) dX3_comesHome_39 (by decide) ?_
  simp only [List.set_cons_zero, List.set_cons_succ]
  refine V.iload_n dX3_comesHome_41 rfl rfl ?_
  refine V.istore (i := 10) dX3_comesHome_42 (by decide) ?_
  simp only [List.set_cons_zero, List.set_cons_succ]
  obtain ⟨b23, hL22, hn⟩ := bnd hn
  have hJ24 : ∀ (v20 : Int32) (μ21 : MS), (v20, μ21) = b23 → ∀ h21, MM B h h21 μ21 → V l g M_X3_comesHome 4 82 [some (.ref B.1), some (.int p1), none, none, some (.int (μ.1 26)), some (.int (μ.1 27)), some (.int (μ.1 28)), some (.int (μ.1 29)), some (.int (μ.1 30)), some (.int v20), none] [] h21 (QM B h (some (.int z.1)) z.2) := by
    intro v20 μ21 e42 h21 hM21
    subst e42
    (try dsimp only at hn)
    refine V.iload dX3_comesHome_82 rfl ?_
    obtain ⟨v37, hA26, hn⟩ := bnd hn
    (try dsimp only at hn)
    have hJ41 : V l g M_X3_comesHome 4 132 [some (.ref B.1), none, none, none, some (.int (μ.1 26)), some (.int (μ.1 27)), some (.int (μ.1 28)), some (.int (μ.1 29)), some (.int (μ.1 30)), none, none] [.int v37] h21 (QM B h (some (.int z.1)) z.2) := by
      refine V.istore (i := 9) dX3_comesHome_132 (by decide) ?_
      simp only [List.set_cons_zero, List.set_cons_succ]
      refine V.aload_n dX3_comesHome_134 rfl rfl IsR.ref ?_
      refine V.iload dX3_comesHome_135 rfl ?_
      refine V.iload dX3_comesHome_137 rfl ?_
      refine V.iload dX3_comesHome_139 rfl ?_
      refine V.iload dX3_comesHome_141 rfl ?_
      refine V.iload dX3_comesHome_143 rfl ?_
      obtain ⟨μ38, e39, hn⟩ := bnd hn
      refine V.invV (as := [.int (μ.1 26), .int (μ.1 27), .int (μ.1 28), .int (μ.1 29), .int (μ.1 30)]) (b := B.1) (ci := 0) (w := true) (rc := rc0) dX3_comesHome_145 ok_X3_goesBack (lw_V q2520 q2522 qs110 q151 q2523) rfl hM21.1.1 rfl (by decide) (Nat.le_of_ble_eq_true rfl) (w_X3_goesBack hM21.1 (hT.mm hM hM21) e39) (kmV hM21.2 (fun h38 hM38 => ?_)) kxM
      refine V.iload dX3_comesHome_148 rfl ?_
      obtain ⟨_, ez40, hn⟩ := bnd hn
      obtain rfl := Option.some.inj hn
      exact V.zret dX3_comesHome_150 rfl (zg_some ez40).2 ⟨rfl, hM38⟩
    refine V.if_eq (tgt := 131) dX3_comesHome_84 (by decide) (fun hc36 => ?_) (fun hc36 => ?_)
    · rw [if_pos hc36] at hA26
      refine V.iconst (v := 0) dX3_comesHome_131 (by decide) ?_
      obtain rfl := Option.some.inj hA26
      exact V.forget (llS (llN (llN (llN (llS (llS (llS (llS (llS (llN (llN ll0))))))))))) (hJ41)
    · rw [if_neg hc36] at hA26
      refine V.aload_n dX3_comesHome_87 rfl rfl IsR.ref ?_
      refine V.mgetI hM21 dX3_comesHome_88 fo_X3_278_0 mi_26 ?_
      refine V.aload_n dX3_comesHome_91 rfl rfl IsR.ref ?_
      refine V.aload_n dX3_comesHome_92 rfl rfl IsR.ref ?_
      refine V.mgetI hM21 dX3_comesHome_93 fo_X3_281_0 mi_27 ?_
      refine V.aload_n dX3_comesHome_96 rfl rfl IsR.ref ?_
      refine V.mgetI hM21 dX3_comesHome_97 fo_X3_284_0 mi_28 ?_
      refine V.aload_n dX3_comesHome_100 rfl rfl IsR.ref ?_
      refine V.iload_n dX3_comesHome_101 rfl rfl ?_
      refine V.iconst (v := 0) dX3_comesHome_102 (by decide) ?_
      obtain ⟨x27, e28, hA26⟩ := bnd hA26
      refine V.invV (as := [.int p1, .int (0 : Int32)]) (b := B.1) (ci := 0) (w := true) (rc := rc0) dX3_comesHome_103 ok_X3_van (lw_V q2409 q2411 qs83 q151 q2412) rfl hM21.1.1 rfl (by decide) (Nat.le_of_ble_eq_true rfl) (w_X3_van hM21.1 (hT.mm hM hM21) e28) (krI ?_) kxZ
      refine V.aload_n dX3_comesHome_106 rfl rfl IsR.ref ?_
      refine V.iload_n dX3_comesHome_107 rfl rfl ?_
      refine V.iconst (v := 1) dX3_comesHome_108 (by decide) ?_
      obtain ⟨x29, e30, hA26⟩ := bnd hA26
      refine V.invV (as := [.int p1, .int (1 : Int32)]) (b := B.1) (ci := 0) (w := true) (rc := rc0) dX3_comesHome_109 ok_X3_van (lw_V q2409 q2411 qs83 q151 q2412) rfl hM21.1.1 rfl (by decide) (Nat.le_of_ble_eq_true rfl) (w_X3_van hM21.1 (hT.mm hM hM21) e30) (krI ?_) kxZ
      obtain ⟨x31, e32, hA26⟩ := bnd hA26
      refine V.invV (as := [.int (μ21.1 27), .int (μ21.1 28), .int x27, .int x29]) (b := B.1) (ci := 0) (w := true) (rc := rc0) dX3_comesHome_112 ok_X3_way (lw_V q2488 q2490 qs102 q151 q2491) rfl hM21.1.1 rfl (by decide) (Nat.le_of_ble_eq_true rfl) (w_X3_way hM21.1 (hT.mm hM hM21) e32) (krI ?_) kxZ
      refine V.iadd dX3_comesHome_115 ?_
      refine V.aload_n dX3_comesHome_116 rfl rfl IsR.ref ?_
      refine V.mgetA hM21 dX3_comesHome_117 fo_X3_7_0 ma_2 ?_
      refine V.iconst (v := 2) dX3_comesHome_120 (by decide) ?_
      refine V.iload_n dX3_comesHome_121 rfl rfl ?_
      refine V.iadd dX3_comesHome_122 ?_
      obtain ⟨x33, e34, hA26⟩ := bnd hA26
      refine V.miald hM21 dX3_comesHome_123 ma_2 (mLd_some e34) ?_
      refine V.icmp_gt (tgt := 131) dX3_comesHome_124 (by decide) (fun hc35 => ?_) (fun hc35 => ?_)
      · rw [if_pos hc35] at hA26
        refine V.iconst (v := 0) dX3_comesHome_131 (by decide) ?_
        obtain rfl := Option.some.inj hA26
        exact V.forget (llS (llN (llN (llN (llS (llS (llS (llS (llS (llN (llN ll0))))))))))) (hJ41)
      · rw [if_neg hc35] at hA26
        refine V.iconst (v := 1) dX3_comesHome_127 (by decide) ?_
        refine V.goto (tgt := 132) dX3_comesHome_128 (by decide) ?_
        obtain rfl := Option.some.inj hA26
        exact V.forget (llS (llN (llN (llN (llS (llS (llS (llS (llS (llN (llN ll0))))))))))) (hJ41)
  refine V.forget (llS (llS (llN (llN (llS (llS (llS (llS (llS (llS (llS ll0))))))))))) (iter_ind (P := fun (σ : Int32 × Int32 × MS) => match σ with | (i4, i5, μ6) => ∀ h6, MM B h h6 μ6 → V l g M_X3_comesHome 4 44 [some (.ref B.1), some (.int p1), none, none, some (.int (μ.1 26)), some (.int (μ.1 27)), some (.int (μ.1 28)), some (.int (μ.1 29)), some (.int (μ.1 30)), some (.int i4), some (.int i5)] [] h6 (QM B h (some (.int z.1)) z.2)) (b := b23) ?_ FUEL (y1.1, p3, y1.2) hL22 _ hM2)
  rintro ⟨i4, i5, μ6⟩ ρ43 hr7 hi8 hx9 h6 hM6
  unfold m_X3_comesHome_b44 at hr7
  (try dsimp only at hr7)
  refine V.iload dX3_comesHome_44 rfl ?_
  refine V.aload_n dX3_comesHome_46 rfl rfl IsR.ref ?_
  refine V.mgetA hM6 dX3_comesHome_47 fo_X3_7_0 ma_2 ?_
  refine V.bipush (v := 6) dX3_comesHome_50 (by decide) ?_
  refine V.iload_n dX3_comesHome_52 rfl rfl ?_
  refine V.iadd dX3_comesHome_53 ?_
  obtain ⟨x11, e12, hr7⟩ := bnd hr7
  refine V.miald hM6 dX3_comesHome_54 ma_2 (mLd_some e12) ?_
  refine V.icmp_ge (tgt := 82) dX3_comesHome_55 (by decide) (fun hc19 => ?_) (fun hc19 => ?_)
  · rw [if_pos hc19] at hr7
    obtain rfl := Option.some.inj hr7
    have e44 := hx9 _ rfl
    exact V.forget (llS (llS (llN (llN (llS (llS (llS (llS (llS (llS (llN ll0))))))))))) (hJ24 _ _ e44 _ hM6)
  · rw [if_neg hc19] at hr7
    refine V.iload dX3_comesHome_58 rfl ?_
    refine V.if_eq (tgt := 82) dX3_comesHome_60 (by decide) (fun hc18 => ?_) (fun hc18 => ?_)
    · rw [if_pos hc18] at hr7
      obtain rfl := Option.some.inj hr7
      have e45 := hx9 _ rfl
      exact V.forget (llS (llS (llN (llN (llS (llS (llS (llS (llS (llS (llN ll0))))))))))) (hJ24 _ _ e45 _ hM6)
    · rw [if_neg hc18] at hr7
      refine V.aload_n dX3_comesHome_63 rfl rfl IsR.ref ?_
      refine V.aload_n dX3_comesHome_64 rfl rfl IsR.ref ?_
      refine V.iload_n dX3_comesHome_65 rfl rfl ?_
      refine V.iload dX3_comesHome_66 rfl ?_
      obtain ⟨x13, e14, hr7⟩ := bnd hr7
      refine V.invV (as := [.int p1, .int i5]) (b := B.1) (ci := 0) (w := true) (rc := rc0) dX3_comesHome_68 ok_X3_stop (lw_V q2441 q2443 qs91 q151 q2444) rfl hM6.1.1 rfl (by decide) (Nat.le_of_ble_eq_true rfl) (w_X3_stop hM6.1 (hT.mm hM hM6) e14) (krI ?_) kxZ
      obtain ⟨y15, e17, hr7⟩ := bnd hr7
      refine V.invV (as := [.int x13]) (b := B.1) (ci := 0) (w := true) (rc := rc0) dX3_comesHome_71 ok_X3_goesTo (lw_V q2484 q2486 qs101 q151 q2487) rfl hM6.1.1 rfl (by decide) (Nat.le_of_ble_eq_true rfl) (w_X3_goesTo hM6.1 (hT.mm hM hM6) e17) (kmI hM6.2 (fun h16 hM16 => ?_)) kxM
      refine V.istore (i := 9) dX3_comesHome_74 (by decide) ?_
      simp only [List.set_cons_zero, List.set_cons_succ]
      refine V.iinc (v := i5 + (1 : Int32)) (i := 10) dX3_comesHome_76 rfl (by rfl) (by decide) ?_
      simp only [List.set_cons_zero, List.set_cons_succ]
      refine V.goto (tgt := 44) dX3_comesHome_79 (by decide) ?_
      obtain rfl := Option.some.inj hr7
      have hi8P := hi8 _ rfl
      exact hi8P _ hM16
def m_X3_triesDrops_b14 (p1 : Int32) (p2 : Int32) (p3 : Int32) (x1 : Int32) : (Int32 × MS) → Option ((Int32 × MS) ⊕ ((MS) ⊕ (MS))) := fun s => match s with
  | (i3, μ4) => if x1 < i3 then (some (.inr (.inr μ4))) else ((m_X3_moreBy p1 p2 p3 i3 μ4).bind fun x10 => (if (μ4.1 22) = (-1 : Int32) then ((m_X3_comesHome p1 p2 i3 μ4).bind fun y14 => if y14.1 = (0 : Int32) then (some y14.2) else ((some (mSF y14.2 21 x10)).bind fun μ18 => (some (mSF μ18 22 p1)).bind fun μ20 => (some (mSF μ20 23 p3)).bind fun μ22 => (some (mSF μ22 24 (i3 + (1 : Int32)))).bind fun μ24 => some μ24)) else (if (μ4.1 21) ≤ x10 then (some μ4) else ((m_X3_comesHome p1 p2 i3 μ4).bind fun y26 => if y26.1 = (0 : Int32) then (some y26.2) else ((some (mSF y26.2 21 x10)).bind fun μ30 => (some (mSF μ30 22 p1)).bind fun μ32 => (some (mSF μ32 23 p3)).bind fun μ34 => (some (mSF μ34 24 (i3 + (1 : Int32)))).bind fun μ36 => some μ36))) : Option (MS)).bind fun μ40 => if i3 = x1 then (some (.inr (.inl μ40))) else ((m_X3_stop p1 i3 μ40).bind fun x41 => (m_X3_goesTo x41 μ40).bind fun y43 => if y43.1 = (0 : Int32) then (some (.inr (.inl y43.2))) else (some (.inl (i3 + (1 : Int32), y43.2)))))
def m_X3_triesDrops (p1 : Int32) (p2 : Int32) (p3 : Int32) (μ : MS) : Option (MS) := (mLd μ 2 835 ((6 : Int32) + p1)).bind fun x1 => (iter (m_X3_triesDrops_b14 p1 p2 p3 x1) FUEL (p3, μ)).bind fun y => match y with | .inr e => some e | .inl μ50 => some μ50
abbrev M_X3_triesDrops : MD := (yX3_triesDrops, cX3_triesDrops, 7, none, [])
theorem ok_X3_triesDrops : mOK yX3_triesDrops 7 3 := ⟨⟨by decide +kernel, by decide +kernel⟩, by decide +kernel, by decide⟩
theorem w_X3_triesDrops {l : Launch} {g : GG} {h : AH} {B : BM} {μ : MS} {p1 : Int32} {p2 : Int32} {p3 : Int32} {z : MS} (hM : IsM B h μ) (hT : TX g h) (hn : m_X3_triesDrops p1 p2 p3 μ = some z) : Sp l g M_X3_triesDrops 7 [.ref B.1, .int p1, .int p2, .int p3] h (QM B h none z) := by
  refine Sp.ofV (L := [some (.ref B.1), some (.int p1), some (.int p2), some (.int p3), none, none, none]) rfl rfl (hcR (hcI (hcI (hcI hc0)))) (Nat.le_of_ble_eq_true rfl) rfl ?_
  have hM0 : MM B h h μ := ⟨hM, SameM.rf⟩
  unfold m_X3_triesDrops at hn
  refine V.aload_n dX3_triesDrops_0 rfl rfl IsR.ref ?_
  refine V.mgetA hM0 dX3_triesDrops_1 fo_X3_7_0 ma_2 ?_
  refine V.bipush (v := 6) dX3_triesDrops_4 (by decide) ?_
  refine V.iload_n dX3_triesDrops_6 rfl rfl ?_
  refine V.iadd dX3_triesDrops_7 ?_
  obtain ⟨x1, e2, hn⟩ := bnd hn
  refine V.miald hM0 dX3_triesDrops_8 ma_2 (mLd_some e2) ?_
  refine V.istore (i := 4) dX3_triesDrops_9 (by decide) ?_
  simp only [List.set_cons_zero, List.set_cons_succ]
  refine V.iload_n dX3_triesDrops_11 rfl rfl ?_
  refine V.istore (i := 5) dX3_triesDrops_12 (by decide) ?_
  simp only [List.set_cons_zero, List.set_cons_succ]
  obtain ⟨b52, hL51, hn⟩ := bnd hn
  have hJ53 : ∀ (μ50 : MS), .inl μ50 = b52 → ∀ h50, MM B h h50 μ50 → V l g M_X3_triesDrops 7 105 [none, none, none, none, none, none, none] [] h50 (QM B h none z) := by
    intro μ50 e54 h50 hM50
    subst e54
    (try dsimp only at hn)
    obtain rfl := Option.some.inj hn
    exact V.vret dX3_triesDrops_105 rfl ⟨rfl, hM50⟩
  refine iter_ind (P := fun (σ : Int32 × MS) => match σ with | (i3, μ4) => ∀ h4, MM B h h4 μ4 → V l g M_X3_triesDrops 7 14 [some (.ref B.1), some (.int p1), some (.int p2), some (.int p3), some (.int x1), some (.int i3), none] [] h4 (QM B h none z)) (b := b52) ?_ FUEL (p3, μ) hL51 _ hM0
  rintro ⟨i3, μ4⟩ ρ55 hr5 hi6 hx7 h4 hM4
  unfold m_X3_triesDrops_b14 at hr5
  (try dsimp only at hr5)
  refine V.iload dX3_triesDrops_14 rfl ?_
  refine V.iload dX3_triesDrops_16 rfl ?_
  refine V.icmp_gt (tgt := 112) dX3_triesDrops_18 (by decide) (fun hc49 => ?_) (fun hc49 => ?_)
  · rw [if_pos hc49] at hr5
    obtain rfl := Option.some.inj hr5
    have e9 := hx7 _ rfl
    subst e9
    (try dsimp only at hn)
    obtain rfl := Option.some.inj hn
    exact V.vret dX3_triesDrops_112 rfl ⟨rfl, hM4⟩
  · rw [if_neg hc49] at hr5
    refine V.aload_n dX3_triesDrops_21 rfl rfl IsR.ref ?_
    refine V.iload_n dX3_triesDrops_22 rfl rfl ?_
    refine V.iload_n dX3_triesDrops_23 rfl rfl ?_
    refine V.iload_n dX3_triesDrops_24 rfl rfl ?_
    refine V.iload dX3_triesDrops_25 rfl ?_
    obtain ⟨x10, e11, hr5⟩ := bnd hr5
    refine V.invV (as := [.int p1, .int p2, .int p3, .int i3]) (b := B.1) (ci := 0) (w := true) (rc := rc0) dX3_triesDrops_27 ok_X3_moreBy (lw_V q2504 q2506 qs106 q151 q2507) rfl hM4.1.1 rfl (by decide) (Nat.le_of_ble_eq_true rfl) (w_X3_moreBy hM4.1 (hT.mm hM hM4) e11) (krI ?_) kxZ
    refine V.istore (i := 6) dX3_triesDrops_30 (by decide) ?_
    simp only [List.set_cons_zero, List.set_cons_succ]
    refine V.aload_n dX3_triesDrops_32 rfl rfl IsR.ref ?_
    refine V.mgetI hM4 dX3_triesDrops_33 fo_X3_310_0 mi_22 ?_
    refine V.iconst (v := -1) dX3_triesDrops_36 (by decide) ?_
    obtain ⟨μ40, hA13, hr5⟩ := bnd hr5
    (try dsimp only at hr5)
    have hJ48 : ∀ h40, MM B h h40 μ40 → V l g M_X3_triesDrops 7 84 [some (.ref B.1), some (.int p1), some (.int p2), some (.int p3), some (.int x1), some (.int i3), none] [] h40 (QM B h none z) := by
      intro h40 hM40
      refine V.iload dX3_triesDrops_84 rfl ?_
      refine V.iload dX3_triesDrops_86 rfl ?_
      refine V.icmp_eq (tgt := 105) dX3_triesDrops_88 (by decide) (fun hc47 => ?_) (fun hc47 => ?_)
      · rw [if_pos hc47] at hr5
        obtain rfl := Option.some.inj hr5
        have e56 := hx7 _ rfl
        exact V.forget (llN (llN (llN (llN (llN (llN (llN ll0))))))) (hJ53 _ e56 _ hM40)
      · rw [if_neg hc47] at hr5
        refine V.aload_n dX3_triesDrops_91 rfl rfl IsR.ref ?_
        refine V.aload_n dX3_triesDrops_92 rfl rfl IsR.ref ?_
        refine V.iload_n dX3_triesDrops_93 rfl rfl ?_
        refine V.iload dX3_triesDrops_94 rfl ?_
        obtain ⟨x41, e42, hr5⟩ := bnd hr5
        refine V.invV (as := [.int p1, .int i3]) (b := B.1) (ci := 0) (w := true) (rc := rc0) dX3_triesDrops_96 ok_X3_stop (lw_V q2441 q2443 qs91 q151 q2444) rfl hM40.1.1 rfl (by decide) (Nat.le_of_ble_eq_true rfl) (w_X3_stop hM40.1 (hT.mm hM hM40) e42) (krI ?_) kxZ
        obtain ⟨y43, e45, hr5⟩ := bnd hr5
        refine V.invV (as := [.int x41]) (b := B.1) (ci := 0) (w := true) (rc := rc0) dX3_triesDrops_99 ok_X3_goesTo (lw_V q2484 q2486 qs101 q151 q2487) rfl hM40.1.1 rfl (by decide) (Nat.le_of_ble_eq_true rfl) (w_X3_goesTo hM40.1 (hT.mm hM hM40) e45) (kmI hM40.2 (fun h44 hM44 => ?_)) kxM
        refine V.if_ne (tgt := 106) dX3_triesDrops_102 (by decide) (fun hc46 => ?_) (fun hc46 => ?_)
        · rw [if_neg hc46] at hr5
          refine V.iinc (v := i3 + (1 : Int32)) (i := 5) dX3_triesDrops_106 rfl (by rfl) (by decide) ?_
          simp only [List.set_cons_zero, List.set_cons_succ]
          refine V.goto (tgt := 14) dX3_triesDrops_109 (by decide) ?_
          obtain rfl := Option.some.inj hr5
          have hi6P := hi6 _ rfl
          exact hi6P _ hM44
        · rw [if_pos hc46] at hr5
          obtain rfl := Option.some.inj hr5
          have e57 := hx7 _ rfl
          exact V.forget (llN (llN (llN (llN (llN (llN (llN ll0))))))) (hJ53 _ e57 _ hM44)
    refine V.icmp_eq (tgt := 49) dX3_triesDrops_37 (by decide) (fun hc39 => ?_) (fun hc39 => ?_)
    · rw [if_pos hc39] at hA13
      refine V.aload_n dX3_triesDrops_49 rfl rfl IsR.ref ?_
      refine V.iload_n dX3_triesDrops_50 rfl rfl ?_
      refine V.iload_n dX3_triesDrops_51 rfl rfl ?_
      refine V.iload dX3_triesDrops_52 rfl ?_
      obtain ⟨y14, e16, hA13⟩ := bnd hA13
      refine V.invV (as := [.int p1, .int p2, .int i3]) (b := B.1) (ci := 0) (w := true) (rc := rc0) dX3_triesDrops_54 ok_X3_comesHome (lw_V q2516 q2518 qs109 q151 q2519) rfl hM4.1.1 rfl (by decide) (Nat.le_of_ble_eq_true rfl) (w_X3_comesHome hM4.1 (hT.mm hM hM4) e16) (kmI hM4.2 (fun h15 hM15 => ?_)) kxM
      refine V.if_eq (tgt := 84) dX3_triesDrops_57 (by decide) (fun hc25 => ?_) (fun hc25 => ?_)
      · rw [if_pos hc25] at hA13
        obtain rfl := Option.some.inj hA13
        exact V.forget (llS (llS (llS (llS (llS (llS (llN ll0))))))) (hJ48 _ hM15)
      · rw [if_neg hc25] at hA13
        refine V.aload_n dX3_triesDrops_60 rfl rfl IsR.ref ?_
        refine V.iload dX3_triesDrops_61 rfl ?_
        obtain ⟨μ18, e17, hA13⟩ := bnd hA13
        refine V.mputI hM15 dX3_triesDrops_63 po_M_313 mi_21 (fun h18 hM18 => ?_)
        rw [Option.some.inj e17] at hM18
        refine V.aload_n dX3_triesDrops_66 rfl rfl IsR.ref ?_
        refine V.iload_n dX3_triesDrops_67 rfl rfl ?_
        obtain ⟨μ20, e19, hA13⟩ := bnd hA13
        refine V.mputI hM18 dX3_triesDrops_68 po_M_310 mi_22 (fun h20 hM20 => ?_)
        rw [Option.some.inj e19] at hM20
        refine V.aload_n dX3_triesDrops_71 rfl rfl IsR.ref ?_
        refine V.iload_n dX3_triesDrops_72 rfl rfl ?_
        obtain ⟨μ22, e21, hA13⟩ := bnd hA13
        refine V.mputI hM20 dX3_triesDrops_73 po_M_319 mi_23 (fun h22 hM22 => ?_)
        rw [Option.some.inj e21] at hM22
        refine V.aload_n dX3_triesDrops_76 rfl rfl IsR.ref ?_
        refine V.iload dX3_triesDrops_77 rfl ?_
        refine V.iconst (v := 1) dX3_triesDrops_79 (by decide) ?_
        refine V.iadd dX3_triesDrops_80 ?_
        obtain ⟨μ24, e23, hA13⟩ := bnd hA13
        refine V.mputI hM22 dX3_triesDrops_81 po_M_322 mi_24 (fun h24 hM24 => ?_)
        rw [Option.some.inj e23] at hM24
        obtain rfl := Option.some.inj hA13
        exact V.forget (llS (llS (llS (llS (llS (llS (llN ll0))))))) (hJ48 _ hM24)
    · rw [if_neg hc39] at hA13
      refine V.iload dX3_triesDrops_40 rfl ?_
      refine V.aload_n dX3_triesDrops_42 rfl rfl IsR.ref ?_
      refine V.mgetI hM4 dX3_triesDrops_43 fo_X3_313_0 mi_21 ?_
      refine V.icmp_ge (tgt := 84) dX3_triesDrops_46 (by decide) (fun hc38 => ?_) (fun hc38 => ?_)
      · rw [if_pos hc38] at hA13
        obtain rfl := Option.some.inj hA13
        exact V.forget (llS (llS (llS (llS (llS (llS (llN ll0))))))) (hJ48 _ hM4)
      · rw [if_neg hc38] at hA13
        refine V.aload_n dX3_triesDrops_49 rfl rfl IsR.ref ?_
        refine V.iload_n dX3_triesDrops_50 rfl rfl ?_
        refine V.iload_n dX3_triesDrops_51 rfl rfl ?_
        refine V.iload dX3_triesDrops_52 rfl ?_
        obtain ⟨y26, e28, hA13⟩ := bnd hA13
        refine V.invV (as := [.int p1, .int p2, .int i3]) (b := B.1) (ci := 0) (w := true) (rc := rc0) dX3_triesDrops_54 ok_X3_comesHome (lw_V q2516 q2518 qs109 q151 q2519) rfl hM4.1.1 rfl (by decide) (Nat.le_of_ble_eq_true rfl) (w_X3_comesHome hM4.1 (hT.mm hM hM4) e28) (kmI hM4.2 (fun h27 hM27 => ?_)) kxM
        refine V.if_eq (tgt := 84) dX3_triesDrops_57 (by decide) (fun hc37 => ?_) (fun hc37 => ?_)
        · rw [if_pos hc37] at hA13
          obtain rfl := Option.some.inj hA13
          exact V.forget (llS (llS (llS (llS (llS (llS (llN ll0))))))) (hJ48 _ hM27)
        · rw [if_neg hc37] at hA13
          refine V.aload_n dX3_triesDrops_60 rfl rfl IsR.ref ?_
          refine V.iload dX3_triesDrops_61 rfl ?_
          obtain ⟨μ30, e29, hA13⟩ := bnd hA13
          refine V.mputI hM27 dX3_triesDrops_63 po_M_313 mi_21 (fun h30 hM30 => ?_)
          rw [Option.some.inj e29] at hM30
          refine V.aload_n dX3_triesDrops_66 rfl rfl IsR.ref ?_
          refine V.iload_n dX3_triesDrops_67 rfl rfl ?_
          obtain ⟨μ32, e31, hA13⟩ := bnd hA13
          refine V.mputI hM30 dX3_triesDrops_68 po_M_310 mi_22 (fun h32 hM32 => ?_)
          rw [Option.some.inj e31] at hM32
          refine V.aload_n dX3_triesDrops_71 rfl rfl IsR.ref ?_
          refine V.iload_n dX3_triesDrops_72 rfl rfl ?_
          obtain ⟨μ34, e33, hA13⟩ := bnd hA13
          refine V.mputI hM32 dX3_triesDrops_73 po_M_319 mi_23 (fun h34 hM34 => ?_)
          rw [Option.some.inj e33] at hM34
          refine V.aload_n dX3_triesDrops_76 rfl rfl IsR.ref ?_
          refine V.iload dX3_triesDrops_77 rfl ?_
          refine V.iconst (v := 1) dX3_triesDrops_79 (by decide) ?_
          refine V.iadd dX3_triesDrops_80 ?_
          obtain ⟨μ36, e35, hA13⟩ := bnd hA13
          refine V.mputI hM34 dX3_triesDrops_81 po_M_322 mi_24 (fun h36 hM36 => ?_)
          rw [Option.some.inj e35] at hM36
          obtain rfl := Option.some.inj hA13
          exact V.forget (llS (llS (llS (llS (llS (llS (llN ll0))))))) (hJ48 _ hM36)
def m_X3_triesVan_b28 (p1 : Int32) (p2 : Int32) (x1 : Int32) : (Int32 × MS) → Option ((Int32 × MS) ⊕ ((MS) ⊕ (MS))) := fun s => match s with
  | (i7, μ8) => if x1 < i7 then (some (.inr (.inr μ8))) else ((m_X3_goesTo ((2 : Int32) * p2) μ8).bind fun y14 => (if y14.1 = (0 : Int32) then (some y14.2) else ((m_X3_triesDrops p1 p2 i7 y14.2).bind fun μ19 => some μ19) : Option (MS)).bind fun μ22 => (m_X3_goesBack (μ8.1 26) (μ8.1 27) (μ8.1 28) (μ8.1 29) (μ8.1 30) μ22).bind fun μ23 => if i7 = x1 then (some (.inr (.inl μ23))) else ((m_X3_stop p1 i7 μ23).bind fun x25 => (m_X3_goesTo x25 μ23).bind fun y27 => if y27.1 = (0 : Int32) then (some (.inr (.inl y27.2))) else (some (.inl (i7 + (1 : Int32), y27.2)))))
def m_X3_triesVan (p1 : Int32) (p2 : Int32) (μ : MS) : Option (MS) := (mLd μ 2 835 ((6 : Int32) + p1)).bind fun x1 => (m_X3_fixed p1 μ).bind fun x3 => (m_X3_startsWalk p1 x3 μ).bind fun μ5 => (iter (m_X3_triesVan_b28 p1 p2 x1) FUEL (x3, μ5)).bind fun y => match y with | .inr e => some e | .inl μ34 => some μ34
abbrev M_X3_triesVan : MD := (yX3_triesVan, cX3_triesVan, 11, none, [])
theorem ok_X3_triesVan : mOK yX3_triesVan 11 2 := ⟨⟨by decide +kernel, by decide +kernel⟩, by decide +kernel, by decide⟩
theorem w_X3_triesVan {l : Launch} {g : GG} {h : AH} {B : BM} {μ : MS} {p1 : Int32} {p2 : Int32} {z : MS} (hM : IsM B h μ) (hT : TX g h) (hn : m_X3_triesVan p1 p2 μ = some z) : Sp l g M_X3_triesVan 8 [.ref B.1, .int p1, .int p2] h (QM B h none z) := by
  refine Sp.ofV (L := [some (.ref B.1), some (.int p1), some (.int p2), none, none, none, none, none, none, none, none]) rfl rfl (hcR (hcI (hcI hc0))) (Nat.le_of_ble_eq_true rfl) rfl ?_
  have hM0 : MM B h h μ := ⟨hM, SameM.rf⟩
  unfold m_X3_triesVan at hn
  refine V.aload_n dX3_triesVan_0 rfl rfl IsR.ref ?_
  refine V.mgetA hM0 dX3_triesVan_1 fo_X3_7_0 ma_2 ?_
  refine V.bipush (v := 6) dX3_triesVan_4 (by decide) ?_
  refine V.iload_n dX3_triesVan_6 rfl rfl ?_
  refine V.iadd dX3_triesVan_7 ?_
  obtain ⟨x1, e2, hn⟩ := bnd hn
  refine V.miald hM0 dX3_triesVan_8 ma_2 (mLd_some e2) ?_
  refine V.istore_n (i := 3) dX3_triesVan_9 rfl (by decide) ?_
  simp only [List.set_cons_zero, List.set_cons_succ]
  refine V.aload_n dX3_triesVan_10 rfl rfl IsR.ref ?_
  refine V.iload_n dX3_triesVan_11 rfl rfl ?_
  obtain ⟨x3, e4, hn⟩ := bnd hn
  refine V.invV (as := [.int p1]) (b := B.1) (ci := 0) (w := true) (rc := rc0) dX3_triesVan_12 ok_X3_fixed (lw_V q2429 q2431 qs88 q151 q2432) rfl hM0.1.1 rfl (by decide) (Nat.le_of_ble_eq_true rfl) (w_X3_fixed hM0.1 (hT.mm hM hM0) e4) (krI ?_) kxZ
  refine V.istore (i := 4) dX3_triesVan_15 (by decide) ?_
  simp only [List.set_cons_zero, List.set_cons_succ]
  refine V.aload_n dX3_triesVan_17 rfl rfl IsR.ref ?_
  refine V.iload_n dX3_triesVan_18 rfl rfl ?_
  refine V.iload dX3_triesVan_19 rfl ?_
  obtain ⟨μ5, e6, hn⟩ := bnd hn
  refine V.invV (as := [.int p1, .int x3]) (b := B.1) (ci := 0) (w := true) (rc := rc0) dX3_triesVan_21 ok_X3_startsWalk (lw_V q2456 q2458 qs94 q151 q2459) rfl hM0.1.1 rfl (by decide) (Nat.le_of_ble_eq_true rfl) (w_X3_startsWalk hM0.1 (hT.mm hM hM0) e6) (kmV hM0.2 (fun h5 hM5 => ?_)) kxM
  refine V.iload dX3_triesVan_24 rfl ?_
  refine V.istore (i := 5) dX3_triesVan_26 (by decide) ?_
  simp only [List.set_cons_zero, List.set_cons_succ]
  obtain ⟨b36, hL35, hn⟩ := bnd hn
  have hJ37 : ∀ (μ34 : MS), .inl μ34 = b36 → ∀ h34, MM B h h34 μ34 → V l g M_X3_triesVan 8 116 [none, none, none, none, none, none, none, none, none, none, none] [] h34 (QM B h none z) := by
    intro μ34 e38 h34 hM34
    subst e38
    (try dsimp only at hn)
    obtain rfl := Option.some.inj hn
    exact V.vret dX3_triesVan_116 rfl ⟨rfl, hM34⟩
  refine V.forget (llS (llS (llS (llS (llN (llS (llN (llN (llN (llN (llN ll0))))))))))) (iter_ind (P := fun (σ : Int32 × MS) => match σ with | (i7, μ8) => ∀ h8, MM B h h8 μ8 → V l g M_X3_triesVan 8 28 [some (.ref B.1), some (.int p1), some (.int p2), some (.int x1), none, some (.int i7), none, none, none, none, none] [] h8 (QM B h none z)) (b := b36) ?_ FUEL (x3, μ5) hL35 _ hM5)
  rintro ⟨i7, μ8⟩ ρ39 hr9 hi10 hx11 h8 hM8
  unfold m_X3_triesVan_b28 at hr9
  (try dsimp only at hr9)
  refine V.iload dX3_triesVan_28 rfl ?_
  refine V.iload_n dX3_triesVan_30 rfl rfl ?_
  refine V.icmp_gt (tgt := 123) dX3_triesVan_31 (by decide) (fun hc33 => ?_) (fun hc33 => ?_)
  · rw [if_pos hc33] at hr9
    obtain rfl := Option.some.inj hr9
    have e13 := hx11 _ rfl
    subst e13
    (try dsimp only at hn)
    obtain rfl := Option.some.inj hn
    exact V.vret dX3_triesVan_123 rfl ⟨rfl, hM8⟩
  · rw [if_neg hc33] at hr9
    refine V.aload_n dX3_triesVan_34 rfl rfl IsR.ref ?_
    refine V.mgetI hM8 dX3_triesVan_35 fo_X3_278_0 mi_26 ?_
    refine V.istore (i := 6) dX3_triesVan_38 (by decide) ?_
    simp only [List.set_cons_zero, List.set_cons_succ]
    refine V.aload_n dX3_triesVan_40 rfl rfl IsR.ref ?_
    refine V.mgetI hM8 dX3_triesVan_41 fo_X3_281_0 mi_27 ?_
    refine V.istore (i := 7) dX3_triesVan_44 (by decide) ?_
    simp only [List.set_cons_zero, List.set_cons_succ]
    refine V.aload_n dX3_triesVan_46 rfl rfl IsR.ref ?_
    refine V.mgetI hM8 dX3_triesVan_47 fo_X3_284_0 mi_28 ?_
    refine V.istore (i := 8) dX3_triesVan_50 (by decide) ?_
    simp only [List.set_cons_zero, List.set_cons_succ]
    refine V.aload_n dX3_triesVan_52 rfl rfl IsR.ref ?_
    refine V.mgetI hM8 dX3_triesVan_53 fo_X3_287_0 mi_29 ?_
    refine V.istore (i := 9) dX3_triesVan_56 (by decide) ?_
    simp only [List.set_cons_zero, List.set_cons_succ]
    refine V.aload_n dX3_triesVan_58 rfl rfl IsR.ref ?_
    refine V.mgetI hM8 dX3_triesVan_59 fo_X3_290_0 mi_30 ?_
    refine V.istore (i := 10) dX3_triesVan_62 (by decide) ?_
    simp only [List.set_cons_zero, List.set_cons_succ]
    refine V.aload_n dX3_triesVan_64 rfl rfl IsR.ref ?_
    refine V.iconst (v := 2) dX3_triesVan_65 (by decide) ?_
    refine V.iload_n dX3_triesVan_66 rfl rfl ?_
    refine V.imul dX3_triesVan_67 ?_
    obtain ⟨y14, e16, hr9⟩ := bnd hr9
    refine V.invV (as := [.int ((2 : Int32) * p2)]) (b := B.1) (ci := 0) (w := true) (rc := rc0) dX3_triesVan_68 ok_X3_goesTo (lw_V q2484 q2486 qs101 q151 q2487) rfl hM8.1.1 rfl (by decide) (Nat.le_of_ble_eq_true rfl) (w_X3_goesTo hM8.1 (hT.mm hM hM8) e16) (kmI hM8.2 (fun h15 hM15 => ?_)) kxM
    obtain ⟨μ22, hA18, hr9⟩ := bnd hr9
    (try dsimp only at hr9)
    have hJ32 : ∀ h22, MM B h h22 μ22 → V l g M_X3_triesVan 8 82 [some (.ref B.1), some (.int p1), some (.int p2), some (.int x1), none, some (.int i7), some (.int (μ8.1 26)), some (.int (μ8.1 27)), some (.int (μ8.1 28)), some (.int (μ8.1 29)), some (.int (μ8.1 30))] [] h22 (QM B h none z) := by
      intro h22 hM22
      refine V.aload_n dX3_triesVan_82 rfl rfl IsR.ref ?_
      refine V.iload dX3_triesVan_83 rfl ?_
      refine V.iload dX3_triesVan_85 rfl ?_
      refine V.iload dX3_triesVan_87 rfl ?_
      refine V.iload dX3_triesVan_89 rfl ?_
      refine V.iload dX3_triesVan_91 rfl ?_
      obtain ⟨μ23, e24, hr9⟩ := bnd hr9
      refine V.invV (as := [.int (μ8.1 26), .int (μ8.1 27), .int (μ8.1 28), .int (μ8.1 29), .int (μ8.1 30)]) (b := B.1) (ci := 0) (w := true) (rc := rc0) dX3_triesVan_93 ok_X3_goesBack (lw_V q2520 q2522 qs110 q151 q2523) rfl hM22.1.1 rfl (by decide) (Nat.le_of_ble_eq_true rfl) (w_X3_goesBack hM22.1 (hT.mm hM hM22) e24) (kmV hM22.2 (fun h23 hM23 => ?_)) kxM
      refine V.iload dX3_triesVan_96 rfl ?_
      refine V.iload_n dX3_triesVan_98 rfl rfl ?_
      refine V.icmp_eq (tgt := 116) dX3_triesVan_99 (by decide) (fun hc31 => ?_) (fun hc31 => ?_)
      · rw [if_pos hc31] at hr9
        obtain rfl := Option.some.inj hr9
        have e40 := hx11 _ rfl
        exact V.forget (llN (llN (llN (llN (llN (llN (llN (llN (llN (llN (llN ll0))))))))))) (hJ37 _ e40 _ hM23)
      · rw [if_neg hc31] at hr9
        refine V.aload_n dX3_triesVan_102 rfl rfl IsR.ref ?_
        refine V.aload_n dX3_triesVan_103 rfl rfl IsR.ref ?_
        refine V.iload_n dX3_triesVan_104 rfl rfl ?_
        refine V.iload dX3_triesVan_105 rfl ?_
        obtain ⟨x25, e26, hr9⟩ := bnd hr9
        refine V.invV (as := [.int p1, .int i7]) (b := B.1) (ci := 0) (w := true) (rc := rc0) dX3_triesVan_107 ok_X3_stop (lw_V q2441 q2443 qs91 q151 q2444) rfl hM23.1.1 rfl (by decide) (Nat.le_of_ble_eq_true rfl) (w_X3_stop hM23.1 (hT.mm hM hM23) e26) (krI ?_) kxZ
        obtain ⟨y27, e29, hr9⟩ := bnd hr9
        refine V.invV (as := [.int x25]) (b := B.1) (ci := 0) (w := true) (rc := rc0) dX3_triesVan_110 ok_X3_goesTo (lw_V q2484 q2486 qs101 q151 q2487) rfl hM23.1.1 rfl (by decide) (Nat.le_of_ble_eq_true rfl) (w_X3_goesTo hM23.1 (hT.mm hM hM23) e29) (kmI hM23.2 (fun h28 hM28 => ?_)) kxM
        refine V.if_ne (tgt := 117) dX3_triesVan_113 (by decide) (fun hc30 => ?_) (fun hc30 => ?_)
        · rw [if_neg hc30] at hr9
          refine V.iinc (v := i7 + (1 : Int32)) (i := 5) dX3_triesVan_117 rfl (by rfl) (by decide) ?_
          simp only [List.set_cons_zero, List.set_cons_succ]
          refine V.goto (tgt := 28) dX3_triesVan_120 (by decide) ?_
          obtain rfl := Option.some.inj hr9
          have hi10P := hi10 _ rfl
          exact V.forget (llS (llS (llS (llS (llN (llS (llN (llN (llN (llN (llN ll0))))))))))) (hi10P _ hM28)
        · rw [if_pos hc30] at hr9
          obtain rfl := Option.some.inj hr9
          have e41 := hx11 _ rfl
          exact V.forget (llN (llN (llN (llN (llN (llN (llN (llN (llN (llN (llN ll0))))))))))) (hJ37 _ e41 _ hM28)
    refine V.if_eq (tgt := 82) dX3_triesVan_71 (by decide) (fun hc21 => ?_) (fun hc21 => ?_)
    · rw [if_pos hc21] at hA18
      obtain rfl := Option.some.inj hA18
      exact hJ32 _ hM15
    · rw [if_neg hc21] at hA18
      refine V.aload_n dX3_triesVan_74 rfl rfl IsR.ref ?_
      refine V.iload_n dX3_triesVan_75 rfl rfl ?_
      refine V.iload_n dX3_triesVan_76 rfl rfl ?_
      refine V.iload dX3_triesVan_77 rfl ?_
      obtain ⟨μ19, e20, hA18⟩ := bnd hA18
      refine V.invV (as := [.int p1, .int p2, .int i7]) (b := B.1) (ci := 0) (w := true) (rc := rc0) dX3_triesVan_79 ok_X3_triesDrops (lw_V q2500 q2502 qs105 q151 q2503) rfl hM15.1.1 rfl (by decide) (Nat.le_of_ble_eq_true rfl) (w_X3_triesDrops hM15.1 (hT.mm hM hM15) e20) (kmV hM15.2 (fun h19 hM19 => ?_)) kxM
      obtain rfl := Option.some.inj hA18
      exact hJ32 _ hM19
def m_X3_takesIn_b20 (p1 : Int32) (i3 : Int32) : (Int32 × MS) → Option ((Int32 × MS) ⊕ (MS)) := fun s => match s with
  | (i9, μ10) => if (3 : Int32) ≤ i9 then (some (.inr μ10)) else ((m_X3_cell p1 i3 i9).bind fun x15 => (m_X3_cell p1 (i3 - (1 : Int32)) i9).bind fun x17 => (mLd μ10 2 835 x17).bind fun x19 => (mSt μ10 2 835 x15 x19).bind fun μ22 => some (.inl (i9 + (1 : Int32), μ22)))
def m_X3_takesIn_b11 (p1 : Int32) (p2 : Int32) : (Int32 × MS) → Option ((Int32 × MS) ⊕ (MS)) := fun s => match s with
  | (i3, μ4) => if i3 ≤ p2 then (some (.inr μ4)) else ((iter (m_X3_takesIn_b20 p1 i3) FUEL ((0 : Int32), μ4)).bind fun μ24 => some (.inl (i3 + (-1 : Int32), μ24)))
def m_X3_takesIn (p1 : Int32) (p2 : Int32) (p3 : Int32) (μ : MS) : Option (MS) := (mLd μ 2 835 ((6 : Int32) + p1)).bind fun x1 => (iter (m_X3_takesIn_b11 p1 p2) FUEL (x1, μ)).bind fun μ32 => (m_X3_cell p1 p2 (0 : Int32)).bind fun x36 => (mSt μ32 2 835 x36 p3).bind fun μ39 => (mLd μ39 2 835 ((6 : Int32) + p1)).bind fun x40 => (mSt μ39 2 835 ((6 : Int32) + p1) (x40 + (1 : Int32))).bind fun μ43 => some μ43
abbrev M_X3_takesIn : MD := (yX3_takesIn, cX3_takesIn, 6, none, [])
theorem ok_X3_takesIn : mOK yX3_takesIn 6 3 := ⟨⟨by decide +kernel, by decide +kernel⟩, by decide +kernel, by decide⟩
theorem w_X3_takesIn {l : Launch} {g : GG} {h : AH} {B : BM} {μ : MS} {p1 : Int32} {p2 : Int32} {p3 : Int32} {z : MS} (hM : IsM B h μ) (hT : TX g h) (hn : m_X3_takesIn p1 p2 p3 μ = some z) : Sp l g M_X3_takesIn 1 [.ref B.1, .int p1, .int p2, .int p3] h (QM B h none z) := by
  refine Sp.ofV (L := [some (.ref B.1), some (.int p1), some (.int p2), some (.int p3), none, none]) rfl rfl (hcR (hcI (hcI (hcI hc0)))) (Nat.le_of_ble_eq_true rfl) rfl ?_
  have hM0 : MM B h h μ := ⟨hM, SameM.rf⟩
  unfold m_X3_takesIn at hn
  refine V.aload_n dX3_takesIn_0 rfl rfl IsR.ref ?_
  refine V.mgetA hM0 dX3_takesIn_1 fo_X3_7_0 ma_2 ?_
  refine V.bipush (v := 6) dX3_takesIn_4 (by decide) ?_
  refine V.iload_n dX3_takesIn_6 rfl rfl ?_
  refine V.iadd dX3_takesIn_7 ?_
  obtain ⟨x1, e2, hn⟩ := bnd hn
  refine V.miald hM0 dX3_takesIn_8 ma_2 (mLd_some e2) ?_
  refine V.istore (i := 4) dX3_takesIn_9 (by decide) ?_
  simp only [List.set_cons_zero, List.set_cons_succ]
  obtain ⟨b34, hL33, hn⟩ := bnd hn
  have hJ35 : ∀ (μ32 : MS), μ32 = b34 → ∀ h32, MM B h h32 μ32 → V l g M_X3_takesIn 1 66 [some (.ref B.1), some (.int p1), some (.int p2), some (.int p3), none, none] [] h32 (QM B h none z) := by
    intro μ32 e44 h32 hM32
    subst e44
    (try dsimp only at hn)
    refine V.aload_n dX3_takesIn_66 rfl rfl IsR.ref ?_
    refine V.mgetA hM32 dX3_takesIn_67 fo_X3_7_0 ma_2 ?_
    refine V.iload_n dX3_takesIn_70 rfl rfl ?_
    refine V.iload_n dX3_takesIn_71 rfl rfl ?_
    refine V.iconst (v := 0) dX3_takesIn_72 (by decide) ?_
    obtain ⟨x36, e37, hn⟩ := bnd hn
    refine V.invS (as := [.int p1, .int p2, .int (0 : Int32)]) dX3_takesIn_73 ok_X3_cell (lw_S q2445 q2446 q151 q2447) (by decide) (Nat.le_of_ble_eq_true rfl) (w_X3_cell e37) (krI ?_) kxZ
    refine V.iload_n dX3_takesIn_76 rfl rfl ?_
    obtain ⟨μ39, e38, hn⟩ := bnd hn
    refine V.miast hM32 dX3_takesIn_77 ma_2 (mSt_some e38) (fun h39 hM39 => ?_)
    refine V.aload_n dX3_takesIn_78 rfl rfl IsR.ref ?_
    refine V.mgetA hM39 dX3_takesIn_79 fo_X3_7_0 ma_2 ?_
    refine V.bipush (v := 6) dX3_takesIn_82 (by decide) ?_
    refine V.iload_n dX3_takesIn_84 rfl rfl ?_
    refine V.iadd dX3_takesIn_85 ?_
    refine V.dup2 dX3_takesIn_86 rfl rfl ?_
    obtain ⟨x40, e41, hn⟩ := bnd hn
    refine V.miald hM39 dX3_takesIn_87 ma_2 (mLd_some e41) ?_
    refine V.iconst (v := 1) dX3_takesIn_88 (by decide) ?_
    refine V.iadd dX3_takesIn_89 ?_
    obtain ⟨μ43, e42, hn⟩ := bnd hn
    refine V.miast hM39 dX3_takesIn_90 ma_2 (mSt_some e42) (fun h43 hM43 => ?_)
    obtain rfl := Option.some.inj hn
    exact V.vret dX3_takesIn_91 rfl ⟨rfl, hM43⟩
  refine iter_ind (P := fun (σ : Int32 × MS) => match σ with | (i3, μ4) => ∀ h4, MM B h h4 μ4 → V l g M_X3_takesIn 1 11 [some (.ref B.1), some (.int p1), some (.int p2), some (.int p3), some (.int i3), none] [] h4 (QM B h none z)) (b := b34) ?_ FUEL (x1, μ) hL33 _ hM0
  rintro ⟨i3, μ4⟩ ρ45 hr5 hi6 hx7 h4 hM4
  unfold m_X3_takesIn_b11 at hr5
  (try dsimp only at hr5)
  refine V.iload dX3_takesIn_11 rfl ?_
  refine V.iload_n dX3_takesIn_13 rfl rfl ?_
  refine V.icmp_le (tgt := 66) dX3_takesIn_14 (by decide) (fun hc31 => ?_) (fun hc31 => ?_)
  · rw [if_pos hc31] at hr5
    obtain rfl := Option.some.inj hr5
    have e46 := hx7 _ rfl
    exact V.forget (llS (llS (llS (llS (llN (llN ll0)))))) (hJ35 _ e46 _ hM4)
  · rw [if_neg hc31] at hr5
    refine V.iconst (v := 0) dX3_takesIn_17 (by decide) ?_
    refine V.istore (i := 5) dX3_takesIn_18 (by decide) ?_
    simp only [List.set_cons_zero, List.set_cons_succ]
    obtain ⟨b26, hL25, hr5⟩ := bnd hr5
    have hJ27 : ∀ (μ24 : MS), μ24 = b26 → ∀ h24, MM B h h24 μ24 → V l g M_X3_takesIn 1 60 [some (.ref B.1), some (.int p1), some (.int p2), some (.int p3), some (.int i3), none] [] h24 (QM B h none z) := by
      intro μ24 e28 h24 hM24
      subst e28
      (try dsimp only at hr5)
      refine V.iinc (v := i3 + (-1 : Int32)) (i := 4) dX3_takesIn_60 rfl (by rfl) (by decide) ?_
      simp only [List.set_cons_zero, List.set_cons_succ]
      refine V.goto (tgt := 11) dX3_takesIn_63 (by decide) ?_
      obtain rfl := Option.some.inj hr5
      have hi6P := hi6 _ rfl
      exact hi6P _ hM24
    refine iter_ind (P := fun (σ : Int32 × MS) => match σ with | (i9, μ10) => ∀ h10, MM B h h10 μ10 → V l g M_X3_takesIn 1 20 [some (.ref B.1), some (.int p1), some (.int p2), some (.int p3), some (.int i3), some (.int i9)] [] h10 (QM B h none z)) (b := b26) ?_ FUEL ((0 : Int32), μ4) hL25 _ hM4
    rintro ⟨i9, μ10⟩ ρ29 hr11 hi12 hx13 h10 hM10
    unfold m_X3_takesIn_b20 at hr11
    (try dsimp only at hr11)
    refine V.iload dX3_takesIn_20 rfl ?_
    refine V.iconst (v := 3) dX3_takesIn_22 (by decide) ?_
    refine V.icmp_ge (tgt := 60) dX3_takesIn_23 (by decide) (fun hc23 => ?_) (fun hc23 => ?_)
    · rw [if_pos hc23] at hr11
      obtain rfl := Option.some.inj hr11
      have e30 := hx13 _ rfl
      exact V.forget (llS (llS (llS (llS (llS (llN ll0)))))) (hJ27 _ e30 _ hM10)
    · rw [if_neg hc23] at hr11
      refine V.aload_n dX3_takesIn_26 rfl rfl IsR.ref ?_
      refine V.mgetA hM10 dX3_takesIn_27 fo_X3_7_0 ma_2 ?_
      refine V.iload_n dX3_takesIn_30 rfl rfl ?_
      refine V.iload dX3_takesIn_31 rfl ?_
      refine V.iload dX3_takesIn_33 rfl ?_
      obtain ⟨x15, e16, hr11⟩ := bnd hr11
      refine V.invS (as := [.int p1, .int i3, .int i9]) dX3_takesIn_35 ok_X3_cell (lw_S q2445 q2446 q151 q2447) (by decide) (Nat.le_of_ble_eq_true rfl) (w_X3_cell e16) (krI ?_) kxZ
      refine V.aload_n dX3_takesIn_38 rfl rfl IsR.ref ?_
      refine V.mgetA hM10 dX3_takesIn_39 fo_X3_7_0 ma_2 ?_
      refine V.iload_n dX3_takesIn_42 rfl rfl ?_
      refine V.iload dX3_takesIn_43 rfl ?_
      refine V.iconst (v := 1) dX3_takesIn_45 (by decide) ?_
      refine V.isub dX3_takesIn_46 ?_
      refine V.iload dX3_takesIn_47 rfl ?_
      obtain ⟨x17, e18, hr11⟩ := bnd hr11
      refine V.invS (as := [.int p1, .int (i3 - (1 : Int32)), .int i9]) dX3_takesIn_49 ok_X3_cell (lw_S q2445 q2446 q151 q2447) (by decide) (Nat.le_of_ble_eq_true rfl) (w_X3_cell e18) (krI ?_) kxZ
      obtain ⟨x19, e20, hr11⟩ := bnd hr11
      refine V.miald hM10 dX3_takesIn_52 ma_2 (mLd_some e20) ?_
      obtain ⟨μ22, e21, hr11⟩ := bnd hr11
      refine V.miast hM10 dX3_takesIn_53 ma_2 (mSt_some e21) (fun h22 hM22 => ?_)
      refine V.iinc (v := i9 + (1 : Int32)) (i := 5) dX3_takesIn_54 rfl (by rfl) (by decide) ?_
      simp only [List.set_cons_zero, List.set_cons_succ]
      refine V.goto (tgt := 20) dX3_takesIn_57 (by decide) ?_
      obtain rfl := Option.some.inj hr11
      have hi12P := hi12 _ rfl
      exact hi12P _ hM22
def m_X3_reckons_b2 (p1 : Int32) (p2 : Int32) : (Int32 × MS) → Option ((Int32 × MS) ⊕ (MS)) := fun s => match s with
  | (i1, μ2) => (mLd μ2 2 835 ((6 : Int32) + p1)).bind fun x7 => if x7 ≤ i1 then (some (.inr μ2)) else ((if i1 = (0 : Int32) then ((m_X3_van p1 (4 : Int32) μ2).bind fun x13 => some x13) else ((m_X3_finished p1 (i1 - (1 : Int32)) μ2).bind fun x11 => some x11) : Option (Int32)).bind fun v16 => (if i1 = p2 then ((mLd μ2 2 835 (0 : Int32)).bind fun x19 => if x19 ≤ v16 then (some v16) else ((mLd μ2 2 835 (0 : Int32)).bind fun x21 => some x21)) else (some v16) : Option (Int32)).bind fun v25 => (m_X3_cell p1 i1 (1 : Int32)).bind fun x26 => (mSt μ2 2 835 x26 v25).bind fun μ29 => (m_X3_wayTo p1 i1 μ29).bind fun x30 => (m_X3_callOf p1 i1 μ29).bind fun x32 => (m_X3_call x32 (5 : Int32) μ29).bind fun x34 => (m_X3_cell p1 i1 (2 : Int32)).bind fun x36 => (m_X3_isDrop p1 i1 μ29).bind fun x38 => if x38 = (0 : Int32) then (if x34 ≤ (v25 + x30) then ((mSt μ29 2 835 x36 (v25 + x30)).bind fun μ43 => some (.inl (i1 + (1 : Int32), μ43))) else ((mSt μ29 2 835 x36 x34).bind fun μ45 => some (.inl (i1 + (1 : Int32), μ45)))) else ((mSt μ29 2 835 x36 (v25 + x30)).bind fun μ41 => some (.inl (i1 + (1 : Int32), μ41))))
def m_X3_reckons (p1 : Int32) (p2 : Int32) (μ : MS) : Option (MS) := (iter (m_X3_reckons_b2 p1 p2) FUEL (p2, μ)).bind fun μ51 => some μ51
abbrev M_X3_reckons : MD := (yX3_reckons, cX3_reckons, 6, none, [])
theorem ok_X3_reckons : mOK yX3_reckons 6 2 := ⟨⟨by decide +kernel, by decide +kernel⟩, by decide +kernel, by decide⟩
theorem w_X3_reckons {l : Launch} {g : GG} {h : AH} {B : BM} {μ : MS} {p1 : Int32} {p2 : Int32} {z : MS} (hM : IsM B h μ) (hT : TX g h) (hn : m_X3_reckons p1 p2 μ = some z) : Sp l g M_X3_reckons 5 [.ref B.1, .int p1, .int p2] h (QM B h none z) := by
  refine Sp.ofV (L := [some (.ref B.1), some (.int p1), some (.int p2), none, none, none]) rfl rfl (hcR (hcI (hcI hc0))) (Nat.le_of_ble_eq_true rfl) rfl ?_
  have hM0 : MM B h h μ := ⟨hM, SameM.rf⟩
  unfold m_X3_reckons at hn
  refine V.iload_n dX3_reckons_0 rfl rfl ?_
  refine V.istore_n (i := 3) dX3_reckons_1 rfl (by decide) ?_
  simp only [List.set_cons_zero, List.set_cons_succ]
  obtain ⟨b53, hL52, hn⟩ := bnd hn
  have hJ54 : ∀ (μ51 : MS), μ51 = b53 → ∀ h51, MM B h h51 μ51 → V l g M_X3_reckons 5 144 [none, none, none, none, none, none] [] h51 (QM B h none z) := by
    intro μ51 e55 h51 hM51
    subst e55
    (try dsimp only at hn)
    obtain rfl := Option.some.inj hn
    exact V.vret dX3_reckons_144 rfl ⟨rfl, hM51⟩
  refine iter_ind (P := fun (σ : Int32 × MS) => match σ with | (i1, μ2) => ∀ h2, MM B h h2 μ2 → V l g M_X3_reckons 5 2 [some (.ref B.1), some (.int p1), some (.int p2), some (.int i1), none, none] [] h2 (QM B h none z)) (b := b53) ?_ FUEL (p2, μ) hL52 _ hM0
  rintro ⟨i1, μ2⟩ ρ56 hr3 hi4 hx5 h2 hM2
  unfold m_X3_reckons_b2 at hr3
  (try dsimp only at hr3)
  refine V.iload_n dX3_reckons_2 rfl rfl ?_
  refine V.aload_n dX3_reckons_3 rfl rfl IsR.ref ?_
  refine V.mgetA hM2 dX3_reckons_4 fo_X3_7_0 ma_2 ?_
  refine V.bipush (v := 6) dX3_reckons_7 (by decide) ?_
  refine V.iload_n dX3_reckons_9 rfl rfl ?_
  refine V.iadd dX3_reckons_10 ?_
  obtain ⟨x7, e8, hr3⟩ := bnd hr3
  refine V.miald hM2 dX3_reckons_11 ma_2 (mLd_some e8) ?_
  refine V.icmp_ge (tgt := 144) dX3_reckons_12 (by decide) (fun hc50 => ?_) (fun hc50 => ?_)
  · rw [if_pos hc50] at hr3
    obtain rfl := Option.some.inj hr3
    have e57 := hx5 _ rfl
    exact V.forget (llN (llN (llN (llN (llN (llN ll0)))))) (hJ54 _ e57 _ hM2)
  · rw [if_neg hc50] at hr3
    refine V.iload_n dX3_reckons_15 rfl rfl ?_
    obtain ⟨v16, hA10, hr3⟩ := bnd hr3
    (try dsimp only at hr3)
    have hJ49 : V l g M_X3_reckons 5 36 [some (.ref B.1), some (.int p1), some (.int p2), some (.int i1), none, none] [.int v16] h2 (QM B h none z) := by
      refine V.istore (i := 4) dX3_reckons_36 (by decide) ?_
      simp only [List.set_cons_zero, List.set_cons_succ]
      refine V.iload_n dX3_reckons_38 rfl rfl ?_
      refine V.iload_n dX3_reckons_39 rfl rfl ?_
      obtain ⟨v25, hA18, hr3⟩ := bnd hr3
      (try dsimp only at hr3)
      have hJ48 : V l g M_X3_reckons 5 65 [some (.ref B.1), some (.int p1), some (.int p2), some (.int i1), none, none] [.int v25] h2 (QM B h none z) := by
        refine V.istore (i := 4) dX3_reckons_65 (by decide) ?_
        simp only [List.set_cons_zero, List.set_cons_succ]
        refine V.aload_n dX3_reckons_67 rfl rfl IsR.ref ?_
        refine V.mgetA hM2 dX3_reckons_68 fo_X3_7_0 ma_2 ?_
        refine V.iload_n dX3_reckons_71 rfl rfl ?_
        refine V.iload_n dX3_reckons_72 rfl rfl ?_
        refine V.iconst (v := 1) dX3_reckons_73 (by decide) ?_
        obtain ⟨x26, e27, hr3⟩ := bnd hr3
        refine V.invS (as := [.int p1, .int i1, .int (1 : Int32)]) dX3_reckons_74 ok_X3_cell (lw_S q2445 q2446 q151 q2447) (by decide) (Nat.le_of_ble_eq_true rfl) (w_X3_cell e27) (krI ?_) kxZ
        refine V.iload dX3_reckons_77 rfl ?_
        obtain ⟨μ29, e28, hr3⟩ := bnd hr3
        refine V.miast hM2 dX3_reckons_79 ma_2 (mSt_some e28) (fun h29 hM29 => ?_)
        refine V.iload dX3_reckons_80 rfl ?_
        refine V.aload_n dX3_reckons_82 rfl rfl IsR.ref ?_
        refine V.iload_n dX3_reckons_83 rfl rfl ?_
        refine V.iload_n dX3_reckons_84 rfl rfl ?_
        obtain ⟨x30, e31, hr3⟩ := bnd hr3
        refine V.invV (as := [.int p1, .int i1]) (b := B.1) (ci := 0) (w := true) (rc := rc0) dX3_reckons_85 ok_X3_wayTo (lw_V q2512 q2514 qs108 q151 q2515) rfl hM29.1.1 rfl (by decide) (Nat.le_of_ble_eq_true rfl) (w_X3_wayTo hM29.1 (hT.mm hM hM29) e31) (krI ?_) kxZ
        refine V.iadd dX3_reckons_88 ?_
        refine V.istore (i := 4) dX3_reckons_89 (by decide) ?_
        simp only [List.set_cons_zero, List.set_cons_succ]
        refine V.aload_n dX3_reckons_91 rfl rfl IsR.ref ?_
        refine V.aload_n dX3_reckons_92 rfl rfl IsR.ref ?_
        refine V.iload_n dX3_reckons_93 rfl rfl ?_
        refine V.iload_n dX3_reckons_94 rfl rfl ?_
        obtain ⟨x32, e33, hr3⟩ := bnd hr3
        refine V.invV (as := [.int p1, .int i1]) (b := B.1) (ci := 0) (w := true) (rc := rc0) dX3_reckons_95 ok_X3_callOf (lw_V q2437 q2439 qs90 q151 q2440) rfl hM29.1.1 rfl (by decide) (Nat.le_of_ble_eq_true rfl) (w_X3_callOf hM29.1 (hT.mm hM hM29) e33) (krI ?_) kxZ
        refine V.iconst (v := 5) dX3_reckons_98 (by decide) ?_
        obtain ⟨x34, e35, hr3⟩ := bnd hr3
        refine V.invV (as := [.int x32, .int (5 : Int32)]) (b := B.1) (ci := 0) (w := true) (rc := rc0) dX3_reckons_99 ok_X3_call (lw_V q2448 q2450 qs92 q151 q2451) rfl hM29.1.1 rfl (by decide) (Nat.le_of_ble_eq_true rfl) (w_X3_call hM29.1 (hT.mm hM hM29) e35) (krI ?_) kxZ
        refine V.istore (i := 5) dX3_reckons_102 (by decide) ?_
        simp only [List.set_cons_zero, List.set_cons_succ]
        refine V.aload_n dX3_reckons_104 rfl rfl IsR.ref ?_
        refine V.mgetA hM29 dX3_reckons_105 fo_X3_7_0 ma_2 ?_
        refine V.iload_n dX3_reckons_108 rfl rfl ?_
        refine V.iload_n dX3_reckons_109 rfl rfl ?_
        refine V.iconst (v := 2) dX3_reckons_110 (by decide) ?_
        obtain ⟨x36, e37, hr3⟩ := bnd hr3
        refine V.invS (as := [.int p1, .int i1, .int (2 : Int32)]) dX3_reckons_111 ok_X3_cell (lw_S q2445 q2446 q151 q2447) (by decide) (Nat.le_of_ble_eq_true rfl) (w_X3_cell e37) (krI ?_) kxZ
        refine V.aload_n dX3_reckons_114 rfl rfl IsR.ref ?_
        refine V.iload_n dX3_reckons_115 rfl rfl ?_
        refine V.iload_n dX3_reckons_116 rfl rfl ?_
        obtain ⟨x38, e39, hr3⟩ := bnd hr3
        refine V.invV (as := [.int p1, .int i1]) (b := B.1) (ci := 0) (w := true) (rc := rc0) dX3_reckons_117 ok_X3_isDrop (lw_V q2452 q2454 qs93 q151 q2455) rfl hM29.1.1 rfl (by decide) (Nat.le_of_ble_eq_true rfl) (w_X3_isDrop hM29.1 (hT.mm hM hM29) e39) (krI ?_) kxZ
        refine V.if_ne (tgt := 135) dX3_reckons_120 (by decide) (fun hc47 => ?_) (fun hc47 => ?_)
        · rw [if_neg hc47] at hr3
          refine V.iload dX3_reckons_135 rfl ?_
          obtain ⟨μ41, e40, hr3⟩ := bnd hr3
          refine V.miast hM29 dX3_reckons_137 ma_2 (mSt_some e40) (fun h41 hM41 => ?_)
          refine V.iinc (v := i1 + (1 : Int32)) (i := 3) dX3_reckons_138 rfl (by rfl) (by decide) ?_
          simp only [List.set_cons_zero, List.set_cons_succ]
          refine V.goto (tgt := 2) dX3_reckons_141 (by decide) ?_
          obtain rfl := Option.some.inj hr3
          have hi4P := hi4 _ rfl
          exact V.forget (llS (llS (llS (llS (llN (llN ll0)))))) (hi4P _ hM41)
        · rw [if_pos hc47] at hr3
          refine V.iload dX3_reckons_123 rfl ?_
          refine V.iload dX3_reckons_125 rfl ?_
          refine V.icmp_le (tgt := 135) dX3_reckons_127 (by decide) (fun hc46 => ?_) (fun hc46 => ?_)
          · rw [if_pos hc46] at hr3
            refine V.iload dX3_reckons_135 rfl ?_
            obtain ⟨μ43, e42, hr3⟩ := bnd hr3
            refine V.miast hM29 dX3_reckons_137 ma_2 (mSt_some e42) (fun h43 hM43 => ?_)
            refine V.iinc (v := i1 + (1 : Int32)) (i := 3) dX3_reckons_138 rfl (by rfl) (by decide) ?_
            simp only [List.set_cons_zero, List.set_cons_succ]
            refine V.goto (tgt := 2) dX3_reckons_141 (by decide) ?_
            obtain rfl := Option.some.inj hr3
            have hi4P := hi4 _ rfl
            exact V.forget (llS (llS (llS (llS (llN (llN ll0)))))) (hi4P _ hM43)
          · rw [if_neg hc46] at hr3
            refine V.iload dX3_reckons_130 rfl ?_
            refine V.goto (tgt := 137) dX3_reckons_132 (by decide) ?_
            obtain ⟨μ45, e44, hr3⟩ := bnd hr3
            refine V.miast hM29 dX3_reckons_137 ma_2 (mSt_some e44) (fun h45 hM45 => ?_)
            refine V.iinc (v := i1 + (1 : Int32)) (i := 3) dX3_reckons_138 rfl (by rfl) (by decide) ?_
            simp only [List.set_cons_zero, List.set_cons_succ]
            refine V.goto (tgt := 2) dX3_reckons_141 (by decide) ?_
            obtain rfl := Option.some.inj hr3
            have hi4P := hi4 _ rfl
            exact V.forget (llS (llS (llS (llS (llN (llN ll0)))))) (hi4P _ hM45)
      refine V.icmp_ne (tgt := 63) dX3_reckons_40 (by decide) (fun hc24 => ?_) (fun hc24 => ?_)
      · rw [if_neg hc24] at hA18
        refine V.iload dX3_reckons_63 rfl ?_
        obtain rfl := Option.some.inj hA18
        exact V.forget (llS (llS (llS (llS (llN (llN ll0)))))) (hJ48)
      · rw [if_pos hc24] at hA18
        refine V.aload_n dX3_reckons_43 rfl rfl IsR.ref ?_
        refine V.mgetA hM2 dX3_reckons_44 fo_X3_7_0 ma_2 ?_
        refine V.iconst (v := 0) dX3_reckons_47 (by decide) ?_
        obtain ⟨x19, e20, hA18⟩ := bnd hA18
        refine V.miald hM2 dX3_reckons_48 ma_2 (mLd_some e20) ?_
        refine V.iload dX3_reckons_49 rfl ?_
        refine V.icmp_le (tgt := 63) dX3_reckons_51 (by decide) (fun hc23 => ?_) (fun hc23 => ?_)
        · rw [if_pos hc23] at hA18
          refine V.iload dX3_reckons_63 rfl ?_
          obtain rfl := Option.some.inj hA18
          exact V.forget (llS (llS (llS (llS (llN (llN ll0)))))) (hJ48)
        · rw [if_neg hc23] at hA18
          refine V.aload_n dX3_reckons_54 rfl rfl IsR.ref ?_
          refine V.mgetA hM2 dX3_reckons_55 fo_X3_7_0 ma_2 ?_
          refine V.iconst (v := 0) dX3_reckons_58 (by decide) ?_
          obtain ⟨x21, e22, hA18⟩ := bnd hA18
          refine V.miald hM2 dX3_reckons_59 ma_2 (mLd_some e22) ?_
          refine V.goto (tgt := 65) dX3_reckons_60 (by decide) ?_
          obtain rfl := Option.some.inj hA18
          exact V.forget (llS (llS (llS (llS (llN (llN ll0)))))) (hJ48)
    refine V.if_ne (tgt := 28) dX3_reckons_16 (by decide) (fun hc15 => ?_) (fun hc15 => ?_)
    · rw [if_neg hc15] at hA10
      refine V.aload_n dX3_reckons_28 rfl rfl IsR.ref ?_
      refine V.iload_n dX3_reckons_29 rfl rfl ?_
      refine V.iload_n dX3_reckons_30 rfl rfl ?_
      refine V.iconst (v := 1) dX3_reckons_31 (by decide) ?_
      refine V.isub dX3_reckons_32 ?_
      obtain ⟨x11, e12, hA10⟩ := bnd hA10
      refine V.invV (as := [.int p1, .int (i1 - (1 : Int32))]) (b := B.1) (ci := 0) (w := true) (rc := rc0) dX3_reckons_33 ok_X3_finished (lw_V q2460 q2462 qs95 q151 q2463) rfl hM2.1.1 rfl (by decide) (Nat.le_of_ble_eq_true rfl) (w_X3_finished hM2.1 (hT.mm hM hM2) e12) (krI ?_) kxZ
      obtain rfl := Option.some.inj hA10
      exact hJ49
    · rw [if_pos hc15] at hA10
      refine V.aload_n dX3_reckons_19 rfl rfl IsR.ref ?_
      refine V.iload_n dX3_reckons_20 rfl rfl ?_
      refine V.iconst (v := 4) dX3_reckons_21 (by decide) ?_
      obtain ⟨x13, e14, hA10⟩ := bnd hA10
      refine V.invV (as := [.int p1, .int (4 : Int32)]) (b := B.1) (ci := 0) (w := true) (rc := rc0) dX3_reckons_22 ok_X3_van (lw_V q2409 q2411 qs83 q151 q2412) rfl hM2.1.1 rfl (by decide) (Nat.le_of_ble_eq_true rfl) (w_X3_van hM2.1 (hT.mm hM hM2) e14) (krI ?_) kxZ
      refine V.goto (tgt := 36) dX3_reckons_25 (by decide) ?_
      obtain rfl := Option.some.inj hA10
      exact hJ49
def m_X3_inserts_b7 (p1 : Int32) : (Int32 × MS) → Option ((Int32 × MS) ⊕ (MS)) := fun s => match s with
  | (i3, μ4) => (mLd μ4 20 184 (8 : Int32)).bind fun x9 => if x9 ≤ i3 then (some (.inr μ4)) else ((m_X3_triesVan i3 p1 μ4).bind fun μ11 => some (.inl (i3 + (1 : Int32), μ11)))
def m_X3_inserts (p1 : Int32) (μ : MS) : Option (Int32 × MS) := (some (mSF μ 22 (-1 : Int32))).bind fun μ2 => (iter (m_X3_inserts_b7 p1) FUEL ((0 : Int32), μ2)).bind fun μ14 => if (μ14.1 22) = (-1 : Int32) then (some ((0 : Int32), μ14)) else ((m_X3_fixed (μ14.1 22) μ14).bind fun x18 => (m_X3_takesIn (μ14.1 22) (μ14.1 23) ((2 : Int32) * p1) μ14).bind fun μ20 => (m_X3_takesIn (μ20.1 22) (μ20.1 24) (((2 : Int32) * p1) + (1 : Int32)) μ20).bind fun μ22 => (m_X3_reckons (μ22.1 22) x18 μ22).bind fun μ24 => some ((1 : Int32), μ24))
abbrev M_X3_inserts : MD := (yX3_inserts, cX3_inserts, 3, (some .boolean), [])
theorem ok_X3_inserts : mOK yX3_inserts 3 1 := ⟨⟨by decide +kernel, by decide +kernel⟩, by decide +kernel, by decide⟩
theorem w_X3_inserts {l : Launch} {g : GG} {h : AH} {B : BM} {μ : MS} {p1 : Int32} {z : Int32 × MS} (hM : IsM B h μ) (hT : TX g h) (hn : m_X3_inserts p1 μ = some z) : Sp l g M_X3_inserts 9 [.ref B.1, .int p1] h (QM B h (some (.int z.1)) z.2) := by
  refine Sp.ofV (L := [some (.ref B.1), some (.int p1), none]) rfl rfl (hcR (hcI hc0)) (Nat.le_of_ble_eq_true rfl) rfl ?_
  have hM0 : MM B h h μ := ⟨hM, SameM.rf⟩
  unfold m_X3_inserts at hn
  refine V.aload_n dX3_inserts_0 rfl rfl IsR.ref ?_
  refine V.iconst (v := -1) dX3_inserts_1 (by decide) ?_
  obtain ⟨μ2, e1, hn⟩ := bnd hn
  refine V.mputI hM0 dX3_inserts_2 po_M_310 mi_22 (fun h2 hM2 => ?_)
  rw [Option.some.inj e1] at hM2
  refine V.iconst (v := 0) dX3_inserts_5 (by decide) ?_
  refine V.istore_n (i := 2) dX3_inserts_6 rfl (by decide) ?_
  simp only [List.set_cons_zero, List.set_cons_succ]
  obtain ⟨b16, hL15, hn⟩ := bnd hn
  have hJ17 : ∀ (μ14 : MS), μ14 = b16 → ∀ h14, MM B h h14 μ14 → V l g M_X3_inserts 9 30 [some (.ref B.1), some (.int p1), none] [] h14 (QM B h (some (.int z.1)) z.2) := by
    intro μ14 e27 h14 hM14
    subst e27
    (try dsimp only at hn)
    refine V.aload_n dX3_inserts_30 rfl rfl IsR.ref ?_
    refine V.mgetI hM14 dX3_inserts_31 fo_X3_310_0 mi_22 ?_
    refine V.iconst (v := -1) dX3_inserts_34 (by decide) ?_
    refine V.icmp_ne (tgt := 40) dX3_inserts_35 (by decide) (fun hc26 => ?_) (fun hc26 => ?_)
    · rw [if_neg hc26] at hn
      refine V.aload_n dX3_inserts_40 rfl rfl IsR.ref ?_
      refine V.aload_n dX3_inserts_41 rfl rfl IsR.ref ?_
      refine V.mgetI hM14 dX3_inserts_42 fo_X3_310_0 mi_22 ?_
      obtain ⟨x18, e19, hn⟩ := bnd hn
      refine V.invV (as := [.int (μ14.1 22)]) (b := B.1) (ci := 0) (w := true) (rc := rc0) dX3_inserts_45 ok_X3_fixed (lw_V q2429 q2431 qs88 q151 q2432) rfl hM14.1.1 rfl (by decide) (Nat.le_of_ble_eq_true rfl) (w_X3_fixed hM14.1 (hT.mm hM hM14) e19) (krI ?_) kxZ
      refine V.istore_n (i := 2) dX3_inserts_48 rfl (by decide) ?_
      simp only [List.set_cons_zero, List.set_cons_succ]
      refine V.aload_n dX3_inserts_49 rfl rfl IsR.ref ?_
      refine V.aload_n dX3_inserts_50 rfl rfl IsR.ref ?_
      refine V.mgetI hM14 dX3_inserts_51 fo_X3_310_0 mi_22 ?_
      refine V.aload_n dX3_inserts_54 rfl rfl IsR.ref ?_
      refine V.mgetI hM14 dX3_inserts_55 fo_X3_319_0 mi_23 ?_
      refine V.iconst (v := 2) dX3_inserts_58 (by decide) ?_
      refine V.iload_n dX3_inserts_59 rfl rfl ?_
      refine V.imul dX3_inserts_60 ?_
      obtain ⟨μ20, e21, hn⟩ := bnd hn
      refine V.invV (as := [.int (μ14.1 22), .int (μ14.1 23), .int ((2 : Int32) * p1)]) (b := B.1) (ci := 0) (w := true) (rc := rc0) dX3_inserts_61 ok_X3_takesIn (lw_V q2524 q2526 qs111 q151 q2527) rfl hM14.1.1 rfl (by decide) (Nat.le_of_ble_eq_true rfl) (w_X3_takesIn hM14.1 (hT.mm hM hM14) e21) (kmV hM14.2 (fun h20 hM20 => ?_)) kxM
      refine V.aload_n dX3_inserts_64 rfl rfl IsR.ref ?_
      refine V.aload_n dX3_inserts_65 rfl rfl IsR.ref ?_
      refine V.mgetI hM20 dX3_inserts_66 fo_X3_310_0 mi_22 ?_
      refine V.aload_n dX3_inserts_69 rfl rfl IsR.ref ?_
      refine V.mgetI hM20 dX3_inserts_70 fo_X3_322_0 mi_24 ?_
      refine V.iconst (v := 2) dX3_inserts_73 (by decide) ?_
      refine V.iload_n dX3_inserts_74 rfl rfl ?_
      refine V.imul dX3_inserts_75 ?_
      refine V.iconst (v := 1) dX3_inserts_76 (by decide) ?_
      refine V.iadd dX3_inserts_77 ?_
      obtain ⟨μ22, e23, hn⟩ := bnd hn
      refine V.invV (as := [.int (μ20.1 22), .int (μ20.1 24), .int (((2 : Int32) * p1) + (1 : Int32))]) (b := B.1) (ci := 0) (w := true) (rc := rc0) dX3_inserts_78 ok_X3_takesIn (lw_V q2524 q2526 qs111 q151 q2527) rfl hM20.1.1 rfl (by decide) (Nat.le_of_ble_eq_true rfl) (w_X3_takesIn hM20.1 (hT.mm hM hM20) e23) (kmV hM20.2 (fun h22 hM22 => ?_)) kxM
      refine V.aload_n dX3_inserts_81 rfl rfl IsR.ref ?_
      refine V.aload_n dX3_inserts_82 rfl rfl IsR.ref ?_
      refine V.mgetI hM22 dX3_inserts_83 fo_X3_310_0 mi_22 ?_
      refine V.iload_n dX3_inserts_86 rfl rfl ?_
      obtain ⟨μ24, e25, hn⟩ := bnd hn
      refine V.invV (as := [.int (μ22.1 22), .int x18]) (b := B.1) (ci := 0) (w := true) (rc := rc0) dX3_inserts_87 ok_X3_reckons (lw_V q2528 q2530 qs112 q151 q2531) rfl hM22.1.1 rfl (by decide) (Nat.le_of_ble_eq_true rfl) (w_X3_reckons hM22.1 (hT.mm hM hM22) e25) (kmV hM22.2 (fun h24 hM24 => ?_)) kxM
      refine V.iconst (v := 1) dX3_inserts_90 (by decide) ?_
      obtain rfl := Option.some.inj hn
      exact V.zret dX3_inserts_91 rfl rfl ⟨rfl, hM24⟩
    · rw [if_pos hc26] at hn
      refine V.iconst (v := 0) dX3_inserts_38 (by decide) ?_
      obtain rfl := Option.some.inj hn
      exact V.zret dX3_inserts_39 rfl rfl ⟨rfl, hM14⟩
  refine iter_ind (P := fun (σ : Int32 × MS) => match σ with | (i3, μ4) => ∀ h4, MM B h h4 μ4 → V l g M_X3_inserts 9 7 [some (.ref B.1), some (.int p1), some (.int i3)] [] h4 (QM B h (some (.int z.1)) z.2)) (b := b16) ?_ FUEL ((0 : Int32), μ2) hL15 _ hM2
  rintro ⟨i3, μ4⟩ ρ28 hr5 hi6 hx7 h4 hM4
  unfold m_X3_inserts_b7 at hr5
  (try dsimp only at hr5)
  refine V.iload_n dX3_inserts_7 rfl rfl ?_
  refine V.aload_n dX3_inserts_8 rfl rfl IsR.ref ?_
  refine V.mgetA hM4 dX3_inserts_9 fo_X3_33_0 ma_20 ?_
  refine V.bipush (v := 8) dX3_inserts_12 (by decide) ?_
  obtain ⟨x9, e10, hr5⟩ := bnd hr5
  refine V.miald hM4 dX3_inserts_14 ma_20 (mLd_some e10) ?_
  refine V.icmp_ge (tgt := 30) dX3_inserts_15 (by decide) (fun hc13 => ?_) (fun hc13 => ?_)
  · rw [if_pos hc13] at hr5
    obtain rfl := Option.some.inj hr5
    have e29 := hx7 _ rfl
    exact V.forget (llS (llS (llN ll0))) (hJ17 _ e29 _ hM4)
  · rw [if_neg hc13] at hr5
    refine V.aload_n dX3_inserts_18 rfl rfl IsR.ref ?_
    refine V.iload_n dX3_inserts_19 rfl rfl ?_
    refine V.iload_n dX3_inserts_20 rfl rfl ?_
    obtain ⟨μ11, e12, hr5⟩ := bnd hr5
    refine V.invV (as := [.int i3, .int p1]) (b := B.1) (ci := 0) (w := true) (rc := rc0) dX3_inserts_21 ok_X3_triesVan (lw_V q2425 q2427 qs87 q151 q2428) rfl hM4.1.1 rfl (by decide) (Nat.le_of_ble_eq_true rfl) (w_X3_triesVan hM4.1 (hT.mm hM hM4) e12) (kmV hM4.2 (fun h11 hM11 => ?_)) kxM
    refine V.iinc (v := i3 + (1 : Int32)) (i := 2) dX3_inserts_24 rfl (by rfl) (by decide) ?_
    simp only [List.set_cons_zero, List.set_cons_succ]
    refine V.goto (tgt := 7) dX3_inserts_27 (by decide) ?_
    obtain rfl := Option.some.inj hr5
    have hi6P := hi6 _ rfl
    exact hi6P _ hM11
def m_X3_comes (p1 : Int32) (p2 : Int32) (p3 : Int32) (p4 : Int32) (p5 : Int32) (p6 : Int32) (μ : MS) : Option (MS) := (mLd μ 2 835 (1 : Int32)).bind fun x1 => (m_X3_lets x1 (0 : Int32) p1 μ).bind fun μ3 => (m_X3_lets x1 (1 : Int32) p2 μ3).bind fun μ5 => (m_X3_lets x1 (2 : Int32) p3 μ5).bind fun μ7 => (m_X3_lets x1 (3 : Int32) p4 μ7).bind fun μ9 => (m_X3_lets x1 (4 : Int32) p5 μ9).bind fun μ11 => (m_X3_lets x1 (5 : Int32) p6 μ11).bind fun μ13 => (m_X3_lets x1 (6 : Int32) (1 : Int32) μ13).bind fun μ15 => (m_X3_lets x1 (7 : Int32) (-1 : Int32) μ15).bind fun μ17 => (m_X3_lets x1 (8 : Int32) (0 : Int32) μ17).bind fun μ19 => (mLd μ19 2 835 (1 : Int32)).bind fun x21 => (mSt μ19 2 835 (1 : Int32) (x21 + (1 : Int32))).bind fun μ24 => (m_X3_inserts x1 μ24).bind fun y25 => if y25.1 = (0 : Int32) then ((m_X3_lets x1 (6 : Int32) (0 : Int32) y25.2).bind fun μ28 => some μ28) else ((m_X3_begin (y25.2.1 22) (y25.2.1 23) y25.2).bind fun x30 => (m_X3_lets x1 (7 : Int32) x30 y25.2).bind fun μ32 => some μ32)
abbrev M_X3_comes : MD := (yX3_comes, cX3_comes, 8, none, [])
theorem ok_X3_comes : mOK yX3_comes 8 6 := ⟨⟨by decide +kernel, by decide +kernel⟩, by decide +kernel, by decide⟩
theorem w_X3_comes {l : Launch} {g : GG} {h : AH} {B : BM} {μ : MS} {p1 : Int32} {p2 : Int32} {p3 : Int32} {p4 : Int32} {p5 : Int32} {p6 : Int32} {z : MS} (hM : IsM B h μ) (hT : TX g h) (hn : m_X3_comes p1 p2 p3 p4 p5 p6 μ = some z) : Sp l g M_X3_comes 10 [.ref B.1, .int p1, .int p2, .int p3, .int p4, .int p5, .int p6] h (QM B h none z) := by
  refine Sp.ofV (L := [some (.ref B.1), some (.int p1), some (.int p2), some (.int p3), some (.int p4), some (.int p5), some (.int p6), none]) rfl rfl (hcR (hcI (hcI (hcI (hcI (hcI (hcI hc0))))))) (Nat.le_of_ble_eq_true rfl) rfl ?_
  have hM0 : MM B h h μ := ⟨hM, SameM.rf⟩
  unfold m_X3_comes at hn
  refine V.aload_n dX3_comes_0 rfl rfl IsR.ref ?_
  refine V.mgetA hM0 dX3_comes_1 fo_X3_7_0 ma_2 ?_
  refine V.iconst (v := 1) dX3_comes_4 (by decide) ?_
  obtain ⟨x1, e2, hn⟩ := bnd hn
  refine V.miald hM0 dX3_comes_5 ma_2 (mLd_some e2) ?_
  refine V.istore (i := 7) dX3_comes_6 (by decide) ?_
  simp only [List.set_cons_zero, List.set_cons_succ]
  refine V.aload_n dX3_comes_8 rfl rfl IsR.ref ?_
  refine V.iload dX3_comes_9 rfl ?_
  refine V.iconst (v := 0) dX3_comes_11 (by decide) ?_
  refine V.iload_n dX3_comes_12 rfl rfl ?_
  obtain ⟨μ3, e4, hn⟩ := bnd hn
  refine V.invV (as := [.int x1, .int (0 : Int32), .int p1]) (b := B.1) (ci := 0) (w := true) (rc := rc0) dX3_comes_13 ok_X3_lets (lw_V q2417 q2419 qs85 q151 q2420) rfl hM0.1.1 rfl (by decide) (Nat.le_of_ble_eq_true rfl) (w_X3_lets hM0.1 (hT.mm hM hM0) e4) (kmV hM0.2 (fun h3 hM3 => ?_)) kxM
  refine V.aload_n dX3_comes_16 rfl rfl IsR.ref ?_
  refine V.iload dX3_comes_17 rfl ?_
  refine V.iconst (v := 1) dX3_comes_19 (by decide) ?_
  refine V.iload_n dX3_comes_20 rfl rfl ?_
  obtain ⟨μ5, e6, hn⟩ := bnd hn
  refine V.invV (as := [.int x1, .int (1 : Int32), .int p2]) (b := B.1) (ci := 0) (w := true) (rc := rc0) dX3_comes_21 ok_X3_lets (lw_V q2417 q2419 qs85 q151 q2420) rfl hM3.1.1 rfl (by decide) (Nat.le_of_ble_eq_true rfl) (w_X3_lets hM3.1 (hT.mm hM hM3) e6) (kmV hM3.2 (fun h5 hM5 => ?_)) kxM
  refine V.aload_n dX3_comes_24 rfl rfl IsR.ref ?_
  refine V.iload dX3_comes_25 rfl ?_
  refine V.iconst (v := 2) dX3_comes_27 (by decide) ?_
  refine V.iload_n dX3_comes_28 rfl rfl ?_
  obtain ⟨μ7, e8, hn⟩ := bnd hn
  refine V.invV (as := [.int x1, .int (2 : Int32), .int p3]) (b := B.1) (ci := 0) (w := true) (rc := rc0) dX3_comes_29 ok_X3_lets (lw_V q2417 q2419 qs85 q151 q2420) rfl hM5.1.1 rfl (by decide) (Nat.le_of_ble_eq_true rfl) (w_X3_lets hM5.1 (hT.mm hM hM5) e8) (kmV hM5.2 (fun h7 hM7 => ?_)) kxM
  refine V.aload_n dX3_comes_32 rfl rfl IsR.ref ?_
  refine V.iload dX3_comes_33 rfl ?_
  refine V.iconst (v := 3) dX3_comes_35 (by decide) ?_
  refine V.iload dX3_comes_36 rfl ?_
  obtain ⟨μ9, e10, hn⟩ := bnd hn
  refine V.invV (as := [.int x1, .int (3 : Int32), .int p4]) (b := B.1) (ci := 0) (w := true) (rc := rc0) dX3_comes_38 ok_X3_lets (lw_V q2417 q2419 qs85 q151 q2420) rfl hM7.1.1 rfl (by decide) (Nat.le_of_ble_eq_true rfl) (w_X3_lets hM7.1 (hT.mm hM hM7) e10) (kmV hM7.2 (fun h9 hM9 => ?_)) kxM
  refine V.aload_n dX3_comes_41 rfl rfl IsR.ref ?_
  refine V.iload dX3_comes_42 rfl ?_
  refine V.iconst (v := 4) dX3_comes_44 (by decide) ?_
  refine V.iload dX3_comes_45 rfl ?_
  obtain ⟨μ11, e12, hn⟩ := bnd hn
  refine V.invV (as := [.int x1, .int (4 : Int32), .int p5]) (b := B.1) (ci := 0) (w := true) (rc := rc0) dX3_comes_47 ok_X3_lets (lw_V q2417 q2419 qs85 q151 q2420) rfl hM9.1.1 rfl (by decide) (Nat.le_of_ble_eq_true rfl) (w_X3_lets hM9.1 (hT.mm hM hM9) e12) (kmV hM9.2 (fun h11 hM11 => ?_)) kxM
  refine V.aload_n dX3_comes_50 rfl rfl IsR.ref ?_
  refine V.iload dX3_comes_51 rfl ?_
  refine V.iconst (v := 5) dX3_comes_53 (by decide) ?_
  refine V.iload dX3_comes_54 rfl ?_
  obtain ⟨μ13, e14, hn⟩ := bnd hn
  refine V.invV (as := [.int x1, .int (5 : Int32), .int p6]) (b := B.1) (ci := 0) (w := true) (rc := rc0) dX3_comes_56 ok_X3_lets (lw_V q2417 q2419 qs85 q151 q2420) rfl hM11.1.1 rfl (by decide) (Nat.le_of_ble_eq_true rfl) (w_X3_lets hM11.1 (hT.mm hM hM11) e14) (kmV hM11.2 (fun h13 hM13 => ?_)) kxM
  refine V.aload_n dX3_comes_59 rfl rfl IsR.ref ?_
  refine V.iload dX3_comes_60 rfl ?_
  refine V.bipush (v := 6) dX3_comes_62 (by decide) ?_
  refine V.iconst (v := 1) dX3_comes_64 (by decide) ?_
  obtain ⟨μ15, e16, hn⟩ := bnd hn
  refine V.invV (as := [.int x1, .int (6 : Int32), .int (1 : Int32)]) (b := B.1) (ci := 0) (w := true) (rc := rc0) dX3_comes_65 ok_X3_lets (lw_V q2417 q2419 qs85 q151 q2420) rfl hM13.1.1 rfl (by decide) (Nat.le_of_ble_eq_true rfl) (w_X3_lets hM13.1 (hT.mm hM hM13) e16) (kmV hM13.2 (fun h15 hM15 => ?_)) kxM
  refine V.aload_n dX3_comes_68 rfl rfl IsR.ref ?_
  refine V.iload dX3_comes_69 rfl ?_
  refine V.bipush (v := 7) dX3_comes_71 (by decide) ?_
  refine V.iconst (v := -1) dX3_comes_73 (by decide) ?_
  obtain ⟨μ17, e18, hn⟩ := bnd hn
  refine V.invV (as := [.int x1, .int (7 : Int32), .int (-1 : Int32)]) (b := B.1) (ci := 0) (w := true) (rc := rc0) dX3_comes_74 ok_X3_lets (lw_V q2417 q2419 qs85 q151 q2420) rfl hM15.1.1 rfl (by decide) (Nat.le_of_ble_eq_true rfl) (w_X3_lets hM15.1 (hT.mm hM hM15) e18) (kmV hM15.2 (fun h17 hM17 => ?_)) kxM
  refine V.aload_n dX3_comes_77 rfl rfl IsR.ref ?_
  refine V.iload dX3_comes_78 rfl ?_
  refine V.bipush (v := 8) dX3_comes_80 (by decide) ?_
  refine V.iconst (v := 0) dX3_comes_82 (by decide) ?_
  obtain ⟨μ19, e20, hn⟩ := bnd hn
  refine V.invV (as := [.int x1, .int (8 : Int32), .int (0 : Int32)]) (b := B.1) (ci := 0) (w := true) (rc := rc0) dX3_comes_83 ok_X3_lets (lw_V q2417 q2419 qs85 q151 q2420) rfl hM17.1.1 rfl (by decide) (Nat.le_of_ble_eq_true rfl) (w_X3_lets hM17.1 (hT.mm hM hM17) e20) (kmV hM17.2 (fun h19 hM19 => ?_)) kxM
  refine V.aload_n dX3_comes_86 rfl rfl IsR.ref ?_
  refine V.mgetA hM19 dX3_comes_87 fo_X3_7_0 ma_2 ?_
  refine V.iconst (v := 1) dX3_comes_90 (by decide) ?_
  refine V.dup2 dX3_comes_91 rfl rfl ?_
  obtain ⟨x21, e22, hn⟩ := bnd hn
  refine V.miald hM19 dX3_comes_92 ma_2 (mLd_some e22) ?_
  refine V.iconst (v := 1) dX3_comes_93 (by decide) ?_
  refine V.iadd dX3_comes_94 ?_
  obtain ⟨μ24, e23, hn⟩ := bnd hn
  refine V.miast hM19 dX3_comes_95 ma_2 (mSt_some e23) (fun h24 hM24 => ?_)
  refine V.aload_n dX3_comes_96 rfl rfl IsR.ref ?_
  refine V.iload dX3_comes_97 rfl ?_
  obtain ⟨y25, e27, hn⟩ := bnd hn
  refine V.invV (as := [.int x1]) (b := B.1) (ci := 0) (w := true) (rc := rc0) dX3_comes_99 ok_X3_inserts (lw_V q2421 q2423 qs86 q151 q2424) rfl hM24.1.1 rfl (by decide) (Nat.le_of_ble_eq_true rfl) (w_X3_inserts hM24.1 (hT.mm hM hM24) e27) (kmI hM24.2 (fun h26 hM26 => ?_)) kxM
  refine V.if_eq (tgt := 128) dX3_comes_102 (by decide) (fun hc34 => ?_) (fun hc34 => ?_)
  · rw [if_pos hc34] at hn
    refine V.aload_n dX3_comes_128 rfl rfl IsR.ref ?_
    refine V.iload dX3_comes_129 rfl ?_
    refine V.bipush (v := 6) dX3_comes_131 (by decide) ?_
    refine V.iconst (v := 0) dX3_comes_133 (by decide) ?_
    obtain ⟨μ28, e29, hn⟩ := bnd hn
    refine V.invV (as := [.int x1, .int (6 : Int32), .int (0 : Int32)]) (b := B.1) (ci := 0) (w := true) (rc := rc0) dX3_comes_134 ok_X3_lets (lw_V q2417 q2419 qs85 q151 q2420) rfl hM26.1.1 rfl (by decide) (Nat.le_of_ble_eq_true rfl) (w_X3_lets hM26.1 (hT.mm hM hM26) e29) (kmV hM26.2 (fun h28 hM28 => ?_)) kxM
    obtain rfl := Option.some.inj hn
    exact V.vret dX3_comes_137 rfl ⟨rfl, hM28⟩
  · rw [if_neg hc34] at hn
    refine V.aload_n dX3_comes_105 rfl rfl IsR.ref ?_
    refine V.iload dX3_comes_106 rfl ?_
    refine V.bipush (v := 7) dX3_comes_108 (by decide) ?_
    refine V.aload_n dX3_comes_110 rfl rfl IsR.ref ?_
    refine V.aload_n dX3_comes_111 rfl rfl IsR.ref ?_
    refine V.mgetI hM26 dX3_comes_112 fo_X3_310_0 mi_22 ?_
    refine V.aload_n dX3_comes_115 rfl rfl IsR.ref ?_
    refine V.mgetI hM26 dX3_comes_116 fo_X3_319_0 mi_23 ?_
    obtain ⟨x30, e31, hn⟩ := bnd hn
    refine V.invV (as := [.int (y25.2.1 22), .int (y25.2.1 23)]) (b := B.1) (ci := 0) (w := true) (rc := rc0) dX3_comes_119 ok_X3_begin (lw_V q2464 q2466 qs96 q151 q2467) rfl hM26.1.1 rfl (by decide) (Nat.le_of_ble_eq_true rfl) (w_X3_begin hM26.1 (hT.mm hM hM26) e31) (krI ?_) kxZ
    obtain ⟨μ32, e33, hn⟩ := bnd hn
    refine V.invV (as := [.int x1, .int (7 : Int32), .int x30]) (b := B.1) (ci := 0) (w := true) (rc := rc0) dX3_comes_122 ok_X3_lets (lw_V q2417 q2419 qs85 q151 q2420) rfl hM26.1.1 rfl (by decide) (Nat.le_of_ble_eq_true rfl) (w_X3_lets hM26.1 (hT.mm hM hM26) e33) (kmV hM26.2 (fun h32 hM32 => ?_)) kxM
    refine V.goto (tgt := 137) dX3_comes_125 (by decide) ?_
    obtain rfl := Option.some.inj hn
    exact V.vret dX3_comes_137 rfl ⟨rfl, hM32⟩
def m_X3_countIn_b4 (p1 : Int32) (μ : MS) : (Int32 × Int32) → Option ((Int32 × Int32) ⊕ (Int32)) := fun s => match s with
  | (i1, i2) => (mLd μ 2 835 (1 : Int32)).bind fun x7 => if x7 ≤ i2 then (some (.inr i1)) else ((m_X3_call i2 (6 : Int32) μ).bind fun x9 => if x9 = p1 then (some (.inl (i1 + (1 : Int32), i2 + (1 : Int32)))) else (some (.inl (i1 + (0 : Int32), i2 + (1 : Int32)))))
def m_X3_countIn (p1 : Int32) (μ : MS) : Option (Int32) := (iter (m_X3_countIn_b4 p1 μ) FUEL ((0 : Int32), (0 : Int32))).bind fun v13 => some v13
abbrev M_X3_countIn : MD := (yX3_countIn, cX3_countIn, 4, (some .int), [])
theorem ok_X3_countIn : mOK yX3_countIn 4 1 := ⟨⟨by decide +kernel, by decide +kernel⟩, by decide +kernel, by decide⟩
theorem w_X3_countIn {l : Launch} {g : GG} {h : AH} {B : BM} {μ : MS} {p1 : Int32} {z : Int32} (hM : IsM B h μ) (hT : TX g h) (hn : m_X3_countIn p1 μ = some z) : Sp l g M_X3_countIn 1 [.ref B.1, .int p1] h (QZ (some (.int z)) h) := by
  refine Sp.ofV (L := [some (.ref B.1), some (.int p1), none, none]) rfl rfl (hcR (hcI hc0)) (Nat.le_of_ble_eq_true rfl) rfl ?_
  have hM0 : MM B h h μ := ⟨hM, SameM.rf⟩
  unfold m_X3_countIn at hn
  refine V.iconst (v := 0) dX3_countIn_0 (by decide) ?_
  refine V.istore_n (i := 2) dX3_countIn_1 rfl (by decide) ?_
  simp only [List.set_cons_zero, List.set_cons_succ]
  refine V.iconst (v := 0) dX3_countIn_2 (by decide) ?_
  refine V.istore_n (i := 3) dX3_countIn_3 rfl (by decide) ?_
  simp only [List.set_cons_zero, List.set_cons_succ]
  obtain ⟨b15, hL14, hn⟩ := bnd hn
  have hJ16 : ∀ (v13 : Int32), v13 = b15 → V l g M_X3_countIn 1 39 [none, none, some (.int v13), none] [] h (QZ (some (.int z)) h) := by
    intro v13 e17
    subst e17
    (try dsimp only at hn)
    refine V.iload_n dX3_countIn_39 rfl rfl ?_
    obtain rfl := Option.some.inj hn
    exact V.iret dX3_countIn_40 rfl ⟨rfl, rfl⟩
  refine iter_ind (P := fun (σ : Int32 × Int32) => match σ with | (i1, i2) => V l g M_X3_countIn 1 4 [some (.ref B.1), some (.int p1), some (.int i1), some (.int i2)] [] h (QZ (some (.int z)) h)) (b := b15) ?_ FUEL ((0 : Int32), (0 : Int32)) hL14
  rintro ⟨i1, i2⟩ ρ18 hr3 hi4 hx5
  unfold m_X3_countIn_b4 at hr3
  (try dsimp only at hr3)
  refine V.iload_n dX3_countIn_4 rfl rfl ?_
  refine V.aload_n dX3_countIn_5 rfl rfl IsR.ref ?_
  refine V.mgetA hM0 dX3_countIn_6 fo_X3_7_0 ma_2 ?_
  refine V.iconst (v := 1) dX3_countIn_9 (by decide) ?_
  obtain ⟨x7, e8, hr3⟩ := bnd hr3
  refine V.miald hM0 dX3_countIn_10 ma_2 (mLd_some e8) ?_
  refine V.icmp_ge (tgt := 39) dX3_countIn_11 (by decide) (fun hc12 => ?_) (fun hc12 => ?_)
  · rw [if_pos hc12] at hr3
    obtain rfl := Option.some.inj hr3
    have e19 := hx5 _ rfl
    exact V.forget (llN (llN (llS (llN ll0)))) (hJ16 _ e19)
  · rw [if_neg hc12] at hr3
    refine V.iload_n dX3_countIn_14 rfl rfl ?_
    refine V.aload_n dX3_countIn_15 rfl rfl IsR.ref ?_
    refine V.iload_n dX3_countIn_16 rfl rfl ?_
    refine V.bipush (v := 6) dX3_countIn_17 (by decide) ?_
    obtain ⟨x9, e10, hr3⟩ := bnd hr3
    refine V.invV (as := [.int i2, .int (6 : Int32)]) (b := B.1) (ci := 0) (w := true) (rc := rc0) dX3_countIn_19 ok_X3_call (lw_V q2448 q2450 qs92 q151 q2451) rfl hM0.1.1 rfl (by decide) (Nat.le_of_ble_eq_true rfl) (w_X3_call hM0.1 (hT.mm hM hM0) e10) (krI ?_) kxZ
    refine V.iload_n dX3_countIn_22 rfl rfl ?_
    refine V.icmp_ne (tgt := 30) dX3_countIn_23 (by decide) (fun hc11 => ?_) (fun hc11 => ?_)
    · rw [if_neg hc11] at hr3
      refine V.iconst (v := 0) dX3_countIn_30 (by decide) ?_
      refine V.iadd dX3_countIn_31 ?_
      refine V.istore_n (i := 2) dX3_countIn_32 rfl (by decide) ?_
      simp only [List.set_cons_zero, List.set_cons_succ]
      refine V.iinc (v := i2 + (1 : Int32)) (i := 3) dX3_countIn_33 rfl (by rfl) (by decide) ?_
      simp only [List.set_cons_zero, List.set_cons_succ]
      refine V.goto (tgt := 4) dX3_countIn_36 (by decide) ?_
      obtain rfl := Option.some.inj hr3
      have hi4P := hi4 _ rfl
      exact hi4P
    · rw [if_pos hc11] at hr3
      refine V.iconst (v := 1) dX3_countIn_26 (by decide) ?_
      refine V.goto (tgt := 31) dX3_countIn_27 (by decide) ?_
      refine V.iadd dX3_countIn_31 ?_
      refine V.istore_n (i := 2) dX3_countIn_32 rfl (by decide) ?_
      simp only [List.set_cons_zero, List.set_cons_succ]
      refine V.iinc (v := i2 + (1 : Int32)) (i := 3) dX3_countIn_33 rfl (by rfl) (by decide) ?_
      simp only [List.set_cons_zero, List.set_cons_succ]
      refine V.goto (tgt := 4) dX3_countIn_36 (by decide) ?_
      obtain rfl := Option.some.inj hr3
      have hi4P := hi4 _ rfl
      exact hi4P
def m_X3_load_b98 : (Int32 × MS) → Option ((Int32 × MS) ⊕ (MS)) := fun s => match s with
  | (i33, μ34) => if (184 : Int32) ≤ i33 then (some (.inr μ34)) else ((mLd μ34 19 184 i33).bind fun x39 => (mSt μ34 20 184 i33 x39).bind fun μ42 => some (.inl (i33 + (1 : Int32), μ42)))
def m_X3_load_b125 : (Int32 × MS) → Option ((Int32 × MS) ⊕ (MS)) := fun s => match s with
  | (i48, μ49) => if (835 : Int32) ≤ i48 then (some (.inr μ49)) else ((mSt μ49 2 835 i48 (0 : Int32)).bind fun μ55 => some (.inl (i48 + (1 : Int32), μ55)))
def m_X3_load_b147 : (Int32 × MS) → Option ((Int32 × MS) ⊕ (MS)) := fun s => match s with
  | (i61, μ62) => (mLd μ62 20 184 (8 : Int32)).bind fun x67 => if x67 ≤ i61 then (some (.inr μ62)) else ((m_X3_van i61 (5 : Int32) μ62).bind fun x69 => (mSt μ62 2 835 ((2 : Int32) + i61) x69).bind fun μ72 => some (.inl (i61 + (1 : Int32), μ72)))
def m_X3_load_b180 : (Int32 × MS) → Option ((Int32 × MS) ⊕ (MS)) := fun s => match s with
  | (i78, μ79) => (mLd μ79 20 184 (9 : Int32)).bind fun x84 => if x84 ≤ i78 then (some (.inr μ79)) else ((mLd μ79 20 184 ((40 : Int32) + ((6 : Int32) * i78))).bind fun x86 => (mLd μ79 20 184 (((40 : Int32) + ((6 : Int32) * i78)) + (1 : Int32))).bind fun x88 => (mLd μ79 20 184 (((40 : Int32) + ((6 : Int32) * i78)) + (2 : Int32))).bind fun x90 => (mLd μ79 20 184 (((40 : Int32) + ((6 : Int32) * i78)) + (3 : Int32))).bind fun x92 => (mLd μ79 20 184 (((40 : Int32) + ((6 : Int32) * i78)) + (4 : Int32))).bind fun x94 => (mLd μ79 20 184 (((40 : Int32) + ((6 : Int32) * i78)) + (5 : Int32))).bind fun x96 => (m_X3_comes x86 x88 x90 x92 x94 x96 μ79).bind fun μ98 => some (.inl (i78 + (1 : Int32), μ98)))
def m_X3_load (p1 : Int32) (μ : MS) : Option (Int32 × MS) := (some (mSF μ 0 (0 : Int32))).bind fun μ2 => (m_X3_in p1 (0 : Int32) (μ2.1 7)).bind fun x3 => (some (if x3 = (0 : Int32) then ((1 : Int32)) else ((0 : Int32)))).bind fun v8 => (m_X3_refuse v8 (1 : Int32) μ2).bind fun y9 => if y9.1 = (0 : Int32) then ((some (mSF y9.2 7 (0 : Int32))).bind fun μ13 => (m_X3_reads p1 μ13).bind fun μ14 => (some (mSF μ14 8 (μ14.1 17))).bind fun μ17 => (some (if (μ17.1 17) = (0 : Int32) then ((-1 : Int32)) else (μ17.1 18))).bind fun v21 => (some (mSF μ17 9 v21)).bind fun μ23 => (some (if (μ23.1 17) = (0 : Int32) then ((0 : Int32)) else ((1 : Int32)))).bind fun v27 => (m_X3_refuse v27 (2 : Int32) μ23).bind fun y28 => if y28.1 = (0 : Int32) then ((some (mSF y28.2 1 (1 : Int32))).bind fun μ32 => (iter (m_X3_load_b98) FUEL ((0 : Int32), μ32)).bind fun μ44 => (iter (m_X3_load_b125) FUEL ((0 : Int32), μ44)).bind fun μ57 => (iter (m_X3_load_b147) FUEL ((0 : Int32), μ57)).bind fun μ74 => (iter (m_X3_load_b180) FUEL ((0 : Int32), μ74)).bind fun μ101 => (some (mSF μ101 4 (0 : Int32))).bind fun μ106 => (mSt μ106 5 2 (0 : Int32) (0 : Int32)).bind fun μ108 => (mSt μ108 5 2 (1 : Int32) (0 : Int32)).bind fun μ110 => (m_X3_countIn (1 : Int32) μ110).bind fun x111 => some (x111, μ110)) else (some ((0 : Int32), y28.2))) else (some ((0 : Int32), y9.2))
abbrev M_X3_load : MD := (yX3_load, cX3_load, 4, (some .int), [])
theorem ok_X3_load : mOK yX3_load 4 1 := ⟨⟨by decide +kernel, by decide +kernel⟩, by decide +kernel, by decide⟩
theorem w_X3_load {l : Launch} {g : GG} {h : AH} {B : BM} {μ : MS} {p1 : Int32} {z : Int32 × MS} (hM : IsM B h μ) (hT : TX g h) (hn : m_X3_load p1 μ = some z) : Sp l g M_X3_load 11 [.ref B.1, .int p1] h (QM B h (some (.int z.1)) z.2) := by
  refine Sp.ofV (L := [some (.ref B.1), some (.int p1), none, none]) rfl rfl (hcR (hcI hc0)) (Nat.le_of_ble_eq_true rfl) rfl ?_
  have hM0 : MM B h h μ := ⟨hM, SameM.rf⟩
  unfold m_X3_load at hn
  refine V.aload_n dX3_load_0 rfl rfl IsR.ref ?_
  refine V.iconst (v := 0) dX3_load_1 (by decide) ?_
  obtain ⟨μ2, e1, hn⟩ := bnd hn
  refine V.mputI hM0 dX3_load_2 po_M_48 mi_0 (fun h2 hM2 => ?_)
  rw [Option.some.inj e1] at hM2
  refine V.aload_n dX3_load_5 rfl rfl IsR.ref ?_
  refine V.iload_n dX3_load_6 rfl rfl ?_
  refine V.iconst (v := 0) dX3_load_7 (by decide) ?_
  refine V.aload_n dX3_load_8 rfl rfl IsR.ref ?_
  refine V.mgetI hM2 dX3_load_9 fo_X3_59_0 mi_7 ?_
  obtain ⟨x3, e4, hn⟩ := bnd hn
  refine V.invS (as := [.int p1, .int (0 : Int32), .int (μ2.1 7)]) dX3_load_12 ok_X3_in (lw_S q2308 q2309 q151 q2310) (by decide) (Nat.le_of_ble_eq_true rfl) (w_X3_in e4) (krI ?_) kxZ
  obtain ⟨v8, e132, hn⟩ := bnd hn
  have e132 := Option.some.inj e132
  have hJ131 : V l g M_X3_load 11 23 [some (.ref B.1), some (.int p1), none, none] [.int v8, .ref B.1] h2 (QM B h (some (.int z.1)) z.2) := by
    refine V.iconst (v := 1) dX3_load_23 (by decide) ?_
    obtain ⟨y9, e11, hn⟩ := bnd hn
    refine V.invV (as := [.int v8, .int (1 : Int32)]) (b := B.1) (ci := 0) (w := true) (rc := rc0) dX3_load_24 ok_X3_refuse (lw_V q2311 q2313 qs67 q151 q2314) rfl hM2.1.1 rfl (by decide) (Nat.le_of_ble_eq_true rfl) (w_X3_refuse hM2.1 (hT.mm hM hM2) e11) (kmI hM2.2 (fun h10 hM10 => ?_)) kxM
    refine V.if_eq (tgt := 32) dX3_load_27 (by decide) (fun hc130 => ?_) (fun hc130 => ?_)
    · rw [if_pos hc130] at hn
      refine V.aload_n dX3_load_32 rfl rfl IsR.ref ?_
      refine V.iconst (v := 0) dX3_load_33 (by decide) ?_
      obtain ⟨μ13, e12, hn⟩ := bnd hn
      refine V.mputI hM10 dX3_load_34 po_M_59 mi_7 (fun h13 hM13 => ?_)
      rw [Option.some.inj e12] at hM13
      refine V.aload_n dX3_load_37 rfl rfl IsR.ref ?_
      refine V.iload_n dX3_load_38 rfl rfl ?_
      obtain ⟨μ14, e15, hn⟩ := bnd hn
      refine V.invV (as := [.int p1]) (b := B.1) (ci := 0) (w := true) (rc := rc0) dX3_load_39 ok_X3_reads (lw_V q2315 q2317 qs68 q151 q2318) rfl hM13.1.1 rfl (by decide) (Nat.le_of_ble_eq_true rfl) (w_X3_reads hM13.1 (hT.mm hM hM13) e15) (kmV hM13.2 (fun h14 hM14 => ?_)) kxM
      refine V.aload_n dX3_load_42 rfl rfl IsR.ref ?_
      refine V.aload_n dX3_load_43 rfl rfl IsR.ref ?_
      refine V.mgetI hM14 dX3_load_44 fo_X3_94_0 mi_17 ?_
      obtain ⟨μ17, e16, hn⟩ := bnd hn
      refine V.mputI hM14 dX3_load_47 po_M_62 mi_8 (fun h17 hM17 => ?_)
      rw [Option.some.inj e16] at hM17
      refine V.aload_n dX3_load_50 rfl rfl IsR.ref ?_
      refine V.aload_n dX3_load_51 rfl rfl IsR.ref ?_
      refine V.mgetI hM17 dX3_load_52 fo_X3_94_0 mi_17 ?_
      obtain ⟨v21, e129, hn⟩ := bnd hn
      have e129 := Option.some.inj e129
      have hJ128 : V l g M_X3_load 11 66 [some (.ref B.1), none, none, none] [.int v21, .ref B.1] h17 (QM B h (some (.int z.1)) z.2) := by
        obtain ⟨μ23, e22, hn⟩ := bnd hn
        refine V.mputI hM17 dX3_load_66 po_M_23 mi_9 (fun h23 hM23 => ?_)
        rw [Option.some.inj e22] at hM23
        refine V.aload_n dX3_load_69 rfl rfl IsR.ref ?_
        refine V.aload_n dX3_load_70 rfl rfl IsR.ref ?_
        refine V.mgetI hM23 dX3_load_71 fo_X3_94_0 mi_17 ?_
        obtain ⟨v27, e127, hn⟩ := bnd hn
        have e127 := Option.some.inj e127
        have hJ126 : V l g M_X3_load 11 82 [some (.ref B.1), none, none, none] [.int v27, .ref B.1] h23 (QM B h (some (.int z.1)) z.2) := by
          refine V.iconst (v := 2) dX3_load_82 (by decide) ?_
          obtain ⟨y28, e30, hn⟩ := bnd hn
          refine V.invV (as := [.int v27, .int (2 : Int32)]) (b := B.1) (ci := 0) (w := true) (rc := rc0) dX3_load_83 ok_X3_refuse (lw_V q2311 q2313 qs67 q151 q2314) rfl hM23.1.1 rfl (by decide) (Nat.le_of_ble_eq_true rfl) (w_X3_refuse hM23.1 (hT.mm hM hM23) e30) (kmI hM23.2 (fun h29 hM29 => ?_)) kxM
          refine V.if_eq (tgt := 91) dX3_load_86 (by decide) (fun hc125 => ?_) (fun hc125 => ?_)
          · rw [if_pos hc125] at hn
            refine V.aload_n dX3_load_91 rfl rfl IsR.ref ?_
            refine V.iconst (v := 1) dX3_load_92 (by decide) ?_
            obtain ⟨μ32, e31, hn⟩ := bnd hn
            refine V.mputI hM29 dX3_load_93 (po_M_51 (Or.inr rfl)) mi_1 (fun h32 hM32 => ?_)
            rw [Option.some.inj e31] at hM32
            refine V.iconst (v := 0) dX3_load_96 (by decide) ?_
            refine V.istore_n (i := 2) dX3_load_97 rfl (by decide) ?_
            simp only [List.set_cons_zero, List.set_cons_succ]
            obtain ⟨b46, hL45, hn⟩ := bnd hn
            have hJ47 : ∀ (μ44 : MS), μ44 = b46 → ∀ h44, MM B h h44 μ44 → V l g M_X3_load 11 123 [some (.ref B.1), none, none, none] [] h44 (QM B h (some (.int z.1)) z.2) := by
              intro μ44 e122 h44 hM44
              subst e122
              (try dsimp only at hn)
              refine V.iconst (v := 0) dX3_load_123 (by decide) ?_
              refine V.istore_n (i := 2) dX3_load_124 rfl (by decide) ?_
              simp only [List.set_cons_zero, List.set_cons_succ]
              obtain ⟨b59, hL58, hn⟩ := bnd hn
              have hJ60 : ∀ (μ57 : MS), μ57 = b59 → ∀ h57, MM B h h57 μ57 → V l g M_X3_load 11 145 [some (.ref B.1), none, none, none] [] h57 (QM B h (some (.int z.1)) z.2) := by
                intro μ57 e119 h57 hM57
                subst e119
                (try dsimp only at hn)
                refine V.iconst (v := 0) dX3_load_145 (by decide) ?_
                refine V.istore_n (i := 2) dX3_load_146 rfl (by decide) ?_
                simp only [List.set_cons_zero, List.set_cons_succ]
                obtain ⟨b76, hL75, hn⟩ := bnd hn
                have hJ77 : ∀ (μ74 : MS), μ74 = b76 → ∀ h74, MM B h h74 μ74 → V l g M_X3_load 11 178 [some (.ref B.1), none, none, none] [] h74 (QM B h (some (.int z.1)) z.2) := by
                  intro μ74 e116 h74 hM74
                  subst e116
                  (try dsimp only at hn)
                  refine V.iconst (v := 0) dX3_load_178 (by decide) ?_
                  refine V.istore_n (i := 2) dX3_load_179 rfl (by decide) ?_
                  simp only [List.set_cons_zero, List.set_cons_succ]
                  obtain ⟨b103, hL102, hn⟩ := bnd hn
                  have hJ104 : ∀ (μ101 : MS), μ101 = b103 → ∀ h101, MM B h h101 μ101 → V l g M_X3_load 11 255 [some (.ref B.1), none, none, none] [] h101 (QM B h (some (.int z.1)) z.2) := by
                    intro μ101 e113 h101 hM101
                    subst e113
                    (try dsimp only at hn)
                    refine V.aload_n dX3_load_255 rfl rfl IsR.ref ?_
                    refine V.iconst (v := 0) dX3_load_256 (by decide) ?_
                    obtain ⟨μ106, e105, hn⟩ := bnd hn
                    refine V.mputI hM101 dX3_load_257 po_M_198 mi_4 (fun h106 hM106 => ?_)
                    rw [Option.some.inj e105] at hM106
                    refine V.aload_n dX3_load_260 rfl rfl IsR.ref ?_
                    refine V.mgetA hM106 dX3_load_261 fo_X3_16_0 ma_5 ?_
                    refine V.iconst (v := 0) dX3_load_264 (by decide) ?_
                    refine V.iconst (v := 0) dX3_load_265 (by decide) ?_
                    obtain ⟨μ108, e107, hn⟩ := bnd hn
                    refine V.mzast hM106 dX3_load_266 ma_5 (mSt_some e107) rfl (fun h108 hM108 => ?_)
                    refine V.aload_n dX3_load_267 rfl rfl IsR.ref ?_
                    refine V.mgetA hM108 dX3_load_268 fo_X3_16_0 ma_5 ?_
                    refine V.iconst (v := 1) dX3_load_271 (by decide) ?_
                    refine V.iconst (v := 0) dX3_load_272 (by decide) ?_
                    obtain ⟨μ110, e109, hn⟩ := bnd hn
                    refine V.mzast hM108 dX3_load_273 ma_5 (mSt_some e109) rfl (fun h110 hM110 => ?_)
                    refine V.aload_n dX3_load_274 rfl rfl IsR.ref ?_
                    refine V.iconst (v := 1) dX3_load_275 (by decide) ?_
                    obtain ⟨x111, e112, hn⟩ := bnd hn
                    refine V.invV (as := [.int (1 : Int32)]) (b := B.1) (ci := 0) (w := true) (rc := rc0) dX3_load_276 ok_X3_countIn (lw_V q2532 q2534 qs113 q151 q2535) rfl hM110.1.1 rfl (by decide) (Nat.le_of_ble_eq_true rfl) (w_X3_countIn hM110.1 (hT.mm hM hM110) e112) (krI ?_) kxZ
                    obtain rfl := Option.some.inj hn
                    exact V.iret dX3_load_279 rfl ⟨rfl, hM110⟩
                  refine iter_ind (P := fun (σ : Int32 × MS) => match σ with | (i78, μ79) => ∀ h79, MM B h h79 μ79 → V l g M_X3_load 11 180 [some (.ref B.1), none, some (.int i78), none] [] h79 (QM B h (some (.int z.1)) z.2)) (b := b103) ?_ FUEL ((0 : Int32), μ74) hL102 _ hM74
                  rintro ⟨i78, μ79⟩ ρ114 hr80 hi81 hx82 h79 hM79
                  unfold m_X3_load_b180 at hr80
                  (try dsimp only at hr80)
                  refine V.iload_n dX3_load_180 rfl rfl ?_
                  refine V.aload_n dX3_load_181 rfl rfl IsR.ref ?_
                  refine V.mgetA hM79 dX3_load_182 fo_X3_33_0 ma_20 ?_
                  refine V.bipush (v := 9) dX3_load_185 (by decide) ?_
                  obtain ⟨x84, e85, hr80⟩ := bnd hr80
                  refine V.miald hM79 dX3_load_187 ma_20 (mLd_some e85) ?_
                  refine V.icmp_ge (tgt := 255) dX3_load_188 (by decide) (fun hc100 => ?_) (fun hc100 => ?_)
                  · rw [if_pos hc100] at hr80
                    obtain rfl := Option.some.inj hr80
                    have e115 := hx82 _ rfl
                    exact V.forget (llS (llN (llN (llN ll0)))) (hJ104 _ e115 _ hM79)
                  · rw [if_neg hc100] at hr80
                    refine V.bipush (v := 40) dX3_load_191 (by decide) ?_
                    refine V.bipush (v := 6) dX3_load_193 (by decide) ?_
                    refine V.iload_n dX3_load_195 rfl rfl ?_
                    refine V.imul dX3_load_196 ?_
                    refine V.iadd dX3_load_197 ?_
                    refine V.istore_n (i := 3) dX3_load_198 rfl (by decide) ?_
                    simp only [List.set_cons_zero, List.set_cons_succ]
                    refine V.aload_n dX3_load_199 rfl rfl IsR.ref ?_
                    refine V.aload_n dX3_load_200 rfl rfl IsR.ref ?_
                    refine V.mgetA hM79 dX3_load_201 fo_X3_33_0 ma_20 ?_
                    refine V.iload_n dX3_load_204 rfl rfl ?_
                    obtain ⟨x86, e87, hr80⟩ := bnd hr80
                    refine V.miald hM79 dX3_load_205 ma_20 (mLd_some e87) ?_
                    refine V.aload_n dX3_load_206 rfl rfl IsR.ref ?_
                    refine V.mgetA hM79 dX3_load_207 fo_X3_33_0 ma_20 ?_
                    refine V.iload_n dX3_load_210 rfl rfl ?_
                    refine V.iconst (v := 1) dX3_load_211 (by decide) ?_
                    refine V.iadd dX3_load_212 ?_
                    obtain ⟨x88, e89, hr80⟩ := bnd hr80
                    refine V.miald hM79 dX3_load_213 ma_20 (mLd_some e89) ?_
                    refine V.aload_n dX3_load_214 rfl rfl IsR.ref ?_
                    refine V.mgetA hM79 dX3_load_215 fo_X3_33_0 ma_20 ?_
                    refine V.iload_n dX3_load_218 rfl rfl ?_
                    refine V.iconst (v := 2) dX3_load_219 (by decide) ?_
                    refine V.iadd dX3_load_220 ?_
                    obtain ⟨x90, e91, hr80⟩ := bnd hr80
                    refine V.miald hM79 dX3_load_221 ma_20 (mLd_some e91) ?_
                    refine V.aload_n dX3_load_222 rfl rfl IsR.ref ?_
                    refine V.mgetA hM79 dX3_load_223 fo_X3_33_0 ma_20 ?_
                    refine V.iload_n dX3_load_226 rfl rfl ?_
                    refine V.iconst (v := 3) dX3_load_227 (by decide) ?_
                    refine V.iadd dX3_load_228 ?_
                    obtain ⟨x92, e93, hr80⟩ := bnd hr80
                    refine V.miald hM79 dX3_load_229 ma_20 (mLd_some e93) ?_
                    refine V.aload_n dX3_load_230 rfl rfl IsR.ref ?_
                    refine V.mgetA hM79 dX3_load_231 fo_X3_33_0 ma_20 ?_
                    refine V.iload_n dX3_load_234 rfl rfl ?_
                    refine V.iconst (v := 4) dX3_load_235 (by decide) ?_
                    refine V.iadd dX3_load_236 ?_
                    obtain ⟨x94, e95, hr80⟩ := bnd hr80
                    refine V.miald hM79 dX3_load_237 ma_20 (mLd_some e95) ?_
                    refine V.aload_n dX3_load_238 rfl rfl IsR.ref ?_
                    refine V.mgetA hM79 dX3_load_239 fo_X3_33_0 ma_20 ?_
                    refine V.iload_n dX3_load_242 rfl rfl ?_
                    refine V.iconst (v := 5) dX3_load_243 (by decide) ?_
                    refine V.iadd dX3_load_244 ?_
                    obtain ⟨x96, e97, hr80⟩ := bnd hr80
                    refine V.miald hM79 dX3_load_245 ma_20 (mLd_some e97) ?_
                    obtain ⟨μ98, e99, hr80⟩ := bnd hr80
                    refine V.invV (as := [.int x86, .int x88, .int x90, .int x92, .int x94, .int x96]) (b := B.1) (ci := 0) (w := true) (rc := rc0) dX3_load_246 ok_X3_comes (lw_V q2413 q2415 qs84 q151 q2416) rfl hM79.1.1 rfl (by decide) (Nat.le_of_ble_eq_true rfl) (w_X3_comes hM79.1 (hT.mm hM hM79) e99) (kmV hM79.2 (fun h98 hM98 => ?_)) kxM
                    refine V.iinc (v := i78 + (1 : Int32)) (i := 2) dX3_load_249 rfl (by rfl) (by decide) ?_
                    simp only [List.set_cons_zero, List.set_cons_succ]
                    refine V.goto (tgt := 180) dX3_load_252 (by decide) ?_
                    obtain rfl := Option.some.inj hr80
                    have hi81P := hi81 _ rfl
                    exact V.forget (llS (llN (llS (llN ll0)))) (hi81P _ hM98)
                refine iter_ind (P := fun (σ : Int32 × MS) => match σ with | (i61, μ62) => ∀ h62, MM B h h62 μ62 → V l g M_X3_load 11 147 [some (.ref B.1), none, some (.int i61), none] [] h62 (QM B h (some (.int z.1)) z.2)) (b := b76) ?_ FUEL ((0 : Int32), μ57) hL75 _ hM57
                rintro ⟨i61, μ62⟩ ρ117 hr63 hi64 hx65 h62 hM62
                unfold m_X3_load_b147 at hr63
                (try dsimp only at hr63)
                refine V.iload_n dX3_load_147 rfl rfl ?_
                refine V.aload_n dX3_load_148 rfl rfl IsR.ref ?_
                refine V.mgetA hM62 dX3_load_149 fo_X3_33_0 ma_20 ?_
                refine V.bipush (v := 8) dX3_load_152 (by decide) ?_
                obtain ⟨x67, e68, hr63⟩ := bnd hr63
                refine V.miald hM62 dX3_load_154 ma_20 (mLd_some e68) ?_
                refine V.icmp_ge (tgt := 178) dX3_load_155 (by decide) (fun hc73 => ?_) (fun hc73 => ?_)
                · rw [if_pos hc73] at hr63
                  obtain rfl := Option.some.inj hr63
                  have e118 := hx65 _ rfl
                  exact V.forget (llS (llN (llN (llN ll0)))) (hJ77 _ e118 _ hM62)
                · rw [if_neg hc73] at hr63
                  refine V.aload_n dX3_load_158 rfl rfl IsR.ref ?_
                  refine V.mgetA hM62 dX3_load_159 fo_X3_7_0 ma_2 ?_
                  refine V.iconst (v := 2) dX3_load_162 (by decide) ?_
                  refine V.iload_n dX3_load_163 rfl rfl ?_
                  refine V.iadd dX3_load_164 ?_
                  refine V.aload_n dX3_load_165 rfl rfl IsR.ref ?_
                  refine V.iload_n dX3_load_166 rfl rfl ?_
                  refine V.iconst (v := 5) dX3_load_167 (by decide) ?_
                  obtain ⟨x69, e70, hr63⟩ := bnd hr63
                  refine V.invV (as := [.int i61, .int (5 : Int32)]) (b := B.1) (ci := 0) (w := true) (rc := rc0) dX3_load_168 ok_X3_van (lw_V q2409 q2411 qs83 q151 q2412) rfl hM62.1.1 rfl (by decide) (Nat.le_of_ble_eq_true rfl) (w_X3_van hM62.1 (hT.mm hM hM62) e70) (krI ?_) kxZ
                  obtain ⟨μ72, e71, hr63⟩ := bnd hr63
                  refine V.miast hM62 dX3_load_171 ma_2 (mSt_some e71) (fun h72 hM72 => ?_)
                  refine V.iinc (v := i61 + (1 : Int32)) (i := 2) dX3_load_172 rfl (by rfl) (by decide) ?_
                  simp only [List.set_cons_zero, List.set_cons_succ]
                  refine V.goto (tgt := 147) dX3_load_175 (by decide) ?_
                  obtain rfl := Option.some.inj hr63
                  have hi64P := hi64 _ rfl
                  exact hi64P _ hM72
              refine iter_ind (P := fun (σ : Int32 × MS) => match σ with | (i48, μ49) => ∀ h49, MM B h h49 μ49 → V l g M_X3_load 11 125 [some (.ref B.1), none, some (.int i48), none] [] h49 (QM B h (some (.int z.1)) z.2)) (b := b59) ?_ FUEL ((0 : Int32), μ44) hL58 _ hM44
              rintro ⟨i48, μ49⟩ ρ120 hr50 hi51 hx52 h49 hM49
              unfold m_X3_load_b125 at hr50
              (try dsimp only at hr50)
              refine V.iload_n dX3_load_125 rfl rfl ?_
              refine V.sipush (v := 835) dX3_load_126 (by decide) ?_
              refine V.icmp_ge (tgt := 145) dX3_load_129 (by decide) (fun hc56 => ?_) (fun hc56 => ?_)
              · rw [if_pos hc56] at hr50
                obtain rfl := Option.some.inj hr50
                have e121 := hx52 _ rfl
                exact V.forget (llS (llN (llN (llN ll0)))) (hJ60 _ e121 _ hM49)
              · rw [if_neg hc56] at hr50
                refine V.aload_n dX3_load_132 rfl rfl IsR.ref ?_
                refine V.mgetA hM49 dX3_load_133 fo_X3_7_0 ma_2 ?_
                refine V.iload_n dX3_load_136 rfl rfl ?_
                refine V.iconst (v := 0) dX3_load_137 (by decide) ?_
                obtain ⟨μ55, e54, hr50⟩ := bnd hr50
                refine V.miast hM49 dX3_load_138 ma_2 (mSt_some e54) (fun h55 hM55 => ?_)
                refine V.iinc (v := i48 + (1 : Int32)) (i := 2) dX3_load_139 rfl (by rfl) (by decide) ?_
                simp only [List.set_cons_zero, List.set_cons_succ]
                refine V.goto (tgt := 125) dX3_load_142 (by decide) ?_
                obtain rfl := Option.some.inj hr50
                have hi51P := hi51 _ rfl
                exact hi51P _ hM55
            refine iter_ind (P := fun (σ : Int32 × MS) => match σ with | (i33, μ34) => ∀ h34, MM B h h34 μ34 → V l g M_X3_load 11 98 [some (.ref B.1), none, some (.int i33), none] [] h34 (QM B h (some (.int z.1)) z.2)) (b := b46) ?_ FUEL ((0 : Int32), μ32) hL45 _ hM32
            rintro ⟨i33, μ34⟩ ρ123 hr35 hi36 hx37 h34 hM34
            unfold m_X3_load_b98 at hr35
            (try dsimp only at hr35)
            refine V.iload_n dX3_load_98 rfl rfl ?_
            refine V.sipush (v := 184) dX3_load_99 (by decide) ?_
            refine V.icmp_ge (tgt := 123) dX3_load_102 (by decide) (fun hc43 => ?_) (fun hc43 => ?_)
            · rw [if_pos hc43] at hr35
              obtain rfl := Option.some.inj hr35
              have e124 := hx37 _ rfl
              exact V.forget (llS (llN (llN (llN ll0)))) (hJ47 _ e124 _ hM34)
            · rw [if_neg hc43] at hr35
              refine V.aload_n dX3_load_105 rfl rfl IsR.ref ?_
              refine V.mgetA hM34 dX3_load_106 fo_X3_33_0 ma_20 ?_
              refine V.iload_n dX3_load_109 rfl rfl ?_
              refine V.aload_n dX3_load_110 rfl rfl IsR.ref ?_
              refine V.mgetA hM34 dX3_load_111 fo_X3_30_0 ma_19 ?_
              refine V.iload_n dX3_load_114 rfl rfl ?_
              obtain ⟨x39, e40, hr35⟩ := bnd hr35
              refine V.miald hM34 dX3_load_115 ma_19 (mLd_some e40) ?_
              obtain ⟨μ42, e41, hr35⟩ := bnd hr35
              refine V.miast hM34 dX3_load_116 ma_20 (mSt_some e41) (fun h42 hM42 => ?_)
              refine V.iinc (v := i33 + (1 : Int32)) (i := 2) dX3_load_117 rfl (by rfl) (by decide) ?_
              simp only [List.set_cons_zero, List.set_cons_succ]
              refine V.goto (tgt := 98) dX3_load_120 (by decide) ?_
              obtain rfl := Option.some.inj hr35
              have hi36P := hi36 _ rfl
              exact hi36P _ hM42
          · rw [if_neg hc125] at hn
            refine V.iconst (v := 0) dX3_load_89 (by decide) ?_
            obtain rfl := Option.some.inj hn
            exact V.iret dX3_load_90 rfl ⟨rfl, hM29⟩
        refine V.if_eq (tgt := 81) dX3_load_74 (by decide) (fun hc26 => ?_) (fun hc26 => ?_)
        · skip
          refine V.iconst (v := 0) dX3_load_81 (by decide) ?_
          rw [if_pos hc26] at e127
          subst e127
          exact hJ126
        · skip
          refine V.iconst (v := 1) dX3_load_77 (by decide) ?_
          refine V.goto (tgt := 82) dX3_load_78 (by decide) ?_
          rw [if_neg hc26] at e127
          subst e127
          exact hJ126
      refine V.if_ne (tgt := 62) dX3_load_55 (by decide) (fun hc20 => ?_) (fun hc20 => ?_)
      · skip
        refine V.aload_n dX3_load_62 rfl rfl IsR.ref ?_
        refine V.mgetI hM17 dX3_load_63 fo_X3_97_0 mi_18 ?_
        rw [if_neg hc20] at e129
        subst e129
        exact V.forget (llS (llN (llN (llN ll0)))) (hJ128)
      · skip
        refine V.iconst (v := -1) dX3_load_58 (by decide) ?_
        refine V.goto (tgt := 66) dX3_load_59 (by decide) ?_
        rw [if_pos hc20] at e129
        subst e129
        exact V.forget (llS (llN (llN (llN ll0)))) (hJ128)
    · rw [if_neg hc130] at hn
      refine V.iconst (v := 0) dX3_load_30 (by decide) ?_
      obtain rfl := Option.some.inj hn
      exact V.iret dX3_load_31 rfl ⟨rfl, hM10⟩
  refine V.if_ne (tgt := 22) dX3_load_15 (by decide) (fun hc7 => ?_) (fun hc7 => ?_)
  · skip
    refine V.iconst (v := 0) dX3_load_22 (by decide) ?_
    rw [if_neg hc7] at e132
    subst e132
    exact hJ131
  · skip
    refine V.iconst (v := 1) dX3_load_18 (by decide) ?_
    refine V.goto (tgt := 23) dX3_load_19 (by decide) ?_
    rw [if_pos hc7] at e132
    subst e132
    exact hJ131
def m_X3_told (p1 : Int32) (μ : MS) : Option (Int32 × MS) := (some (mSF μ 0 (0 : Int32))).bind fun μ2 => if (μ2.1 1) = (0 : Int32) then (some ((0 : Int32), μ2)) else (some (p1, μ2))
abbrev M_X3_told : MD := (yX3_told, cX3_told, 2, (some .int), [])
theorem ok_X3_told : mOK yX3_told 2 1 := ⟨⟨by decide +kernel, by decide +kernel⟩, by decide +kernel, by decide⟩
theorem w_X3_told {l : Launch} {g : GG} {h : AH} {B : BM} {μ : MS} {p1 : Int32} {z : Int32 × MS} (hM : IsM B h μ) (hT : TX g h) (hn : m_X3_told p1 μ = some z) : Sp l g M_X3_told 0 [.ref B.1, .int p1] h (QM B h (some (.int z.1)) z.2) := by
  refine Sp.ofV (L := [some (.ref B.1), some (.int p1)]) rfl rfl (hcR (hcI hc0)) (Nat.le_of_ble_eq_true rfl) rfl ?_
  have hM0 : MM B h h μ := ⟨hM, SameM.rf⟩
  unfold m_X3_told at hn
  refine V.aload_n dX3_told_0 rfl rfl IsR.ref ?_
  refine V.iconst (v := 0) dX3_told_1 (by decide) ?_
  obtain ⟨μ2, e1, hn⟩ := bnd hn
  refine V.mputI hM0 dX3_told_2 po_M_48 mi_0 (fun h2 hM2 => ?_)
  rw [Option.some.inj e1] at hM2
  refine V.aload_n dX3_told_5 rfl rfl IsR.ref ?_
  refine V.mgetI hM2 dX3_told_6 fo_X3_51_0 mi_1 ?_
  refine V.if_eq (tgt := 16) dX3_told_9 (by decide) (fun hc3 => ?_) (fun hc3 => ?_)
  · rw [if_pos hc3] at hn
    refine V.iconst (v := 0) dX3_told_16 (by decide) ?_
    obtain rfl := Option.some.inj hn
    exact V.iret dX3_told_17 rfl ⟨rfl, hM2⟩
  · rw [if_neg hc3] at hn
    refine V.iload_n dX3_told_12 rfl rfl ?_
    refine V.goto (tgt := 17) dX3_told_13 (by decide) ?_
    obtain rfl := Option.some.inj hn
    exact V.iret dX3_told_17 rfl ⟨rfl, hM2⟩
def m_X3_vans (μ : MS) : Option (Int32 × MS) := (mLd μ 20 184 (8 : Int32)).bind fun x1 => (m_X3_told x1 μ).bind fun y3 => some (y3.1, y3.2)
abbrev M_X3_vans : MD := (yX3_vans, cX3_vans, 1, (some .int), [])
theorem ok_X3_vans : mOK yX3_vans 1 0 := ⟨⟨by decide +kernel, by decide +kernel⟩, by decide +kernel, by decide⟩
theorem w_X3_vans {l : Launch} {g : GG} {h : AH} {B : BM} {μ : MS} {z : Int32 × MS} (hM : IsM B h μ) (hT : TX g h) (hn : m_X3_vans μ = some z) : Sp l g M_X3_vans 1 [.ref B.1] h (QM B h (some (.int z.1)) z.2) := by
  refine Sp.ofV (L := [some (.ref B.1)]) rfl rfl (hcR hc0) (Nat.le_of_ble_eq_true rfl) rfl ?_
  have hM0 : MM B h h μ := ⟨hM, SameM.rf⟩
  unfold m_X3_vans at hn
  refine V.aload_n dX3_vans_0 rfl rfl IsR.ref ?_
  refine V.aload_n dX3_vans_1 rfl rfl IsR.ref ?_
  refine V.mgetA hM0 dX3_vans_2 fo_X3_33_0 ma_20 ?_
  refine V.bipush (v := 8) dX3_vans_5 (by decide) ?_
  obtain ⟨x1, e2, hn⟩ := bnd hn
  refine V.miald hM0 dX3_vans_7 ma_20 (mLd_some e2) ?_
  obtain ⟨y3, e5, hn⟩ := bnd hn
  refine V.invV (as := [.int x1]) (b := B.1) (ci := 0) (w := true) (rc := rc0) dX3_vans_8 ok_X3_told (lw_V q2540 q2542 qs114 q151 q2543) rfl hM0.1.1 rfl (by decide) (Nat.le_of_ble_eq_true rfl) (w_X3_told hM0.1 (hT.mm hM hM0) e5) (kmI hM0.2 (fun h4 hM4 => ?_)) kxM
  obtain rfl := Option.some.inj hn
  exact V.iret dX3_vans_11 rfl ⟨rfl, hM4⟩
def m_X3_clock (μ : MS) : Option (Int32 × MS) := (mLd μ 2 835 (0 : Int32)).bind fun x1 => (m_X3_told x1 μ).bind fun y3 => some (y3.1, y3.2)
abbrev M_X3_clock : MD := (yX3_clock, cX3_clock, 1, (some .int), [])
theorem ok_X3_clock : mOK yX3_clock 1 0 := ⟨⟨by decide +kernel, by decide +kernel⟩, by decide +kernel, by decide⟩
theorem w_X3_clock {l : Launch} {g : GG} {h : AH} {B : BM} {μ : MS} {z : Int32 × MS} (hM : IsM B h μ) (hT : TX g h) (hn : m_X3_clock μ = some z) : Sp l g M_X3_clock 1 [.ref B.1] h (QM B h (some (.int z.1)) z.2) := by
  refine Sp.ofV (L := [some (.ref B.1)]) rfl rfl (hcR hc0) (Nat.le_of_ble_eq_true rfl) rfl ?_
  have hM0 : MM B h h μ := ⟨hM, SameM.rf⟩
  unfold m_X3_clock at hn
  refine V.aload_n dX3_clock_0 rfl rfl IsR.ref ?_
  refine V.aload_n dX3_clock_1 rfl rfl IsR.ref ?_
  refine V.mgetA hM0 dX3_clock_2 fo_X3_7_0 ma_2 ?_
  refine V.iconst (v := 0) dX3_clock_5 (by decide) ?_
  obtain ⟨x1, e2, hn⟩ := bnd hn
  refine V.miald hM0 dX3_clock_6 ma_2 (mLd_some e2) ?_
  obtain ⟨y3, e5, hn⟩ := bnd hn
  refine V.invV (as := [.int x1]) (b := B.1) (ci := 0) (w := true) (rc := rc0) dX3_clock_7 ok_X3_told (lw_V q2540 q2542 qs114 q151 q2543) rfl hM0.1.1 rfl (by decide) (Nat.le_of_ble_eq_true rfl) (w_X3_told hM0.1 (hT.mm hM hM0) e5) (kmI hM0.2 (fun h4 hM4 => ?_)) kxM
  obtain rfl := Option.some.inj hn
  exact V.iret dX3_clock_10 rfl ⟨rfl, hM4⟩
def m_X3_calls (μ : MS) : Option (Int32 × MS) := (mLd μ 2 835 (1 : Int32)).bind fun x1 => (m_X3_told x1 μ).bind fun y3 => some (y3.1, y3.2)
abbrev M_X3_calls : MD := (yX3_calls, cX3_calls, 1, (some .int), [])
theorem ok_X3_calls : mOK yX3_calls 1 0 := ⟨⟨by decide +kernel, by decide +kernel⟩, by decide +kernel, by decide⟩
theorem w_X3_calls {l : Launch} {g : GG} {h : AH} {B : BM} {μ : MS} {z : Int32 × MS} (hM : IsM B h μ) (hT : TX g h) (hn : m_X3_calls μ = some z) : Sp l g M_X3_calls 1 [.ref B.1] h (QM B h (some (.int z.1)) z.2) := by
  refine Sp.ofV (L := [some (.ref B.1)]) rfl rfl (hcR hc0) (Nat.le_of_ble_eq_true rfl) rfl ?_
  have hM0 : MM B h h μ := ⟨hM, SameM.rf⟩
  unfold m_X3_calls at hn
  refine V.aload_n dX3_calls_0 rfl rfl IsR.ref ?_
  refine V.aload_n dX3_calls_1 rfl rfl IsR.ref ?_
  refine V.mgetA hM0 dX3_calls_2 fo_X3_7_0 ma_2 ?_
  refine V.iconst (v := 1) dX3_calls_5 (by decide) ?_
  obtain ⟨x1, e2, hn⟩ := bnd hn
  refine V.miald hM0 dX3_calls_6 ma_2 (mLd_some e2) ?_
  obtain ⟨y3, e5, hn⟩ := bnd hn
  refine V.invV (as := [.int x1]) (b := B.1) (ci := 0) (w := true) (rc := rc0) dX3_calls_7 ok_X3_told (lw_V q2540 q2542 qs114 q151 q2543) rfl hM0.1.1 rfl (by decide) (Nat.le_of_ble_eq_true rfl) (w_X3_told hM0.1 (hT.mm hM hM0) e5) (kmI hM0.2 (fun h4 hM4 => ?_)) kxM
  obtain rfl := Option.some.inj hn
  exact V.iret dX3_calls_10 rfl ⟨rfl, hM4⟩
def m_X3_undoable (μ : MS) : Option (Int32 × MS) := (m_X3_told (μ.1 4) μ).bind fun y1 => some (y1.1, y1.2)
abbrev M_X3_undoable : MD := (yX3_undoable, cX3_undoable, 1, (some .int), [])
theorem ok_X3_undoable : mOK yX3_undoable 1 0 := ⟨⟨by decide +kernel, by decide +kernel⟩, by decide +kernel, by decide⟩
theorem w_X3_undoable {l : Launch} {g : GG} {h : AH} {B : BM} {μ : MS} {z : Int32 × MS} (hM : IsM B h μ) (hT : TX g h) (hn : m_X3_undoable μ = some z) : Sp l g M_X3_undoable 1 [.ref B.1] h (QM B h (some (.int z.1)) z.2) := by
  refine Sp.ofV (L := [some (.ref B.1)]) rfl rfl (hcR hc0) (Nat.le_of_ble_eq_true rfl) rfl ?_
  have hM0 : MM B h h μ := ⟨hM, SameM.rf⟩
  unfold m_X3_undoable at hn
  refine V.aload_n dX3_undoable_0 rfl rfl IsR.ref ?_
  refine V.aload_n dX3_undoable_1 rfl rfl IsR.ref ?_
  refine V.mgetI hM0 dX3_undoable_2 fo_X3_198_0 mi_4 ?_
  obtain ⟨y1, e3, hn⟩ := bnd hn
  refine V.invV (as := [.int (μ.1 4)]) (b := B.1) (ci := 0) (w := true) (rc := rc0) dX3_undoable_5 ok_X3_told (lw_V q2540 q2542 qs114 q151 q2543) rfl hM0.1.1 rfl (by decide) (Nat.le_of_ble_eq_true rfl) (w_X3_told hM0.1 (hT.mm hM hM0) e3) (kmI hM0.2 (fun h2 hM2 => ?_)) kxM
  obtain rfl := Option.some.inj hn
  exact V.iret dX3_undoable_8 rfl ⟨rfl, hM2⟩
def m_X3_noDesk (μ : MS) : Option (Int32 × MS) := (some (mSF μ 0 (0 : Int32))).bind fun μ2 => (some (if (μ2.1 1) = (0 : Int32) then ((1 : Int32)) else ((0 : Int32)))).bind fun v6 => (m_X3_refuse v6 (1 : Int32) μ2).bind fun y7 => (zg y7.1).bind fun _ => some (y7.1, y7.2)
abbrev M_X3_noDesk : MD := (yX3_noDesk, cX3_noDesk, 1, (some .boolean), [])
theorem ok_X3_noDesk : mOK yX3_noDesk 1 0 := ⟨⟨by decide +kernel, by decide +kernel⟩, by decide +kernel, by decide⟩
theorem w_X3_noDesk {l : Launch} {g : GG} {h : AH} {B : BM} {μ : MS} {z : Int32 × MS} (hM : IsM B h μ) (hT : TX g h) (hn : m_X3_noDesk μ = some z) : Sp l g M_X3_noDesk 1 [.ref B.1] h (QM B h (some (.int z.1)) z.2) := by
  refine Sp.ofV (L := [some (.ref B.1)]) rfl rfl (hcR hc0) (Nat.le_of_ble_eq_true rfl) rfl ?_
  have hM0 : MM B h h μ := ⟨hM, SameM.rf⟩
  unfold m_X3_noDesk at hn
  refine V.aload_n dX3_noDesk_0 rfl rfl IsR.ref ?_
  refine V.iconst (v := 0) dX3_noDesk_1 (by decide) ?_
  obtain ⟨μ2, e1, hn⟩ := bnd hn
  refine V.mputI hM0 dX3_noDesk_2 po_M_48 mi_0 (fun h2 hM2 => ?_)
  rw [Option.some.inj e1] at hM2
  refine V.aload_n dX3_noDesk_5 rfl rfl IsR.ref ?_
  refine V.aload_n dX3_noDesk_6 rfl rfl IsR.ref ?_
  refine V.mgetI hM2 dX3_noDesk_7 fo_X3_51_0 mi_1 ?_
  obtain ⟨v6, e12, hn⟩ := bnd hn
  have e12 := Option.some.inj e12
  have hJ11 : V l g M_X3_noDesk 1 18 [none] [.int v6, .ref B.1] h2 (QM B h (some (.int z.1)) z.2) := by
    refine V.iconst (v := 1) dX3_noDesk_18 (by decide) ?_
    obtain ⟨y7, e9, hn⟩ := bnd hn
    refine V.invV (as := [.int v6, .int (1 : Int32)]) (b := B.1) (ci := 0) (w := true) (rc := rc0) dX3_noDesk_19 ok_X3_refuse (lw_V q2311 q2313 qs67 q151 q2314) rfl hM2.1.1 rfl (by decide) (Nat.le_of_ble_eq_true rfl) (w_X3_refuse hM2.1 (hT.mm hM hM2) e9) (kmI hM2.2 (fun h8 hM8 => ?_)) kxM
    obtain ⟨_, ez10, hn⟩ := bnd hn
    obtain rfl := Option.some.inj hn
    exact V.zret dX3_noDesk_22 rfl (zg_some ez10).2 ⟨rfl, hM8⟩
  refine V.if_ne (tgt := 17) dX3_noDesk_10 (by decide) (fun hc5 => ?_) (fun hc5 => ?_)
  · skip
    refine V.iconst (v := 0) dX3_noDesk_17 (by decide) ?_
    rw [if_neg hc5] at e12
    subst e12
    exact V.forget (llN ll0) (hJ11)
  · skip
    refine V.iconst (v := 1) dX3_noDesk_13 (by decide) ?_
    refine V.goto (tgt := 18) dX3_noDesk_14 (by decide) ?_
    rw [if_pos hc5] at e12
    subst e12
    exact V.forget (llN ll0) (hJ11)
def m_X3_noVan (p1 : Int32) (μ : MS) : Option (Int32 × MS) := (m_X3_noDesk μ).bind fun y1 => if y1.1 = (0 : Int32) then ((mLd y1.2 20 184 (8 : Int32)).bind fun x4 => (m_X3_in p1 (0 : Int32) (x4 - (1 : Int32))).bind fun x6 => (some (if x6 = (0 : Int32) then ((1 : Int32)) else ((0 : Int32)))).bind fun v11 => (m_X3_refuse v11 (2 : Int32) y1.2).bind fun y12 => if y12.1 = (0 : Int32) then (some ((0 : Int32), y12.2)) else (some ((1 : Int32), y12.2))) else (some ((1 : Int32), y1.2))
abbrev M_X3_noVan : MD := (yX3_noVan, cX3_noVan, 2, (some .boolean), [])
theorem ok_X3_noVan : mOK yX3_noVan 2 1 := ⟨⟨by decide +kernel, by decide +kernel⟩, by decide +kernel, by decide⟩
theorem w_X3_noVan {l : Launch} {g : GG} {h : AH} {B : BM} {μ : MS} {p1 : Int32} {z : Int32 × MS} (hM : IsM B h μ) (hT : TX g h) (hn : m_X3_noVan p1 μ = some z) : Sp l g M_X3_noVan 2 [.ref B.1, .int p1] h (QM B h (some (.int z.1)) z.2) := by
  refine Sp.ofV (L := [some (.ref B.1), some (.int p1)]) rfl rfl (hcR (hcI hc0)) (Nat.le_of_ble_eq_true rfl) rfl ?_
  have hM0 : MM B h h μ := ⟨hM, SameM.rf⟩
  unfold m_X3_noVan at hn
  refine V.aload_n dX3_noVan_0 rfl rfl IsR.ref ?_
  obtain ⟨y1, e3, hn⟩ := bnd hn
  refine V.invV (as := []) (b := B.1) (ci := 0) (w := true) (rc := rc0) dX3_noVan_1 ok_X3_noDesk (lw_V q2564 q2566 qs116 q151 q2567) rfl hM0.1.1 rfl (by decide) (Nat.le_of_ble_eq_true rfl) (w_X3_noDesk hM0.1 (hT.mm hM hM0) e3) (kmI hM0.2 (fun h2 hM2 => ?_)) kxM
  refine V.if_ne (tgt := 37) dX3_noVan_4 (by decide) (fun hc18 => ?_) (fun hc18 => ?_)
  · rw [if_neg hc18] at hn
    refine V.iconst (v := 1) dX3_noVan_37 (by decide) ?_
    refine V.goto (tgt := 42) dX3_noVan_38 (by decide) ?_
    obtain rfl := Option.some.inj hn
    exact V.zret dX3_noVan_42 rfl rfl ⟨rfl, hM2⟩
  · rw [if_pos hc18] at hn
    refine V.aload_n dX3_noVan_7 rfl rfl IsR.ref ?_
    refine V.iload_n dX3_noVan_8 rfl rfl ?_
    refine V.iconst (v := 0) dX3_noVan_9 (by decide) ?_
    refine V.aload_n dX3_noVan_10 rfl rfl IsR.ref ?_
    refine V.mgetA hM2 dX3_noVan_11 fo_X3_33_0 ma_20 ?_
    refine V.bipush (v := 8) dX3_noVan_14 (by decide) ?_
    obtain ⟨x4, e5, hn⟩ := bnd hn
    refine V.miald hM2 dX3_noVan_16 ma_20 (mLd_some e5) ?_
    refine V.iconst (v := 1) dX3_noVan_17 (by decide) ?_
    refine V.isub dX3_noVan_18 ?_
    obtain ⟨x6, e7, hn⟩ := bnd hn
    refine V.invS (as := [.int p1, .int (0 : Int32), .int (x4 - (1 : Int32))]) dX3_noVan_19 ok_X3_in (lw_S q2308 q2309 q151 q2310) (by decide) (Nat.le_of_ble_eq_true rfl) (w_X3_in e7) (krI ?_) kxZ
    obtain ⟨v11, e17, hn⟩ := bnd hn
    have e17 := Option.some.inj e17
    have hJ16 : V l g M_X3_noVan 2 30 [none, none] [.int v11, .ref B.1] h2 (QM B h (some (.int z.1)) z.2) := by
      refine V.iconst (v := 2) dX3_noVan_30 (by decide) ?_
      obtain ⟨y12, e14, hn⟩ := bnd hn
      refine V.invV (as := [.int v11, .int (2 : Int32)]) (b := B.1) (ci := 0) (w := true) (rc := rc0) dX3_noVan_31 ok_X3_refuse (lw_V q2311 q2313 qs67 q151 q2314) rfl hM2.1.1 rfl (by decide) (Nat.le_of_ble_eq_true rfl) (w_X3_refuse hM2.1 (hT.mm hM hM2) e14) (kmI hM2.2 (fun h13 hM13 => ?_)) kxM
      refine V.if_eq (tgt := 41) dX3_noVan_34 (by decide) (fun hc15 => ?_) (fun hc15 => ?_)
      · rw [if_pos hc15] at hn
        refine V.iconst (v := 0) dX3_noVan_41 (by decide) ?_
        obtain rfl := Option.some.inj hn
        exact V.zret dX3_noVan_42 rfl rfl ⟨rfl, hM13⟩
      · rw [if_neg hc15] at hn
        refine V.iconst (v := 1) dX3_noVan_37 (by decide) ?_
        refine V.goto (tgt := 42) dX3_noVan_38 (by decide) ?_
        obtain rfl := Option.some.inj hn
        exact V.zret dX3_noVan_42 rfl rfl ⟨rfl, hM13⟩
    refine V.if_ne (tgt := 29) dX3_noVan_22 (by decide) (fun hc10 => ?_) (fun hc10 => ?_)
    · skip
      refine V.iconst (v := 0) dX3_noVan_29 (by decide) ?_
      rw [if_neg hc10] at e17
      subst e17
      exact V.forget (llN (llN ll0)) (hJ16)
    · skip
      refine V.iconst (v := 1) dX3_noVan_25 (by decide) ?_
      refine V.goto (tgt := 30) dX3_noVan_26 (by decide) ?_
      rw [if_pos hc10] at e17
      subst e17
      exact V.forget (llN (llN ll0)) (hJ16)
def m_X3_until (p1 : Int32) (μ : MS) : Option (Int32 × MS) := (m_X3_noVan p1 μ).bind fun y1 => if y1.1 = (0 : Int32) then ((mLd y1.2 2 835 ((2 : Int32) + p1)).bind fun x4 => some (x4, y1.2)) else (some ((0 : Int32), y1.2))
abbrev M_X3_until : MD := (yX3_until, cX3_until, 2, (some .int), [])
theorem ok_X3_until : mOK yX3_until 2 1 := ⟨⟨by decide +kernel, by decide +kernel⟩, by decide +kernel, by decide⟩
theorem w_X3_until {l : Launch} {g : GG} {h : AH} {B : BM} {μ : MS} {p1 : Int32} {z : Int32 × MS} (hM : IsM B h μ) (hT : TX g h) (hn : m_X3_until p1 μ = some z) : Sp l g M_X3_until 3 [.ref B.1, .int p1] h (QM B h (some (.int z.1)) z.2) := by
  refine Sp.ofV (L := [some (.ref B.1), some (.int p1)]) rfl rfl (hcR (hcI hc0)) (Nat.le_of_ble_eq_true rfl) rfl ?_
  have hM0 : MM B h h μ := ⟨hM, SameM.rf⟩
  unfold m_X3_until at hn
  refine V.aload_n dX3_until_0 rfl rfl IsR.ref ?_
  refine V.iload_n dX3_until_1 rfl rfl ?_
  obtain ⟨y1, e3, hn⟩ := bnd hn
  refine V.invV (as := [.int p1]) (b := B.1) (ci := 0) (w := true) (rc := rc0) dX3_until_2 ok_X3_noVan (lw_V q2560 q2562 qs115 q151 q2563) rfl hM0.1.1 rfl (by decide) (Nat.le_of_ble_eq_true rfl) (w_X3_noVan hM0.1 (hT.mm hM hM0) e3) (kmI hM0.2 (fun h2 hM2 => ?_)) kxM
  refine V.if_eq (tgt := 12) dX3_until_5 (by decide) (fun hc6 => ?_) (fun hc6 => ?_)
  · rw [if_pos hc6] at hn
    refine V.aload_n dX3_until_12 rfl rfl IsR.ref ?_
    refine V.mgetA hM2 dX3_until_13 fo_X3_7_0 ma_2 ?_
    refine V.iconst (v := 2) dX3_until_16 (by decide) ?_
    refine V.iload_n dX3_until_17 rfl rfl ?_
    refine V.iadd dX3_until_18 ?_
    obtain ⟨x4, e5, hn⟩ := bnd hn
    refine V.miald hM2 dX3_until_19 ma_2 (mLd_some e5) ?_
    obtain rfl := Option.some.inj hn
    exact V.iret dX3_until_20 rfl ⟨rfl, hM2⟩
  · rw [if_neg hc6] at hn
    refine V.iconst (v := 0) dX3_until_8 (by decide) ?_
    refine V.goto (tgt := 20) dX3_until_9 (by decide) ?_
    obtain rfl := Option.some.inj hn
    exact V.iret dX3_until_20 rfl ⟨rfl, hM2⟩
def m_X3_isOff (p1 : Int32) (p2 : Int32) : Option (Int32) := (m_X3_in p1 (0 : Int32) (99 : Int32)).bind fun x1 => if x1 = (0 : Int32) then (some (1 : Int32)) else ((m_X3_in p2 (0 : Int32) (99 : Int32)).bind fun x3 => if x3 = (0 : Int32) then (some (1 : Int32)) else (some (0 : Int32)))
abbrev M_X3_isOff : MD := (yX3_isOff, cX3_isOff, 2, (some .boolean), [])
theorem ok_X3_isOff : mOK yX3_isOff 2 2 := ⟨⟨by decide +kernel, by decide +kernel⟩, by decide +kernel, by decide⟩
theorem w_X3_isOff {l : Launch} {g : GG} {h : AH} {p1 : Int32} {p2 : Int32} {z : Int32} (hn : m_X3_isOff p1 p2 = some z) : Sp l g M_X3_isOff 1 [.int p1, .int p2] h (QZ (some (.int z)) h) := by
  refine Sp.ofV (L := [some (.int p1), some (.int p2)]) rfl rfl (hcI (hcI hc0)) (Nat.le_of_ble_eq_true rfl) rfl ?_
  unfold m_X3_isOff at hn
  refine V.iload_n dX3_isOff_0 rfl rfl ?_
  refine V.iconst (v := 0) dX3_isOff_1 (by decide) ?_
  refine V.bipush (v := 99) dX3_isOff_2 (by decide) ?_
  obtain ⟨x1, e2, hn⟩ := bnd hn
  refine V.invS (as := [.int p1, .int (0 : Int32), .int (99 : Int32)]) dX3_isOff_4 ok_X3_in (lw_S q2308 q2309 q151 q2310) (by decide) (Nat.le_of_ble_eq_true rfl) (w_X3_in e2) (krI ?_) kxZ
  refine V.if_eq (tgt := 20) dX3_isOff_7 (by decide) (fun hc6 => ?_) (fun hc6 => ?_)
  · rw [if_pos hc6] at hn
    refine V.iconst (v := 1) dX3_isOff_20 (by decide) ?_
    refine V.goto (tgt := 25) dX3_isOff_21 (by decide) ?_
    obtain rfl := Option.some.inj hn
    exact V.zret dX3_isOff_25 rfl rfl ⟨rfl, rfl⟩
  · rw [if_neg hc6] at hn
    refine V.iload_n dX3_isOff_10 rfl rfl ?_
    refine V.iconst (v := 0) dX3_isOff_11 (by decide) ?_
    refine V.bipush (v := 99) dX3_isOff_12 (by decide) ?_
    obtain ⟨x3, e4, hn⟩ := bnd hn
    refine V.invS (as := [.int p2, .int (0 : Int32), .int (99 : Int32)]) dX3_isOff_14 ok_X3_in (lw_S q2308 q2309 q151 q2310) (by decide) (Nat.le_of_ble_eq_true rfl) (w_X3_in e4) (krI ?_) kxZ
    refine V.if_ne (tgt := 24) dX3_isOff_17 (by decide) (fun hc5 => ?_) (fun hc5 => ?_)
    · rw [if_neg hc5] at hn
      refine V.iconst (v := 0) dX3_isOff_24 (by decide) ?_
      obtain rfl := Option.some.inj hn
      exact V.zret dX3_isOff_25 rfl rfl ⟨rfl, rfl⟩
    · rw [if_pos hc5] at hn
      refine V.iconst (v := 1) dX3_isOff_20 (by decide) ?_
      refine V.goto (tgt := 25) dX3_isOff_21 (by decide) ?_
      obtain rfl := Option.some.inj hn
      exact V.zret dX3_isOff_25 rfl rfl ⟨rfl, rfl⟩
def m_X3_minutesBetween (p1 : Int32) (p2 : Int32) (p3 : Int32) (p4 : Int32) (μ : MS) : Option (Int32 × MS) := (m_X3_noDesk μ).bind fun y1 => if y1.1 = (0 : Int32) then ((m_X3_isOff p1 p2).bind fun x4 => (if x4 = (0 : Int32) then ((m_X3_isOff p3 p4).bind fun x8 => if x8 = (0 : Int32) then (some (0 : Int32)) else (some (1 : Int32))) else (some (1 : Int32)) : Option (Int32)).bind fun v12 => (m_X3_refuse v12 (2 : Int32) y1.2).bind fun y13 => if y13.1 = (0 : Int32) then ((m_X3_way p1 p2 p3 p4 y13.2).bind fun x16 => some (x16, y13.2)) else (some ((0 : Int32), y13.2))) else (some ((0 : Int32), y1.2))
abbrev M_X3_minutesBetween : MD := (yX3_minutesBetween, cX3_minutesBetween, 5, (some .int), [])
theorem ok_X3_minutesBetween : mOK yX3_minutesBetween 5 4 := ⟨⟨by decide +kernel, by decide +kernel⟩, by decide +kernel, by decide⟩
theorem w_X3_minutesBetween {l : Launch} {g : GG} {h : AH} {B : BM} {μ : MS} {p1 : Int32} {p2 : Int32} {p3 : Int32} {p4 : Int32} {z : Int32 × MS} (hM : IsM B h μ) (hT : TX g h) (hn : m_X3_minutesBetween p1 p2 p3 p4 μ = some z) : Sp l g M_X3_minutesBetween 2 [.ref B.1, .int p1, .int p2, .int p3, .int p4] h (QM B h (some (.int z.1)) z.2) := by
  refine Sp.ofV (L := [some (.ref B.1), some (.int p1), some (.int p2), some (.int p3), some (.int p4)]) rfl rfl (hcR (hcI (hcI (hcI (hcI hc0))))) (Nat.le_of_ble_eq_true rfl) rfl ?_
  have hM0 : MM B h h μ := ⟨hM, SameM.rf⟩
  unfold m_X3_minutesBetween at hn
  refine V.aload_n dX3_minutesBetween_0 rfl rfl IsR.ref ?_
  obtain ⟨y1, e3, hn⟩ := bnd hn
  refine V.invV (as := []) (b := B.1) (ci := 0) (w := true) (rc := rc0) dX3_minutesBetween_1 ok_X3_noDesk (lw_V q2564 q2566 qs116 q151 q2567) rfl hM0.1.1 rfl (by decide) (Nat.le_of_ble_eq_true rfl) (w_X3_noDesk hM0.1 (hT.mm hM hM0) e3) (kmI hM0.2 (fun h2 hM2 => ?_)) kxM
  refine V.if_ne (tgt := 37) dX3_minutesBetween_4 (by decide) (fun hc20 => ?_) (fun hc20 => ?_)
  · rw [if_neg hc20] at hn
    refine V.iconst (v := 0) dX3_minutesBetween_37 (by decide) ?_
    refine V.goto (tgt := 50) dX3_minutesBetween_38 (by decide) ?_
    obtain rfl := Option.some.inj hn
    exact V.iret dX3_minutesBetween_50 rfl ⟨rfl, hM2⟩
  · rw [if_pos hc20] at hn
    refine V.aload_n dX3_minutesBetween_7 rfl rfl IsR.ref ?_
    refine V.iload_n dX3_minutesBetween_8 rfl rfl ?_
    refine V.iload_n dX3_minutesBetween_9 rfl rfl ?_
    obtain ⟨x4, e5, hn⟩ := bnd hn
    refine V.invS (as := [.int p1, .int p2]) dX3_minutesBetween_10 ok_X3_isOff (lw_S q2572 q2573 q151 q2574) (by decide) (Nat.le_of_ble_eq_true rfl) (w_X3_isOff e5) (krI ?_) kxZ
    obtain ⟨v12, hA7, hn⟩ := bnd hn
    (try dsimp only at hn)
    have hJ19 : V l g M_X3_minutesBetween 2 30 [some (.ref B.1), some (.int p1), some (.int p2), some (.int p3), some (.int p4)] [.int v12, .ref B.1] h2 (QM B h (some (.int z.1)) z.2) := by
      refine V.iconst (v := 2) dX3_minutesBetween_30 (by decide) ?_
      obtain ⟨y13, e15, hn⟩ := bnd hn
      refine V.invV (as := [.int v12, .int (2 : Int32)]) (b := B.1) (ci := 0) (w := true) (rc := rc0) dX3_minutesBetween_31 ok_X3_refuse (lw_V q2311 q2313 qs67 q151 q2314) rfl hM2.1.1 rfl (by decide) (Nat.le_of_ble_eq_true rfl) (w_X3_refuse hM2.1 (hT.mm hM hM2) e15) (kmI hM2.2 (fun h14 hM14 => ?_)) kxM
      refine V.if_eq (tgt := 41) dX3_minutesBetween_34 (by decide) (fun hc18 => ?_) (fun hc18 => ?_)
      · rw [if_pos hc18] at hn
        refine V.aload_n dX3_minutesBetween_41 rfl rfl IsR.ref ?_
        refine V.iload_n dX3_minutesBetween_42 rfl rfl ?_
        refine V.iload_n dX3_minutesBetween_43 rfl rfl ?_
        refine V.iload_n dX3_minutesBetween_44 rfl rfl ?_
        refine V.iload dX3_minutesBetween_45 rfl ?_
        obtain ⟨x16, e17, hn⟩ := bnd hn
        refine V.invV (as := [.int p1, .int p2, .int p3, .int p4]) (b := B.1) (ci := 0) (w := true) (rc := rc0) dX3_minutesBetween_47 ok_X3_way (lw_V q2488 q2490 qs102 q151 q2491) rfl hM14.1.1 rfl (by decide) (Nat.le_of_ble_eq_true rfl) (w_X3_way hM14.1 (hT.mm hM hM14) e17) (krI ?_) kxZ
        obtain rfl := Option.some.inj hn
        exact V.iret dX3_minutesBetween_50 rfl ⟨rfl, hM14⟩
      · rw [if_neg hc18] at hn
        refine V.iconst (v := 0) dX3_minutesBetween_37 (by decide) ?_
        refine V.goto (tgt := 50) dX3_minutesBetween_38 (by decide) ?_
        obtain rfl := Option.some.inj hn
        exact V.iret dX3_minutesBetween_50 rfl ⟨rfl, hM14⟩
    refine V.if_ne (tgt := 25) dX3_minutesBetween_13 (by decide) (fun hc11 => ?_) (fun hc11 => ?_)
    · rw [if_neg hc11] at hA7
      refine V.iconst (v := 1) dX3_minutesBetween_25 (by decide) ?_
      refine V.goto (tgt := 30) dX3_minutesBetween_26 (by decide) ?_
      obtain rfl := Option.some.inj hA7
      exact hJ19
    · rw [if_pos hc11] at hA7
      refine V.iload_n dX3_minutesBetween_16 rfl rfl ?_
      refine V.iload dX3_minutesBetween_17 rfl ?_
      obtain ⟨x8, e9, hA7⟩ := bnd hA7
      refine V.invS (as := [.int p3, .int p4]) dX3_minutesBetween_19 ok_X3_isOff (lw_S q2572 q2573 q151 q2574) (by decide) (Nat.le_of_ble_eq_true rfl) (w_X3_isOff e9) (krI ?_) kxZ
      refine V.if_eq (tgt := 29) dX3_minutesBetween_22 (by decide) (fun hc10 => ?_) (fun hc10 => ?_)
      · rw [if_pos hc10] at hA7
        refine V.iconst (v := 0) dX3_minutesBetween_29 (by decide) ?_
        obtain rfl := Option.some.inj hA7
        exact hJ19
      · rw [if_neg hc10] at hA7
        refine V.iconst (v := 1) dX3_minutesBetween_25 (by decide) ?_
        refine V.goto (tgt := 30) dX3_minutesBetween_26 (by decide) ?_
        obtain rfl := Option.some.inj hA7
        exact hJ19
def m_X3_stops (p1 : Int32) (μ : MS) : Option (Int32 × MS) := (m_X3_noVan p1 μ).bind fun y1 => if y1.1 = (0 : Int32) then ((mLd y1.2 2 835 ((6 : Int32) + p1)).bind fun x4 => some (x4, y1.2)) else (some ((0 : Int32), y1.2))
abbrev M_X3_stops : MD := (yX3_stops, cX3_stops, 2, (some .int), [])
theorem ok_X3_stops : mOK yX3_stops 2 1 := ⟨⟨by decide +kernel, by decide +kernel⟩, by decide +kernel, by decide⟩
theorem w_X3_stops {l : Launch} {g : GG} {h : AH} {B : BM} {μ : MS} {p1 : Int32} {z : Int32 × MS} (hM : IsM B h μ) (hT : TX g h) (hn : m_X3_stops p1 μ = some z) : Sp l g M_X3_stops 3 [.ref B.1, .int p1] h (QM B h (some (.int z.1)) z.2) := by
  refine Sp.ofV (L := [some (.ref B.1), some (.int p1)]) rfl rfl (hcR (hcI hc0)) (Nat.le_of_ble_eq_true rfl) rfl ?_
  have hM0 : MM B h h μ := ⟨hM, SameM.rf⟩
  unfold m_X3_stops at hn
  refine V.aload_n dX3_stops_0 rfl rfl IsR.ref ?_
  refine V.iload_n dX3_stops_1 rfl rfl ?_
  obtain ⟨y1, e3, hn⟩ := bnd hn
  refine V.invV (as := [.int p1]) (b := B.1) (ci := 0) (w := true) (rc := rc0) dX3_stops_2 ok_X3_noVan (lw_V q2560 q2562 qs115 q151 q2563) rfl hM0.1.1 rfl (by decide) (Nat.le_of_ble_eq_true rfl) (w_X3_noVan hM0.1 (hT.mm hM hM0) e3) (kmI hM0.2 (fun h2 hM2 => ?_)) kxM
  refine V.if_eq (tgt := 12) dX3_stops_5 (by decide) (fun hc6 => ?_) (fun hc6 => ?_)
  · rw [if_pos hc6] at hn
    refine V.aload_n dX3_stops_12 rfl rfl IsR.ref ?_
    refine V.mgetA hM2 dX3_stops_13 fo_X3_7_0 ma_2 ?_
    refine V.bipush (v := 6) dX3_stops_16 (by decide) ?_
    refine V.iload_n dX3_stops_18 rfl rfl ?_
    refine V.iadd dX3_stops_19 ?_
    obtain ⟨x4, e5, hn⟩ := bnd hn
    refine V.miald hM2 dX3_stops_20 ma_2 (mLd_some e5) ?_
    obtain rfl := Option.some.inj hn
    exact V.iret dX3_stops_21 rfl ⟨rfl, hM2⟩
  · rw [if_neg hc6] at hn
    refine V.iconst (v := 0) dX3_stops_8 (by decide) ?_
    refine V.goto (tgt := 21) dX3_stops_9 (by decide) ?_
    obtain rfl := Option.some.inj hn
    exact V.iret dX3_stops_21 rfl ⟨rfl, hM2⟩
def m_X3_fixedStops (p1 : Int32) (μ : MS) : Option (Int32 × MS) := (m_X3_noVan p1 μ).bind fun y1 => if y1.1 = (0 : Int32) then ((m_X3_fixed p1 y1.2).bind fun x4 => some (x4, y1.2)) else (some ((0 : Int32), y1.2))
abbrev M_X3_fixedStops : MD := (yX3_fixedStops, cX3_fixedStops, 2, (some .int), [])
theorem ok_X3_fixedStops : mOK yX3_fixedStops 2 1 := ⟨⟨by decide +kernel, by decide +kernel⟩, by decide +kernel, by decide⟩
theorem w_X3_fixedStops {l : Launch} {g : GG} {h : AH} {B : BM} {μ : MS} {p1 : Int32} {z : Int32 × MS} (hM : IsM B h μ) (hT : TX g h) (hn : m_X3_fixedStops p1 μ = some z) : Sp l g M_X3_fixedStops 5 [.ref B.1, .int p1] h (QM B h (some (.int z.1)) z.2) := by
  refine Sp.ofV (L := [some (.ref B.1), some (.int p1)]) rfl rfl (hcR (hcI hc0)) (Nat.le_of_ble_eq_true rfl) rfl ?_
  have hM0 : MM B h h μ := ⟨hM, SameM.rf⟩
  unfold m_X3_fixedStops at hn
  refine V.aload_n dX3_fixedStops_0 rfl rfl IsR.ref ?_
  refine V.iload_n dX3_fixedStops_1 rfl rfl ?_
  obtain ⟨y1, e3, hn⟩ := bnd hn
  refine V.invV (as := [.int p1]) (b := B.1) (ci := 0) (w := true) (rc := rc0) dX3_fixedStops_2 ok_X3_noVan (lw_V q2560 q2562 qs115 q151 q2563) rfl hM0.1.1 rfl (by decide) (Nat.le_of_ble_eq_true rfl) (w_X3_noVan hM0.1 (hT.mm hM hM0) e3) (kmI hM0.2 (fun h2 hM2 => ?_)) kxM
  refine V.if_eq (tgt := 12) dX3_fixedStops_5 (by decide) (fun hc6 => ?_) (fun hc6 => ?_)
  · rw [if_pos hc6] at hn
    refine V.aload_n dX3_fixedStops_12 rfl rfl IsR.ref ?_
    refine V.iload_n dX3_fixedStops_13 rfl rfl ?_
    obtain ⟨x4, e5, hn⟩ := bnd hn
    refine V.invV (as := [.int p1]) (b := B.1) (ci := 0) (w := true) (rc := rc0) dX3_fixedStops_14 ok_X3_fixed (lw_V q2429 q2431 qs88 q151 q2432) rfl hM2.1.1 rfl (by decide) (Nat.le_of_ble_eq_true rfl) (w_X3_fixed hM2.1 (hT.mm hM hM2) e5) (krI ?_) kxZ
    obtain rfl := Option.some.inj hn
    exact V.iret dX3_fixedStops_17 rfl ⟨rfl, hM2⟩
  · rw [if_neg hc6] at hn
    refine V.iconst (v := 0) dX3_fixedStops_8 (by decide) ?_
    refine V.goto (tgt := 17) dX3_fixedStops_9 (by decide) ?_
    obtain rfl := Option.some.inj hn
    exact V.iret dX3_fixedStops_17 rfl ⟨rfl, hM2⟩
def m_X3_noStop (p1 : Int32) (p2 : Int32) (μ : MS) : Option (Int32 × MS) := (m_X3_noVan p1 μ).bind fun y1 => if y1.1 = (0 : Int32) then ((mLd y1.2 2 835 ((6 : Int32) + p1)).bind fun x4 => (m_X3_in p2 (0 : Int32) (x4 - (1 : Int32))).bind fun x6 => (some (if x6 = (0 : Int32) then ((1 : Int32)) else ((0 : Int32)))).bind fun v11 => (m_X3_refuse v11 (2 : Int32) y1.2).bind fun y12 => if y12.1 = (0 : Int32) then (some ((0 : Int32), y12.2)) else (some ((1 : Int32), y12.2))) else (some ((1 : Int32), y1.2))
abbrev M_X3_noStop : MD := (yX3_noStop, cX3_noStop, 3, (some .boolean), [])
theorem ok_X3_noStop : mOK yX3_noStop 3 2 := ⟨⟨by decide +kernel, by decide +kernel⟩, by decide +kernel, by decide⟩
theorem w_X3_noStop {l : Launch} {g : GG} {h : AH} {B : BM} {μ : MS} {p1 : Int32} {p2 : Int32} {z : Int32 × MS} (hM : IsM B h μ) (hT : TX g h) (hn : m_X3_noStop p1 p2 μ = some z) : Sp l g M_X3_noStop 3 [.ref B.1, .int p1, .int p2] h (QM B h (some (.int z.1)) z.2) := by
  refine Sp.ofV (L := [some (.ref B.1), some (.int p1), some (.int p2)]) rfl rfl (hcR (hcI (hcI hc0))) (Nat.le_of_ble_eq_true rfl) rfl ?_
  have hM0 : MM B h h μ := ⟨hM, SameM.rf⟩
  unfold m_X3_noStop at hn
  refine V.aload_n dX3_noStop_0 rfl rfl IsR.ref ?_
  refine V.iload_n dX3_noStop_1 rfl rfl ?_
  obtain ⟨y1, e3, hn⟩ := bnd hn
  refine V.invV (as := [.int p1]) (b := B.1) (ci := 0) (w := true) (rc := rc0) dX3_noStop_2 ok_X3_noVan (lw_V q2560 q2562 qs115 q151 q2563) rfl hM0.1.1 rfl (by decide) (Nat.le_of_ble_eq_true rfl) (w_X3_noVan hM0.1 (hT.mm hM hM0) e3) (kmI hM0.2 (fun h2 hM2 => ?_)) kxM
  refine V.if_ne (tgt := 40) dX3_noStop_5 (by decide) (fun hc18 => ?_) (fun hc18 => ?_)
  · rw [if_neg hc18] at hn
    refine V.iconst (v := 1) dX3_noStop_40 (by decide) ?_
    refine V.goto (tgt := 45) dX3_noStop_41 (by decide) ?_
    obtain rfl := Option.some.inj hn
    exact V.zret dX3_noStop_45 rfl rfl ⟨rfl, hM2⟩
  · rw [if_pos hc18] at hn
    refine V.aload_n dX3_noStop_8 rfl rfl IsR.ref ?_
    refine V.iload_n dX3_noStop_9 rfl rfl ?_
    refine V.iconst (v := 0) dX3_noStop_10 (by decide) ?_
    refine V.aload_n dX3_noStop_11 rfl rfl IsR.ref ?_
    refine V.mgetA hM2 dX3_noStop_12 fo_X3_7_0 ma_2 ?_
    refine V.bipush (v := 6) dX3_noStop_15 (by decide) ?_
    refine V.iload_n dX3_noStop_17 rfl rfl ?_
    refine V.iadd dX3_noStop_18 ?_
    obtain ⟨x4, e5, hn⟩ := bnd hn
    refine V.miald hM2 dX3_noStop_19 ma_2 (mLd_some e5) ?_
    refine V.iconst (v := 1) dX3_noStop_20 (by decide) ?_
    refine V.isub dX3_noStop_21 ?_
    obtain ⟨x6, e7, hn⟩ := bnd hn
    refine V.invS (as := [.int p2, .int (0 : Int32), .int (x4 - (1 : Int32))]) dX3_noStop_22 ok_X3_in (lw_S q2308 q2309 q151 q2310) (by decide) (Nat.le_of_ble_eq_true rfl) (w_X3_in e7) (krI ?_) kxZ
    obtain ⟨v11, e17, hn⟩ := bnd hn
    have e17 := Option.some.inj e17
    have hJ16 : V l g M_X3_noStop 3 33 [none, none, none] [.int v11, .ref B.1] h2 (QM B h (some (.int z.1)) z.2) := by
      refine V.iconst (v := 2) dX3_noStop_33 (by decide) ?_
      obtain ⟨y12, e14, hn⟩ := bnd hn
      refine V.invV (as := [.int v11, .int (2 : Int32)]) (b := B.1) (ci := 0) (w := true) (rc := rc0) dX3_noStop_34 ok_X3_refuse (lw_V q2311 q2313 qs67 q151 q2314) rfl hM2.1.1 rfl (by decide) (Nat.le_of_ble_eq_true rfl) (w_X3_refuse hM2.1 (hT.mm hM hM2) e14) (kmI hM2.2 (fun h13 hM13 => ?_)) kxM
      refine V.if_eq (tgt := 44) dX3_noStop_37 (by decide) (fun hc15 => ?_) (fun hc15 => ?_)
      · rw [if_pos hc15] at hn
        refine V.iconst (v := 0) dX3_noStop_44 (by decide) ?_
        obtain rfl := Option.some.inj hn
        exact V.zret dX3_noStop_45 rfl rfl ⟨rfl, hM13⟩
      · rw [if_neg hc15] at hn
        refine V.iconst (v := 1) dX3_noStop_40 (by decide) ?_
        refine V.goto (tgt := 45) dX3_noStop_41 (by decide) ?_
        obtain rfl := Option.some.inj hn
        exact V.zret dX3_noStop_45 rfl rfl ⟨rfl, hM13⟩
    refine V.if_ne (tgt := 32) dX3_noStop_25 (by decide) (fun hc10 => ?_) (fun hc10 => ?_)
    · skip
      refine V.iconst (v := 0) dX3_noStop_32 (by decide) ?_
      rw [if_neg hc10] at e17
      subst e17
      exact V.forget (llN (llN (llN ll0))) (hJ16)
    · skip
      refine V.iconst (v := 1) dX3_noStop_28 (by decide) ?_
      refine V.goto (tgt := 33) dX3_noStop_29 (by decide) ?_
      rw [if_pos hc10] at e17
      subst e17
      exact V.forget (llN (llN (llN ll0))) (hJ16)
def m_X3_callAt (p1 : Int32) (p2 : Int32) (μ : MS) : Option (Int32 × MS) := (m_X3_noStop p1 p2 μ).bind fun y1 => if y1.1 = (0 : Int32) then ((m_X3_callOf p1 p2 y1.2).bind fun x4 => some (x4, y1.2)) else (some ((0 : Int32), y1.2))
abbrev M_X3_callAt : MD := (yX3_callAt, cX3_callAt, 3, (some .int), [])
theorem ok_X3_callAt : mOK yX3_callAt 3 2 := ⟨⟨by decide +kernel, by decide +kernel⟩, by decide +kernel, by decide⟩
theorem w_X3_callAt {l : Launch} {g : GG} {h : AH} {B : BM} {μ : MS} {p1 : Int32} {p2 : Int32} {z : Int32 × MS} (hM : IsM B h μ) (hT : TX g h) (hn : m_X3_callAt p1 p2 μ = some z) : Sp l g M_X3_callAt 4 [.ref B.1, .int p1, .int p2] h (QM B h (some (.int z.1)) z.2) := by
  refine Sp.ofV (L := [some (.ref B.1), some (.int p1), some (.int p2)]) rfl rfl (hcR (hcI (hcI hc0))) (Nat.le_of_ble_eq_true rfl) rfl ?_
  have hM0 : MM B h h μ := ⟨hM, SameM.rf⟩
  unfold m_X3_callAt at hn
  refine V.aload_n dX3_callAt_0 rfl rfl IsR.ref ?_
  refine V.iload_n dX3_callAt_1 rfl rfl ?_
  refine V.iload_n dX3_callAt_2 rfl rfl ?_
  obtain ⟨y1, e3, hn⟩ := bnd hn
  refine V.invV (as := [.int p1, .int p2]) (b := B.1) (ci := 0) (w := true) (rc := rc0) dX3_callAt_3 ok_X3_noStop (lw_V q2587 q2589 qs117 q151 q2590) rfl hM0.1.1 rfl (by decide) (Nat.le_of_ble_eq_true rfl) (w_X3_noStop hM0.1 (hT.mm hM hM0) e3) (kmI hM0.2 (fun h2 hM2 => ?_)) kxM
  refine V.if_eq (tgt := 13) dX3_callAt_6 (by decide) (fun hc6 => ?_) (fun hc6 => ?_)
  · rw [if_pos hc6] at hn
    refine V.aload_n dX3_callAt_13 rfl rfl IsR.ref ?_
    refine V.iload_n dX3_callAt_14 rfl rfl ?_
    refine V.iload_n dX3_callAt_15 rfl rfl ?_
    obtain ⟨x4, e5, hn⟩ := bnd hn
    refine V.invV (as := [.int p1, .int p2]) (b := B.1) (ci := 0) (w := true) (rc := rc0) dX3_callAt_16 ok_X3_callOf (lw_V q2437 q2439 qs90 q151 q2440) rfl hM2.1.1 rfl (by decide) (Nat.le_of_ble_eq_true rfl) (w_X3_callOf hM2.1 (hT.mm hM hM2) e5) (krI ?_) kxZ
    obtain rfl := Option.some.inj hn
    exact V.iret dX3_callAt_19 rfl ⟨rfl, hM2⟩
  · rw [if_neg hc6] at hn
    refine V.iconst (v := 0) dX3_callAt_9 (by decide) ?_
    refine V.goto (tgt := 19) dX3_callAt_10 (by decide) ?_
    obtain rfl := Option.some.inj hn
    exact V.iret dX3_callAt_19 rfl ⟨rfl, hM2⟩
def m_X3_isPickup (p1 : Int32) (p2 : Int32) (μ : MS) : Option (Int32 × MS) := (m_X3_noStop p1 p2 μ).bind fun y1 => if y1.1 = (0 : Int32) then ((m_X3_isDrop p1 p2 y1.2).bind fun x4 => if x4 = (0 : Int32) then (some ((1 : Int32), y1.2)) else (some ((0 : Int32), y1.2))) else (some ((0 : Int32), y1.2))
abbrev M_X3_isPickup : MD := (yX3_isPickup, cX3_isPickup, 3, (some .boolean), [])
theorem ok_X3_isPickup : mOK yX3_isPickup 3 2 := ⟨⟨by decide +kernel, by decide +kernel⟩, by decide +kernel, by decide⟩
theorem w_X3_isPickup {l : Launch} {g : GG} {h : AH} {B : BM} {μ : MS} {p1 : Int32} {p2 : Int32} {z : Int32 × MS} (hM : IsM B h μ) (hT : TX g h) (hn : m_X3_isPickup p1 p2 μ = some z) : Sp l g M_X3_isPickup 4 [.ref B.1, .int p1, .int p2] h (QM B h (some (.int z.1)) z.2) := by
  refine Sp.ofV (L := [some (.ref B.1), some (.int p1), some (.int p2)]) rfl rfl (hcR (hcI (hcI hc0))) (Nat.le_of_ble_eq_true rfl) rfl ?_
  have hM0 : MM B h h μ := ⟨hM, SameM.rf⟩
  unfold m_X3_isPickup at hn
  refine V.aload_n dX3_isPickup_0 rfl rfl IsR.ref ?_
  refine V.iload_n dX3_isPickup_1 rfl rfl ?_
  refine V.iload_n dX3_isPickup_2 rfl rfl ?_
  obtain ⟨y1, e3, hn⟩ := bnd hn
  refine V.invV (as := [.int p1, .int p2]) (b := B.1) (ci := 0) (w := true) (rc := rc0) dX3_isPickup_3 ok_X3_noStop (lw_V q2587 q2589 qs117 q151 q2590) rfl hM0.1.1 rfl (by decide) (Nat.le_of_ble_eq_true rfl) (w_X3_noStop hM0.1 (hT.mm hM hM0) e3) (kmI hM0.2 (fun h2 hM2 => ?_)) kxM
  refine V.if_ne (tgt := 22) dX3_isPickup_6 (by decide) (fun hc7 => ?_) (fun hc7 => ?_)
  · rw [if_neg hc7] at hn
    refine V.iconst (v := 0) dX3_isPickup_22 (by decide) ?_
    obtain rfl := Option.some.inj hn
    exact V.zret dX3_isPickup_23 rfl rfl ⟨rfl, hM2⟩
  · rw [if_pos hc7] at hn
    refine V.aload_n dX3_isPickup_9 rfl rfl IsR.ref ?_
    refine V.iload_n dX3_isPickup_10 rfl rfl ?_
    refine V.iload_n dX3_isPickup_11 rfl rfl ?_
    obtain ⟨x4, e5, hn⟩ := bnd hn
    refine V.invV (as := [.int p1, .int p2]) (b := B.1) (ci := 0) (w := true) (rc := rc0) dX3_isPickup_12 ok_X3_isDrop (lw_V q2452 q2454 qs93 q151 q2455) rfl hM2.1.1 rfl (by decide) (Nat.le_of_ble_eq_true rfl) (w_X3_isDrop hM2.1 (hT.mm hM hM2) e5) (krI ?_) kxZ
    refine V.if_ne (tgt := 22) dX3_isPickup_15 (by decide) (fun hc6 => ?_) (fun hc6 => ?_)
    · rw [if_neg hc6] at hn
      refine V.iconst (v := 0) dX3_isPickup_22 (by decide) ?_
      obtain rfl := Option.some.inj hn
      exact V.zret dX3_isPickup_23 rfl rfl ⟨rfl, hM2⟩
    · rw [if_pos hc6] at hn
      refine V.iconst (v := 1) dX3_isPickup_18 (by decide) ?_
      refine V.goto (tgt := 23) dX3_isPickup_19 (by decide) ?_
      obtain rfl := Option.some.inj hn
      exact V.zret dX3_isPickup_23 rfl rfl ⟨rfl, hM2⟩
def m_X3_departureOf (p1 : Int32) (p2 : Int32) (μ : MS) : Option (Int32 × MS) := (m_X3_noStop p1 p2 μ).bind fun y1 => if y1.1 = (0 : Int32) then ((m_X3_cell p1 p2 (1 : Int32)).bind fun x4 => (mLd y1.2 2 835 x4).bind fun x6 => some (x6, y1.2)) else (some ((0 : Int32), y1.2))
abbrev M_X3_departureOf : MD := (yX3_departureOf, cX3_departureOf, 3, (some .int), [])
theorem ok_X3_departureOf : mOK yX3_departureOf 3 2 := ⟨⟨by decide +kernel, by decide +kernel⟩, by decide +kernel, by decide⟩
theorem w_X3_departureOf {l : Launch} {g : GG} {h : AH} {B : BM} {μ : MS} {p1 : Int32} {p2 : Int32} {z : Int32 × MS} (hM : IsM B h μ) (hT : TX g h) (hn : m_X3_departureOf p1 p2 μ = some z) : Sp l g M_X3_departureOf 4 [.ref B.1, .int p1, .int p2] h (QM B h (some (.int z.1)) z.2) := by
  refine Sp.ofV (L := [some (.ref B.1), some (.int p1), some (.int p2)]) rfl rfl (hcR (hcI (hcI hc0))) (Nat.le_of_ble_eq_true rfl) rfl ?_
  have hM0 : MM B h h μ := ⟨hM, SameM.rf⟩
  unfold m_X3_departureOf at hn
  refine V.aload_n dX3_departureOf_0 rfl rfl IsR.ref ?_
  refine V.iload_n dX3_departureOf_1 rfl rfl ?_
  refine V.iload_n dX3_departureOf_2 rfl rfl ?_
  obtain ⟨y1, e3, hn⟩ := bnd hn
  refine V.invV (as := [.int p1, .int p2]) (b := B.1) (ci := 0) (w := true) (rc := rc0) dX3_departureOf_3 ok_X3_noStop (lw_V q2587 q2589 qs117 q151 q2590) rfl hM0.1.1 rfl (by decide) (Nat.le_of_ble_eq_true rfl) (w_X3_noStop hM0.1 (hT.mm hM hM0) e3) (kmI hM0.2 (fun h2 hM2 => ?_)) kxM
  refine V.if_eq (tgt := 13) dX3_departureOf_6 (by decide) (fun hc8 => ?_) (fun hc8 => ?_)
  · rw [if_pos hc8] at hn
    refine V.aload_n dX3_departureOf_13 rfl rfl IsR.ref ?_
    refine V.mgetA hM2 dX3_departureOf_14 fo_X3_7_0 ma_2 ?_
    refine V.iload_n dX3_departureOf_17 rfl rfl ?_
    refine V.iload_n dX3_departureOf_18 rfl rfl ?_
    refine V.iconst (v := 1) dX3_departureOf_19 (by decide) ?_
    obtain ⟨x4, e5, hn⟩ := bnd hn
    refine V.invS (as := [.int p1, .int p2, .int (1 : Int32)]) dX3_departureOf_20 ok_X3_cell (lw_S q2445 q2446 q151 q2447) (by decide) (Nat.le_of_ble_eq_true rfl) (w_X3_cell e5) (krI ?_) kxZ
    obtain ⟨x6, e7, hn⟩ := bnd hn
    refine V.miald hM2 dX3_departureOf_23 ma_2 (mLd_some e7) ?_
    obtain rfl := Option.some.inj hn
    exact V.iret dX3_departureOf_24 rfl ⟨rfl, hM2⟩
  · rw [if_neg hc8] at hn
    refine V.iconst (v := 0) dX3_departureOf_9 (by decide) ?_
    refine V.goto (tgt := 24) dX3_departureOf_10 (by decide) ?_
    obtain rfl := Option.some.inj hn
    exact V.iret dX3_departureOf_24 rfl ⟨rfl, hM2⟩
def m_X3_beginOf (p1 : Int32) (p2 : Int32) (μ : MS) : Option (Int32 × MS) := (m_X3_noStop p1 p2 μ).bind fun y1 => if y1.1 = (0 : Int32) then ((m_X3_begin p1 p2 y1.2).bind fun x4 => some (x4, y1.2)) else (some ((0 : Int32), y1.2))
abbrev M_X3_beginOf : MD := (yX3_beginOf, cX3_beginOf, 3, (some .int), [])
theorem ok_X3_beginOf : mOK yX3_beginOf 3 2 := ⟨⟨by decide +kernel, by decide +kernel⟩, by decide +kernel, by decide⟩
theorem w_X3_beginOf {l : Launch} {g : GG} {h : AH} {B : BM} {μ : MS} {p1 : Int32} {p2 : Int32} {z : Int32 × MS} (hM : IsM B h μ) (hT : TX g h) (hn : m_X3_beginOf p1 p2 μ = some z) : Sp l g M_X3_beginOf 4 [.ref B.1, .int p1, .int p2] h (QM B h (some (.int z.1)) z.2) := by
  refine Sp.ofV (L := [some (.ref B.1), some (.int p1), some (.int p2)]) rfl rfl (hcR (hcI (hcI hc0))) (Nat.le_of_ble_eq_true rfl) rfl ?_
  have hM0 : MM B h h μ := ⟨hM, SameM.rf⟩
  unfold m_X3_beginOf at hn
  refine V.aload_n dX3_beginOf_0 rfl rfl IsR.ref ?_
  refine V.iload_n dX3_beginOf_1 rfl rfl ?_
  refine V.iload_n dX3_beginOf_2 rfl rfl ?_
  obtain ⟨y1, e3, hn⟩ := bnd hn
  refine V.invV (as := [.int p1, .int p2]) (b := B.1) (ci := 0) (w := true) (rc := rc0) dX3_beginOf_3 ok_X3_noStop (lw_V q2587 q2589 qs117 q151 q2590) rfl hM0.1.1 rfl (by decide) (Nat.le_of_ble_eq_true rfl) (w_X3_noStop hM0.1 (hT.mm hM hM0) e3) (kmI hM0.2 (fun h2 hM2 => ?_)) kxM
  refine V.if_eq (tgt := 13) dX3_beginOf_6 (by decide) (fun hc6 => ?_) (fun hc6 => ?_)
  · rw [if_pos hc6] at hn
    refine V.aload_n dX3_beginOf_13 rfl rfl IsR.ref ?_
    refine V.iload_n dX3_beginOf_14 rfl rfl ?_
    refine V.iload_n dX3_beginOf_15 rfl rfl ?_
    obtain ⟨x4, e5, hn⟩ := bnd hn
    refine V.invV (as := [.int p1, .int p2]) (b := B.1) (ci := 0) (w := true) (rc := rc0) dX3_beginOf_16 ok_X3_begin (lw_V q2464 q2466 qs96 q151 q2467) rfl hM2.1.1 rfl (by decide) (Nat.le_of_ble_eq_true rfl) (w_X3_begin hM2.1 (hT.mm hM hM2) e5) (krI ?_) kxZ
    obtain rfl := Option.some.inj hn
    exact V.iret dX3_beginOf_19 rfl ⟨rfl, hM2⟩
  · rw [if_neg hc6] at hn
    refine V.iconst (v := 0) dX3_beginOf_9 (by decide) ?_
    refine V.goto (tgt := 19) dX3_beginOf_10 (by decide) ?_
    obtain rfl := Option.some.inj hn
    exact V.iret dX3_beginOf_19 rfl ⟨rfl, hM2⟩
def m_X3_freeSeats (p1 : Int32) (p2 : Int32) (μ : MS) : Option (Int32 × MS) := (m_X3_noStop p1 p2 μ).bind fun y1 => if y1.1 = (0 : Int32) then ((m_X3_van p1 (2 : Int32) y1.2).bind fun x4 => (m_X3_taken p1 p2 (0 : Int32) y1.2).bind fun x6 => some (x4 - x6, y1.2)) else (some ((0 : Int32), y1.2))
abbrev M_X3_freeSeats : MD := (yX3_freeSeats, cX3_freeSeats, 3, (some .int), [])
theorem ok_X3_freeSeats : mOK yX3_freeSeats 3 2 := ⟨⟨by decide +kernel, by decide +kernel⟩, by decide +kernel, by decide⟩
theorem w_X3_freeSeats {l : Launch} {g : GG} {h : AH} {B : BM} {μ : MS} {p1 : Int32} {p2 : Int32} {z : Int32 × MS} (hM : IsM B h μ) (hT : TX g h) (hn : m_X3_freeSeats p1 p2 μ = some z) : Sp l g M_X3_freeSeats 4 [.ref B.1, .int p1, .int p2] h (QM B h (some (.int z.1)) z.2) := by
  refine Sp.ofV (L := [some (.ref B.1), some (.int p1), some (.int p2)]) rfl rfl (hcR (hcI (hcI hc0))) (Nat.le_of_ble_eq_true rfl) rfl ?_
  have hM0 : MM B h h μ := ⟨hM, SameM.rf⟩
  unfold m_X3_freeSeats at hn
  refine V.aload_n dX3_freeSeats_0 rfl rfl IsR.ref ?_
  refine V.iload_n dX3_freeSeats_1 rfl rfl ?_
  refine V.iload_n dX3_freeSeats_2 rfl rfl ?_
  obtain ⟨y1, e3, hn⟩ := bnd hn
  refine V.invV (as := [.int p1, .int p2]) (b := B.1) (ci := 0) (w := true) (rc := rc0) dX3_freeSeats_3 ok_X3_noStop (lw_V q2587 q2589 qs117 q151 q2590) rfl hM0.1.1 rfl (by decide) (Nat.le_of_ble_eq_true rfl) (w_X3_noStop hM0.1 (hT.mm hM hM0) e3) (kmI hM0.2 (fun h2 hM2 => ?_)) kxM
  refine V.if_eq (tgt := 13) dX3_freeSeats_6 (by decide) (fun hc8 => ?_) (fun hc8 => ?_)
  · rw [if_pos hc8] at hn
    refine V.aload_n dX3_freeSeats_13 rfl rfl IsR.ref ?_
    refine V.iload_n dX3_freeSeats_14 rfl rfl ?_
    refine V.iconst (v := 2) dX3_freeSeats_15 (by decide) ?_
    obtain ⟨x4, e5, hn⟩ := bnd hn
    refine V.invV (as := [.int p1, .int (2 : Int32)]) (b := B.1) (ci := 0) (w := true) (rc := rc0) dX3_freeSeats_16 ok_X3_van (lw_V q2409 q2411 qs83 q151 q2412) rfl hM2.1.1 rfl (by decide) (Nat.le_of_ble_eq_true rfl) (w_X3_van hM2.1 (hT.mm hM hM2) e5) (krI ?_) kxZ
    refine V.aload_n dX3_freeSeats_19 rfl rfl IsR.ref ?_
    refine V.iload_n dX3_freeSeats_20 rfl rfl ?_
    refine V.iload_n dX3_freeSeats_21 rfl rfl ?_
    refine V.iconst (v := 0) dX3_freeSeats_22 (by decide) ?_
    obtain ⟨x6, e7, hn⟩ := bnd hn
    refine V.invV (as := [.int p1, .int p2, .int (0 : Int32)]) (b := B.1) (ci := 0) (w := true) (rc := rc0) dX3_freeSeats_23 ok_X3_taken (lw_V q2480 q2482 qs100 q151 q2483) rfl hM2.1.1 rfl (by decide) (Nat.le_of_ble_eq_true rfl) (w_X3_taken hM2.1 (hT.mm hM hM2) e7) (krI ?_) kxZ
    refine V.isub dX3_freeSeats_26 ?_
    obtain rfl := Option.some.inj hn
    exact V.iret dX3_freeSeats_27 rfl ⟨rfl, hM2⟩
  · rw [if_neg hc8] at hn
    refine V.iconst (v := 0) dX3_freeSeats_9 (by decide) ?_
    refine V.goto (tgt := 27) dX3_freeSeats_10 (by decide) ?_
    obtain rfl := Option.some.inj hn
    exact V.iret dX3_freeSeats_27 rfl ⟨rfl, hM2⟩
def m_X3_freeWheels (p1 : Int32) (p2 : Int32) (μ : MS) : Option (Int32 × MS) := (m_X3_noStop p1 p2 μ).bind fun y1 => if y1.1 = (0 : Int32) then ((m_X3_van p1 (3 : Int32) y1.2).bind fun x4 => (m_X3_taken p1 p2 (1 : Int32) y1.2).bind fun x6 => some (x4 - x6, y1.2)) else (some ((0 : Int32), y1.2))
abbrev M_X3_freeWheels : MD := (yX3_freeWheels, cX3_freeWheels, 3, (some .int), [])
theorem ok_X3_freeWheels : mOK yX3_freeWheels 3 2 := ⟨⟨by decide +kernel, by decide +kernel⟩, by decide +kernel, by decide⟩
theorem w_X3_freeWheels {l : Launch} {g : GG} {h : AH} {B : BM} {μ : MS} {p1 : Int32} {p2 : Int32} {z : Int32 × MS} (hM : IsM B h μ) (hT : TX g h) (hn : m_X3_freeWheels p1 p2 μ = some z) : Sp l g M_X3_freeWheels 4 [.ref B.1, .int p1, .int p2] h (QM B h (some (.int z.1)) z.2) := by
  refine Sp.ofV (L := [some (.ref B.1), some (.int p1), some (.int p2)]) rfl rfl (hcR (hcI (hcI hc0))) (Nat.le_of_ble_eq_true rfl) rfl ?_
  have hM0 : MM B h h μ := ⟨hM, SameM.rf⟩
  unfold m_X3_freeWheels at hn
  refine V.aload_n dX3_freeWheels_0 rfl rfl IsR.ref ?_
  refine V.iload_n dX3_freeWheels_1 rfl rfl ?_
  refine V.iload_n dX3_freeWheels_2 rfl rfl ?_
  obtain ⟨y1, e3, hn⟩ := bnd hn
  refine V.invV (as := [.int p1, .int p2]) (b := B.1) (ci := 0) (w := true) (rc := rc0) dX3_freeWheels_3 ok_X3_noStop (lw_V q2587 q2589 qs117 q151 q2590) rfl hM0.1.1 rfl (by decide) (Nat.le_of_ble_eq_true rfl) (w_X3_noStop hM0.1 (hT.mm hM hM0) e3) (kmI hM0.2 (fun h2 hM2 => ?_)) kxM
  refine V.if_eq (tgt := 13) dX3_freeWheels_6 (by decide) (fun hc8 => ?_) (fun hc8 => ?_)
  · rw [if_pos hc8] at hn
    refine V.aload_n dX3_freeWheels_13 rfl rfl IsR.ref ?_
    refine V.iload_n dX3_freeWheels_14 rfl rfl ?_
    refine V.iconst (v := 3) dX3_freeWheels_15 (by decide) ?_
    obtain ⟨x4, e5, hn⟩ := bnd hn
    refine V.invV (as := [.int p1, .int (3 : Int32)]) (b := B.1) (ci := 0) (w := true) (rc := rc0) dX3_freeWheels_16 ok_X3_van (lw_V q2409 q2411 qs83 q151 q2412) rfl hM2.1.1 rfl (by decide) (Nat.le_of_ble_eq_true rfl) (w_X3_van hM2.1 (hT.mm hM hM2) e5) (krI ?_) kxZ
    refine V.aload_n dX3_freeWheels_19 rfl rfl IsR.ref ?_
    refine V.iload_n dX3_freeWheels_20 rfl rfl ?_
    refine V.iload_n dX3_freeWheels_21 rfl rfl ?_
    refine V.iconst (v := 1) dX3_freeWheels_22 (by decide) ?_
    obtain ⟨x6, e7, hn⟩ := bnd hn
    refine V.invV (as := [.int p1, .int p2, .int (1 : Int32)]) (b := B.1) (ci := 0) (w := true) (rc := rc0) dX3_freeWheels_23 ok_X3_taken (lw_V q2480 q2482 qs100 q151 q2483) rfl hM2.1.1 rfl (by decide) (Nat.le_of_ble_eq_true rfl) (w_X3_taken hM2.1 (hT.mm hM hM2) e7) (krI ?_) kxZ
    refine V.isub dX3_freeWheels_26 ?_
    obtain rfl := Option.some.inj hn
    exact V.iret dX3_freeWheels_27 rfl ⟨rfl, hM2⟩
  · rw [if_neg hc8] at hn
    refine V.iconst (v := 0) dX3_freeWheels_9 (by decide) ?_
    refine V.goto (tgt := 27) dX3_freeWheels_10 (by decide) ?_
    obtain rfl := Option.some.inj hn
    exact V.iret dX3_freeWheels_27 rfl ⟨rfl, hM2⟩
def m_X3_placeOf_b2 (p1 : Int32) (p2 : Int32) (μ : MS) : (Int32) → Option ((Int32) ⊕ ((Int32) ⊕ (Int32))) := fun i1 => (mLd μ 2 835 ((6 : Int32) + p1)).bind fun x6 => if x6 ≤ i1 then (some (.inr (.inr (-1 : Int32)))) else ((m_X3_stop p1 i1 μ).bind fun x9 => if x9 = p2 then (some (.inr (.inl i1))) else (some (.inl (i1 + (1 : Int32)))))
def m_X3_placeOf (p1 : Int32) (p2 : Int32) (μ : MS) : Option (Int32) := (iter (m_X3_placeOf_b2 p1 p2 μ) FUEL (0 : Int32)).bind fun y => match y with | .inr e => some e | .inl v13 => some v13
abbrev M_X3_placeOf : MD := (yX3_placeOf, cX3_placeOf, 4, (some .int), [])
theorem ok_X3_placeOf : mOK yX3_placeOf 4 2 := ⟨⟨by decide +kernel, by decide +kernel⟩, by decide +kernel, by decide⟩
theorem w_X3_placeOf {l : Launch} {g : GG} {h : AH} {B : BM} {μ : MS} {p1 : Int32} {p2 : Int32} {z : Int32} (hM : IsM B h μ) (hT : TX g h) (hn : m_X3_placeOf p1 p2 μ = some z) : Sp l g M_X3_placeOf 2 [.ref B.1, .int p1, .int p2] h (QZ (some (.int z)) h) := by
  refine Sp.ofV (L := [some (.ref B.1), some (.int p1), some (.int p2), none]) rfl rfl (hcR (hcI (hcI hc0))) (Nat.le_of_ble_eq_true rfl) rfl ?_
  have hM0 : MM B h h μ := ⟨hM, SameM.rf⟩
  unfold m_X3_placeOf at hn
  refine V.iconst (v := 0) dX3_placeOf_0 (by decide) ?_
  refine V.istore_n (i := 3) dX3_placeOf_1 rfl (by decide) ?_
  simp only [List.set_cons_zero, List.set_cons_succ]
  obtain ⟨b15, hL14, hn⟩ := bnd hn
  have hJ16 : ∀ (v13 : Int32), .inl v13 = b15 → V l g M_X3_placeOf 2 25 [none, none, none, some (.int v13)] [] h (QZ (some (.int z)) h) := by
    intro v13 e17
    subst e17
    (try dsimp only at hn)
    refine V.iload_n dX3_placeOf_25 rfl rfl ?_
    obtain rfl := Option.some.inj hn
    exact V.iret dX3_placeOf_26 rfl ⟨rfl, rfl⟩
  refine iter_ind (P := fun (i1 : Int32) => V l g M_X3_placeOf 2 2 [some (.ref B.1), some (.int p1), some (.int p2), some (.int i1)] [] h (QZ (some (.int z)) h)) (b := b15) ?_ FUEL (0 : Int32) hL14
  rintro i1 ρ18 hr2 hi3 hx4
  unfold m_X3_placeOf_b2 at hr2
  (try dsimp only at hr2)
  refine V.iload_n dX3_placeOf_2 rfl rfl ?_
  refine V.aload_n dX3_placeOf_3 rfl rfl IsR.ref ?_
  refine V.mgetA hM0 dX3_placeOf_4 fo_X3_7_0 ma_2 ?_
  refine V.bipush (v := 6) dX3_placeOf_7 (by decide) ?_
  refine V.iload_n dX3_placeOf_9 rfl rfl ?_
  refine V.iadd dX3_placeOf_10 ?_
  obtain ⟨x6, e7, hr2⟩ := bnd hr2
  refine V.miald hM0 dX3_placeOf_11 ma_2 (mLd_some e7) ?_
  refine V.icmp_ge (tgt := 33) dX3_placeOf_12 (by decide) (fun hc12 => ?_) (fun hc12 => ?_)
  · rw [if_pos hc12] at hr2
    refine V.iconst (v := -1) dX3_placeOf_33 (by decide) ?_
    obtain rfl := Option.some.inj hr2
    have e8 := hx4 _ rfl
    subst e8
    (try dsimp only at hn)
    obtain rfl := Option.some.inj hn
    exact V.iret dX3_placeOf_34 rfl ⟨rfl, rfl⟩
  · rw [if_neg hc12] at hr2
    refine V.aload_n dX3_placeOf_15 rfl rfl IsR.ref ?_
    refine V.iload_n dX3_placeOf_16 rfl rfl ?_
    refine V.iload_n dX3_placeOf_17 rfl rfl ?_
    obtain ⟨x9, e10, hr2⟩ := bnd hr2
    refine V.invV (as := [.int p1, .int i1]) (b := B.1) (ci := 0) (w := true) (rc := rc0) dX3_placeOf_18 ok_X3_stop (lw_V q2441 q2443 qs91 q151 q2444) rfl hM0.1.1 rfl (by decide) (Nat.le_of_ble_eq_true rfl) (w_X3_stop hM0.1 (hT.mm hM hM0) e10) (krI ?_) kxZ
    refine V.iload_n dX3_placeOf_21 rfl rfl ?_
    refine V.icmp_ne (tgt := 27) dX3_placeOf_22 (by decide) (fun hc11 => ?_) (fun hc11 => ?_)
    · rw [if_neg hc11] at hr2
      refine V.iinc (v := i1 + (1 : Int32)) (i := 3) dX3_placeOf_27 rfl (by rfl) (by decide) ?_
      simp only [List.set_cons_zero, List.set_cons_succ]
      refine V.goto (tgt := 2) dX3_placeOf_30 (by decide) ?_
      obtain rfl := Option.some.inj hr2
      have hi3P := hi3 _ rfl
      exact hi3P
    · rw [if_pos hc11] at hr2
      obtain rfl := Option.some.inj hr2
      have e19 := hx4 _ rfl
      exact V.forget (llN (llN (llN (llS ll0)))) (hJ16 _ e19)
def m_X3_couldBe_b14 (p1 : Int32) (p2 : Int32) (p3 : Int32) (x1 : Int32) : (Int32 × MS) → Option ((Int32 × MS) ⊕ ((MS) ⊕ (Int32 × MS))) := fun s => match s with
  | (i3, μ4) => if x1 ≤ i3 then (some (.inr (.inl μ4))) else ((m_X3_callOf p1 i3 μ4).bind fun x9 => (m_X3_begin p1 i3 μ4).bind fun x11 => (some (if i3 = p2 then (p3) else ((0 : Int32)))).bind fun v16 => (mSt μ4 33 50 i3 (x11 + v16)).bind fun μ18 => (if i3 ≤ p2 then (some μ18) else ((mLd μ18 33 50 (i3 - (1 : Int32))).bind fun x21 => (m_X3_callOf p1 (i3 - (1 : Int32)) μ18).bind fun x23 => (m_X3_service x23 μ18).bind fun x25 => (m_X3_cell p1 i3 (1 : Int32)).bind fun x27 => (mLd μ18 2 835 x27).bind fun x29 => (some (if (x21 + x25) ≤ x29 then (x29) else (x21 + x25))).bind fun v34 => (m_X3_wayTo p1 i3 μ18).bind fun x35 => (m_X3_call x9 (5 : Int32) μ18).bind fun x37 => (m_X3_isDrop p1 i3 μ18).bind fun x39 => if x39 = (0 : Int32) then (if x37 ≤ (v34 + x35) then ((mSt μ18 33 50 i3 (v34 + x35)).bind fun μ44 => some μ44) else ((mSt μ18 33 50 i3 x37).bind fun μ46 => some μ46)) else ((mSt μ18 33 50 i3 (v34 + x35)).bind fun μ42 => some μ42)) : Option (MS)).bind fun μ52 => if p2 ≤ i3 then ((m_X3_isDrop p1 i3 μ52).bind fun x53 => if x53 = (0 : Int32) then ((mLd μ52 33 50 i3).bind fun x55 => (m_X3_call x9 (5 : Int32) μ52).bind fun x57 => (mLd μ52 20 184 (0 : Int32)).bind fun x59 => if x55 ≤ (x57 + x59) then (some (.inl (i3 + (1 : Int32), μ52))) else (some (.inr (.inr ((0 : Int32), μ52))))) else ((mLd μ52 33 50 i3).bind fun x63 => (m_X3_placeOf p1 ((2 : Int32) * x9) μ52).bind fun x65 => (mLd μ52 33 50 x65).bind fun x67 => (m_X3_service x9 μ52).bind fun x69 => (m_X3_limit x9 μ52).bind fun x71 => if ((x63 - x67) - x69) ≤ x71 then (some (.inl (i3 + (1 : Int32), μ52))) else (some (.inr (.inr ((0 : Int32), μ52)))))) else (some (.inl (i3 + (1 : Int32), μ52))))
def m_X3_couldBe (p1 : Int32) (p2 : Int32) (p3 : Int32) (μ : MS) : Option (Int32 × MS) := (mLd μ 2 835 ((6 : Int32) + p1)).bind fun x1 => (iter (m_X3_couldBe_b14 p1 p2 p3 x1) FUEL ((0 : Int32), μ)).bind fun y => match y with | .inr e => some e | .inl μ81 => (mLd μ81 33 50 (x1 - (1 : Int32))).bind fun x85 => (m_X3_callOf p1 (x1 - (1 : Int32)) μ81).bind fun x87 => (m_X3_service x87 μ81).bind fun x89 => (m_X3_wayTo p1 x1 μ81).bind fun x91 => (mLd μ81 2 835 ((2 : Int32) + p1)).bind fun x93 => if x93 < ((x85 + x89) + x91) then (some ((0 : Int32), μ81)) else (some ((1 : Int32), μ81))
abbrev M_X3_couldBe : MD := (yX3_couldBe, cX3_couldBe, 10, (some .boolean), [])
theorem ok_X3_couldBe : mOK yX3_couldBe 10 3 := ⟨⟨by decide +kernel, by decide +kernel⟩, by decide +kernel, by decide⟩
theorem w_X3_couldBe {l : Launch} {g : GG} {h : AH} {B : BM} {μ : MS} {p1 : Int32} {p2 : Int32} {p3 : Int32} {z : Int32 × MS} (hM : IsM B h μ) (hT : TX g h) (hn : m_X3_couldBe p1 p2 p3 μ = some z) : Sp l g M_X3_couldBe 5 [.ref B.1, .int p1, .int p2, .int p3] h (QM B h (some (.int z.1)) z.2) := by
  refine Sp.ofV (L := [some (.ref B.1), some (.int p1), some (.int p2), some (.int p3), none, none, none, none, none, none]) rfl rfl (hcR (hcI (hcI (hcI hc0)))) (Nat.le_of_ble_eq_true rfl) rfl ?_
  have hM0 : MM B h h μ := ⟨hM, SameM.rf⟩
  unfold m_X3_couldBe at hn
  refine V.aload_n dX3_couldBe_0 rfl rfl IsR.ref ?_
  refine V.mgetA hM0 dX3_couldBe_1 fo_X3_7_0 ma_2 ?_
  refine V.bipush (v := 6) dX3_couldBe_4 (by decide) ?_
  refine V.iload_n dX3_couldBe_6 rfl rfl ?_
  refine V.iadd dX3_couldBe_7 ?_
  obtain ⟨x1, e2, hn⟩ := bnd hn
  refine V.miald hM0 dX3_couldBe_8 ma_2 (mLd_some e2) ?_
  refine V.istore (i := 4) dX3_couldBe_9 (by decide) ?_
  simp only [List.set_cons_zero, List.set_cons_succ]
  refine V.iconst (v := 0) dX3_couldBe_11 (by decide) ?_
  refine V.istore (i := 5) dX3_couldBe_12 (by decide) ?_
  simp only [List.set_cons_zero, List.set_cons_succ]
  obtain ⟨b83, hL82, hn⟩ := bnd hn
  have hJ84 : ∀ (μ81 : MS), .inl μ81 = b83 → ∀ h81, MM B h h81 μ81 → V l g M_X3_couldBe 5 257 [some (.ref B.1), some (.int p1), none, none, some (.int x1), none, none, none, none, none] [] h81 (QM B h (some (.int z.1)) z.2) := by
    intro μ81 e96 h81 hM81
    subst e96
    (try dsimp only at hn)
    refine V.aload_n dX3_couldBe_257 rfl rfl IsR.ref ?_
    refine V.mgetA hM81 dX3_couldBe_258 fo_X3_42_0 ma_33 ?_
    refine V.iload dX3_couldBe_261 rfl ?_
    refine V.iconst (v := 1) dX3_couldBe_263 (by decide) ?_
    refine V.isub dX3_couldBe_264 ?_
    obtain ⟨x85, e86, hn⟩ := bnd hn
    refine V.miald hM81 dX3_couldBe_265 ma_33 (mLd_some e86) ?_
    refine V.aload_n dX3_couldBe_266 rfl rfl IsR.ref ?_
    refine V.aload_n dX3_couldBe_267 rfl rfl IsR.ref ?_
    refine V.iload_n dX3_couldBe_268 rfl rfl ?_
    refine V.iload dX3_couldBe_269 rfl ?_
    refine V.iconst (v := 1) dX3_couldBe_271 (by decide) ?_
    refine V.isub dX3_couldBe_272 ?_
    obtain ⟨x87, e88, hn⟩ := bnd hn
    refine V.invV (as := [.int p1, .int (x1 - (1 : Int32))]) (b := B.1) (ci := 0) (w := true) (rc := rc0) dX3_couldBe_273 ok_X3_callOf (lw_V q2437 q2439 qs90 q151 q2440) rfl hM81.1.1 rfl (by decide) (Nat.le_of_ble_eq_true rfl) (w_X3_callOf hM81.1 (hT.mm hM hM81) e88) (krI ?_) kxZ
    obtain ⟨x89, e90, hn⟩ := bnd hn
    refine V.invV (as := [.int x87]) (b := B.1) (ci := 0) (w := true) (rc := rc0) dX3_couldBe_276 ok_X3_service (lw_V q2468 q2470 qs97 q151 q2471) rfl hM81.1.1 rfl (by decide) (Nat.le_of_ble_eq_true rfl) (w_X3_service hM81.1 (hT.mm hM hM81) e90) (krI ?_) kxZ
    refine V.iadd dX3_couldBe_279 ?_
    refine V.aload_n dX3_couldBe_280 rfl rfl IsR.ref ?_
    refine V.iload_n dX3_couldBe_281 rfl rfl ?_
    refine V.iload dX3_couldBe_282 rfl ?_
    obtain ⟨x91, e92, hn⟩ := bnd hn
    refine V.invV (as := [.int p1, .int x1]) (b := B.1) (ci := 0) (w := true) (rc := rc0) dX3_couldBe_284 ok_X3_wayTo (lw_V q2512 q2514 qs108 q151 q2515) rfl hM81.1.1 rfl (by decide) (Nat.le_of_ble_eq_true rfl) (w_X3_wayTo hM81.1 (hT.mm hM hM81) e92) (krI ?_) kxZ
    refine V.iadd dX3_couldBe_287 ?_
    refine V.aload_n dX3_couldBe_288 rfl rfl IsR.ref ?_
    refine V.mgetA hM81 dX3_couldBe_289 fo_X3_7_0 ma_2 ?_
    refine V.iconst (v := 2) dX3_couldBe_292 (by decide) ?_
    refine V.iload_n dX3_couldBe_293 rfl rfl ?_
    refine V.iadd dX3_couldBe_294 ?_
    obtain ⟨x93, e94, hn⟩ := bnd hn
    refine V.miald hM81 dX3_couldBe_295 ma_2 (mLd_some e94) ?_
    refine V.icmp_gt (tgt := 303) dX3_couldBe_296 (by decide) (fun hc95 => ?_) (fun hc95 => ?_)
    · rw [if_pos hc95] at hn
      refine V.iconst (v := 0) dX3_couldBe_303 (by decide) ?_
      obtain rfl := Option.some.inj hn
      exact V.zret dX3_couldBe_304 rfl rfl ⟨rfl, hM81⟩
    · rw [if_neg hc95] at hn
      refine V.iconst (v := 1) dX3_couldBe_299 (by decide) ?_
      refine V.goto (tgt := 304) dX3_couldBe_300 (by decide) ?_
      obtain rfl := Option.some.inj hn
      exact V.zret dX3_couldBe_304 rfl rfl ⟨rfl, hM81⟩
  refine iter_ind (P := fun (σ : Int32 × MS) => match σ with | (i3, μ4) => ∀ h4, MM B h h4 μ4 → V l g M_X3_couldBe 5 14 [some (.ref B.1), some (.int p1), some (.int p2), some (.int p3), some (.int x1), some (.int i3), none, none, none, none] [] h4 (QM B h (some (.int z.1)) z.2)) (b := b83) ?_ FUEL ((0 : Int32), μ) hL82 _ hM0
  rintro ⟨i3, μ4⟩ ρ97 hr5 hi6 hx7 h4 hM4
  unfold m_X3_couldBe_b14 at hr5
  (try dsimp only at hr5)
  refine V.iload dX3_couldBe_14 rfl ?_
  refine V.iload dX3_couldBe_16 rfl ?_
  refine V.icmp_ge (tgt := 257) dX3_couldBe_18 (by decide) (fun hc80 => ?_) (fun hc80 => ?_)
  · rw [if_pos hc80] at hr5
    obtain rfl := Option.some.inj hr5
    have e98 := hx7 _ rfl
    exact V.forget (llS (llS (llN (llN (llS (llN (llN (llN (llN (llN ll0)))))))))) (hJ84 _ e98 _ hM4)
  · rw [if_neg hc80] at hr5
    refine V.aload_n dX3_couldBe_21 rfl rfl IsR.ref ?_
    refine V.iload_n dX3_couldBe_22 rfl rfl ?_
    refine V.iload dX3_couldBe_23 rfl ?_
    obtain ⟨x9, e10, hr5⟩ := bnd hr5
    refine V.invV (as := [.int p1, .int i3]) (b := B.1) (ci := 0) (w := true) (rc := rc0) dX3_couldBe_25 ok_X3_callOf (lw_V q2437 q2439 qs90 q151 q2440) rfl hM4.1.1 rfl (by decide) (Nat.le_of_ble_eq_true rfl) (w_X3_callOf hM4.1 (hT.mm hM hM4) e10) (krI ?_) kxZ
    refine V.istore (i := 6) dX3_couldBe_28 (by decide) ?_
    simp only [List.set_cons_zero, List.set_cons_succ]
    refine V.aload_n dX3_couldBe_30 rfl rfl IsR.ref ?_
    refine V.mgetA hM4 dX3_couldBe_31 fo_X3_42_0 ma_33 ?_
    refine V.iload dX3_couldBe_34 rfl ?_
    refine V.aload_n dX3_couldBe_36 rfl rfl IsR.ref ?_
    refine V.iload_n dX3_couldBe_37 rfl rfl ?_
    refine V.iload dX3_couldBe_38 rfl ?_
    obtain ⟨x11, e12, hr5⟩ := bnd hr5
    refine V.invV (as := [.int p1, .int i3]) (b := B.1) (ci := 0) (w := true) (rc := rc0) dX3_couldBe_40 ok_X3_begin (lw_V q2464 q2466 qs96 q151 q2467) rfl hM4.1.1 rfl (by decide) (Nat.le_of_ble_eq_true rfl) (w_X3_begin hM4.1 (hT.mm hM hM4) e12) (krI ?_) kxZ
    refine V.iload dX3_couldBe_43 rfl ?_
    refine V.iload_n dX3_couldBe_45 rfl rfl ?_
    obtain ⟨v16, e79, hr5⟩ := bnd hr5
    have e79 := Option.some.inj e79
    have hJ78 : V l g M_X3_couldBe 5 54 [some (.ref B.1), some (.int p1), some (.int p2), some (.int p3), some (.int x1), some (.int i3), some (.int x9), none, none, none] [.int v16, .int x11, .int i3, .ref (B.2 33)] h4 (QM B h (some (.int z.1)) z.2) := by
      refine V.iadd dX3_couldBe_54 ?_
      obtain ⟨μ18, e17, hr5⟩ := bnd hr5
      refine V.miast hM4 dX3_couldBe_55 ma_33 (mSt_some e17) (fun h18 hM18 => ?_)
      refine V.iload dX3_couldBe_56 rfl ?_
      refine V.iload_n dX3_couldBe_58 rfl rfl ?_
      obtain ⟨μ52, hA20, hr5⟩ := bnd hr5
      (try dsimp only at hr5)
      have hJ77 : ∀ h52, MM B h h52 μ52 → V l g M_X3_couldBe 5 165 [some (.ref B.1), some (.int p1), some (.int p2), some (.int p3), some (.int x1), some (.int i3), some (.int x9), none, none, none] [] h52 (QM B h (some (.int z.1)) z.2) := by
        intro h52 hM52
        refine V.iload dX3_couldBe_165 rfl ?_
        refine V.iload_n dX3_couldBe_167 rfl rfl ?_
        refine V.icmp_ge (tgt := 174) dX3_couldBe_168 (by decide) (fun hc76 => ?_) (fun hc76 => ?_)
        · rw [if_pos hc76] at hr5
          refine V.aload_n dX3_couldBe_174 rfl rfl IsR.ref ?_
          refine V.iload_n dX3_couldBe_175 rfl rfl ?_
          refine V.iload dX3_couldBe_176 rfl ?_
          obtain ⟨x53, e54, hr5⟩ := bnd hr5
          refine V.invV (as := [.int p1, .int i3]) (b := B.1) (ci := 0) (w := true) (rc := rc0) dX3_couldBe_178 ok_X3_isDrop (lw_V q2452 q2454 qs93 q151 q2455) rfl hM52.1.1 rfl (by decide) (Nat.le_of_ble_eq_true rfl) (w_X3_isDrop hM52.1 (hT.mm hM hM52) e54) (krI ?_) kxZ
          refine V.if_eq (tgt := 225) dX3_couldBe_181 (by decide) (fun hc75 => ?_) (fun hc75 => ?_)
          · rw [if_pos hc75] at hr5
            refine V.aload_n dX3_couldBe_225 rfl rfl IsR.ref ?_
            refine V.mgetA hM52 dX3_couldBe_226 fo_X3_42_0 ma_33 ?_
            refine V.iload dX3_couldBe_229 rfl ?_
            obtain ⟨x55, e56, hr5⟩ := bnd hr5
            refine V.miald hM52 dX3_couldBe_231 ma_33 (mLd_some e56) ?_
            refine V.aload_n dX3_couldBe_232 rfl rfl IsR.ref ?_
            refine V.iload dX3_couldBe_233 rfl ?_
            refine V.iconst (v := 5) dX3_couldBe_235 (by decide) ?_
            obtain ⟨x57, e58, hr5⟩ := bnd hr5
            refine V.invV (as := [.int x9, .int (5 : Int32)]) (b := B.1) (ci := 0) (w := true) (rc := rc0) dX3_couldBe_236 ok_X3_call (lw_V q2448 q2450 qs92 q151 q2451) rfl hM52.1.1 rfl (by decide) (Nat.le_of_ble_eq_true rfl) (w_X3_call hM52.1 (hT.mm hM hM52) e58) (krI ?_) kxZ
            refine V.aload_n dX3_couldBe_239 rfl rfl IsR.ref ?_
            refine V.mgetA hM52 dX3_couldBe_240 fo_X3_33_0 ma_20 ?_
            refine V.iconst (v := 0) dX3_couldBe_243 (by decide) ?_
            obtain ⟨x59, e60, hr5⟩ := bnd hr5
            refine V.miald hM52 dX3_couldBe_244 ma_20 (mLd_some e60) ?_
            refine V.iadd dX3_couldBe_245 ?_
            refine V.icmp_le (tgt := 251) dX3_couldBe_246 (by decide) (fun hc62 => ?_) (fun hc62 => ?_)
            · rw [if_pos hc62] at hr5
              refine V.iinc (v := i3 + (1 : Int32)) (i := 5) dX3_couldBe_251 rfl (by rfl) (by decide) ?_
              simp only [List.set_cons_zero, List.set_cons_succ]
              refine V.goto (tgt := 14) dX3_couldBe_254 (by decide) ?_
              obtain rfl := Option.some.inj hr5
              have hi6P := hi6 _ rfl
              exact V.forget (llS (llS (llS (llS (llS (llS (llN (llN (llN (llN ll0)))))))))) (hi6P _ hM52)
            · rw [if_neg hc62] at hr5
              refine V.iconst (v := 0) dX3_couldBe_249 (by decide) ?_
              obtain rfl := Option.some.inj hr5
              have e61 := hx7 _ rfl
              subst e61
              (try dsimp only at hn)
              obtain rfl := Option.some.inj hn
              exact V.zret dX3_couldBe_250 rfl rfl ⟨rfl, hM52⟩
          · rw [if_neg hc75] at hr5
            refine V.aload_n dX3_couldBe_184 rfl rfl IsR.ref ?_
            refine V.mgetA hM52 dX3_couldBe_185 fo_X3_42_0 ma_33 ?_
            refine V.iload dX3_couldBe_188 rfl ?_
            obtain ⟨x63, e64, hr5⟩ := bnd hr5
            refine V.miald hM52 dX3_couldBe_190 ma_33 (mLd_some e64) ?_
            refine V.aload_n dX3_couldBe_191 rfl rfl IsR.ref ?_
            refine V.mgetA hM52 dX3_couldBe_192 fo_X3_42_0 ma_33 ?_
            refine V.aload_n dX3_couldBe_195 rfl rfl IsR.ref ?_
            refine V.iload_n dX3_couldBe_196 rfl rfl ?_
            refine V.iconst (v := 2) dX3_couldBe_197 (by decide) ?_
            refine V.iload dX3_couldBe_198 rfl ?_
            refine V.imul dX3_couldBe_200 ?_
            obtain ⟨x65, e66, hr5⟩ := bnd hr5
            refine V.invV (as := [.int p1, .int ((2 : Int32) * x9)]) (b := B.1) (ci := 0) (w := true) (rc := rc0) dX3_couldBe_201 ok_X3_placeOf (lw_V q2619 q2621 qs119 q151 q2622) rfl hM52.1.1 rfl (by decide) (Nat.le_of_ble_eq_true rfl) (w_X3_placeOf hM52.1 (hT.mm hM hM52) e66) (krI ?_) kxZ
            obtain ⟨x67, e68, hr5⟩ := bnd hr5
            refine V.miald hM52 dX3_couldBe_204 ma_33 (mLd_some e68) ?_
            refine V.isub dX3_couldBe_205 ?_
            refine V.aload_n dX3_couldBe_206 rfl rfl IsR.ref ?_
            refine V.iload dX3_couldBe_207 rfl ?_
            obtain ⟨x69, e70, hr5⟩ := bnd hr5
            refine V.invV (as := [.int x9]) (b := B.1) (ci := 0) (w := true) (rc := rc0) dX3_couldBe_209 ok_X3_service (lw_V q2468 q2470 qs97 q151 q2471) rfl hM52.1.1 rfl (by decide) (Nat.le_of_ble_eq_true rfl) (w_X3_service hM52.1 (hT.mm hM hM52) e70) (krI ?_) kxZ
            refine V.isub dX3_couldBe_212 ?_
            refine V.aload_n dX3_couldBe_213 rfl rfl IsR.ref ?_
            refine V.iload dX3_couldBe_214 rfl ?_
            obtain ⟨x71, e72, hr5⟩ := bnd hr5
            refine V.invV (as := [.int x9]) (b := B.1) (ci := 0) (w := true) (rc := rc0) dX3_couldBe_216 ok_X3_limit (lw_V q2492 q2494 qs103 q151 q2495) rfl hM52.1.1 rfl (by decide) (Nat.le_of_ble_eq_true rfl) (w_X3_limit hM52.1 (hT.mm hM hM52) e72) (krI ?_) kxZ
            refine V.icmp_le (tgt := 251) dX3_couldBe_219 (by decide) (fun hc74 => ?_) (fun hc74 => ?_)
            · rw [if_pos hc74] at hr5
              refine V.iinc (v := i3 + (1 : Int32)) (i := 5) dX3_couldBe_251 rfl (by rfl) (by decide) ?_
              simp only [List.set_cons_zero, List.set_cons_succ]
              refine V.goto (tgt := 14) dX3_couldBe_254 (by decide) ?_
              obtain rfl := Option.some.inj hr5
              have hi6P := hi6 _ rfl
              exact V.forget (llS (llS (llS (llS (llS (llS (llN (llN (llN (llN ll0)))))))))) (hi6P _ hM52)
            · rw [if_neg hc74] at hr5
              refine V.goto (tgt := 249) dX3_couldBe_222 (by decide) ?_
              refine V.iconst (v := 0) dX3_couldBe_249 (by decide) ?_
              obtain rfl := Option.some.inj hr5
              have e73 := hx7 _ rfl
              subst e73
              (try dsimp only at hn)
              obtain rfl := Option.some.inj hn
              exact V.zret dX3_couldBe_250 rfl rfl ⟨rfl, hM52⟩
        · rw [if_neg hc76] at hr5
          refine V.goto (tgt := 251) dX3_couldBe_171 (by decide) ?_
          refine V.iinc (v := i3 + (1 : Int32)) (i := 5) dX3_couldBe_251 rfl (by rfl) (by decide) ?_
          simp only [List.set_cons_zero, List.set_cons_succ]
          refine V.goto (tgt := 14) dX3_couldBe_254 (by decide) ?_
          obtain rfl := Option.some.inj hr5
          have hi6P := hi6 _ rfl
          exact V.forget (llS (llS (llS (llS (llS (llS (llN (llN (llN (llN ll0)))))))))) (hi6P _ hM52)
      refine V.icmp_le (tgt := 165) dX3_couldBe_59 (by decide) (fun hc51 => ?_) (fun hc51 => ?_)
      · rw [if_pos hc51] at hA20
        obtain rfl := Option.some.inj hA20
        exact hJ77 _ hM18
      · rw [if_neg hc51] at hA20
        refine V.aload_n dX3_couldBe_62 rfl rfl IsR.ref ?_
        refine V.mgetA hM18 dX3_couldBe_63 fo_X3_42_0 ma_33 ?_
        refine V.iload dX3_couldBe_66 rfl ?_
        refine V.iconst (v := 1) dX3_couldBe_68 (by decide) ?_
        refine V.isub dX3_couldBe_69 ?_
        obtain ⟨x21, e22, hA20⟩ := bnd hA20
        refine V.miald hM18 dX3_couldBe_70 ma_33 (mLd_some e22) ?_
        refine V.aload_n dX3_couldBe_71 rfl rfl IsR.ref ?_
        refine V.aload_n dX3_couldBe_72 rfl rfl IsR.ref ?_
        refine V.iload_n dX3_couldBe_73 rfl rfl ?_
        refine V.iload dX3_couldBe_74 rfl ?_
        refine V.iconst (v := 1) dX3_couldBe_76 (by decide) ?_
        refine V.isub dX3_couldBe_77 ?_
        obtain ⟨x23, e24, hA20⟩ := bnd hA20
        refine V.invV (as := [.int p1, .int (i3 - (1 : Int32))]) (b := B.1) (ci := 0) (w := true) (rc := rc0) dX3_couldBe_78 ok_X3_callOf (lw_V q2437 q2439 qs90 q151 q2440) rfl hM18.1.1 rfl (by decide) (Nat.le_of_ble_eq_true rfl) (w_X3_callOf hM18.1 (hT.mm hM hM18) e24) (krI ?_) kxZ
        obtain ⟨x25, e26, hA20⟩ := bnd hA20
        refine V.invV (as := [.int x23]) (b := B.1) (ci := 0) (w := true) (rc := rc0) dX3_couldBe_81 ok_X3_service (lw_V q2468 q2470 qs97 q151 q2471) rfl hM18.1.1 rfl (by decide) (Nat.le_of_ble_eq_true rfl) (w_X3_service hM18.1 (hT.mm hM hM18) e26) (krI ?_) kxZ
        refine V.iadd dX3_couldBe_84 ?_
        refine V.istore (i := 7) dX3_couldBe_85 (by decide) ?_
        simp only [List.set_cons_zero, List.set_cons_succ]
        refine V.aload_n dX3_couldBe_87 rfl rfl IsR.ref ?_
        refine V.mgetA hM18 dX3_couldBe_88 fo_X3_7_0 ma_2 ?_
        refine V.iload_n dX3_couldBe_91 rfl rfl ?_
        refine V.iload dX3_couldBe_92 rfl ?_
        refine V.iconst (v := 1) dX3_couldBe_94 (by decide) ?_
        obtain ⟨x27, e28, hA20⟩ := bnd hA20
        refine V.invS (as := [.int p1, .int i3, .int (1 : Int32)]) dX3_couldBe_95 ok_X3_cell (lw_S q2445 q2446 q151 q2447) (by decide) (Nat.le_of_ble_eq_true rfl) (w_X3_cell e28) (krI ?_) kxZ
        obtain ⟨x29, e30, hA20⟩ := bnd hA20
        refine V.miald hM18 dX3_couldBe_98 ma_2 (mLd_some e30) ?_
        refine V.istore (i := 8) dX3_couldBe_99 (by decide) ?_
        simp only [List.set_cons_zero, List.set_cons_succ]
        refine V.iload dX3_couldBe_101 rfl ?_
        refine V.iload dX3_couldBe_103 rfl ?_
        obtain ⟨v34, e50, hA20⟩ := bnd hA20
        have e50 := Option.some.inj e50
        have hJ49 : V l g M_X3_couldBe 5 115 [some (.ref B.1), some (.int p1), some (.int p2), some (.int p3), some (.int x1), some (.int i3), some (.int x9), none, none, none] [.int v34] h18 (QM B h (some (.int z.1)) z.2) := by
          refine V.aload_n dX3_couldBe_115 rfl rfl IsR.ref ?_
          refine V.iload_n dX3_couldBe_116 rfl rfl ?_
          refine V.iload dX3_couldBe_117 rfl ?_
          obtain ⟨x35, e36, hA20⟩ := bnd hA20
          refine V.invV (as := [.int p1, .int i3]) (b := B.1) (ci := 0) (w := true) (rc := rc0) dX3_couldBe_119 ok_X3_wayTo (lw_V q2512 q2514 qs108 q151 q2515) rfl hM18.1.1 rfl (by decide) (Nat.le_of_ble_eq_true rfl) (w_X3_wayTo hM18.1 (hT.mm hM hM18) e36) (krI ?_) kxZ
          refine V.iadd dX3_couldBe_122 ?_
          refine V.istore (i := 7) dX3_couldBe_123 (by decide) ?_
          simp only [List.set_cons_zero, List.set_cons_succ]
          refine V.aload_n dX3_couldBe_125 rfl rfl IsR.ref ?_
          refine V.iload dX3_couldBe_126 rfl ?_
          refine V.iconst (v := 5) dX3_couldBe_128 (by decide) ?_
          obtain ⟨x37, e38, hA20⟩ := bnd hA20
          refine V.invV (as := [.int x9, .int (5 : Int32)]) (b := B.1) (ci := 0) (w := true) (rc := rc0) dX3_couldBe_129 ok_X3_call (lw_V q2448 q2450 qs92 q151 q2451) rfl hM18.1.1 rfl (by decide) (Nat.le_of_ble_eq_true rfl) (w_X3_call hM18.1 (hT.mm hM hM18) e38) (krI ?_) kxZ
          refine V.istore (i := 9) dX3_couldBe_132 (by decide) ?_
          simp only [List.set_cons_zero, List.set_cons_succ]
          refine V.aload_n dX3_couldBe_134 rfl rfl IsR.ref ?_
          refine V.mgetA hM18 dX3_couldBe_135 fo_X3_42_0 ma_33 ?_
          refine V.iload dX3_couldBe_138 rfl ?_
          refine V.aload_n dX3_couldBe_140 rfl rfl IsR.ref ?_
          refine V.iload_n dX3_couldBe_141 rfl rfl ?_
          refine V.iload dX3_couldBe_142 rfl ?_
          obtain ⟨x39, e40, hA20⟩ := bnd hA20
          refine V.invV (as := [.int p1, .int i3]) (b := B.1) (ci := 0) (w := true) (rc := rc0) dX3_couldBe_144 ok_X3_isDrop (lw_V q2452 q2454 qs93 q151 q2455) rfl hM18.1.1 rfl (by decide) (Nat.le_of_ble_eq_true rfl) (w_X3_isDrop hM18.1 (hT.mm hM hM18) e40) (krI ?_) kxZ
          refine V.if_ne (tgt := 162) dX3_couldBe_147 (by decide) (fun hc48 => ?_) (fun hc48 => ?_)
          · rw [if_neg hc48] at hA20
            refine V.iload dX3_couldBe_162 rfl ?_
            obtain ⟨μ42, e41, hA20⟩ := bnd hA20
            refine V.miast hM18 dX3_couldBe_164 ma_33 (mSt_some e41) (fun h42 hM42 => ?_)
            obtain rfl := Option.some.inj hA20
            exact V.forget (llS (llS (llS (llS (llS (llS (llS (llN (llN (llN ll0)))))))))) (hJ77 _ hM42)
          · rw [if_pos hc48] at hA20
            refine V.iload dX3_couldBe_150 rfl ?_
            refine V.iload dX3_couldBe_152 rfl ?_
            refine V.icmp_le (tgt := 162) dX3_couldBe_154 (by decide) (fun hc47 => ?_) (fun hc47 => ?_)
            · rw [if_pos hc47] at hA20
              refine V.iload dX3_couldBe_162 rfl ?_
              obtain ⟨μ44, e43, hA20⟩ := bnd hA20
              refine V.miast hM18 dX3_couldBe_164 ma_33 (mSt_some e43) (fun h44 hM44 => ?_)
              obtain rfl := Option.some.inj hA20
              exact V.forget (llS (llS (llS (llS (llS (llS (llS (llN (llN (llN ll0)))))))))) (hJ77 _ hM44)
            · rw [if_neg hc47] at hA20
              refine V.iload dX3_couldBe_157 rfl ?_
              refine V.goto (tgt := 164) dX3_couldBe_159 (by decide) ?_
              obtain ⟨μ46, e45, hA20⟩ := bnd hA20
              refine V.miast hM18 dX3_couldBe_164 ma_33 (mSt_some e45) (fun h46 hM46 => ?_)
              obtain rfl := Option.some.inj hA20
              exact V.forget (llS (llS (llS (llS (llS (llS (llS (llN (llN (llN ll0)))))))))) (hJ77 _ hM46)
        refine V.icmp_le (tgt := 113) dX3_couldBe_105 (by decide) (fun hc33 => ?_) (fun hc33 => ?_)
        · skip
          refine V.iload dX3_couldBe_113 rfl ?_
          rw [if_pos hc33] at e50
          subst e50
          exact V.forget (llS (llS (llS (llS (llS (llS (llS (llN (llN (llN ll0)))))))))) (hJ49)
        · skip
          refine V.iload dX3_couldBe_108 rfl ?_
          refine V.goto (tgt := 115) dX3_couldBe_110 (by decide) ?_
          rw [if_neg hc33] at e50
          subst e50
          exact V.forget (llS (llS (llS (llS (llS (llS (llS (llN (llN (llN ll0)))))))))) (hJ49)
    refine V.icmp_ne (tgt := 53) dX3_couldBe_46 (by decide) (fun hc15 => ?_) (fun hc15 => ?_)
    · skip
      refine V.iconst (v := 0) dX3_couldBe_53 (by decide) ?_
      rw [if_neg hc15] at e79
      subst e79
      exact hJ78
    · skip
      refine V.iload_n dX3_couldBe_49 rfl rfl ?_
      refine V.goto (tgt := 54) dX3_couldBe_50 (by decide) ?_
      rw [if_pos hc15] at e79
      subst e79
      exact hJ78
def m_X3_slack_b13 (p1 : Int32) (p2 : Int32) : (Int32 × MS) → Option ((Int32 × MS) ⊕ (Int32 × MS)) := fun s => match s with
  | (i4, μ5) => if (999 : Int32) ≤ i4 then (some (.inr (i4, μ5))) else ((m_X3_couldBe p1 p2 (i4 + (1 : Int32)) μ5).bind fun y10 => if y10.1 = (0 : Int32) then (some (.inr (i4, y10.2))) else (some (.inl (i4 + (1 : Int32), y10.2))))
def m_X3_slack (p1 : Int32) (p2 : Int32) (μ : MS) : Option (Int32 × MS) := (m_X3_noStop p1 p2 μ).bind fun y1 => if y1.1 = (0 : Int32) then ((iter (m_X3_slack_b13 p1 p2) FUEL ((0 : Int32), y1.2)).bind fun y => match y with | (v15, μ16) => some (v15, μ16)) else (some ((0 : Int32), y1.2))
abbrev M_X3_slack : MD := (yX3_slack, cX3_slack, 4, (some .int), [])
theorem ok_X3_slack : mOK yX3_slack 4 2 := ⟨⟨by decide +kernel, by decide +kernel⟩, by decide +kernel, by decide⟩
theorem w_X3_slack {l : Launch} {g : GG} {h : AH} {B : BM} {μ : MS} {p1 : Int32} {p2 : Int32} {z : Int32 × MS} (hM : IsM B h μ) (hT : TX g h) (hn : m_X3_slack p1 p2 μ = some z) : Sp l g M_X3_slack 6 [.ref B.1, .int p1, .int p2] h (QM B h (some (.int z.1)) z.2) := by
  refine Sp.ofV (L := [some (.ref B.1), some (.int p1), some (.int p2), none]) rfl rfl (hcR (hcI (hcI hc0))) (Nat.le_of_ble_eq_true rfl) rfl ?_
  have hM0 : MM B h h μ := ⟨hM, SameM.rf⟩
  unfold m_X3_slack at hn
  refine V.aload_n dX3_slack_0 rfl rfl IsR.ref ?_
  refine V.iload_n dX3_slack_1 rfl rfl ?_
  refine V.iload_n dX3_slack_2 rfl rfl ?_
  obtain ⟨y1, e3, hn⟩ := bnd hn
  refine V.invV (as := [.int p1, .int p2]) (b := B.1) (ci := 0) (w := true) (rc := rc0) dX3_slack_3 ok_X3_noStop (lw_V q2587 q2589 qs117 q151 q2590) rfl hM0.1.1 rfl (by decide) (Nat.le_of_ble_eq_true rfl) (w_X3_noStop hM0.1 (hT.mm hM hM0) e3) (kmI hM0.2 (fun h2 hM2 => ?_)) kxM
  refine V.if_eq (tgt := 11) dX3_slack_6 (by decide) (fun hc24 => ?_) (fun hc24 => ?_)
  · rw [if_pos hc24] at hn
    refine V.iconst (v := 0) dX3_slack_11 (by decide) ?_
    refine V.istore_n (i := 3) dX3_slack_12 rfl (by decide) ?_
    simp only [List.set_cons_zero, List.set_cons_succ]
    obtain ⟨b18, hL17, hn⟩ := bnd hn
    have hJ19 : ∀ (v15 : Int32) (μ16 : MS), (v15, μ16) = b18 → ∀ h16, MM B h h16 μ16 → V l g M_X3_slack 6 38 [none, none, none, some (.int v15)] [] h16 (QM B h (some (.int z.1)) z.2) := by
      intro v15 μ16 e20 h16 hM16
      subst e20
      (try dsimp only at hn)
      refine V.iload_n dX3_slack_38 rfl rfl ?_
      obtain rfl := Option.some.inj hn
      exact V.iret dX3_slack_39 rfl ⟨rfl, hM16⟩
    refine iter_ind (P := fun (σ : Int32 × MS) => match σ with | (i4, μ5) => ∀ h5, MM B h h5 μ5 → V l g M_X3_slack 6 13 [some (.ref B.1), some (.int p1), some (.int p2), some (.int i4)] [] h5 (QM B h (some (.int z.1)) z.2)) (b := b18) ?_ FUEL ((0 : Int32), y1.2) hL17 _ hM2
    rintro ⟨i4, μ5⟩ ρ21 hr6 hi7 hx8 h5 hM5
    unfold m_X3_slack_b13 at hr6
    (try dsimp only at hr6)
    refine V.iload_n dX3_slack_13 rfl rfl ?_
    refine V.sipush (v := 999) dX3_slack_14 (by decide) ?_
    refine V.icmp_ge (tgt := 38) dX3_slack_17 (by decide) (fun hc14 => ?_) (fun hc14 => ?_)
    · rw [if_pos hc14] at hr6
      obtain rfl := Option.some.inj hr6
      have e22 := hx8 _ rfl
      exact V.forget (llN (llN (llN (llS ll0)))) (hJ19 _ _ e22 _ hM5)
    · rw [if_neg hc14] at hr6
      refine V.aload_n dX3_slack_20 rfl rfl IsR.ref ?_
      refine V.iload_n dX3_slack_21 rfl rfl ?_
      refine V.iload_n dX3_slack_22 rfl rfl ?_
      refine V.iload_n dX3_slack_23 rfl rfl ?_
      refine V.iconst (v := 1) dX3_slack_24 (by decide) ?_
      refine V.iadd dX3_slack_25 ?_
      obtain ⟨y10, e12, hr6⟩ := bnd hr6
      refine V.invV (as := [.int p1, .int p2, .int (i4 + (1 : Int32))]) (b := B.1) (ci := 0) (w := true) (rc := rc0) dX3_slack_26 ok_X3_couldBe (lw_V q2615 q2617 qs118 q151 q2618) rfl hM5.1.1 rfl (by decide) (Nat.le_of_ble_eq_true rfl) (w_X3_couldBe hM5.1 (hT.mm hM hM5) e12) (kmI hM5.2 (fun h11 hM11 => ?_)) kxM
      refine V.if_eq (tgt := 38) dX3_slack_29 (by decide) (fun hc13 => ?_) (fun hc13 => ?_)
      · rw [if_pos hc13] at hr6
        obtain rfl := Option.some.inj hr6
        have e23 := hx8 _ rfl
        exact V.forget (llN (llN (llN (llS ll0)))) (hJ19 _ _ e23 _ hM11)
      · rw [if_neg hc13] at hr6
        refine V.iinc (v := i4 + (1 : Int32)) (i := 3) dX3_slack_32 rfl (by rfl) (by decide) ?_
        simp only [List.set_cons_zero, List.set_cons_succ]
        refine V.goto (tgt := 13) dX3_slack_35 (by decide) ?_
        obtain rfl := Option.some.inj hr6
        have hi7P := hi7 _ rfl
        exact hi7P _ hM11
  · rw [if_neg hc24] at hn
    refine V.iconst (v := 0) dX3_slack_9 (by decide) ?_
    obtain rfl := Option.some.inj hn
    exact V.iret dX3_slack_10 rfl ⟨rfl, hM2⟩
def m_X3_end (p1 : Int32) (μ : MS) : Option (Int32) := (mLd μ 2 835 ((6 : Int32) + p1)).bind fun x1 => if x1 = (0 : Int32) then ((m_X3_van p1 (4 : Int32) μ).bind fun x7 => some x7) else ((m_X3_finished p1 (x1 - (1 : Int32)) μ).bind fun x3 => (m_X3_wayTo p1 x1 μ).bind fun x5 => some (x3 + x5))
abbrev M_X3_end : MD := (yX3_end, cX3_end, 3, (some .int), [])
theorem ok_X3_end : mOK yX3_end 3 1 := ⟨⟨by decide +kernel, by decide +kernel⟩, by decide +kernel, by decide⟩
theorem w_X3_end {l : Launch} {g : GG} {h : AH} {B : BM} {μ : MS} {p1 : Int32} {z : Int32} (hM : IsM B h μ) (hT : TX g h) (hn : m_X3_end p1 μ = some z) : Sp l g M_X3_end 5 [.ref B.1, .int p1] h (QZ (some (.int z)) h) := by
  refine Sp.ofV (L := [some (.ref B.1), some (.int p1), none]) rfl rfl (hcR (hcI hc0)) (Nat.le_of_ble_eq_true rfl) rfl ?_
  have hM0 : MM B h h μ := ⟨hM, SameM.rf⟩
  unfold m_X3_end at hn
  refine V.aload_n dX3_end_0 rfl rfl IsR.ref ?_
  refine V.mgetA hM0 dX3_end_1 fo_X3_7_0 ma_2 ?_
  refine V.bipush (v := 6) dX3_end_4 (by decide) ?_
  refine V.iload_n dX3_end_6 rfl rfl ?_
  refine V.iadd dX3_end_7 ?_
  obtain ⟨x1, e2, hn⟩ := bnd hn
  refine V.miald hM0 dX3_end_8 ma_2 (mLd_some e2) ?_
  refine V.istore_n (i := 2) dX3_end_9 rfl (by decide) ?_
  simp only [List.set_cons_zero, List.set_cons_succ]
  refine V.iload_n dX3_end_10 rfl rfl ?_
  refine V.if_ne (tgt := 23) dX3_end_11 (by decide) (fun hc9 => ?_) (fun hc9 => ?_)
  · rw [if_neg hc9] at hn
    refine V.aload_n dX3_end_23 rfl rfl IsR.ref ?_
    refine V.iload_n dX3_end_24 rfl rfl ?_
    refine V.iload_n dX3_end_25 rfl rfl ?_
    refine V.iconst (v := 1) dX3_end_26 (by decide) ?_
    refine V.isub dX3_end_27 ?_
    obtain ⟨x3, e4, hn⟩ := bnd hn
    refine V.invV (as := [.int p1, .int (x1 - (1 : Int32))]) (b := B.1) (ci := 0) (w := true) (rc := rc0) dX3_end_28 ok_X3_finished (lw_V q2460 q2462 qs95 q151 q2463) rfl hM0.1.1 rfl (by decide) (Nat.le_of_ble_eq_true rfl) (w_X3_finished hM0.1 (hT.mm hM hM0) e4) (krI ?_) kxZ
    refine V.aload_n dX3_end_31 rfl rfl IsR.ref ?_
    refine V.iload_n dX3_end_32 rfl rfl ?_
    refine V.iload_n dX3_end_33 rfl rfl ?_
    obtain ⟨x5, e6, hn⟩ := bnd hn
    refine V.invV (as := [.int p1, .int x1]) (b := B.1) (ci := 0) (w := true) (rc := rc0) dX3_end_34 ok_X3_wayTo (lw_V q2512 q2514 qs108 q151 q2515) rfl hM0.1.1 rfl (by decide) (Nat.le_of_ble_eq_true rfl) (w_X3_wayTo hM0.1 (hT.mm hM hM0) e6) (krI ?_) kxZ
    refine V.iadd dX3_end_37 ?_
    obtain rfl := Option.some.inj hn
    exact V.iret dX3_end_38 rfl ⟨rfl, rfl⟩
  · rw [if_pos hc9] at hn
    refine V.aload_n dX3_end_14 rfl rfl IsR.ref ?_
    refine V.iload_n dX3_end_15 rfl rfl ?_
    refine V.iconst (v := 4) dX3_end_16 (by decide) ?_
    obtain ⟨x7, e8, hn⟩ := bnd hn
    refine V.invV (as := [.int p1, .int (4 : Int32)]) (b := B.1) (ci := 0) (w := true) (rc := rc0) dX3_end_17 ok_X3_van (lw_V q2409 q2411 qs83 q151 q2412) rfl hM0.1.1 rfl (by decide) (Nat.le_of_ble_eq_true rfl) (w_X3_van hM0.1 (hT.mm hM hM0) e8) (krI ?_) kxZ
    refine V.goto (tgt := 38) dX3_end_20 (by decide) ?_
    obtain rfl := Option.some.inj hn
    exact V.iret dX3_end_38 rfl ⟨rfl, rfl⟩
def m_X3_endOf (p1 : Int32) (μ : MS) : Option (Int32 × MS) := (m_X3_noVan p1 μ).bind fun y1 => if y1.1 = (0 : Int32) then ((m_X3_end p1 y1.2).bind fun x4 => some (x4, y1.2)) else (some ((0 : Int32), y1.2))
abbrev M_X3_endOf : MD := (yX3_endOf, cX3_endOf, 2, (some .int), [])
theorem ok_X3_endOf : mOK yX3_endOf 2 1 := ⟨⟨by decide +kernel, by decide +kernel⟩, by decide +kernel, by decide⟩
theorem w_X3_endOf {l : Launch} {g : GG} {h : AH} {B : BM} {μ : MS} {p1 : Int32} {z : Int32 × MS} (hM : IsM B h μ) (hT : TX g h) (hn : m_X3_endOf p1 μ = some z) : Sp l g M_X3_endOf 6 [.ref B.1, .int p1] h (QM B h (some (.int z.1)) z.2) := by
  refine Sp.ofV (L := [some (.ref B.1), some (.int p1)]) rfl rfl (hcR (hcI hc0)) (Nat.le_of_ble_eq_true rfl) rfl ?_
  have hM0 : MM B h h μ := ⟨hM, SameM.rf⟩
  unfold m_X3_endOf at hn
  refine V.aload_n dX3_endOf_0 rfl rfl IsR.ref ?_
  refine V.iload_n dX3_endOf_1 rfl rfl ?_
  obtain ⟨y1, e3, hn⟩ := bnd hn
  refine V.invV (as := [.int p1]) (b := B.1) (ci := 0) (w := true) (rc := rc0) dX3_endOf_2 ok_X3_noVan (lw_V q2560 q2562 qs115 q151 q2563) rfl hM0.1.1 rfl (by decide) (Nat.le_of_ble_eq_true rfl) (w_X3_noVan hM0.1 (hT.mm hM hM0) e3) (kmI hM0.2 (fun h2 hM2 => ?_)) kxM
  refine V.if_eq (tgt := 12) dX3_endOf_5 (by decide) (fun hc6 => ?_) (fun hc6 => ?_)
  · rw [if_pos hc6] at hn
    refine V.aload_n dX3_endOf_12 rfl rfl IsR.ref ?_
    refine V.iload_n dX3_endOf_13 rfl rfl ?_
    obtain ⟨x4, e5, hn⟩ := bnd hn
    refine V.invV (as := [.int p1]) (b := B.1) (ci := 0) (w := true) (rc := rc0) dX3_endOf_14 ok_X3_end (lw_V q2627 q2629 qs120 q151 q2630) rfl hM2.1.1 rfl (by decide) (Nat.le_of_ble_eq_true rfl) (w_X3_end hM2.1 (hT.mm hM hM2) e5) (krI ?_) kxZ
    obtain rfl := Option.some.inj hn
    exact V.iret dX3_endOf_17 rfl ⟨rfl, hM2⟩
  · rw [if_neg hc6] at hn
    refine V.iconst (v := 0) dX3_endOf_8 (by decide) ?_
    refine V.goto (tgt := 17) dX3_endOf_9 (by decide) ?_
    obtain rfl := Option.some.inj hn
    exact V.iret dX3_endOf_17 rfl ⟨rfl, hM2⟩
def m_X3_drives_b4 (p1 : Int32) (μ : MS) : (Int32 × Int32) → Option ((Int32 × Int32) ⊕ (Int32)) := fun s => match s with
  | (i1, i2) => (mLd μ 2 835 ((6 : Int32) + p1)).bind fun x7 => if x7 < i2 then (some (.inr i1)) else ((mLd μ 2 835 ((6 : Int32) + p1)).bind fun x9 => if x9 ≤ (0 : Int32) then (some (.inr i1)) else ((m_X3_wayTo p1 i2 μ).bind fun x11 => some (.inl (i1 + x11, i2 + (1 : Int32)))))
def m_X3_drives (p1 : Int32) (μ : MS) : Option (Int32) := (iter (m_X3_drives_b4 p1 μ) FUEL ((0 : Int32), (0 : Int32))).bind fun v15 => some v15
abbrev M_X3_drives : MD := (yX3_drives, cX3_drives, 4, (some .int), [])
theorem ok_X3_drives : mOK yX3_drives 4 1 := ⟨⟨by decide +kernel, by decide +kernel⟩, by decide +kernel, by decide⟩
theorem w_X3_drives {l : Launch} {g : GG} {h : AH} {B : BM} {μ : MS} {p1 : Int32} {z : Int32} (hM : IsM B h μ) (hT : TX g h) (hn : m_X3_drives p1 μ = some z) : Sp l g M_X3_drives 5 [.ref B.1, .int p1] h (QZ (some (.int z)) h) := by
  refine Sp.ofV (L := [some (.ref B.1), some (.int p1), none, none]) rfl rfl (hcR (hcI hc0)) (Nat.le_of_ble_eq_true rfl) rfl ?_
  have hM0 : MM B h h μ := ⟨hM, SameM.rf⟩
  unfold m_X3_drives at hn
  refine V.iconst (v := 0) dX3_drives_0 (by decide) ?_
  refine V.istore_n (i := 2) dX3_drives_1 rfl (by decide) ?_
  simp only [List.set_cons_zero, List.set_cons_succ]
  refine V.iconst (v := 0) dX3_drives_2 (by decide) ?_
  refine V.istore_n (i := 3) dX3_drives_3 rfl (by decide) ?_
  simp only [List.set_cons_zero, List.set_cons_succ]
  obtain ⟨b17, hL16, hn⟩ := bnd hn
  have hJ18 : ∀ (v15 : Int32), v15 = b17 → V l g M_X3_drives 5 44 [none, none, some (.int v15), none] [] h (QZ (some (.int z)) h) := by
    intro v15 e19
    subst e19
    (try dsimp only at hn)
    refine V.iload_n dX3_drives_44 rfl rfl ?_
    obtain rfl := Option.some.inj hn
    exact V.iret dX3_drives_45 rfl ⟨rfl, rfl⟩
  refine iter_ind (P := fun (σ : Int32 × Int32) => match σ with | (i1, i2) => V l g M_X3_drives 5 4 [some (.ref B.1), some (.int p1), some (.int i1), some (.int i2)] [] h (QZ (some (.int z)) h)) (b := b17) ?_ FUEL ((0 : Int32), (0 : Int32)) hL16
  rintro ⟨i1, i2⟩ ρ20 hr3 hi4 hx5
  unfold m_X3_drives_b4 at hr3
  (try dsimp only at hr3)
  refine V.iload_n dX3_drives_4 rfl rfl ?_
  refine V.aload_n dX3_drives_5 rfl rfl IsR.ref ?_
  refine V.mgetA hM0 dX3_drives_6 fo_X3_7_0 ma_2 ?_
  refine V.bipush (v := 6) dX3_drives_9 (by decide) ?_
  refine V.iload_n dX3_drives_11 rfl rfl ?_
  refine V.iadd dX3_drives_12 ?_
  obtain ⟨x7, e8, hr3⟩ := bnd hr3
  refine V.miald hM0 dX3_drives_13 ma_2 (mLd_some e8) ?_
  refine V.icmp_gt (tgt := 44) dX3_drives_14 (by decide) (fun hc14 => ?_) (fun hc14 => ?_)
  · rw [if_pos hc14] at hr3
    obtain rfl := Option.some.inj hr3
    have e21 := hx5 _ rfl
    exact V.forget (llN (llN (llS (llN ll0)))) (hJ18 _ e21)
  · rw [if_neg hc14] at hr3
    refine V.aload_n dX3_drives_17 rfl rfl IsR.ref ?_
    refine V.mgetA hM0 dX3_drives_18 fo_X3_7_0 ma_2 ?_
    refine V.bipush (v := 6) dX3_drives_21 (by decide) ?_
    refine V.iload_n dX3_drives_23 rfl rfl ?_
    refine V.iadd dX3_drives_24 ?_
    obtain ⟨x9, e10, hr3⟩ := bnd hr3
    refine V.miald hM0 dX3_drives_25 ma_2 (mLd_some e10) ?_
    refine V.if_le (tgt := 44) dX3_drives_26 (by decide) (fun hc13 => ?_) (fun hc13 => ?_)
    · rw [if_pos hc13] at hr3
      obtain rfl := Option.some.inj hr3
      have e22 := hx5 _ rfl
      exact V.forget (llN (llN (llS (llN ll0)))) (hJ18 _ e22)
    · rw [if_neg hc13] at hr3
      refine V.iload_n dX3_drives_29 rfl rfl ?_
      refine V.aload_n dX3_drives_30 rfl rfl IsR.ref ?_
      refine V.iload_n dX3_drives_31 rfl rfl ?_
      refine V.iload_n dX3_drives_32 rfl rfl ?_
      obtain ⟨x11, e12, hr3⟩ := bnd hr3
      refine V.invV (as := [.int p1, .int i2]) (b := B.1) (ci := 0) (w := true) (rc := rc0) dX3_drives_33 ok_X3_wayTo (lw_V q2512 q2514 qs108 q151 q2515) rfl hM0.1.1 rfl (by decide) (Nat.le_of_ble_eq_true rfl) (w_X3_wayTo hM0.1 (hT.mm hM hM0) e12) (krI ?_) kxZ
      refine V.iadd dX3_drives_36 ?_
      refine V.istore_n (i := 2) dX3_drives_37 rfl (by decide) ?_
      simp only [List.set_cons_zero, List.set_cons_succ]
      refine V.iinc (v := i2 + (1 : Int32)) (i := 3) dX3_drives_38 rfl (by rfl) (by decide) ?_
      simp only [List.set_cons_zero, List.set_cons_succ]
      refine V.goto (tgt := 4) dX3_drives_41 (by decide) ?_
      obtain rfl := Option.some.inj hr3
      have hi4P := hi4 _ rfl
      exact hi4P
def m_X3_driving (p1 : Int32) (μ : MS) : Option (Int32 × MS) := (m_X3_noVan p1 μ).bind fun y1 => if y1.1 = (0 : Int32) then ((m_X3_drives p1 y1.2).bind fun x4 => some (x4, y1.2)) else (some ((0 : Int32), y1.2))
abbrev M_X3_driving : MD := (yX3_driving, cX3_driving, 2, (some .int), [])
theorem ok_X3_driving : mOK yX3_driving 2 1 := ⟨⟨by decide +kernel, by decide +kernel⟩, by decide +kernel, by decide⟩
theorem w_X3_driving {l : Launch} {g : GG} {h : AH} {B : BM} {μ : MS} {p1 : Int32} {z : Int32 × MS} (hM : IsM B h μ) (hT : TX g h) (hn : m_X3_driving p1 μ = some z) : Sp l g M_X3_driving 6 [.ref B.1, .int p1] h (QM B h (some (.int z.1)) z.2) := by
  refine Sp.ofV (L := [some (.ref B.1), some (.int p1)]) rfl rfl (hcR (hcI hc0)) (Nat.le_of_ble_eq_true rfl) rfl ?_
  have hM0 : MM B h h μ := ⟨hM, SameM.rf⟩
  unfold m_X3_driving at hn
  refine V.aload_n dX3_driving_0 rfl rfl IsR.ref ?_
  refine V.iload_n dX3_driving_1 rfl rfl ?_
  obtain ⟨y1, e3, hn⟩ := bnd hn
  refine V.invV (as := [.int p1]) (b := B.1) (ci := 0) (w := true) (rc := rc0) dX3_driving_2 ok_X3_noVan (lw_V q2560 q2562 qs115 q151 q2563) rfl hM0.1.1 rfl (by decide) (Nat.le_of_ble_eq_true rfl) (w_X3_noVan hM0.1 (hT.mm hM hM0) e3) (kmI hM0.2 (fun h2 hM2 => ?_)) kxM
  refine V.if_eq (tgt := 12) dX3_driving_5 (by decide) (fun hc6 => ?_) (fun hc6 => ?_)
  · rw [if_pos hc6] at hn
    refine V.aload_n dX3_driving_12 rfl rfl IsR.ref ?_
    refine V.iload_n dX3_driving_13 rfl rfl ?_
    obtain ⟨x4, e5, hn⟩ := bnd hn
    refine V.invV (as := [.int p1]) (b := B.1) (ci := 0) (w := true) (rc := rc0) dX3_driving_14 ok_X3_drives (lw_V q2635 q2637 qs121 q151 q2638) rfl hM2.1.1 rfl (by decide) (Nat.le_of_ble_eq_true rfl) (w_X3_drives hM2.1 (hT.mm hM hM2) e5) (krI ?_) kxZ
    obtain rfl := Option.some.inj hn
    exact V.iret dX3_driving_17 rfl ⟨rfl, hM2⟩
  · rw [if_neg hc6] at hn
    refine V.iconst (v := 0) dX3_driving_8 (by decide) ?_
    refine V.goto (tgt := 17) dX3_driving_9 (by decide) ?_
    obtain rfl := Option.some.inj hn
    exact V.iret dX3_driving_17 rfl ⟨rfl, hM2⟩
def m_X3_isBusier (p1 : Int32) (p2 : Int32) (μ : MS) : Option (Int32) := (m_X3_drives p1 μ).bind fun x1 => (m_X3_drives p2 μ).bind fun x3 => if x1 = x3 then ((mLd μ 2 835 ((6 : Int32) + p1)).bind fun x5 => (mLd μ 2 835 ((6 : Int32) + p2)).bind fun x7 => if x5 = x7 then (if p2 ≤ p1 then (some (0 : Int32)) else (some (1 : Int32))) else ((mLd μ 2 835 ((6 : Int32) + p1)).bind fun x10 => (mLd μ 2 835 ((6 : Int32) + p2)).bind fun x12 => if x10 ≤ x12 then (some (0 : Int32)) else (some (1 : Int32)))) else ((m_X3_drives p1 μ).bind fun x16 => (m_X3_drives p2 μ).bind fun x18 => if x16 ≤ x18 then (some (0 : Int32)) else (some (1 : Int32)))
abbrev M_X3_isBusier : MD := (yX3_isBusier, cX3_isBusier, 3, (some .boolean), [])
theorem ok_X3_isBusier : mOK yX3_isBusier 3 2 := ⟨⟨by decide +kernel, by decide +kernel⟩, by decide +kernel, by decide⟩
theorem w_X3_isBusier {l : Launch} {g : GG} {h : AH} {B : BM} {μ : MS} {p1 : Int32} {p2 : Int32} {z : Int32} (hM : IsM B h μ) (hT : TX g h) (hn : m_X3_isBusier p1 p2 μ = some z) : Sp l g M_X3_isBusier 6 [.ref B.1, .int p1, .int p2] h (QZ (some (.int z)) h) := by
  refine Sp.ofV (L := [some (.ref B.1), some (.int p1), some (.int p2)]) rfl rfl (hcR (hcI (hcI hc0))) (Nat.le_of_ble_eq_true rfl) rfl ?_
  have hM0 : MM B h h μ := ⟨hM, SameM.rf⟩
  unfold m_X3_isBusier at hn
  refine V.aload_n dX3_isBusier_0 rfl rfl IsR.ref ?_
  refine V.iload_n dX3_isBusier_1 rfl rfl ?_
  obtain ⟨x1, e2, hn⟩ := bnd hn
  refine V.invV (as := [.int p1]) (b := B.1) (ci := 0) (w := true) (rc := rc0) dX3_isBusier_2 ok_X3_drives (lw_V q2635 q2637 qs121 q151 q2638) rfl hM0.1.1 rfl (by decide) (Nat.le_of_ble_eq_true rfl) (w_X3_drives hM0.1 (hT.mm hM hM0) e2) (krI ?_) kxZ
  refine V.aload_n dX3_isBusier_5 rfl rfl IsR.ref ?_
  refine V.iload_n dX3_isBusier_6 rfl rfl ?_
  obtain ⟨x3, e4, hn⟩ := bnd hn
  refine V.invV (as := [.int p2]) (b := B.1) (ci := 0) (w := true) (rc := rc0) dX3_isBusier_7 ok_X3_drives (lw_V q2635 q2637 qs121 q151 q2638) rfl hM0.1.1 rfl (by decide) (Nat.le_of_ble_eq_true rfl) (w_X3_drives hM0.1 (hT.mm hM hM0) e4) (krI ?_) kxZ
  refine V.icmp_eq (tgt := 32) dX3_isBusier_10 (by decide) (fun hc21 => ?_) (fun hc21 => ?_)
  · rw [if_pos hc21] at hn
    refine V.aload_n dX3_isBusier_32 rfl rfl IsR.ref ?_
    refine V.mgetA hM0 dX3_isBusier_33 fo_X3_7_0 ma_2 ?_
    refine V.bipush (v := 6) dX3_isBusier_36 (by decide) ?_
    refine V.iload_n dX3_isBusier_38 rfl rfl ?_
    refine V.iadd dX3_isBusier_39 ?_
    obtain ⟨x5, e6, hn⟩ := bnd hn
    refine V.miald hM0 dX3_isBusier_40 ma_2 (mLd_some e6) ?_
    refine V.aload_n dX3_isBusier_41 rfl rfl IsR.ref ?_
    refine V.mgetA hM0 dX3_isBusier_42 fo_X3_7_0 ma_2 ?_
    refine V.bipush (v := 6) dX3_isBusier_45 (by decide) ?_
    refine V.iload_n dX3_isBusier_47 rfl rfl ?_
    refine V.iadd dX3_isBusier_48 ?_
    obtain ⟨x7, e8, hn⟩ := bnd hn
    refine V.miald hM0 dX3_isBusier_49 ma_2 (mLd_some e8) ?_
    refine V.icmp_eq (tgt := 82) dX3_isBusier_50 (by decide) (fun hc15 => ?_) (fun hc15 => ?_)
    · rw [if_pos hc15] at hn
      refine V.iload_n dX3_isBusier_82 rfl rfl ?_
      refine V.iload_n dX3_isBusier_83 rfl rfl ?_
      refine V.icmp_ge (tgt := 91) dX3_isBusier_84 (by decide) (fun hc9 => ?_) (fun hc9 => ?_)
      · rw [if_pos hc9] at hn
        refine V.iconst (v := 0) dX3_isBusier_91 (by decide) ?_
        obtain rfl := Option.some.inj hn
        exact V.zret dX3_isBusier_92 rfl rfl ⟨rfl, rfl⟩
      · rw [if_neg hc9] at hn
        refine V.iconst (v := 1) dX3_isBusier_87 (by decide) ?_
        refine V.goto (tgt := 92) dX3_isBusier_88 (by decide) ?_
        obtain rfl := Option.some.inj hn
        exact V.zret dX3_isBusier_92 rfl rfl ⟨rfl, rfl⟩
    · rw [if_neg hc15] at hn
      refine V.aload_n dX3_isBusier_53 rfl rfl IsR.ref ?_
      refine V.mgetA hM0 dX3_isBusier_54 fo_X3_7_0 ma_2 ?_
      refine V.bipush (v := 6) dX3_isBusier_57 (by decide) ?_
      refine V.iload_n dX3_isBusier_59 rfl rfl ?_
      refine V.iadd dX3_isBusier_60 ?_
      obtain ⟨x10, e11, hn⟩ := bnd hn
      refine V.miald hM0 dX3_isBusier_61 ma_2 (mLd_some e11) ?_
      refine V.aload_n dX3_isBusier_62 rfl rfl IsR.ref ?_
      refine V.mgetA hM0 dX3_isBusier_63 fo_X3_7_0 ma_2 ?_
      refine V.bipush (v := 6) dX3_isBusier_66 (by decide) ?_
      refine V.iload_n dX3_isBusier_68 rfl rfl ?_
      refine V.iadd dX3_isBusier_69 ?_
      obtain ⟨x12, e13, hn⟩ := bnd hn
      refine V.miald hM0 dX3_isBusier_70 ma_2 (mLd_some e13) ?_
      refine V.icmp_le (tgt := 78) dX3_isBusier_71 (by decide) (fun hc14 => ?_) (fun hc14 => ?_)
      · rw [if_pos hc14] at hn
        refine V.iconst (v := 0) dX3_isBusier_78 (by decide) ?_
        refine V.goto (tgt := 92) dX3_isBusier_79 (by decide) ?_
        obtain rfl := Option.some.inj hn
        exact V.zret dX3_isBusier_92 rfl rfl ⟨rfl, rfl⟩
      · rw [if_neg hc14] at hn
        refine V.iconst (v := 1) dX3_isBusier_74 (by decide) ?_
        refine V.goto (tgt := 92) dX3_isBusier_75 (by decide) ?_
        obtain rfl := Option.some.inj hn
        exact V.zret dX3_isBusier_92 rfl rfl ⟨rfl, rfl⟩
  · rw [if_neg hc21] at hn
    refine V.aload_n dX3_isBusier_13 rfl rfl IsR.ref ?_
    refine V.iload_n dX3_isBusier_14 rfl rfl ?_
    obtain ⟨x16, e17, hn⟩ := bnd hn
    refine V.invV (as := [.int p1]) (b := B.1) (ci := 0) (w := true) (rc := rc0) dX3_isBusier_15 ok_X3_drives (lw_V q2635 q2637 qs121 q151 q2638) rfl hM0.1.1 rfl (by decide) (Nat.le_of_ble_eq_true rfl) (w_X3_drives hM0.1 (hT.mm hM hM0) e17) (krI ?_) kxZ
    refine V.aload_n dX3_isBusier_18 rfl rfl IsR.ref ?_
    refine V.iload_n dX3_isBusier_19 rfl rfl ?_
    obtain ⟨x18, e19, hn⟩ := bnd hn
    refine V.invV (as := [.int p2]) (b := B.1) (ci := 0) (w := true) (rc := rc0) dX3_isBusier_20 ok_X3_drives (lw_V q2635 q2637 qs121 q151 q2638) rfl hM0.1.1 rfl (by decide) (Nat.le_of_ble_eq_true rfl) (w_X3_drives hM0.1 (hT.mm hM hM0) e19) (krI ?_) kxZ
    refine V.icmp_le (tgt := 30) dX3_isBusier_23 (by decide) (fun hc20 => ?_) (fun hc20 => ?_)
    · rw [if_pos hc20] at hn
      refine V.iconst (v := 0) dX3_isBusier_30 (by decide) ?_
      obtain rfl := Option.some.inj hn
      exact V.zret dX3_isBusier_31 rfl rfl ⟨rfl, rfl⟩
    · rw [if_neg hc20] at hn
      refine V.iconst (v := 1) dX3_isBusier_26 (by decide) ?_
      refine V.goto (tgt := 31) dX3_isBusier_27 (by decide) ?_
      obtain rfl := Option.some.inj hn
      exact V.zret dX3_isBusier_31 rfl rfl ⟨rfl, rfl⟩
def m_X3_busiest_b31 (y1 : Int32 × MS) (i5 : Int32) : (Int32 × Int32) → Option ((Int32 × Int32) ⊕ (Int32)) := fun s => match s with
  | (i12, i13) => (mLd y1.2 20 184 (8 : Int32)).bind fun x18 => if x18 ≤ i13 then (some (.inr i12)) else ((m_X3_isBusier i13 i5 y1.2).bind fun x20 => if x20 = (0 : Int32) then (some (.inl (i12 + (0 : Int32), i13 + (1 : Int32)))) else (some (.inl (i12 + (1 : Int32), i13 + (1 : Int32)))))
def m_X3_busiest_b14 (p1 : Int32) (y1 : Int32 × MS) : (Int32 × Int32) → Option ((Int32 × Int32) ⊕ (Int32)) := fun s => match s with
  | (i4, i5) => (mLd y1.2 20 184 (8 : Int32)).bind fun x10 => if x10 ≤ i5 then (some (.inr i4)) else ((iter (m_X3_busiest_b31 y1 i5) FUEL ((0 : Int32), (0 : Int32))).bind fun v24 => if v24 = p1 then (some (.inl (i5, i5 + (1 : Int32)))) else (some (.inl (i4, i5 + (1 : Int32)))))
def m_X3_busiest (p1 : Int32) (μ : MS) : Option (Int32 × MS) := (m_X3_noVan p1 μ).bind fun y1 => if y1.1 = (0 : Int32) then ((iter (m_X3_busiest_b14 p1 y1) FUEL ((0 : Int32), (0 : Int32))).bind fun v33 => some (v33, y1.2)) else (some ((0 : Int32), y1.2))
abbrev M_X3_busiest : MD := (yX3_busiest, cX3_busiest, 6, (some .int), [])
theorem ok_X3_busiest : mOK yX3_busiest 6 1 := ⟨⟨by decide +kernel, by decide +kernel⟩, by decide +kernel, by decide⟩
theorem w_X3_busiest {l : Launch} {g : GG} {h : AH} {B : BM} {μ : MS} {p1 : Int32} {z : Int32 × MS} (hM : IsM B h μ) (hT : TX g h) (hn : m_X3_busiest p1 μ = some z) : Sp l g M_X3_busiest 7 [.ref B.1, .int p1] h (QM B h (some (.int z.1)) z.2) := by
  refine Sp.ofV (L := [some (.ref B.1), some (.int p1), none, none, none, none]) rfl rfl (hcR (hcI hc0)) (Nat.le_of_ble_eq_true rfl) rfl ?_
  have hM0 : MM B h h μ := ⟨hM, SameM.rf⟩
  unfold m_X3_busiest at hn
  refine V.aload_n dX3_busiest_0 rfl rfl IsR.ref ?_
  refine V.iload_n dX3_busiest_1 rfl rfl ?_
  obtain ⟨y1, e3, hn⟩ := bnd hn
  refine V.invV (as := [.int p1]) (b := B.1) (ci := 0) (w := true) (rc := rc0) dX3_busiest_2 ok_X3_noVan (lw_V q2560 q2562 qs115 q151 q2563) rfl hM0.1.1 rfl (by decide) (Nat.le_of_ble_eq_true rfl) (w_X3_noVan hM0.1 (hT.mm hM hM0) e3) (kmI hM0.2 (fun h2 hM2 => ?_)) kxM
  refine V.if_eq (tgt := 10) dX3_busiest_5 (by decide) (fun hc40 => ?_) (fun hc40 => ?_)
  · rw [if_pos hc40] at hn
    refine V.iconst (v := 0) dX3_busiest_10 (by decide) ?_
    refine V.istore_n (i := 2) dX3_busiest_11 rfl (by decide) ?_
    simp only [List.set_cons_zero, List.set_cons_succ]
    refine V.iconst (v := 0) dX3_busiest_12 (by decide) ?_
    refine V.istore_n (i := 3) dX3_busiest_13 rfl (by decide) ?_
    simp only [List.set_cons_zero, List.set_cons_succ]
    obtain ⟨b35, hL34, hn⟩ := bnd hn
    have hJ36 : ∀ (v33 : Int32), v33 = b35 → V l g M_X3_busiest 7 87 [none, none, some (.int v33), none, none, none] [] h2 (QM B h (some (.int z.1)) z.2) := by
      intro v33 e37
      subst e37
      (try dsimp only at hn)
      refine V.iload_n dX3_busiest_87 rfl rfl ?_
      obtain rfl := Option.some.inj hn
      exact V.iret dX3_busiest_88 rfl ⟨rfl, hM2⟩
    refine iter_ind (P := fun (σ : Int32 × Int32) => match σ with | (i4, i5) => V l g M_X3_busiest 7 14 [some (.ref B.1), some (.int p1), some (.int i4), some (.int i5), none, none] [] h2 (QM B h (some (.int z.1)) z.2)) (b := b35) ?_ FUEL ((0 : Int32), (0 : Int32)) hL34
    rintro ⟨i4, i5⟩ ρ38 hr6 hi7 hx8
    unfold m_X3_busiest_b14 at hr6
    (try dsimp only at hr6)
    refine V.iload_n dX3_busiest_14 rfl rfl ?_
    refine V.aload_n dX3_busiest_15 rfl rfl IsR.ref ?_
    refine V.mgetA hM2 dX3_busiest_16 fo_X3_33_0 ma_20 ?_
    refine V.bipush (v := 8) dX3_busiest_19 (by decide) ?_
    obtain ⟨x10, e11, hr6⟩ := bnd hr6
    refine V.miald hM2 dX3_busiest_21 ma_20 (mLd_some e11) ?_
    refine V.icmp_ge (tgt := 87) dX3_busiest_22 (by decide) (fun hc32 => ?_) (fun hc32 => ?_)
    · rw [if_pos hc32] at hr6
      obtain rfl := Option.some.inj hr6
      have e39 := hx8 _ rfl
      exact V.forget (llN (llN (llS (llN (llN (llN ll0)))))) (hJ36 _ e39)
    · rw [if_neg hc32] at hr6
      refine V.iconst (v := 0) dX3_busiest_25 (by decide) ?_
      refine V.istore (i := 4) dX3_busiest_26 (by decide) ?_
      simp only [List.set_cons_zero, List.set_cons_succ]
      refine V.iconst (v := 0) dX3_busiest_28 (by decide) ?_
      refine V.istore (i := 5) dX3_busiest_29 (by decide) ?_
      simp only [List.set_cons_zero, List.set_cons_succ]
      obtain ⟨b26, hL25, hr6⟩ := bnd hr6
      have hJ27 : ∀ (v24 : Int32), v24 = b26 → V l g M_X3_busiest 7 69 [some (.ref B.1), some (.int p1), some (.int i4), some (.int i5), some (.int v24), none] [] h2 (QM B h (some (.int z.1)) z.2) := by
        intro v24 e29
        subst e29
        (try dsimp only at hr6)
        refine V.iload dX3_busiest_69 rfl ?_
        refine V.iload_n dX3_busiest_71 rfl rfl ?_
        refine V.icmp_ne (tgt := 79) dX3_busiest_72 (by decide) (fun hc28 => ?_) (fun hc28 => ?_)
        · rw [if_neg hc28] at hr6
          refine V.iload_n dX3_busiest_79 rfl rfl ?_
          refine V.istore_n (i := 2) dX3_busiest_80 rfl (by decide) ?_
          simp only [List.set_cons_zero, List.set_cons_succ]
          refine V.iinc (v := i5 + (1 : Int32)) (i := 3) dX3_busiest_81 rfl (by rfl) (by decide) ?_
          simp only [List.set_cons_zero, List.set_cons_succ]
          refine V.goto (tgt := 14) dX3_busiest_84 (by decide) ?_
          obtain rfl := Option.some.inj hr6
          have hi7P := hi7 _ rfl
          exact V.forget (llS (llS (llS (llS (llN (llN ll0)))))) (hi7P)
        · rw [if_pos hc28] at hr6
          refine V.iload_n dX3_busiest_75 rfl rfl ?_
          refine V.goto (tgt := 80) dX3_busiest_76 (by decide) ?_
          refine V.istore_n (i := 2) dX3_busiest_80 rfl (by decide) ?_
          simp only [List.set_cons_zero, List.set_cons_succ]
          refine V.iinc (v := i5 + (1 : Int32)) (i := 3) dX3_busiest_81 rfl (by rfl) (by decide) ?_
          simp only [List.set_cons_zero, List.set_cons_succ]
          refine V.goto (tgt := 14) dX3_busiest_84 (by decide) ?_
          obtain rfl := Option.some.inj hr6
          have hi7P := hi7 _ rfl
          exact V.forget (llS (llS (llS (llS (llN (llN ll0)))))) (hi7P)
      refine iter_ind (P := fun (σ : Int32 × Int32) => match σ with | (i12, i13) => V l g M_X3_busiest 7 31 [some (.ref B.1), some (.int p1), some (.int i4), some (.int i5), some (.int i12), some (.int i13)] [] h2 (QM B h (some (.int z.1)) z.2)) (b := b26) ?_ FUEL ((0 : Int32), (0 : Int32)) hL25
      rintro ⟨i12, i13⟩ ρ30 hr14 hi15 hx16
      unfold m_X3_busiest_b31 at hr14
      (try dsimp only at hr14)
      refine V.iload dX3_busiest_31 rfl ?_
      refine V.aload_n dX3_busiest_33 rfl rfl IsR.ref ?_
      refine V.mgetA hM2 dX3_busiest_34 fo_X3_33_0 ma_20 ?_
      refine V.bipush (v := 8) dX3_busiest_37 (by decide) ?_
      obtain ⟨x18, e19, hr14⟩ := bnd hr14
      refine V.miald hM2 dX3_busiest_39 ma_20 (mLd_some e19) ?_
      refine V.icmp_ge (tgt := 69) dX3_busiest_40 (by decide) (fun hc23 => ?_) (fun hc23 => ?_)
      · rw [if_pos hc23] at hr14
        obtain rfl := Option.some.inj hr14
        have e31 := hx16 _ rfl
        exact V.forget (llS (llS (llS (llS (llS (llN ll0)))))) (hJ27 _ e31)
      · rw [if_neg hc23] at hr14
        refine V.iload dX3_busiest_43 rfl ?_
        refine V.aload_n dX3_busiest_45 rfl rfl IsR.ref ?_
        refine V.iload dX3_busiest_46 rfl ?_
        refine V.iload_n dX3_busiest_48 rfl rfl ?_
        obtain ⟨x20, e21, hr14⟩ := bnd hr14
        refine V.invV (as := [.int i13, .int i5]) (b := B.1) (ci := 0) (w := true) (rc := rc0) dX3_busiest_49 ok_X3_isBusier (lw_V q2643 q2645 qs122 q151 q2646) rfl hM2.1.1 rfl (by decide) (Nat.le_of_ble_eq_true rfl) (w_X3_isBusier hM2.1 (hT.mm hM hM2) e21) (krI ?_) kxZ
        refine V.if_eq (tgt := 59) dX3_busiest_52 (by decide) (fun hc22 => ?_) (fun hc22 => ?_)
        · rw [if_pos hc22] at hr14
          refine V.iconst (v := 0) dX3_busiest_59 (by decide) ?_
          refine V.iadd dX3_busiest_60 ?_
          refine V.istore (i := 4) dX3_busiest_61 (by decide) ?_
          simp only [List.set_cons_zero, List.set_cons_succ]
          refine V.iinc (v := i13 + (1 : Int32)) (i := 5) dX3_busiest_63 rfl (by rfl) (by decide) ?_
          simp only [List.set_cons_zero, List.set_cons_succ]
          refine V.goto (tgt := 31) dX3_busiest_66 (by decide) ?_
          obtain rfl := Option.some.inj hr14
          have hi15P := hi15 _ rfl
          exact hi15P
        · rw [if_neg hc22] at hr14
          refine V.iconst (v := 1) dX3_busiest_55 (by decide) ?_
          refine V.goto (tgt := 60) dX3_busiest_56 (by decide) ?_
          refine V.iadd dX3_busiest_60 ?_
          refine V.istore (i := 4) dX3_busiest_61 (by decide) ?_
          simp only [List.set_cons_zero, List.set_cons_succ]
          refine V.iinc (v := i13 + (1 : Int32)) (i := 5) dX3_busiest_63 rfl (by rfl) (by decide) ?_
          simp only [List.set_cons_zero, List.set_cons_succ]
          refine V.goto (tgt := 31) dX3_busiest_66 (by decide) ?_
          obtain rfl := Option.some.inj hr14
          have hi15P := hi15 _ rfl
          exact hi15P
  · rw [if_neg hc40] at hn
    refine V.iconst (v := 0) dX3_busiest_8 (by decide) ?_
    obtain rfl := Option.some.inj hn
    exact V.iret dX3_busiest_9 rfl ⟨rfl, hM2⟩
def m_X3_noCall (p1 : Int32) (μ : MS) : Option (Int32 × MS) := (m_X3_noDesk μ).bind fun y1 => if y1.1 = (0 : Int32) then ((mLd y1.2 2 835 (1 : Int32)).bind fun x4 => (m_X3_in p1 (0 : Int32) (x4 - (1 : Int32))).bind fun x6 => (some (if x6 = (0 : Int32) then ((1 : Int32)) else ((0 : Int32)))).bind fun v11 => (m_X3_refuse v11 (2 : Int32) y1.2).bind fun y12 => if y12.1 = (0 : Int32) then (some ((0 : Int32), y12.2)) else (some ((1 : Int32), y12.2))) else (some ((1 : Int32), y1.2))
abbrev M_X3_noCall : MD := (yX3_noCall, cX3_noCall, 2, (some .boolean), [])
theorem ok_X3_noCall : mOK yX3_noCall 2 1 := ⟨⟨by decide +kernel, by decide +kernel⟩, by decide +kernel, by decide⟩
theorem w_X3_noCall {l : Launch} {g : GG} {h : AH} {B : BM} {μ : MS} {p1 : Int32} {z : Int32 × MS} (hM : IsM B h μ) (hT : TX g h) (hn : m_X3_noCall p1 μ = some z) : Sp l g M_X3_noCall 2 [.ref B.1, .int p1] h (QM B h (some (.int z.1)) z.2) := by
  refine Sp.ofV (L := [some (.ref B.1), some (.int p1)]) rfl rfl (hcR (hcI hc0)) (Nat.le_of_ble_eq_true rfl) rfl ?_
  have hM0 : MM B h h μ := ⟨hM, SameM.rf⟩
  unfold m_X3_noCall at hn
  refine V.aload_n dX3_noCall_0 rfl rfl IsR.ref ?_
  obtain ⟨y1, e3, hn⟩ := bnd hn
  refine V.invV (as := []) (b := B.1) (ci := 0) (w := true) (rc := rc0) dX3_noCall_1 ok_X3_noDesk (lw_V q2564 q2566 qs116 q151 q2567) rfl hM0.1.1 rfl (by decide) (Nat.le_of_ble_eq_true rfl) (w_X3_noDesk hM0.1 (hT.mm hM hM0) e3) (kmI hM0.2 (fun h2 hM2 => ?_)) kxM
  refine V.if_ne (tgt := 36) dX3_noCall_4 (by decide) (fun hc18 => ?_) (fun hc18 => ?_)
  · rw [if_neg hc18] at hn
    refine V.iconst (v := 1) dX3_noCall_36 (by decide) ?_
    refine V.goto (tgt := 41) dX3_noCall_37 (by decide) ?_
    obtain rfl := Option.some.inj hn
    exact V.zret dX3_noCall_41 rfl rfl ⟨rfl, hM2⟩
  · rw [if_pos hc18] at hn
    refine V.aload_n dX3_noCall_7 rfl rfl IsR.ref ?_
    refine V.iload_n dX3_noCall_8 rfl rfl ?_
    refine V.iconst (v := 0) dX3_noCall_9 (by decide) ?_
    refine V.aload_n dX3_noCall_10 rfl rfl IsR.ref ?_
    refine V.mgetA hM2 dX3_noCall_11 fo_X3_7_0 ma_2 ?_
    refine V.iconst (v := 1) dX3_noCall_14 (by decide) ?_
    obtain ⟨x4, e5, hn⟩ := bnd hn
    refine V.miald hM2 dX3_noCall_15 ma_2 (mLd_some e5) ?_
    refine V.iconst (v := 1) dX3_noCall_16 (by decide) ?_
    refine V.isub dX3_noCall_17 ?_
    obtain ⟨x6, e7, hn⟩ := bnd hn
    refine V.invS (as := [.int p1, .int (0 : Int32), .int (x4 - (1 : Int32))]) dX3_noCall_18 ok_X3_in (lw_S q2308 q2309 q151 q2310) (by decide) (Nat.le_of_ble_eq_true rfl) (w_X3_in e7) (krI ?_) kxZ
    obtain ⟨v11, e17, hn⟩ := bnd hn
    have e17 := Option.some.inj e17
    have hJ16 : V l g M_X3_noCall 2 29 [none, none] [.int v11, .ref B.1] h2 (QM B h (some (.int z.1)) z.2) := by
      refine V.iconst (v := 2) dX3_noCall_29 (by decide) ?_
      obtain ⟨y12, e14, hn⟩ := bnd hn
      refine V.invV (as := [.int v11, .int (2 : Int32)]) (b := B.1) (ci := 0) (w := true) (rc := rc0) dX3_noCall_30 ok_X3_refuse (lw_V q2311 q2313 qs67 q151 q2314) rfl hM2.1.1 rfl (by decide) (Nat.le_of_ble_eq_true rfl) (w_X3_refuse hM2.1 (hT.mm hM hM2) e14) (kmI hM2.2 (fun h13 hM13 => ?_)) kxM
      refine V.if_eq (tgt := 40) dX3_noCall_33 (by decide) (fun hc15 => ?_) (fun hc15 => ?_)
      · rw [if_pos hc15] at hn
        refine V.iconst (v := 0) dX3_noCall_40 (by decide) ?_
        obtain rfl := Option.some.inj hn
        exact V.zret dX3_noCall_41 rfl rfl ⟨rfl, hM13⟩
      · rw [if_neg hc15] at hn
        refine V.iconst (v := 1) dX3_noCall_36 (by decide) ?_
        refine V.goto (tgt := 41) dX3_noCall_37 (by decide) ?_
        obtain rfl := Option.some.inj hn
        exact V.zret dX3_noCall_41 rfl rfl ⟨rfl, hM13⟩
    refine V.if_ne (tgt := 28) dX3_noCall_21 (by decide) (fun hc10 => ?_) (fun hc10 => ?_)
    · skip
      refine V.iconst (v := 0) dX3_noCall_28 (by decide) ?_
      rw [if_neg hc10] at e17
      subst e17
      exact V.forget (llN (llN ll0)) (hJ16)
    · skip
      refine V.iconst (v := 1) dX3_noCall_24 (by decide) ?_
      refine V.goto (tgt := 29) dX3_noCall_25 (by decide) ?_
      rw [if_pos hc10] at e17
      subst e17
      exact V.forget (llN (llN ll0)) (hJ16)
def m_X3_stateOf (p1 : Int32) (μ : MS) : Option (Int32 × MS) := (m_X3_noCall p1 μ).bind fun y1 => if y1.1 = (0 : Int32) then ((m_X3_call p1 (6 : Int32) y1.2).bind fun x4 => some (x4, y1.2)) else (some ((0 : Int32), y1.2))
abbrev M_X3_stateOf : MD := (yX3_stateOf, cX3_stateOf, 2, (some .int), [])
theorem ok_X3_stateOf : mOK yX3_stateOf 2 1 := ⟨⟨by decide +kernel, by decide +kernel⟩, by decide +kernel, by decide⟩
theorem w_X3_stateOf {l : Launch} {g : GG} {h : AH} {B : BM} {μ : MS} {p1 : Int32} {z : Int32 × MS} (hM : IsM B h μ) (hT : TX g h) (hn : m_X3_stateOf p1 μ = some z) : Sp l g M_X3_stateOf 3 [.ref B.1, .int p1] h (QM B h (some (.int z.1)) z.2) := by
  refine Sp.ofV (L := [some (.ref B.1), some (.int p1)]) rfl rfl (hcR (hcI hc0)) (Nat.le_of_ble_eq_true rfl) rfl ?_
  have hM0 : MM B h h μ := ⟨hM, SameM.rf⟩
  unfold m_X3_stateOf at hn
  refine V.aload_n dX3_stateOf_0 rfl rfl IsR.ref ?_
  refine V.iload_n dX3_stateOf_1 rfl rfl ?_
  obtain ⟨y1, e3, hn⟩ := bnd hn
  refine V.invV (as := [.int p1]) (b := B.1) (ci := 0) (w := true) (rc := rc0) dX3_stateOf_2 ok_X3_noCall (lw_V q2651 q2653 qs123 q151 q2654) rfl hM0.1.1 rfl (by decide) (Nat.le_of_ble_eq_true rfl) (w_X3_noCall hM0.1 (hT.mm hM hM0) e3) (kmI hM0.2 (fun h2 hM2 => ?_)) kxM
  refine V.if_eq (tgt := 12) dX3_stateOf_5 (by decide) (fun hc6 => ?_) (fun hc6 => ?_)
  · rw [if_pos hc6] at hn
    refine V.aload_n dX3_stateOf_12 rfl rfl IsR.ref ?_
    refine V.iload_n dX3_stateOf_13 rfl rfl ?_
    refine V.bipush (v := 6) dX3_stateOf_14 (by decide) ?_
    obtain ⟨x4, e5, hn⟩ := bnd hn
    refine V.invV (as := [.int p1, .int (6 : Int32)]) (b := B.1) (ci := 0) (w := true) (rc := rc0) dX3_stateOf_16 ok_X3_call (lw_V q2448 q2450 qs92 q151 q2451) rfl hM2.1.1 rfl (by decide) (Nat.le_of_ble_eq_true rfl) (w_X3_call hM2.1 (hT.mm hM hM2) e5) (krI ?_) kxZ
    obtain rfl := Option.some.inj hn
    exact V.iret dX3_stateOf_19 rfl ⟨rfl, hM2⟩
  · rw [if_neg hc6] at hn
    refine V.iconst (v := 0) dX3_stateOf_8 (by decide) ?_
    refine V.goto (tgt := 19) dX3_stateOf_9 (by decide) ?_
    obtain rfl := Option.some.inj hn
    exact V.iret dX3_stateOf_19 rfl ⟨rfl, hM2⟩
def m_X3_vanWith_b2 (p1 : Int32) (μ : MS) : (Int32) → Option ((Int32) ⊕ ((Int32) ⊕ (Int32))) := fun i1 => (mLd μ 20 184 (8 : Int32)).bind fun x6 => if x6 ≤ i1 then (some (.inr (.inr (-1 : Int32)))) else ((m_X3_placeOf i1 ((2 : Int32) * p1) μ).bind fun x9 => if x9 = (-1 : Int32) then (some (.inl (i1 + (1 : Int32)))) else (some (.inr (.inl i1))))
def m_X3_vanWith (p1 : Int32) (μ : MS) : Option (Int32) := (iter (m_X3_vanWith_b2 p1 μ) FUEL (0 : Int32)).bind fun y => match y with | .inr e => some e | .inl v13 => some v13
abbrev M_X3_vanWith : MD := (yX3_vanWith, cX3_vanWith, 3, (some .int), [])
theorem ok_X3_vanWith : mOK yX3_vanWith 3 1 := ⟨⟨by decide +kernel, by decide +kernel⟩, by decide +kernel, by decide⟩
theorem w_X3_vanWith {l : Launch} {g : GG} {h : AH} {B : BM} {μ : MS} {p1 : Int32} {z : Int32} (hM : IsM B h μ) (hT : TX g h) (hn : m_X3_vanWith p1 μ = some z) : Sp l g M_X3_vanWith 3 [.ref B.1, .int p1] h (QZ (some (.int z)) h) := by
  refine Sp.ofV (L := [some (.ref B.1), some (.int p1), none]) rfl rfl (hcR (hcI hc0)) (Nat.le_of_ble_eq_true rfl) rfl ?_
  have hM0 : MM B h h μ := ⟨hM, SameM.rf⟩
  unfold m_X3_vanWith at hn
  refine V.iconst (v := 0) dX3_vanWith_0 (by decide) ?_
  refine V.istore_n (i := 2) dX3_vanWith_1 rfl (by decide) ?_
  simp only [List.set_cons_zero, List.set_cons_succ]
  obtain ⟨b15, hL14, hn⟩ := bnd hn
  have hJ16 : ∀ (v13 : Int32), .inl v13 = b15 → V l g M_X3_vanWith 3 25 [none, none, some (.int v13)] [] h (QZ (some (.int z)) h) := by
    intro v13 e17
    subst e17
    (try dsimp only at hn)
    refine V.iload_n dX3_vanWith_25 rfl rfl ?_
    obtain rfl := Option.some.inj hn
    exact V.iret dX3_vanWith_26 rfl ⟨rfl, rfl⟩
  refine iter_ind (P := fun (i1 : Int32) => V l g M_X3_vanWith 3 2 [some (.ref B.1), some (.int p1), some (.int i1)] [] h (QZ (some (.int z)) h)) (b := b15) ?_ FUEL (0 : Int32) hL14
  rintro i1 ρ18 hr2 hi3 hx4
  unfold m_X3_vanWith_b2 at hr2
  (try dsimp only at hr2)
  refine V.iload_n dX3_vanWith_2 rfl rfl ?_
  refine V.aload_n dX3_vanWith_3 rfl rfl IsR.ref ?_
  refine V.mgetA hM0 dX3_vanWith_4 fo_X3_33_0 ma_20 ?_
  refine V.bipush (v := 8) dX3_vanWith_7 (by decide) ?_
  obtain ⟨x6, e7, hr2⟩ := bnd hr2
  refine V.miald hM0 dX3_vanWith_9 ma_20 (mLd_some e7) ?_
  refine V.icmp_ge (tgt := 33) dX3_vanWith_10 (by decide) (fun hc12 => ?_) (fun hc12 => ?_)
  · rw [if_pos hc12] at hr2
    refine V.iconst (v := -1) dX3_vanWith_33 (by decide) ?_
    obtain rfl := Option.some.inj hr2
    have e8 := hx4 _ rfl
    subst e8
    (try dsimp only at hn)
    obtain rfl := Option.some.inj hn
    exact V.iret dX3_vanWith_34 rfl ⟨rfl, rfl⟩
  · rw [if_neg hc12] at hr2
    refine V.aload_n dX3_vanWith_13 rfl rfl IsR.ref ?_
    refine V.iload_n dX3_vanWith_14 rfl rfl ?_
    refine V.iconst (v := 2) dX3_vanWith_15 (by decide) ?_
    refine V.iload_n dX3_vanWith_16 rfl rfl ?_
    refine V.imul dX3_vanWith_17 ?_
    obtain ⟨x9, e10, hr2⟩ := bnd hr2
    refine V.invV (as := [.int i1, .int ((2 : Int32) * p1)]) (b := B.1) (ci := 0) (w := true) (rc := rc0) dX3_vanWith_18 ok_X3_placeOf (lw_V q2619 q2621 qs119 q151 q2622) rfl hM0.1.1 rfl (by decide) (Nat.le_of_ble_eq_true rfl) (w_X3_placeOf hM0.1 (hT.mm hM hM0) e10) (krI ?_) kxZ
    refine V.iconst (v := -1) dX3_vanWith_21 (by decide) ?_
    refine V.icmp_eq (tgt := 27) dX3_vanWith_22 (by decide) (fun hc11 => ?_) (fun hc11 => ?_)
    · rw [if_pos hc11] at hr2
      refine V.iinc (v := i1 + (1 : Int32)) (i := 2) dX3_vanWith_27 rfl (by rfl) (by decide) ?_
      simp only [List.set_cons_zero, List.set_cons_succ]
      refine V.goto (tgt := 2) dX3_vanWith_30 (by decide) ?_
      obtain rfl := Option.some.inj hr2
      have hi3P := hi3 _ rfl
      exact hi3P
    · rw [if_neg hc11] at hr2
      obtain rfl := Option.some.inj hr2
      have e19 := hx4 _ rfl
      exact V.forget (llN (llN (llS ll0))) (hJ16 _ e19)
def m_X3_vanOf (p1 : Int32) (μ : MS) : Option (Int32 × MS) := (m_X3_noCall p1 μ).bind fun y1 => if y1.1 = (0 : Int32) then ((m_X3_vanWith p1 y1.2).bind fun x4 => some (x4, y1.2)) else (some ((0 : Int32), y1.2))
abbrev M_X3_vanOf : MD := (yX3_vanOf, cX3_vanOf, 2, (some .int), [])
theorem ok_X3_vanOf : mOK yX3_vanOf 2 1 := ⟨⟨by decide +kernel, by decide +kernel⟩, by decide +kernel, by decide⟩
theorem w_X3_vanOf {l : Launch} {g : GG} {h : AH} {B : BM} {μ : MS} {p1 : Int32} {z : Int32 × MS} (hM : IsM B h μ) (hT : TX g h) (hn : m_X3_vanOf p1 μ = some z) : Sp l g M_X3_vanOf 4 [.ref B.1, .int p1] h (QM B h (some (.int z.1)) z.2) := by
  refine Sp.ofV (L := [some (.ref B.1), some (.int p1)]) rfl rfl (hcR (hcI hc0)) (Nat.le_of_ble_eq_true rfl) rfl ?_
  have hM0 : MM B h h μ := ⟨hM, SameM.rf⟩
  unfold m_X3_vanOf at hn
  refine V.aload_n dX3_vanOf_0 rfl rfl IsR.ref ?_
  refine V.iload_n dX3_vanOf_1 rfl rfl ?_
  obtain ⟨y1, e3, hn⟩ := bnd hn
  refine V.invV (as := [.int p1]) (b := B.1) (ci := 0) (w := true) (rc := rc0) dX3_vanOf_2 ok_X3_noCall (lw_V q2651 q2653 qs123 q151 q2654) rfl hM0.1.1 rfl (by decide) (Nat.le_of_ble_eq_true rfl) (w_X3_noCall hM0.1 (hT.mm hM hM0) e3) (kmI hM0.2 (fun h2 hM2 => ?_)) kxM
  refine V.if_eq (tgt := 12) dX3_vanOf_5 (by decide) (fun hc6 => ?_) (fun hc6 => ?_)
  · rw [if_pos hc6] at hn
    refine V.aload_n dX3_vanOf_12 rfl rfl IsR.ref ?_
    refine V.iload_n dX3_vanOf_13 rfl rfl ?_
    obtain ⟨x4, e5, hn⟩ := bnd hn
    refine V.invV (as := [.int p1]) (b := B.1) (ci := 0) (w := true) (rc := rc0) dX3_vanOf_14 ok_X3_vanWith (lw_V q2659 q2661 qs124 q151 q2662) rfl hM2.1.1 rfl (by decide) (Nat.le_of_ble_eq_true rfl) (w_X3_vanWith hM2.1 (hT.mm hM hM2) e5) (krI ?_) kxZ
    obtain rfl := Option.some.inj hn
    exact V.iret dX3_vanOf_17 rfl ⟨rfl, hM2⟩
  · rw [if_neg hc6] at hn
    refine V.iconst (v := 0) dX3_vanOf_8 (by decide) ?_
    refine V.goto (tgt := 17) dX3_vanOf_9 (by decide) ?_
    obtain rfl := Option.some.inj hn
    exact V.iret dX3_vanOf_17 rfl ⟨rfl, hM2⟩
def m_X3_timeOf (p1 : Int32) (p2 : Int32) (μ : MS) : Option (Int32) := (m_X3_vanWith p1 μ).bind fun x1 => if x1 = (-1 : Int32) then (some (-1 : Int32)) else ((m_X3_placeOf x1 (((2 : Int32) * p1) + p2) μ).bind fun x3 => (m_X3_begin x1 x3 μ).bind fun x5 => some x5)
abbrev M_X3_timeOf : MD := (yX3_timeOf, cX3_timeOf, 4, (some .int), [])
theorem ok_X3_timeOf : mOK yX3_timeOf 4 2 := ⟨⟨by decide +kernel, by decide +kernel⟩, by decide +kernel, by decide⟩
theorem w_X3_timeOf {l : Launch} {g : GG} {h : AH} {B : BM} {μ : MS} {p1 : Int32} {p2 : Int32} {z : Int32} (hM : IsM B h μ) (hT : TX g h) (hn : m_X3_timeOf p1 p2 μ = some z) : Sp l g M_X3_timeOf 4 [.ref B.1, .int p1, .int p2] h (QZ (some (.int z)) h) := by
  refine Sp.ofV (L := [some (.ref B.1), some (.int p1), some (.int p2), none]) rfl rfl (hcR (hcI (hcI hc0))) (Nat.le_of_ble_eq_true rfl) rfl ?_
  have hM0 : MM B h h μ := ⟨hM, SameM.rf⟩
  unfold m_X3_timeOf at hn
  refine V.aload_n dX3_timeOf_0 rfl rfl IsR.ref ?_
  refine V.iload_n dX3_timeOf_1 rfl rfl ?_
  obtain ⟨x1, e2, hn⟩ := bnd hn
  refine V.invV (as := [.int p1]) (b := B.1) (ci := 0) (w := true) (rc := rc0) dX3_timeOf_2 ok_X3_vanWith (lw_V q2659 q2661 qs124 q151 q2662) rfl hM0.1.1 rfl (by decide) (Nat.le_of_ble_eq_true rfl) (w_X3_vanWith hM0.1 (hT.mm hM hM0) e2) (krI ?_) kxZ
  refine V.istore_n (i := 3) dX3_timeOf_5 rfl (by decide) ?_
  simp only [List.set_cons_zero, List.set_cons_succ]
  refine V.iload_n dX3_timeOf_6 rfl rfl ?_
  refine V.iconst (v := -1) dX3_timeOf_7 (by decide) ?_
  refine V.icmp_ne (tgt := 15) dX3_timeOf_8 (by decide) (fun hc7 => ?_) (fun hc7 => ?_)
  · rw [if_neg hc7] at hn
    refine V.aload_n dX3_timeOf_15 rfl rfl IsR.ref ?_
    refine V.iload_n dX3_timeOf_16 rfl rfl ?_
    refine V.aload_n dX3_timeOf_17 rfl rfl IsR.ref ?_
    refine V.iload_n dX3_timeOf_18 rfl rfl ?_
    refine V.iconst (v := 2) dX3_timeOf_19 (by decide) ?_
    refine V.iload_n dX3_timeOf_20 rfl rfl ?_
    refine V.imul dX3_timeOf_21 ?_
    refine V.iload_n dX3_timeOf_22 rfl rfl ?_
    refine V.iadd dX3_timeOf_23 ?_
    obtain ⟨x3, e4, hn⟩ := bnd hn
    refine V.invV (as := [.int x1, .int (((2 : Int32) * p1) + p2)]) (b := B.1) (ci := 0) (w := true) (rc := rc0) dX3_timeOf_24 ok_X3_placeOf (lw_V q2619 q2621 qs119 q151 q2622) rfl hM0.1.1 rfl (by decide) (Nat.le_of_ble_eq_true rfl) (w_X3_placeOf hM0.1 (hT.mm hM hM0) e4) (krI ?_) kxZ
    obtain ⟨x5, e6, hn⟩ := bnd hn
    refine V.invV (as := [.int x1, .int x3]) (b := B.1) (ci := 0) (w := true) (rc := rc0) dX3_timeOf_27 ok_X3_begin (lw_V q2464 q2466 qs96 q151 q2467) rfl hM0.1.1 rfl (by decide) (Nat.le_of_ble_eq_true rfl) (w_X3_begin hM0.1 (hT.mm hM hM0) e6) (krI ?_) kxZ
    obtain rfl := Option.some.inj hn
    exact V.iret dX3_timeOf_30 rfl ⟨rfl, rfl⟩
  · rw [if_pos hc7] at hn
    refine V.iconst (v := -1) dX3_timeOf_11 (by decide) ?_
    refine V.goto (tgt := 30) dX3_timeOf_12 (by decide) ?_
    obtain rfl := Option.some.inj hn
    exact V.iret dX3_timeOf_30 rfl ⟨rfl, rfl⟩
def m_X3_pickupTime (p1 : Int32) (μ : MS) : Option (Int32 × MS) := (m_X3_noCall p1 μ).bind fun y1 => if y1.1 = (0 : Int32) then ((m_X3_timeOf p1 (0 : Int32) y1.2).bind fun x4 => some (x4, y1.2)) else (some ((0 : Int32), y1.2))
abbrev M_X3_pickupTime : MD := (yX3_pickupTime, cX3_pickupTime, 2, (some .int), [])
theorem ok_X3_pickupTime : mOK yX3_pickupTime 2 1 := ⟨⟨by decide +kernel, by decide +kernel⟩, by decide +kernel, by decide⟩
theorem w_X3_pickupTime {l : Launch} {g : GG} {h : AH} {B : BM} {μ : MS} {p1 : Int32} {z : Int32 × MS} (hM : IsM B h μ) (hT : TX g h) (hn : m_X3_pickupTime p1 μ = some z) : Sp l g M_X3_pickupTime 5 [.ref B.1, .int p1] h (QM B h (some (.int z.1)) z.2) := by
  refine Sp.ofV (L := [some (.ref B.1), some (.int p1)]) rfl rfl (hcR (hcI hc0)) (Nat.le_of_ble_eq_true rfl) rfl ?_
  have hM0 : MM B h h μ := ⟨hM, SameM.rf⟩
  unfold m_X3_pickupTime at hn
  refine V.aload_n dX3_pickupTime_0 rfl rfl IsR.ref ?_
  refine V.iload_n dX3_pickupTime_1 rfl rfl ?_
  obtain ⟨y1, e3, hn⟩ := bnd hn
  refine V.invV (as := [.int p1]) (b := B.1) (ci := 0) (w := true) (rc := rc0) dX3_pickupTime_2 ok_X3_noCall (lw_V q2651 q2653 qs123 q151 q2654) rfl hM0.1.1 rfl (by decide) (Nat.le_of_ble_eq_true rfl) (w_X3_noCall hM0.1 (hT.mm hM hM0) e3) (kmI hM0.2 (fun h2 hM2 => ?_)) kxM
  refine V.if_eq (tgt := 12) dX3_pickupTime_5 (by decide) (fun hc6 => ?_) (fun hc6 => ?_)
  · rw [if_pos hc6] at hn
    refine V.aload_n dX3_pickupTime_12 rfl rfl IsR.ref ?_
    refine V.iload_n dX3_pickupTime_13 rfl rfl ?_
    refine V.iconst (v := 0) dX3_pickupTime_14 (by decide) ?_
    obtain ⟨x4, e5, hn⟩ := bnd hn
    refine V.invV (as := [.int p1, .int (0 : Int32)]) (b := B.1) (ci := 0) (w := true) (rc := rc0) dX3_pickupTime_15 ok_X3_timeOf (lw_V q2667 q2669 qs125 q151 q2670) rfl hM2.1.1 rfl (by decide) (Nat.le_of_ble_eq_true rfl) (w_X3_timeOf hM2.1 (hT.mm hM hM2) e5) (krI ?_) kxZ
    obtain rfl := Option.some.inj hn
    exact V.iret dX3_pickupTime_18 rfl ⟨rfl, hM2⟩
  · rw [if_neg hc6] at hn
    refine V.iconst (v := 0) dX3_pickupTime_8 (by decide) ?_
    refine V.goto (tgt := 18) dX3_pickupTime_9 (by decide) ?_
    obtain rfl := Option.some.inj hn
    exact V.iret dX3_pickupTime_18 rfl ⟨rfl, hM2⟩
def m_X3_dropTime (p1 : Int32) (μ : MS) : Option (Int32 × MS) := (m_X3_noCall p1 μ).bind fun y1 => if y1.1 = (0 : Int32) then ((m_X3_timeOf p1 (1 : Int32) y1.2).bind fun x4 => some (x4, y1.2)) else (some ((0 : Int32), y1.2))
abbrev M_X3_dropTime : MD := (yX3_dropTime, cX3_dropTime, 2, (some .int), [])
theorem ok_X3_dropTime : mOK yX3_dropTime 2 1 := ⟨⟨by decide +kernel, by decide +kernel⟩, by decide +kernel, by decide⟩
theorem w_X3_dropTime {l : Launch} {g : GG} {h : AH} {B : BM} {μ : MS} {p1 : Int32} {z : Int32 × MS} (hM : IsM B h μ) (hT : TX g h) (hn : m_X3_dropTime p1 μ = some z) : Sp l g M_X3_dropTime 5 [.ref B.1, .int p1] h (QM B h (some (.int z.1)) z.2) := by
  refine Sp.ofV (L := [some (.ref B.1), some (.int p1)]) rfl rfl (hcR (hcI hc0)) (Nat.le_of_ble_eq_true rfl) rfl ?_
  have hM0 : MM B h h μ := ⟨hM, SameM.rf⟩
  unfold m_X3_dropTime at hn
  refine V.aload_n dX3_dropTime_0 rfl rfl IsR.ref ?_
  refine V.iload_n dX3_dropTime_1 rfl rfl ?_
  obtain ⟨y1, e3, hn⟩ := bnd hn
  refine V.invV (as := [.int p1]) (b := B.1) (ci := 0) (w := true) (rc := rc0) dX3_dropTime_2 ok_X3_noCall (lw_V q2651 q2653 qs123 q151 q2654) rfl hM0.1.1 rfl (by decide) (Nat.le_of_ble_eq_true rfl) (w_X3_noCall hM0.1 (hT.mm hM hM0) e3) (kmI hM0.2 (fun h2 hM2 => ?_)) kxM
  refine V.if_eq (tgt := 12) dX3_dropTime_5 (by decide) (fun hc6 => ?_) (fun hc6 => ?_)
  · rw [if_pos hc6] at hn
    refine V.aload_n dX3_dropTime_12 rfl rfl IsR.ref ?_
    refine V.iload_n dX3_dropTime_13 rfl rfl ?_
    refine V.iconst (v := 1) dX3_dropTime_14 (by decide) ?_
    obtain ⟨x4, e5, hn⟩ := bnd hn
    refine V.invV (as := [.int p1, .int (1 : Int32)]) (b := B.1) (ci := 0) (w := true) (rc := rc0) dX3_dropTime_15 ok_X3_timeOf (lw_V q2667 q2669 qs125 q151 q2670) rfl hM2.1.1 rfl (by decide) (Nat.le_of_ble_eq_true rfl) (w_X3_timeOf hM2.1 (hT.mm hM hM2) e5) (krI ?_) kxZ
    obtain rfl := Option.some.inj hn
    exact V.iret dX3_dropTime_18 rfl ⟨rfl, hM2⟩
  · rw [if_neg hc6] at hn
    refine V.iconst (v := 0) dX3_dropTime_8 (by decide) ?_
    refine V.goto (tgt := 18) dX3_dropTime_9 (by decide) ?_
    obtain rfl := Option.some.inj hn
    exact V.iret dX3_dropTime_18 rfl ⟨rfl, hM2⟩
def m_X3_ride (p1 : Int32) (p2 : Int32) (μ : MS) : Option (Int32) := (m_X3_placeOf p1 (((2 : Int32) * p2) + (1 : Int32)) μ).bind fun x1 => (m_X3_begin p1 x1 μ).bind fun x3 => (m_X3_placeOf p1 ((2 : Int32) * p2) μ).bind fun x5 => (m_X3_finished p1 x5 μ).bind fun x7 => some (x3 - x7)
abbrev M_X3_ride : MD := (yX3_ride, cX3_ride, 3, (some .int), [])
theorem ok_X3_ride : mOK yX3_ride 3 2 := ⟨⟨by decide +kernel, by decide +kernel⟩, by decide +kernel, by decide⟩
theorem w_X3_ride {l : Launch} {g : GG} {h : AH} {B : BM} {μ : MS} {p1 : Int32} {p2 : Int32} {z : Int32} (hM : IsM B h μ) (hT : TX g h) (hn : m_X3_ride p1 p2 μ = some z) : Sp l g M_X3_ride 4 [.ref B.1, .int p1, .int p2] h (QZ (some (.int z)) h) := by
  refine Sp.ofV (L := [some (.ref B.1), some (.int p1), some (.int p2)]) rfl rfl (hcR (hcI (hcI hc0))) (Nat.le_of_ble_eq_true rfl) rfl ?_
  have hM0 : MM B h h μ := ⟨hM, SameM.rf⟩
  unfold m_X3_ride at hn
  refine V.aload_n dX3_ride_0 rfl rfl IsR.ref ?_
  refine V.iload_n dX3_ride_1 rfl rfl ?_
  refine V.aload_n dX3_ride_2 rfl rfl IsR.ref ?_
  refine V.iload_n dX3_ride_3 rfl rfl ?_
  refine V.iconst (v := 2) dX3_ride_4 (by decide) ?_
  refine V.iload_n dX3_ride_5 rfl rfl ?_
  refine V.imul dX3_ride_6 ?_
  refine V.iconst (v := 1) dX3_ride_7 (by decide) ?_
  refine V.iadd dX3_ride_8 ?_
  obtain ⟨x1, e2, hn⟩ := bnd hn
  refine V.invV (as := [.int p1, .int (((2 : Int32) * p2) + (1 : Int32))]) (b := B.1) (ci := 0) (w := true) (rc := rc0) dX3_ride_9 ok_X3_placeOf (lw_V q2619 q2621 qs119 q151 q2622) rfl hM0.1.1 rfl (by decide) (Nat.le_of_ble_eq_true rfl) (w_X3_placeOf hM0.1 (hT.mm hM hM0) e2) (krI ?_) kxZ
  obtain ⟨x3, e4, hn⟩ := bnd hn
  refine V.invV (as := [.int p1, .int x1]) (b := B.1) (ci := 0) (w := true) (rc := rc0) dX3_ride_12 ok_X3_begin (lw_V q2464 q2466 qs96 q151 q2467) rfl hM0.1.1 rfl (by decide) (Nat.le_of_ble_eq_true rfl) (w_X3_begin hM0.1 (hT.mm hM hM0) e4) (krI ?_) kxZ
  refine V.aload_n dX3_ride_15 rfl rfl IsR.ref ?_
  refine V.iload_n dX3_ride_16 rfl rfl ?_
  refine V.aload_n dX3_ride_17 rfl rfl IsR.ref ?_
  refine V.iload_n dX3_ride_18 rfl rfl ?_
  refine V.iconst (v := 2) dX3_ride_19 (by decide) ?_
  refine V.iload_n dX3_ride_20 rfl rfl ?_
  refine V.imul dX3_ride_21 ?_
  obtain ⟨x5, e6, hn⟩ := bnd hn
  refine V.invV (as := [.int p1, .int ((2 : Int32) * p2)]) (b := B.1) (ci := 0) (w := true) (rc := rc0) dX3_ride_22 ok_X3_placeOf (lw_V q2619 q2621 qs119 q151 q2622) rfl hM0.1.1 rfl (by decide) (Nat.le_of_ble_eq_true rfl) (w_X3_placeOf hM0.1 (hT.mm hM hM0) e6) (krI ?_) kxZ
  obtain ⟨x7, e8, hn⟩ := bnd hn
  refine V.invV (as := [.int p1, .int x5]) (b := B.1) (ci := 0) (w := true) (rc := rc0) dX3_ride_25 ok_X3_finished (lw_V q2460 q2462 qs95 q151 q2463) rfl hM0.1.1 rfl (by decide) (Nat.le_of_ble_eq_true rfl) (w_X3_finished hM0.1 (hT.mm hM hM0) e8) (krI ?_) kxZ
  refine V.isub dX3_ride_28 ?_
  obtain rfl := Option.some.inj hn
  exact V.iret dX3_ride_29 rfl ⟨rfl, rfl⟩
def m_X3_rideOf (p1 : Int32) (μ : MS) : Option (Int32 × MS) := (m_X3_noCall p1 μ).bind fun y1 => if y1.1 = (0 : Int32) then ((m_X3_vanWith p1 y1.2).bind fun x4 => if x4 = (-1 : Int32) then (some ((-1 : Int32), y1.2)) else ((m_X3_vanWith p1 y1.2).bind fun x6 => (m_X3_ride x6 p1 y1.2).bind fun x8 => some (x8, y1.2))) else (some ((0 : Int32), y1.2))
abbrev M_X3_rideOf : MD := (yX3_rideOf, cX3_rideOf, 2, (some .int), [])
theorem ok_X3_rideOf : mOK yX3_rideOf 2 1 := ⟨⟨by decide +kernel, by decide +kernel⟩, by decide +kernel, by decide⟩
theorem w_X3_rideOf {l : Launch} {g : GG} {h : AH} {B : BM} {μ : MS} {p1 : Int32} {z : Int32 × MS} (hM : IsM B h μ) (hT : TX g h) (hn : m_X3_rideOf p1 μ = some z) : Sp l g M_X3_rideOf 5 [.ref B.1, .int p1] h (QM B h (some (.int z.1)) z.2) := by
  refine Sp.ofV (L := [some (.ref B.1), some (.int p1)]) rfl rfl (hcR (hcI hc0)) (Nat.le_of_ble_eq_true rfl) rfl ?_
  have hM0 : MM B h h μ := ⟨hM, SameM.rf⟩
  unfold m_X3_rideOf at hn
  refine V.aload_n dX3_rideOf_0 rfl rfl IsR.ref ?_
  refine V.iload_n dX3_rideOf_1 rfl rfl ?_
  obtain ⟨y1, e3, hn⟩ := bnd hn
  refine V.invV (as := [.int p1]) (b := B.1) (ci := 0) (w := true) (rc := rc0) dX3_rideOf_2 ok_X3_noCall (lw_V q2651 q2653 qs123 q151 q2654) rfl hM0.1.1 rfl (by decide) (Nat.le_of_ble_eq_true rfl) (w_X3_noCall hM0.1 (hT.mm hM hM0) e3) (kmI hM0.2 (fun h2 hM2 => ?_)) kxM
  refine V.if_eq (tgt := 10) dX3_rideOf_5 (by decide) (fun hc11 => ?_) (fun hc11 => ?_)
  · rw [if_pos hc11] at hn
    refine V.aload_n dX3_rideOf_10 rfl rfl IsR.ref ?_
    refine V.iload_n dX3_rideOf_11 rfl rfl ?_
    obtain ⟨x4, e5, hn⟩ := bnd hn
    refine V.invV (as := [.int p1]) (b := B.1) (ci := 0) (w := true) (rc := rc0) dX3_rideOf_12 ok_X3_vanWith (lw_V q2659 q2661 qs124 q151 q2662) rfl hM2.1.1 rfl (by decide) (Nat.le_of_ble_eq_true rfl) (w_X3_vanWith hM2.1 (hT.mm hM hM2) e5) (krI ?_) kxZ
    refine V.iconst (v := -1) dX3_rideOf_15 (by decide) ?_
    refine V.icmp_ne (tgt := 23) dX3_rideOf_16 (by decide) (fun hc10 => ?_) (fun hc10 => ?_)
    · rw [if_neg hc10] at hn
      refine V.aload_n dX3_rideOf_23 rfl rfl IsR.ref ?_
      refine V.aload_n dX3_rideOf_24 rfl rfl IsR.ref ?_
      refine V.iload_n dX3_rideOf_25 rfl rfl ?_
      obtain ⟨x6, e7, hn⟩ := bnd hn
      refine V.invV (as := [.int p1]) (b := B.1) (ci := 0) (w := true) (rc := rc0) dX3_rideOf_26 ok_X3_vanWith (lw_V q2659 q2661 qs124 q151 q2662) rfl hM2.1.1 rfl (by decide) (Nat.le_of_ble_eq_true rfl) (w_X3_vanWith hM2.1 (hT.mm hM hM2) e7) (krI ?_) kxZ
      refine V.iload_n dX3_rideOf_29 rfl rfl ?_
      obtain ⟨x8, e9, hn⟩ := bnd hn
      refine V.invV (as := [.int x6, .int p1]) (b := B.1) (ci := 0) (w := true) (rc := rc0) dX3_rideOf_30 ok_X3_ride (lw_V q2679 q2681 qs126 q151 q2682) rfl hM2.1.1 rfl (by decide) (Nat.le_of_ble_eq_true rfl) (w_X3_ride hM2.1 (hT.mm hM hM2) e9) (krI ?_) kxZ
      obtain rfl := Option.some.inj hn
      exact V.iret dX3_rideOf_33 rfl ⟨rfl, hM2⟩
    · rw [if_pos hc10] at hn
      refine V.iconst (v := -1) dX3_rideOf_19 (by decide) ?_
      refine V.goto (tgt := 33) dX3_rideOf_20 (by decide) ?_
      obtain rfl := Option.some.inj hn
      exact V.iret dX3_rideOf_33 rfl ⟨rfl, hM2⟩
  · rw [if_neg hc11] at hn
    refine V.iconst (v := 0) dX3_rideOf_8 (by decide) ?_
    obtain rfl := Option.some.inj hn
    exact V.iret dX3_rideOf_9 rfl ⟨rfl, hM2⟩
def m_X3_rideLimit (p1 : Int32) (μ : MS) : Option (Int32 × MS) := (m_X3_noCall p1 μ).bind fun y1 => if y1.1 = (0 : Int32) then ((m_X3_limit p1 y1.2).bind fun x4 => some (x4, y1.2)) else (some ((0 : Int32), y1.2))
abbrev M_X3_rideLimit : MD := (yX3_rideLimit, cX3_rideLimit, 2, (some .int), [])
theorem ok_X3_rideLimit : mOK yX3_rideLimit 2 1 := ⟨⟨by decide +kernel, by decide +kernel⟩, by decide +kernel, by decide⟩
theorem w_X3_rideLimit {l : Launch} {g : GG} {h : AH} {B : BM} {μ : MS} {p1 : Int32} {z : Int32 × MS} (hM : IsM B h μ) (hT : TX g h) (hn : m_X3_rideLimit p1 μ = some z) : Sp l g M_X3_rideLimit 3 [.ref B.1, .int p1] h (QM B h (some (.int z.1)) z.2) := by
  refine Sp.ofV (L := [some (.ref B.1), some (.int p1)]) rfl rfl (hcR (hcI hc0)) (Nat.le_of_ble_eq_true rfl) rfl ?_
  have hM0 : MM B h h μ := ⟨hM, SameM.rf⟩
  unfold m_X3_rideLimit at hn
  refine V.aload_n dX3_rideLimit_0 rfl rfl IsR.ref ?_
  refine V.iload_n dX3_rideLimit_1 rfl rfl ?_
  obtain ⟨y1, e3, hn⟩ := bnd hn
  refine V.invV (as := [.int p1]) (b := B.1) (ci := 0) (w := true) (rc := rc0) dX3_rideLimit_2 ok_X3_noCall (lw_V q2651 q2653 qs123 q151 q2654) rfl hM0.1.1 rfl (by decide) (Nat.le_of_ble_eq_true rfl) (w_X3_noCall hM0.1 (hT.mm hM hM0) e3) (kmI hM0.2 (fun h2 hM2 => ?_)) kxM
  refine V.if_eq (tgt := 12) dX3_rideLimit_5 (by decide) (fun hc6 => ?_) (fun hc6 => ?_)
  · rw [if_pos hc6] at hn
    refine V.aload_n dX3_rideLimit_12 rfl rfl IsR.ref ?_
    refine V.iload_n dX3_rideLimit_13 rfl rfl ?_
    obtain ⟨x4, e5, hn⟩ := bnd hn
    refine V.invV (as := [.int p1]) (b := B.1) (ci := 0) (w := true) (rc := rc0) dX3_rideLimit_14 ok_X3_limit (lw_V q2492 q2494 qs103 q151 q2495) rfl hM2.1.1 rfl (by decide) (Nat.le_of_ble_eq_true rfl) (w_X3_limit hM2.1 (hT.mm hM hM2) e5) (krI ?_) kxZ
    obtain rfl := Option.some.inj hn
    exact V.iret dX3_rideLimit_17 rfl ⟨rfl, hM2⟩
  · rw [if_neg hc6] at hn
    refine V.iconst (v := 0) dX3_rideLimit_8 (by decide) ?_
    refine V.goto (tgt := 17) dX3_rideLimit_9 (by decide) ?_
    obtain rfl := Option.some.inj hn
    exact V.iret dX3_rideLimit_17 rfl ⟨rfl, hM2⟩
def m_X3_readyOf (p1 : Int32) (μ : MS) : Option (Int32 × MS) := (m_X3_noCall p1 μ).bind fun y1 => if y1.1 = (0 : Int32) then ((m_X3_call p1 (5 : Int32) y1.2).bind fun x4 => some (x4, y1.2)) else (some ((0 : Int32), y1.2))
abbrev M_X3_readyOf : MD := (yX3_readyOf, cX3_readyOf, 2, (some .int), [])
theorem ok_X3_readyOf : mOK yX3_readyOf 2 1 := ⟨⟨by decide +kernel, by decide +kernel⟩, by decide +kernel, by decide⟩
theorem w_X3_readyOf {l : Launch} {g : GG} {h : AH} {B : BM} {μ : MS} {p1 : Int32} {z : Int32 × MS} (hM : IsM B h μ) (hT : TX g h) (hn : m_X3_readyOf p1 μ = some z) : Sp l g M_X3_readyOf 3 [.ref B.1, .int p1] h (QM B h (some (.int z.1)) z.2) := by
  refine Sp.ofV (L := [some (.ref B.1), some (.int p1)]) rfl rfl (hcR (hcI hc0)) (Nat.le_of_ble_eq_true rfl) rfl ?_
  have hM0 : MM B h h μ := ⟨hM, SameM.rf⟩
  unfold m_X3_readyOf at hn
  refine V.aload_n dX3_readyOf_0 rfl rfl IsR.ref ?_
  refine V.iload_n dX3_readyOf_1 rfl rfl ?_
  obtain ⟨y1, e3, hn⟩ := bnd hn
  refine V.invV (as := [.int p1]) (b := B.1) (ci := 0) (w := true) (rc := rc0) dX3_readyOf_2 ok_X3_noCall (lw_V q2651 q2653 qs123 q151 q2654) rfl hM0.1.1 rfl (by decide) (Nat.le_of_ble_eq_true rfl) (w_X3_noCall hM0.1 (hT.mm hM hM0) e3) (kmI hM0.2 (fun h2 hM2 => ?_)) kxM
  refine V.if_eq (tgt := 12) dX3_readyOf_5 (by decide) (fun hc6 => ?_) (fun hc6 => ?_)
  · rw [if_pos hc6] at hn
    refine V.aload_n dX3_readyOf_12 rfl rfl IsR.ref ?_
    refine V.iload_n dX3_readyOf_13 rfl rfl ?_
    refine V.iconst (v := 5) dX3_readyOf_14 (by decide) ?_
    obtain ⟨x4, e5, hn⟩ := bnd hn
    refine V.invV (as := [.int p1, .int (5 : Int32)]) (b := B.1) (ci := 0) (w := true) (rc := rc0) dX3_readyOf_15 ok_X3_call (lw_V q2448 q2450 qs92 q151 q2451) rfl hM2.1.1 rfl (by decide) (Nat.le_of_ble_eq_true rfl) (w_X3_call hM2.1 (hT.mm hM hM2) e5) (krI ?_) kxZ
    obtain rfl := Option.some.inj hn
    exact V.iret dX3_readyOf_18 rfl ⟨rfl, hM2⟩
  · rw [if_neg hc6] at hn
    refine V.iconst (v := 0) dX3_readyOf_8 (by decide) ?_
    refine V.goto (tgt := 18) dX3_readyOf_9 (by decide) ?_
    obtain rfl := Option.some.inj hn
    exact V.iret dX3_readyOf_18 rfl ⟨rfl, hM2⟩
def m_X3_promiseOf (p1 : Int32) (μ : MS) : Option (Int32 × MS) := (m_X3_noCall p1 μ).bind fun y1 => if y1.1 = (0 : Int32) then ((m_X3_call p1 (7 : Int32) y1.2).bind fun x4 => some (x4, y1.2)) else (some ((0 : Int32), y1.2))
abbrev M_X3_promiseOf : MD := (yX3_promiseOf, cX3_promiseOf, 2, (some .int), [])
theorem ok_X3_promiseOf : mOK yX3_promiseOf 2 1 := ⟨⟨by decide +kernel, by decide +kernel⟩, by decide +kernel, by decide⟩
theorem w_X3_promiseOf {l : Launch} {g : GG} {h : AH} {B : BM} {μ : MS} {p1 : Int32} {z : Int32 × MS} (hM : IsM B h μ) (hT : TX g h) (hn : m_X3_promiseOf p1 μ = some z) : Sp l g M_X3_promiseOf 3 [.ref B.1, .int p1] h (QM B h (some (.int z.1)) z.2) := by
  refine Sp.ofV (L := [some (.ref B.1), some (.int p1)]) rfl rfl (hcR (hcI hc0)) (Nat.le_of_ble_eq_true rfl) rfl ?_
  have hM0 : MM B h h μ := ⟨hM, SameM.rf⟩
  unfold m_X3_promiseOf at hn
  refine V.aload_n dX3_promiseOf_0 rfl rfl IsR.ref ?_
  refine V.iload_n dX3_promiseOf_1 rfl rfl ?_
  obtain ⟨y1, e3, hn⟩ := bnd hn
  refine V.invV (as := [.int p1]) (b := B.1) (ci := 0) (w := true) (rc := rc0) dX3_promiseOf_2 ok_X3_noCall (lw_V q2651 q2653 qs123 q151 q2654) rfl hM0.1.1 rfl (by decide) (Nat.le_of_ble_eq_true rfl) (w_X3_noCall hM0.1 (hT.mm hM hM0) e3) (kmI hM0.2 (fun h2 hM2 => ?_)) kxM
  refine V.if_eq (tgt := 12) dX3_promiseOf_5 (by decide) (fun hc6 => ?_) (fun hc6 => ?_)
  · rw [if_pos hc6] at hn
    refine V.aload_n dX3_promiseOf_12 rfl rfl IsR.ref ?_
    refine V.iload_n dX3_promiseOf_13 rfl rfl ?_
    refine V.bipush (v := 7) dX3_promiseOf_14 (by decide) ?_
    obtain ⟨x4, e5, hn⟩ := bnd hn
    refine V.invV (as := [.int p1, .int (7 : Int32)]) (b := B.1) (ci := 0) (w := true) (rc := rc0) dX3_promiseOf_16 ok_X3_call (lw_V q2448 q2450 qs92 q151 q2451) rfl hM2.1.1 rfl (by decide) (Nat.le_of_ble_eq_true rfl) (w_X3_call hM2.1 (hT.mm hM hM2) e5) (krI ?_) kxZ
    obtain rfl := Option.some.inj hn
    exact V.iret dX3_promiseOf_19 rfl ⟨rfl, hM2⟩
  · rw [if_neg hc6] at hn
    refine V.iconst (v := 0) dX3_promiseOf_8 (by decide) ?_
    refine V.goto (tgt := 19) dX3_promiseOf_9 (by decide) ?_
    obtain rfl := Option.some.inj hn
    exact V.iret dX3_promiseOf_19 rfl ⟨rfl, hM2⟩
def m_X3_creditOf (p1 : Int32) (μ : MS) : Option (Int32 × MS) := (m_X3_noCall p1 μ).bind fun y1 => if y1.1 = (0 : Int32) then ((m_X3_call p1 (8 : Int32) y1.2).bind fun x4 => some (x4, y1.2)) else (some ((0 : Int32), y1.2))
abbrev M_X3_creditOf : MD := (yX3_creditOf, cX3_creditOf, 2, (some .int), [])
theorem ok_X3_creditOf : mOK yX3_creditOf 2 1 := ⟨⟨by decide +kernel, by decide +kernel⟩, by decide +kernel, by decide⟩
theorem w_X3_creditOf {l : Launch} {g : GG} {h : AH} {B : BM} {μ : MS} {p1 : Int32} {z : Int32 × MS} (hM : IsM B h μ) (hT : TX g h) (hn : m_X3_creditOf p1 μ = some z) : Sp l g M_X3_creditOf 3 [.ref B.1, .int p1] h (QM B h (some (.int z.1)) z.2) := by
  refine Sp.ofV (L := [some (.ref B.1), some (.int p1)]) rfl rfl (hcR (hcI hc0)) (Nat.le_of_ble_eq_true rfl) rfl ?_
  have hM0 : MM B h h μ := ⟨hM, SameM.rf⟩
  unfold m_X3_creditOf at hn
  refine V.aload_n dX3_creditOf_0 rfl rfl IsR.ref ?_
  refine V.iload_n dX3_creditOf_1 rfl rfl ?_
  obtain ⟨y1, e3, hn⟩ := bnd hn
  refine V.invV (as := [.int p1]) (b := B.1) (ci := 0) (w := true) (rc := rc0) dX3_creditOf_2 ok_X3_noCall (lw_V q2651 q2653 qs123 q151 q2654) rfl hM0.1.1 rfl (by decide) (Nat.le_of_ble_eq_true rfl) (w_X3_noCall hM0.1 (hT.mm hM hM0) e3) (kmI hM0.2 (fun h2 hM2 => ?_)) kxM
  refine V.if_eq (tgt := 12) dX3_creditOf_5 (by decide) (fun hc6 => ?_) (fun hc6 => ?_)
  · rw [if_pos hc6] at hn
    refine V.aload_n dX3_creditOf_12 rfl rfl IsR.ref ?_
    refine V.iload_n dX3_creditOf_13 rfl rfl ?_
    refine V.bipush (v := 8) dX3_creditOf_14 (by decide) ?_
    obtain ⟨x4, e5, hn⟩ := bnd hn
    refine V.invV (as := [.int p1, .int (8 : Int32)]) (b := B.1) (ci := 0) (w := true) (rc := rc0) dX3_creditOf_16 ok_X3_call (lw_V q2448 q2450 qs92 q151 q2451) rfl hM2.1.1 rfl (by decide) (Nat.le_of_ble_eq_true rfl) (w_X3_call hM2.1 (hT.mm hM hM2) e5) (krI ?_) kxZ
    obtain rfl := Option.some.inj hn
    exact V.iret dX3_creditOf_19 rfl ⟨rfl, hM2⟩
  · rw [if_neg hc6] at hn
    refine V.iconst (v := 0) dX3_creditOf_8 (by decide) ?_
    refine V.goto (tgt := 19) dX3_creditOf_9 (by decide) ?_
    obtain rfl := Option.some.inj hn
    exact V.iret dX3_creditOf_19 rfl ⟨rfl, hM2⟩
def m_X3_callsIn (p1 : Int32) (μ : MS) : Option (Int32 × MS) := (m_X3_noDesk μ).bind fun y1 => if y1.1 = (0 : Int32) then ((m_X3_in p1 (0 : Int32) (5 : Int32)).bind fun x4 => (some (if x4 = (0 : Int32) then ((1 : Int32)) else ((0 : Int32)))).bind fun v9 => (m_X3_refuse v9 (2 : Int32) y1.2).bind fun y10 => if y10.1 = (0 : Int32) then ((m_X3_countIn p1 y10.2).bind fun x13 => some (x13, y10.2)) else (some ((0 : Int32), y10.2))) else (some ((0 : Int32), y1.2))
abbrev M_X3_callsIn : MD := (yX3_callsIn, cX3_callsIn, 2, (some .int), [])
theorem ok_X3_callsIn : mOK yX3_callsIn 2 1 := ⟨⟨by decide +kernel, by decide +kernel⟩, by decide +kernel, by decide⟩
theorem w_X3_callsIn {l : Launch} {g : GG} {h : AH} {B : BM} {μ : MS} {p1 : Int32} {z : Int32 × MS} (hM : IsM B h μ) (hT : TX g h) (hn : m_X3_callsIn p1 μ = some z) : Sp l g M_X3_callsIn 2 [.ref B.1, .int p1] h (QM B h (some (.int z.1)) z.2) := by
  refine Sp.ofV (L := [some (.ref B.1), some (.int p1)]) rfl rfl (hcR (hcI hc0)) (Nat.le_of_ble_eq_true rfl) rfl ?_
  have hM0 : MM B h h μ := ⟨hM, SameM.rf⟩
  unfold m_X3_callsIn at hn
  refine V.aload_n dX3_callsIn_0 rfl rfl IsR.ref ?_
  obtain ⟨y1, e3, hn⟩ := bnd hn
  refine V.invV (as := []) (b := B.1) (ci := 0) (w := true) (rc := rc0) dX3_callsIn_1 ok_X3_noDesk (lw_V q2564 q2566 qs116 q151 q2567) rfl hM0.1.1 rfl (by decide) (Nat.le_of_ble_eq_true rfl) (w_X3_noDesk hM0.1 (hT.mm hM hM0) e3) (kmI hM0.2 (fun h2 hM2 => ?_)) kxM
  refine V.if_ne (tgt := 29) dX3_callsIn_4 (by decide) (fun hc18 => ?_) (fun hc18 => ?_)
  · rw [if_neg hc18] at hn
    refine V.iconst (v := 0) dX3_callsIn_29 (by decide) ?_
    refine V.goto (tgt := 38) dX3_callsIn_30 (by decide) ?_
    obtain rfl := Option.some.inj hn
    exact V.iret dX3_callsIn_38 rfl ⟨rfl, hM2⟩
  · rw [if_pos hc18] at hn
    refine V.aload_n dX3_callsIn_7 rfl rfl IsR.ref ?_
    refine V.iload_n dX3_callsIn_8 rfl rfl ?_
    refine V.iconst (v := 0) dX3_callsIn_9 (by decide) ?_
    refine V.iconst (v := 5) dX3_callsIn_10 (by decide) ?_
    obtain ⟨x4, e5, hn⟩ := bnd hn
    refine V.invS (as := [.int p1, .int (0 : Int32), .int (5 : Int32)]) dX3_callsIn_11 ok_X3_in (lw_S q2308 q2309 q151 q2310) (by decide) (Nat.le_of_ble_eq_true rfl) (w_X3_in e5) (krI ?_) kxZ
    obtain ⟨v9, e17, hn⟩ := bnd hn
    have e17 := Option.some.inj e17
    have hJ16 : V l g M_X3_callsIn 2 22 [some (.ref B.1), some (.int p1)] [.int v9, .ref B.1] h2 (QM B h (some (.int z.1)) z.2) := by
      refine V.iconst (v := 2) dX3_callsIn_22 (by decide) ?_
      obtain ⟨y10, e12, hn⟩ := bnd hn
      refine V.invV (as := [.int v9, .int (2 : Int32)]) (b := B.1) (ci := 0) (w := true) (rc := rc0) dX3_callsIn_23 ok_X3_refuse (lw_V q2311 q2313 qs67 q151 q2314) rfl hM2.1.1 rfl (by decide) (Nat.le_of_ble_eq_true rfl) (w_X3_refuse hM2.1 (hT.mm hM hM2) e12) (kmI hM2.2 (fun h11 hM11 => ?_)) kxM
      refine V.if_eq (tgt := 33) dX3_callsIn_26 (by decide) (fun hc15 => ?_) (fun hc15 => ?_)
      · rw [if_pos hc15] at hn
        refine V.aload_n dX3_callsIn_33 rfl rfl IsR.ref ?_
        refine V.iload_n dX3_callsIn_34 rfl rfl ?_
        obtain ⟨x13, e14, hn⟩ := bnd hn
        refine V.invV (as := [.int p1]) (b := B.1) (ci := 0) (w := true) (rc := rc0) dX3_callsIn_35 ok_X3_countIn (lw_V q2532 q2534 qs113 q151 q2535) rfl hM11.1.1 rfl (by decide) (Nat.le_of_ble_eq_true rfl) (w_X3_countIn hM11.1 (hT.mm hM hM11) e14) (krI ?_) kxZ
        obtain rfl := Option.some.inj hn
        exact V.iret dX3_callsIn_38 rfl ⟨rfl, hM11⟩
      · rw [if_neg hc15] at hn
        refine V.iconst (v := 0) dX3_callsIn_29 (by decide) ?_
        refine V.goto (tgt := 38) dX3_callsIn_30 (by decide) ?_
        obtain rfl := Option.some.inj hn
        exact V.iret dX3_callsIn_38 rfl ⟨rfl, hM11⟩
    refine V.if_ne (tgt := 21) dX3_callsIn_14 (by decide) (fun hc8 => ?_) (fun hc8 => ?_)
    · skip
      refine V.iconst (v := 0) dX3_callsIn_21 (by decide) ?_
      rw [if_neg hc8] at e17
      subst e17
      exact hJ16
    · skip
      refine V.iconst (v := 1) dX3_callsIn_17 (by decide) ?_
      refine V.goto (tgt := 22) dX3_callsIn_18 (by decide) ?_
      rw [if_pos hc8] at e17
      subst e17
      exact hJ16
def m_X3_credits_b9 (μ2 : MS) : (Int32 × Int32) → Option ((Int32 × Int32) ⊕ (Int32)) := fun s => match s with
  | (i3, i4) => (mLd μ2 2 835 (1 : Int32)).bind fun x9 => if x9 ≤ i4 then (some (.inr i3)) else ((m_X3_call i4 (8 : Int32) μ2).bind fun x11 => some (.inl (i3 + x11, i4 + (1 : Int32))))
def m_X3_credits (μ : MS) : Option (Int32 × MS) := (some (mSF μ 0 (0 : Int32))).bind fun μ2 => (iter (m_X3_credits_b9 μ2) FUEL ((0 : Int32), (0 : Int32))).bind fun v14 => some (v14, μ2)
abbrev M_X3_credits : MD := (yX3_credits, cX3_credits, 3, (some .int), [])
theorem ok_X3_credits : mOK yX3_credits 3 0 := ⟨⟨by decide +kernel, by decide +kernel⟩, by decide +kernel, by decide⟩
theorem w_X3_credits {l : Launch} {g : GG} {h : AH} {B : BM} {μ : MS} {z : Int32 × MS} (hM : IsM B h μ) (hT : TX g h) (hn : m_X3_credits μ = some z) : Sp l g M_X3_credits 1 [.ref B.1] h (QM B h (some (.int z.1)) z.2) := by
  refine Sp.ofV (L := [some (.ref B.1), none, none]) rfl rfl (hcR hc0) (Nat.le_of_ble_eq_true rfl) rfl ?_
  have hM0 : MM B h h μ := ⟨hM, SameM.rf⟩
  unfold m_X3_credits at hn
  refine V.aload_n dX3_credits_0 rfl rfl IsR.ref ?_
  refine V.iconst (v := 0) dX3_credits_1 (by decide) ?_
  obtain ⟨μ2, e1, hn⟩ := bnd hn
  refine V.mputI hM0 dX3_credits_2 po_M_48 mi_0 (fun h2 hM2 => ?_)
  rw [Option.some.inj e1] at hM2
  refine V.iconst (v := 0) dX3_credits_5 (by decide) ?_
  refine V.istore_n (i := 1) dX3_credits_6 rfl (by decide) ?_
  simp only [List.set_cons_zero, List.set_cons_succ]
  refine V.iconst (v := 0) dX3_credits_7 (by decide) ?_
  refine V.istore_n (i := 2) dX3_credits_8 rfl (by decide) ?_
  simp only [List.set_cons_zero, List.set_cons_succ]
  obtain ⟨b16, hL15, hn⟩ := bnd hn
  have hJ17 : ∀ (v14 : Int32), v14 = b16 → V l g M_X3_credits 1 35 [none, some (.int v14), none] [] h2 (QM B h (some (.int z.1)) z.2) := by
    intro v14 e18
    subst e18
    (try dsimp only at hn)
    refine V.iload_n dX3_credits_35 rfl rfl ?_
    obtain rfl := Option.some.inj hn
    exact V.iret dX3_credits_36 rfl ⟨rfl, hM2⟩
  refine iter_ind (P := fun (σ : Int32 × Int32) => match σ with | (i3, i4) => V l g M_X3_credits 1 9 [some (.ref B.1), some (.int i3), some (.int i4)] [] h2 (QM B h (some (.int z.1)) z.2)) (b := b16) ?_ FUEL ((0 : Int32), (0 : Int32)) hL15
  rintro ⟨i3, i4⟩ ρ19 hr5 hi6 hx7
  unfold m_X3_credits_b9 at hr5
  (try dsimp only at hr5)
  refine V.iload_n dX3_credits_9 rfl rfl ?_
  refine V.aload_n dX3_credits_10 rfl rfl IsR.ref ?_
  refine V.mgetA hM2 dX3_credits_11 fo_X3_7_0 ma_2 ?_
  refine V.iconst (v := 1) dX3_credits_14 (by decide) ?_
  obtain ⟨x9, e10, hr5⟩ := bnd hr5
  refine V.miald hM2 dX3_credits_15 ma_2 (mLd_some e10) ?_
  refine V.icmp_ge (tgt := 35) dX3_credits_16 (by decide) (fun hc13 => ?_) (fun hc13 => ?_)
  · rw [if_pos hc13] at hr5
    obtain rfl := Option.some.inj hr5
    have e20 := hx7 _ rfl
    exact V.forget (llN (llS (llN ll0))) (hJ17 _ e20)
  · rw [if_neg hc13] at hr5
    refine V.iload_n dX3_credits_19 rfl rfl ?_
    refine V.aload_n dX3_credits_20 rfl rfl IsR.ref ?_
    refine V.iload_n dX3_credits_21 rfl rfl ?_
    refine V.bipush (v := 8) dX3_credits_22 (by decide) ?_
    obtain ⟨x11, e12, hr5⟩ := bnd hr5
    refine V.invV (as := [.int i4, .int (8 : Int32)]) (b := B.1) (ci := 0) (w := true) (rc := rc0) dX3_credits_24 ok_X3_call (lw_V q2448 q2450 qs92 q151 q2451) rfl hM2.1.1 rfl (by decide) (Nat.le_of_ble_eq_true rfl) (w_X3_call hM2.1 (hT.mm hM hM2) e12) (krI ?_) kxZ
    refine V.iadd dX3_credits_27 ?_
    refine V.istore_n (i := 1) dX3_credits_28 rfl (by decide) ?_
    simp only [List.set_cons_zero, List.set_cons_succ]
    refine V.iinc (v := i4 + (1 : Int32)) (i := 2) dX3_credits_29 rfl (by rfl) (by decide) ?_
    simp only [List.set_cons_zero, List.set_cons_succ]
    refine V.goto (tgt := 9) dX3_credits_32 (by decide) ?_
    obtain rfl := Option.some.inj hr5
    have hi6P := hi6 _ rfl
    exact hi6P
def m_X3_drivesAll_b4 (μ : MS) : (Int32 × Int32) → Option ((Int32 × Int32) ⊕ (Int32)) := fun s => match s with
  | (i1, i2) => (mLd μ 20 184 (8 : Int32)).bind fun x7 => if x7 ≤ i2 then (some (.inr i1)) else ((m_X3_drives i2 μ).bind fun x9 => some (.inl (i1 + x9, i2 + (1 : Int32))))
def m_X3_drivesAll (μ : MS) : Option (Int32) := (iter (m_X3_drivesAll_b4 μ) FUEL ((0 : Int32), (0 : Int32))).bind fun v12 => some v12
abbrev M_X3_drivesAll : MD := (yX3_drivesAll, cX3_drivesAll, 3, (some .int), [])
theorem ok_X3_drivesAll : mOK yX3_drivesAll 3 0 := ⟨⟨by decide +kernel, by decide +kernel⟩, by decide +kernel, by decide⟩
theorem w_X3_drivesAll {l : Launch} {g : GG} {h : AH} {B : BM} {μ : MS} {z : Int32} (hM : IsM B h μ) (hT : TX g h) (hn : m_X3_drivesAll μ = some z) : Sp l g M_X3_drivesAll 6 [.ref B.1] h (QZ (some (.int z)) h) := by
  refine Sp.ofV (L := [some (.ref B.1), none, none]) rfl rfl (hcR hc0) (Nat.le_of_ble_eq_true rfl) rfl ?_
  have hM0 : MM B h h μ := ⟨hM, SameM.rf⟩
  unfold m_X3_drivesAll at hn
  refine V.iconst (v := 0) dX3_drivesAll_0 (by decide) ?_
  refine V.istore_n (i := 1) dX3_drivesAll_1 rfl (by decide) ?_
  simp only [List.set_cons_zero, List.set_cons_succ]
  refine V.iconst (v := 0) dX3_drivesAll_2 (by decide) ?_
  refine V.istore_n (i := 2) dX3_drivesAll_3 rfl (by decide) ?_
  simp only [List.set_cons_zero, List.set_cons_succ]
  obtain ⟨b14, hL13, hn⟩ := bnd hn
  have hJ15 : ∀ (v12 : Int32), v12 = b14 → V l g M_X3_drivesAll 6 29 [none, some (.int v12), none] [] h (QZ (some (.int z)) h) := by
    intro v12 e16
    subst e16
    (try dsimp only at hn)
    refine V.iload_n dX3_drivesAll_29 rfl rfl ?_
    obtain rfl := Option.some.inj hn
    exact V.iret dX3_drivesAll_30 rfl ⟨rfl, rfl⟩
  refine iter_ind (P := fun (σ : Int32 × Int32) => match σ with | (i1, i2) => V l g M_X3_drivesAll 6 4 [some (.ref B.1), some (.int i1), some (.int i2)] [] h (QZ (some (.int z)) h)) (b := b14) ?_ FUEL ((0 : Int32), (0 : Int32)) hL13
  rintro ⟨i1, i2⟩ ρ17 hr3 hi4 hx5
  unfold m_X3_drivesAll_b4 at hr3
  (try dsimp only at hr3)
  refine V.iload_n dX3_drivesAll_4 rfl rfl ?_
  refine V.aload_n dX3_drivesAll_5 rfl rfl IsR.ref ?_
  refine V.mgetA hM0 dX3_drivesAll_6 fo_X3_33_0 ma_20 ?_
  refine V.bipush (v := 8) dX3_drivesAll_9 (by decide) ?_
  obtain ⟨x7, e8, hr3⟩ := bnd hr3
  refine V.miald hM0 dX3_drivesAll_11 ma_20 (mLd_some e8) ?_
  refine V.icmp_ge (tgt := 29) dX3_drivesAll_12 (by decide) (fun hc11 => ?_) (fun hc11 => ?_)
  · rw [if_pos hc11] at hr3
    obtain rfl := Option.some.inj hr3
    have e18 := hx5 _ rfl
    exact V.forget (llN (llS (llN ll0))) (hJ15 _ e18)
  · rw [if_neg hc11] at hr3
    refine V.iload_n dX3_drivesAll_15 rfl rfl ?_
    refine V.aload_n dX3_drivesAll_16 rfl rfl IsR.ref ?_
    refine V.iload_n dX3_drivesAll_17 rfl rfl ?_
    obtain ⟨x9, e10, hr3⟩ := bnd hr3
    refine V.invV (as := [.int i2]) (b := B.1) (ci := 0) (w := true) (rc := rc0) dX3_drivesAll_18 ok_X3_drives (lw_V q2635 q2637 qs121 q151 q2638) rfl hM0.1.1 rfl (by decide) (Nat.le_of_ble_eq_true rfl) (w_X3_drives hM0.1 (hT.mm hM hM0) e10) (krI ?_) kxZ
    refine V.iadd dX3_drivesAll_21 ?_
    refine V.istore_n (i := 1) dX3_drivesAll_22 rfl (by decide) ?_
    simp only [List.set_cons_zero, List.set_cons_succ]
    refine V.iinc (v := i2 + (1 : Int32)) (i := 2) dX3_drivesAll_23 rfl (by rfl) (by decide) ?_
    simp only [List.set_cons_zero, List.set_cons_succ]
    refine V.goto (tgt := 4) dX3_drivesAll_26 (by decide) ?_
    obtain rfl := Option.some.inj hr3
    have hi4P := hi4 _ rfl
    exact hi4P
def m_X3_drivingAll (μ : MS) : Option (Int32 × MS) := (some (mSF μ 0 (0 : Int32))).bind fun μ2 => if (μ2.1 1) = (0 : Int32) then (some ((0 : Int32), μ2)) else ((m_X3_drivesAll μ2).bind fun x3 => some (x3, μ2))
abbrev M_X3_drivingAll : MD := (yX3_drivingAll, cX3_drivingAll, 1, (some .int), [])
theorem ok_X3_drivingAll : mOK yX3_drivingAll 1 0 := ⟨⟨by decide +kernel, by decide +kernel⟩, by decide +kernel, by decide⟩
theorem w_X3_drivingAll {l : Launch} {g : GG} {h : AH} {B : BM} {μ : MS} {z : Int32 × MS} (hM : IsM B h μ) (hT : TX g h) (hn : m_X3_drivingAll μ = some z) : Sp l g M_X3_drivingAll 7 [.ref B.1] h (QM B h (some (.int z.1)) z.2) := by
  refine Sp.ofV (L := [some (.ref B.1)]) rfl rfl (hcR hc0) (Nat.le_of_ble_eq_true rfl) rfl ?_
  have hM0 : MM B h h μ := ⟨hM, SameM.rf⟩
  unfold m_X3_drivingAll at hn
  refine V.aload_n dX3_drivingAll_0 rfl rfl IsR.ref ?_
  refine V.iconst (v := 0) dX3_drivingAll_1 (by decide) ?_
  obtain ⟨μ2, e1, hn⟩ := bnd hn
  refine V.mputI hM0 dX3_drivingAll_2 po_M_48 mi_0 (fun h2 hM2 => ?_)
  rw [Option.some.inj e1] at hM2
  refine V.aload_n dX3_drivingAll_5 rfl rfl IsR.ref ?_
  refine V.mgetI hM2 dX3_drivingAll_6 fo_X3_51_0 mi_1 ?_
  refine V.if_eq (tgt := 19) dX3_drivingAll_9 (by decide) (fun hc5 => ?_) (fun hc5 => ?_)
  · rw [if_pos hc5] at hn
    refine V.iconst (v := 0) dX3_drivingAll_19 (by decide) ?_
    obtain rfl := Option.some.inj hn
    exact V.iret dX3_drivingAll_20 rfl ⟨rfl, hM2⟩
  · rw [if_neg hc5] at hn
    refine V.aload_n dX3_drivingAll_12 rfl rfl IsR.ref ?_
    obtain ⟨x3, e4, hn⟩ := bnd hn
    refine V.invV (as := []) (b := B.1) (ci := 0) (w := true) (rc := rc0) dX3_drivingAll_13 ok_X3_drivesAll (lw_V q2711 q2713 qs127 q151 q2714) rfl hM2.1.1 rfl (by decide) (Nat.le_of_ble_eq_true rfl) (w_X3_drivesAll hM2.1 (hT.mm hM hM2) e4) (krI ?_) kxZ
    refine V.goto (tgt := 20) dX3_drivingAll_16 (by decide) ?_
    obtain rfl := Option.some.inj hn
    exact V.iret dX3_drivingAll_20 rfl ⟨rfl, hM2⟩
def m_X3_meanDetour_b15 (y1 : Int32 × MS) : (UInt32 × Int32 × Int32) → Option ((UInt32 × Int32 × Int32) ⊕ (UInt32 × Int32)) := fun s => match s with
  | (w4, i5, i6) => (mLd y1.2 2 835 (1 : Int32)).bind fun x11 => if x11 ≤ i6 then (some (.inr (w4, i5))) else ((m_X3_vanWith i6 y1.2).bind fun x13 => if x13 = (-1 : Int32) then (some (.inl (w4, i5, i6 + (1 : Int32)))) else ((m_X3_direct i6 y1.2).bind fun x15 => if x15 = (0 : Int32) then (some (.inl (w4, i5, i6 + (1 : Int32)))) else ((m_X3_ride x13 i6 y1.2).bind fun x17 => (m_X3_direct i6 y1.2).bind fun x19 => (nn (FP.fdiv (FP.i2f x17) (FP.i2f x19))).bind fun _ => (nn (FP.fadd w4 (FP.fdiv (FP.i2f x17) (FP.i2f x19)))).bind fun _ => some (.inl (FP.fadd w4 (FP.fdiv (FP.i2f x17) (FP.i2f x19)), i5 + (1 : Int32), i6 + (1 : Int32))))))
def m_X3_meanDetour (μ : MS) : Option (UInt32 × MS) := (m_X3_noDesk μ).bind fun y1 => if y1.1 = (0 : Int32) then ((iter (m_X3_meanDetour_b15 y1) FUEL (FP.fconst0, (0 : Int32), (0 : Int32))).bind fun y => match y with | (w26, v27) => if v27 = (0 : Int32) then (some (FP.fconst0, y1.2)) else ((nn (FP.fdiv w26 (FP.i2f v27))).bind fun _ => some (FP.fdiv w26 (FP.i2f v27), y1.2))) else (some (FP.fconst0, y1.2))
abbrev M_X3_meanDetour : MD := (yX3_meanDetour, cX3_meanDetour, 5, (some .float), [])
theorem ok_X3_meanDetour : mOK yX3_meanDetour 5 0 := ⟨⟨by decide +kernel, by decide +kernel⟩, by decide +kernel, by decide⟩
theorem w_X3_meanDetour {l : Launch} {g : GG} {h : AH} {B : BM} {μ : MS} {z : UInt32 × MS} (hM : IsM B h μ) (hT : TX g h) (hn : m_X3_meanDetour μ = some z) : Sp l g M_X3_meanDetour 5 [.ref B.1] h (QM B h (some (.float z.1)) z.2) := by
  refine Sp.ofV (L := [some (.ref B.1), none, none, none, none]) rfl rfl (hcR hc0) (Nat.le_of_ble_eq_true rfl) rfl ?_
  have hM0 : MM B h h μ := ⟨hM, SameM.rf⟩
  unfold m_X3_meanDetour at hn
  refine V.aload_n dX3_meanDetour_0 rfl rfl IsR.ref ?_
  obtain ⟨y1, e3, hn⟩ := bnd hn
  refine V.invV (as := []) (b := B.1) (ci := 0) (w := true) (rc := rc0) dX3_meanDetour_1 ok_X3_noDesk (lw_V q2564 q2566 qs116 q151 q2567) rfl hM0.1.1 rfl (by decide) (Nat.le_of_ble_eq_true rfl) (w_X3_noDesk hM0.1 (hT.mm hM hM0) e3) (kmI hM0.2 (fun h2 hM2 => ?_)) kxM
  refine V.if_eq (tgt := 9) dX3_meanDetour_4 (by decide) (fun hc36 => ?_) (fun hc36 => ?_)
  · rw [if_pos hc36] at hn
    refine V.fconst0 dX3_meanDetour_9 ?_
    refine V.fstore_n (i := 1) dX3_meanDetour_10 rfl (by decide) ?_
    simp only [List.set_cons_zero, List.set_cons_succ]
    refine V.iconst (v := 0) dX3_meanDetour_11 (by decide) ?_
    refine V.istore_n (i := 2) dX3_meanDetour_12 rfl (by decide) ?_
    simp only [List.set_cons_zero, List.set_cons_succ]
    refine V.iconst (v := 0) dX3_meanDetour_13 (by decide) ?_
    refine V.istore_n (i := 3) dX3_meanDetour_14 rfl (by decide) ?_
    simp only [List.set_cons_zero, List.set_cons_succ]
    obtain ⟨b29, hL28, hn⟩ := bnd hn
    have hJ30 : ∀ (w26 : UInt32) (v27 : Int32), (w26, v27) = b29 → V l g M_X3_meanDetour 5 76 [none, some (.float w26), some (.int v27), none, none] [] h2 (QM B h (some (.float z.1)) z.2) := by
      intro w26 v27 e33
      subst e33
      (try dsimp only at hn)
      refine V.iload_n dX3_meanDetour_76 rfl rfl ?_
      refine V.if_ne (tgt := 84) dX3_meanDetour_77 (by decide) (fun hc32 => ?_) (fun hc32 => ?_)
      · rw [if_neg hc32] at hn
        refine V.fload_n dX3_meanDetour_84 rfl rfl ?_
        refine V.iload_n dX3_meanDetour_85 rfl rfl ?_
        refine V.i2f dX3_meanDetour_86 ?_
        obtain ⟨_, e31, hn⟩ := bnd hn
        refine V.fdiv dX3_meanDetour_87 (nn_some e31) ?_
        obtain rfl := Option.some.inj hn
        exact V.fret dX3_meanDetour_88 rfl ⟨rfl, hM2⟩
      · rw [if_pos hc32] at hn
        refine V.fconst0 dX3_meanDetour_80 ?_
        refine V.goto (tgt := 88) dX3_meanDetour_81 (by decide) ?_
        obtain rfl := Option.some.inj hn
        exact V.fret dX3_meanDetour_88 rfl ⟨rfl, hM2⟩
    refine iter_ind (P := fun (σ : UInt32 × Int32 × Int32) => match σ with | (w4, i5, i6) => V l g M_X3_meanDetour 5 15 [some (.ref B.1), some (.float w4), some (.int i5), some (.int i6), none] [] h2 (QM B h (some (.float z.1)) z.2)) (b := b29) ?_ FUEL (FP.fconst0, (0 : Int32), (0 : Int32)) hL28
    rintro ⟨w4, i5, i6⟩ ρ34 hr7 hi8 hx9
    unfold m_X3_meanDetour_b15 at hr7
    (try dsimp only at hr7)
    refine V.iload_n dX3_meanDetour_15 rfl rfl ?_
    refine V.aload_n dX3_meanDetour_16 rfl rfl IsR.ref ?_
    refine V.mgetA hM2 dX3_meanDetour_17 fo_X3_7_0 ma_2 ?_
    refine V.iconst (v := 1) dX3_meanDetour_20 (by decide) ?_
    obtain ⟨x11, e12, hr7⟩ := bnd hr7
    refine V.miald hM2 dX3_meanDetour_21 ma_2 (mLd_some e12) ?_
    refine V.icmp_ge (tgt := 76) dX3_meanDetour_22 (by decide) (fun hc25 => ?_) (fun hc25 => ?_)
    · rw [if_pos hc25] at hr7
      obtain rfl := Option.some.inj hr7
      have e35 := hx9 _ rfl
      exact V.forget (llN (llS (llS (llN (llN ll0))))) (hJ30 _ _ e35)
    · rw [if_neg hc25] at hr7
      refine V.aload_n dX3_meanDetour_25 rfl rfl IsR.ref ?_
      refine V.iload_n dX3_meanDetour_26 rfl rfl ?_
      obtain ⟨x13, e14, hr7⟩ := bnd hr7
      refine V.invV (as := [.int i6]) (b := B.1) (ci := 0) (w := true) (rc := rc0) dX3_meanDetour_27 ok_X3_vanWith (lw_V q2659 q2661 qs124 q151 q2662) rfl hM2.1.1 rfl (by decide) (Nat.le_of_ble_eq_true rfl) (w_X3_vanWith hM2.1 (hT.mm hM hM2) e14) (krI ?_) kxZ
      refine V.istore (i := 4) dX3_meanDetour_30 (by decide) ?_
      simp only [List.set_cons_zero, List.set_cons_succ]
      refine V.iload dX3_meanDetour_32 rfl ?_
      refine V.iconst (v := -1) dX3_meanDetour_34 (by decide) ?_
      refine V.icmp_eq (tgt := 70) dX3_meanDetour_35 (by decide) (fun hc24 => ?_) (fun hc24 => ?_)
      · rw [if_pos hc24] at hr7
        refine V.iinc (v := i6 + (1 : Int32)) (i := 3) dX3_meanDetour_70 rfl (by rfl) (by decide) ?_
        simp only [List.set_cons_zero, List.set_cons_succ]
        refine V.goto (tgt := 15) dX3_meanDetour_73 (by decide) ?_
        obtain rfl := Option.some.inj hr7
        have hi8P := hi8 _ rfl
        exact V.forget (llS (llS (llS (llS (llN ll0))))) (hi8P)
      · rw [if_neg hc24] at hr7
        refine V.aload_n dX3_meanDetour_38 rfl rfl IsR.ref ?_
        refine V.iload_n dX3_meanDetour_39 rfl rfl ?_
        obtain ⟨x15, e16, hr7⟩ := bnd hr7
        refine V.invV (as := [.int i6]) (b := B.1) (ci := 0) (w := true) (rc := rc0) dX3_meanDetour_40 ok_X3_direct (lw_V q2496 q2498 qs104 q151 q2499) rfl hM2.1.1 rfl (by decide) (Nat.le_of_ble_eq_true rfl) (w_X3_direct hM2.1 (hT.mm hM hM2) e16) (krI ?_) kxZ
        refine V.if_ne (tgt := 49) dX3_meanDetour_43 (by decide) (fun hc23 => ?_) (fun hc23 => ?_)
        · rw [if_neg hc23] at hr7
          refine V.fload_n dX3_meanDetour_49 rfl rfl ?_
          refine V.aload_n dX3_meanDetour_50 rfl rfl IsR.ref ?_
          refine V.iload dX3_meanDetour_51 rfl ?_
          refine V.iload_n dX3_meanDetour_53 rfl rfl ?_
          obtain ⟨x17, e18, hr7⟩ := bnd hr7
          refine V.invV (as := [.int x13, .int i6]) (b := B.1) (ci := 0) (w := true) (rc := rc0) dX3_meanDetour_54 ok_X3_ride (lw_V q2679 q2681 qs126 q151 q2682) rfl hM2.1.1 rfl (by decide) (Nat.le_of_ble_eq_true rfl) (w_X3_ride hM2.1 (hT.mm hM hM2) e18) (krI ?_) kxZ
          refine V.i2f dX3_meanDetour_57 ?_
          refine V.aload_n dX3_meanDetour_58 rfl rfl IsR.ref ?_
          refine V.iload_n dX3_meanDetour_59 rfl rfl ?_
          obtain ⟨x19, e20, hr7⟩ := bnd hr7
          refine V.invV (as := [.int i6]) (b := B.1) (ci := 0) (w := true) (rc := rc0) dX3_meanDetour_60 ok_X3_direct (lw_V q2496 q2498 qs104 q151 q2499) rfl hM2.1.1 rfl (by decide) (Nat.le_of_ble_eq_true rfl) (w_X3_direct hM2.1 (hT.mm hM hM2) e20) (krI ?_) kxZ
          refine V.i2f dX3_meanDetour_63 ?_
          obtain ⟨_, e21, hr7⟩ := bnd hr7
          refine V.fdiv dX3_meanDetour_64 (nn_some e21) ?_
          obtain ⟨_, e22, hr7⟩ := bnd hr7
          refine V.fadd dX3_meanDetour_65 (nn_some e22) ?_
          refine V.fstore_n (i := 1) dX3_meanDetour_66 rfl (by decide) ?_
          simp only [List.set_cons_zero, List.set_cons_succ]
          refine V.iinc (v := i5 + (1 : Int32)) (i := 2) dX3_meanDetour_67 rfl (by rfl) (by decide) ?_
          simp only [List.set_cons_zero, List.set_cons_succ]
          refine V.iinc (v := i6 + (1 : Int32)) (i := 3) dX3_meanDetour_70 rfl (by rfl) (by decide) ?_
          simp only [List.set_cons_zero, List.set_cons_succ]
          refine V.goto (tgt := 15) dX3_meanDetour_73 (by decide) ?_
          obtain rfl := Option.some.inj hr7
          have hi8P := hi8 _ rfl
          exact V.forget (llS (llS (llS (llS (llN ll0))))) (hi8P)
        · rw [if_pos hc23] at hr7
          refine V.goto (tgt := 70) dX3_meanDetour_46 (by decide) ?_
          refine V.iinc (v := i6 + (1 : Int32)) (i := 3) dX3_meanDetour_70 rfl (by rfl) (by decide) ?_
          simp only [List.set_cons_zero, List.set_cons_succ]
          refine V.goto (tgt := 15) dX3_meanDetour_73 (by decide) ?_
          obtain rfl := Option.some.inj hr7
          have hi8P := hi8 _ rfl
          exact V.forget (llS (llS (llS (llS (llN ll0))))) (hi8P)
  · rw [if_neg hc36] at hn
    refine V.fconst0 dX3_meanDetour_7 ?_
    obtain rfl := Option.some.inj hn
    exact V.fret dX3_meanDetour_8 rfl ⟨rfl, hM2⟩
def m_X3_occupancy_b17 (p1 : Int32) (y1 : Int32 × MS) : (Int32 × Int32 × Int32) → Option ((Int32 × Int32 × Int32) ⊕ (Int32)) := fun s => match s with
  | (i4, i5, i6) => (mLd y1.2 2 835 ((6 : Int32) + p1)).bind fun x11 => if x11 ≤ (i6 + (1 : Int32)) then (some (.inr i4)) else ((m_X3_isDrop p1 i6 y1.2).bind fun x13 => (some (if x13 = (0 : Int32) then ((1 : Int32)) else ((-1 : Int32)))).bind fun v18 => (m_X3_wayTo p1 (i6 + (1 : Int32)) y1.2).bind fun x19 => some (.inl (i4 + ((i5 + v18) * x19), i5 + v18, i6 + (1 : Int32))))
def m_X3_occupancy (p1 : Int32) (μ : MS) : Option (UInt32 × MS) := (m_X3_noVan p1 μ).bind fun y1 => if y1.1 = (0 : Int32) then ((iter (m_X3_occupancy_b17 p1 y1) FUEL ((0 : Int32), (0 : Int32), (0 : Int32))).bind fun v24 => (m_X3_drives p1 y1.2).bind fun x28 => if x28 = (0 : Int32) then (some (FP.fconst0, y1.2)) else ((m_X3_drives p1 y1.2).bind fun x30 => (nn (FP.fdiv (FP.i2f v24) (FP.i2f x30))).bind fun _ => some (FP.fdiv (FP.i2f v24) (FP.i2f x30), y1.2))) else (some (FP.fconst0, y1.2))
abbrev M_X3_occupancy : MD := (yX3_occupancy, cX3_occupancy, 5, (some .float), [])
theorem ok_X3_occupancy : mOK yX3_occupancy 5 1 := ⟨⟨by decide +kernel, by decide +kernel⟩, by decide +kernel, by decide⟩
theorem w_X3_occupancy {l : Launch} {g : GG} {h : AH} {B : BM} {μ : MS} {p1 : Int32} {z : UInt32 × MS} (hM : IsM B h μ) (hT : TX g h) (hn : m_X3_occupancy p1 μ = some z) : Sp l g M_X3_occupancy 6 [.ref B.1, .int p1] h (QM B h (some (.float z.1)) z.2) := by
  refine Sp.ofV (L := [some (.ref B.1), some (.int p1), none, none, none]) rfl rfl (hcR (hcI hc0)) (Nat.le_of_ble_eq_true rfl) rfl ?_
  have hM0 : MM B h h μ := ⟨hM, SameM.rf⟩
  unfold m_X3_occupancy at hn
  refine V.aload_n dX3_occupancy_0 rfl rfl IsR.ref ?_
  refine V.iload_n dX3_occupancy_1 rfl rfl ?_
  obtain ⟨y1, e3, hn⟩ := bnd hn
  refine V.invV (as := [.int p1]) (b := B.1) (ci := 0) (w := true) (rc := rc0) dX3_occupancy_2 ok_X3_noVan (lw_V q2560 q2562 qs115 q151 q2563) rfl hM0.1.1 rfl (by decide) (Nat.le_of_ble_eq_true rfl) (w_X3_noVan hM0.1 (hT.mm hM hM0) e3) (kmI hM0.2 (fun h2 hM2 => ?_)) kxM
  refine V.if_eq (tgt := 10) dX3_occupancy_5 (by decide) (fun hc37 => ?_) (fun hc37 => ?_)
  · rw [if_pos hc37] at hn
    refine V.iconst (v := 0) dX3_occupancy_10 (by decide) ?_
    refine V.istore_n (i := 2) dX3_occupancy_11 rfl (by decide) ?_
    simp only [List.set_cons_zero, List.set_cons_succ]
    refine V.iconst (v := 0) dX3_occupancy_12 (by decide) ?_
    refine V.istore_n (i := 3) dX3_occupancy_13 rfl (by decide) ?_
    simp only [List.set_cons_zero, List.set_cons_succ]
    refine V.iconst (v := 0) dX3_occupancy_14 (by decide) ?_
    refine V.istore (i := 4) dX3_occupancy_15 (by decide) ?_
    simp only [List.set_cons_zero, List.set_cons_succ]
    obtain ⟨b26, hL25, hn⟩ := bnd hn
    have hJ27 : ∀ (v24 : Int32), v24 = b26 → V l g M_X3_occupancy 6 71 [some (.ref B.1), some (.int p1), some (.int v24), none, none] [] h2 (QM B h (some (.float z.1)) z.2) := by
      intro v24 e34
      subst e34
      (try dsimp only at hn)
      refine V.aload_n dX3_occupancy_71 rfl rfl IsR.ref ?_
      refine V.iload_n dX3_occupancy_72 rfl rfl ?_
      obtain ⟨x28, e29, hn⟩ := bnd hn
      refine V.invV (as := [.int p1]) (b := B.1) (ci := 0) (w := true) (rc := rc0) dX3_occupancy_73 ok_X3_drives (lw_V q2635 q2637 qs121 q151 q2638) rfl hM2.1.1 rfl (by decide) (Nat.le_of_ble_eq_true rfl) (w_X3_drives hM2.1 (hT.mm hM hM2) e29) (krI ?_) kxZ
      refine V.if_ne (tgt := 83) dX3_occupancy_76 (by decide) (fun hc33 => ?_) (fun hc33 => ?_)
      · rw [if_neg hc33] at hn
        refine V.iload_n dX3_occupancy_83 rfl rfl ?_
        refine V.i2f dX3_occupancy_84 ?_
        refine V.aload_n dX3_occupancy_85 rfl rfl IsR.ref ?_
        refine V.iload_n dX3_occupancy_86 rfl rfl ?_
        obtain ⟨x30, e31, hn⟩ := bnd hn
        refine V.invV (as := [.int p1]) (b := B.1) (ci := 0) (w := true) (rc := rc0) dX3_occupancy_87 ok_X3_drives (lw_V q2635 q2637 qs121 q151 q2638) rfl hM2.1.1 rfl (by decide) (Nat.le_of_ble_eq_true rfl) (w_X3_drives hM2.1 (hT.mm hM hM2) e31) (krI ?_) kxZ
        refine V.i2f dX3_occupancy_90 ?_
        obtain ⟨_, e32, hn⟩ := bnd hn
        refine V.fdiv dX3_occupancy_91 (nn_some e32) ?_
        obtain rfl := Option.some.inj hn
        exact V.fret dX3_occupancy_92 rfl ⟨rfl, hM2⟩
      · rw [if_pos hc33] at hn
        refine V.fconst0 dX3_occupancy_79 ?_
        refine V.goto (tgt := 92) dX3_occupancy_80 (by decide) ?_
        obtain rfl := Option.some.inj hn
        exact V.fret dX3_occupancy_92 rfl ⟨rfl, hM2⟩
    refine iter_ind (P := fun (σ : Int32 × Int32 × Int32) => match σ with | (i4, i5, i6) => V l g M_X3_occupancy 6 17 [some (.ref B.1), some (.int p1), some (.int i4), some (.int i5), some (.int i6)] [] h2 (QM B h (some (.float z.1)) z.2)) (b := b26) ?_ FUEL ((0 : Int32), (0 : Int32), (0 : Int32)) hL25
    rintro ⟨i4, i5, i6⟩ ρ35 hr7 hi8 hx9
    unfold m_X3_occupancy_b17 at hr7
    (try dsimp only at hr7)
    refine V.iload dX3_occupancy_17 rfl ?_
    refine V.iconst (v := 1) dX3_occupancy_19 (by decide) ?_
    refine V.iadd dX3_occupancy_20 ?_
    refine V.aload_n dX3_occupancy_21 rfl rfl IsR.ref ?_
    refine V.mgetA hM2 dX3_occupancy_22 fo_X3_7_0 ma_2 ?_
    refine V.bipush (v := 6) dX3_occupancy_25 (by decide) ?_
    refine V.iload_n dX3_occupancy_27 rfl rfl ?_
    refine V.iadd dX3_occupancy_28 ?_
    obtain ⟨x11, e12, hr7⟩ := bnd hr7
    refine V.miald hM2 dX3_occupancy_29 ma_2 (mLd_some e12) ?_
    refine V.icmp_ge (tgt := 71) dX3_occupancy_30 (by decide) (fun hc23 => ?_) (fun hc23 => ?_)
    · rw [if_pos hc23] at hr7
      obtain rfl := Option.some.inj hr7
      have e36 := hx9 _ rfl
      exact V.forget (llS (llS (llS (llN (llN ll0))))) (hJ27 _ e36)
    · rw [if_neg hc23] at hr7
      refine V.iload_n dX3_occupancy_33 rfl rfl ?_
      refine V.aload_n dX3_occupancy_34 rfl rfl IsR.ref ?_
      refine V.iload_n dX3_occupancy_35 rfl rfl ?_
      refine V.iload dX3_occupancy_36 rfl ?_
      obtain ⟨x13, e14, hr7⟩ := bnd hr7
      refine V.invV (as := [.int p1, .int i6]) (b := B.1) (ci := 0) (w := true) (rc := rc0) dX3_occupancy_38 ok_X3_isDrop (lw_V q2452 q2454 qs93 q151 q2455) rfl hM2.1.1 rfl (by decide) (Nat.le_of_ble_eq_true rfl) (w_X3_isDrop hM2.1 (hT.mm hM hM2) e14) (krI ?_) kxZ
      obtain ⟨v18, e22, hr7⟩ := bnd hr7
      have e22 := Option.some.inj e22
      have hJ21 : V l g M_X3_occupancy 6 49 [some (.ref B.1), some (.int p1), some (.int i4), none, some (.int i6)] [.int v18, .int i5] h2 (QM B h (some (.float z.1)) z.2) := by
        refine V.iadd dX3_occupancy_49 ?_
        refine V.istore_n (i := 3) dX3_occupancy_50 rfl (by decide) ?_
        simp only [List.set_cons_zero, List.set_cons_succ]
        refine V.iload_n dX3_occupancy_51 rfl rfl ?_
        refine V.iload_n dX3_occupancy_52 rfl rfl ?_
        refine V.aload_n dX3_occupancy_53 rfl rfl IsR.ref ?_
        refine V.iload_n dX3_occupancy_54 rfl rfl ?_
        refine V.iload dX3_occupancy_55 rfl ?_
        refine V.iconst (v := 1) dX3_occupancy_57 (by decide) ?_
        refine V.iadd dX3_occupancy_58 ?_
        obtain ⟨x19, e20, hr7⟩ := bnd hr7
        refine V.invV (as := [.int p1, .int (i6 + (1 : Int32))]) (b := B.1) (ci := 0) (w := true) (rc := rc0) dX3_occupancy_59 ok_X3_wayTo (lw_V q2512 q2514 qs108 q151 q2515) rfl hM2.1.1 rfl (by decide) (Nat.le_of_ble_eq_true rfl) (w_X3_wayTo hM2.1 (hT.mm hM hM2) e20) (krI ?_) kxZ
        refine V.imul dX3_occupancy_62 ?_
        refine V.iadd dX3_occupancy_63 ?_
        refine V.istore_n (i := 2) dX3_occupancy_64 rfl (by decide) ?_
        simp only [List.set_cons_zero, List.set_cons_succ]
        refine V.iinc (v := i6 + (1 : Int32)) (i := 4) dX3_occupancy_65 rfl (by rfl) (by decide) ?_
        simp only [List.set_cons_zero, List.set_cons_succ]
        refine V.goto (tgt := 17) dX3_occupancy_68 (by decide) ?_
        obtain rfl := Option.some.inj hr7
        have hi8P := hi8 _ rfl
        exact hi8P
      refine V.if_eq (tgt := 48) dX3_occupancy_41 (by decide) (fun hc17 => ?_) (fun hc17 => ?_)
      · skip
        refine V.iconst (v := 1) dX3_occupancy_48 (by decide) ?_
        rw [if_pos hc17] at e22
        subst e22
        exact V.forget (llS (llS (llS (llN (llS ll0))))) (hJ21)
      · skip
        refine V.iconst (v := -1) dX3_occupancy_44 (by decide) ?_
        refine V.goto (tgt := 49) dX3_occupancy_45 (by decide) ?_
        rw [if_neg hc17] at e22
        subst e22
        exact V.forget (llS (llS (llS (llN (llS ll0))))) (hJ21)
  · rw [if_neg hc37] at hn
    refine V.fconst0 dX3_occupancy_8 ?_
    obtain rfl := Option.some.inj hn
    exact V.fret dX3_occupancy_9 rfl ⟨rfl, hM2⟩
def m_X3_noRequest (p1 : Int32) (p2 : Int32) (p3 : Int32) (p4 : Int32) (p5 : Int32) (p6 : Int32) (μ : MS) : Option (Int32 × MS) := (m_X3_noDesk μ).bind fun y1 => if y1.1 = (0 : Int32) then ((m_X3_isOff p1 p2).bind fun x4 => (if x4 = (0 : Int32) then ((m_X3_isOff p3 p4).bind fun x8 => if x8 = (0 : Int32) then ((m_X3_in p5 (0 : Int32) (2 : Int32)).bind fun x10 => if x10 = (0 : Int32) then (some (1 : Int32)) else ((m_X3_in p6 (0 : Int32) (1440 : Int32)).bind fun x12 => if x12 = (0 : Int32) then (some (1 : Int32)) else (some (0 : Int32)))) else (some (1 : Int32))) else (some (1 : Int32)) : Option (Int32)).bind fun v18 => (m_X3_refuse v18 (2 : Int32) y1.2).bind fun y19 => if y19.1 = (0 : Int32) then (some ((0 : Int32), y19.2)) else (some ((1 : Int32), y19.2))) else (some ((1 : Int32), y1.2))
abbrev M_X3_noRequest : MD := (yX3_noRequest, cX3_noRequest, 7, (some .boolean), [])
theorem ok_X3_noRequest : mOK yX3_noRequest 7 6 := ⟨⟨by decide +kernel, by decide +kernel⟩, by decide +kernel, by decide⟩
theorem w_X3_noRequest {l : Launch} {g : GG} {h : AH} {B : BM} {μ : MS} {p1 : Int32} {p2 : Int32} {p3 : Int32} {p4 : Int32} {p5 : Int32} {p6 : Int32} {z : Int32 × MS} (hM : IsM B h μ) (hT : TX g h) (hn : m_X3_noRequest p1 p2 p3 p4 p5 p6 μ = some z) : Sp l g M_X3_noRequest 2 [.ref B.1, .int p1, .int p2, .int p3, .int p4, .int p5, .int p6] h (QM B h (some (.int z.1)) z.2) := by
  refine Sp.ofV (L := [some (.ref B.1), some (.int p1), some (.int p2), some (.int p3), some (.int p4), some (.int p5), some (.int p6)]) rfl rfl (hcR (hcI (hcI (hcI (hcI (hcI (hcI hc0))))))) (Nat.le_of_ble_eq_true rfl) rfl ?_
  have hM0 : MM B h h μ := ⟨hM, SameM.rf⟩
  unfold m_X3_noRequest at hn
  refine V.aload_n dX3_noRequest_0 rfl rfl IsR.ref ?_
  obtain ⟨y1, e3, hn⟩ := bnd hn
  refine V.invV (as := []) (b := B.1) (ci := 0) (w := true) (rc := rc0) dX3_noRequest_1 ok_X3_noDesk (lw_V q2564 q2566 qs116 q151 q2567) rfl hM0.1.1 rfl (by decide) (Nat.le_of_ble_eq_true rfl) (w_X3_noDesk hM0.1 (hT.mm hM hM0) e3) (kmI hM0.2 (fun h2 hM2 => ?_)) kxM
  refine V.if_ne (tgt := 59) dX3_noRequest_4 (by decide) (fun hc24 => ?_) (fun hc24 => ?_)
  · rw [if_neg hc24] at hn
    refine V.iconst (v := 1) dX3_noRequest_59 (by decide) ?_
    refine V.goto (tgt := 64) dX3_noRequest_60 (by decide) ?_
    obtain rfl := Option.some.inj hn
    exact V.zret dX3_noRequest_64 rfl rfl ⟨rfl, hM2⟩
  · rw [if_pos hc24] at hn
    refine V.aload_n dX3_noRequest_7 rfl rfl IsR.ref ?_
    refine V.iload_n dX3_noRequest_8 rfl rfl ?_
    refine V.iload_n dX3_noRequest_9 rfl rfl ?_
    obtain ⟨x4, e5, hn⟩ := bnd hn
    refine V.invS (as := [.int p1, .int p2]) dX3_noRequest_10 ok_X3_isOff (lw_S q2572 q2573 q151 q2574) (by decide) (Nat.le_of_ble_eq_true rfl) (w_X3_isOff e5) (krI ?_) kxZ
    obtain ⟨v18, hA7, hn⟩ := bnd hn
    (try dsimp only at hn)
    have hJ23 : V l g M_X3_noRequest 2 52 [none, none, none, none, none, none, none] [.int v18, .ref B.1] h2 (QM B h (some (.int z.1)) z.2) := by
      refine V.iconst (v := 2) dX3_noRequest_52 (by decide) ?_
      obtain ⟨y19, e21, hn⟩ := bnd hn
      refine V.invV (as := [.int v18, .int (2 : Int32)]) (b := B.1) (ci := 0) (w := true) (rc := rc0) dX3_noRequest_53 ok_X3_refuse (lw_V q2311 q2313 qs67 q151 q2314) rfl hM2.1.1 rfl (by decide) (Nat.le_of_ble_eq_true rfl) (w_X3_refuse hM2.1 (hT.mm hM hM2) e21) (kmI hM2.2 (fun h20 hM20 => ?_)) kxM
      refine V.if_eq (tgt := 63) dX3_noRequest_56 (by decide) (fun hc22 => ?_) (fun hc22 => ?_)
      · rw [if_pos hc22] at hn
        refine V.iconst (v := 0) dX3_noRequest_63 (by decide) ?_
        obtain rfl := Option.some.inj hn
        exact V.zret dX3_noRequest_64 rfl rfl ⟨rfl, hM20⟩
      · rw [if_neg hc22] at hn
        refine V.iconst (v := 1) dX3_noRequest_59 (by decide) ?_
        refine V.goto (tgt := 64) dX3_noRequest_60 (by decide) ?_
        obtain rfl := Option.some.inj hn
        exact V.zret dX3_noRequest_64 rfl rfl ⟨rfl, hM20⟩
    refine V.if_ne (tgt := 47) dX3_noRequest_13 (by decide) (fun hc17 => ?_) (fun hc17 => ?_)
    · rw [if_neg hc17] at hA7
      refine V.iconst (v := 1) dX3_noRequest_47 (by decide) ?_
      refine V.goto (tgt := 52) dX3_noRequest_48 (by decide) ?_
      obtain rfl := Option.some.inj hA7
      exact V.forget (llN (llN (llN (llN (llN (llN (llN ll0))))))) (hJ23)
    · rw [if_pos hc17] at hA7
      refine V.iload_n dX3_noRequest_16 rfl rfl ?_
      refine V.iload dX3_noRequest_17 rfl ?_
      obtain ⟨x8, e9, hA7⟩ := bnd hA7
      refine V.invS (as := [.int p3, .int p4]) dX3_noRequest_19 ok_X3_isOff (lw_S q2572 q2573 q151 q2574) (by decide) (Nat.le_of_ble_eq_true rfl) (w_X3_isOff e9) (krI ?_) kxZ
      refine V.if_ne (tgt := 47) dX3_noRequest_22 (by decide) (fun hc16 => ?_) (fun hc16 => ?_)
      · rw [if_neg hc16] at hA7
        refine V.iconst (v := 1) dX3_noRequest_47 (by decide) ?_
        refine V.goto (tgt := 52) dX3_noRequest_48 (by decide) ?_
        obtain rfl := Option.some.inj hA7
        exact V.forget (llN (llN (llN (llN (llN (llN (llN ll0))))))) (hJ23)
      · rw [if_pos hc16] at hA7
        refine V.iload dX3_noRequest_25 rfl ?_
        refine V.iconst (v := 0) dX3_noRequest_27 (by decide) ?_
        refine V.iconst (v := 2) dX3_noRequest_28 (by decide) ?_
        obtain ⟨x10, e11, hA7⟩ := bnd hA7
        refine V.invS (as := [.int p5, .int (0 : Int32), .int (2 : Int32)]) dX3_noRequest_29 ok_X3_in (lw_S q2308 q2309 q151 q2310) (by decide) (Nat.le_of_ble_eq_true rfl) (w_X3_in e11) (krI ?_) kxZ
        refine V.if_eq (tgt := 47) dX3_noRequest_32 (by decide) (fun hc15 => ?_) (fun hc15 => ?_)
        · rw [if_pos hc15] at hA7
          refine V.iconst (v := 1) dX3_noRequest_47 (by decide) ?_
          refine V.goto (tgt := 52) dX3_noRequest_48 (by decide) ?_
          obtain rfl := Option.some.inj hA7
          exact V.forget (llN (llN (llN (llN (llN (llN (llN ll0))))))) (hJ23)
        · rw [if_neg hc15] at hA7
          refine V.iload dX3_noRequest_35 rfl ?_
          refine V.iconst (v := 0) dX3_noRequest_37 (by decide) ?_
          refine V.sipush (v := 1440) dX3_noRequest_38 (by decide) ?_
          obtain ⟨x12, e13, hA7⟩ := bnd hA7
          refine V.invS (as := [.int p6, .int (0 : Int32), .int (1440 : Int32)]) dX3_noRequest_41 ok_X3_in (lw_S q2308 q2309 q151 q2310) (by decide) (Nat.le_of_ble_eq_true rfl) (w_X3_in e13) (krI ?_) kxZ
          refine V.if_ne (tgt := 51) dX3_noRequest_44 (by decide) (fun hc14 => ?_) (fun hc14 => ?_)
          · rw [if_neg hc14] at hA7
            refine V.iconst (v := 0) dX3_noRequest_51 (by decide) ?_
            obtain rfl := Option.some.inj hA7
            exact V.forget (llN (llN (llN (llN (llN (llN (llN ll0))))))) (hJ23)
          · rw [if_pos hc14] at hA7
            refine V.iconst (v := 1) dX3_noRequest_47 (by decide) ?_
            refine V.goto (tgt := 52) dX3_noRequest_48 (by decide) ?_
            obtain rfl := Option.some.inj hA7
            exact V.forget (llN (llN (llN (llN (llN (llN (llN ll0))))))) (hJ23)
def m_X3_lays_b2 (p1 : Int32) : (Int32 × MS) → Option ((Int32 × MS) ⊕ (MS)) := fun s => match s with
  | (i1, μ2) => if (835 : Int32) ≤ i1 then (some (.inr μ2)) else ((mLd μ2 2 835 i1).bind fun x7 => (mSt μ2 3 7515 (((835 : Int32) * p1) + i1) x7).bind fun μ10 => some (.inl (i1 + (1 : Int32), μ10)))
def m_X3_lays (p1 : Int32) (μ : MS) : Option (MS) := (iter (m_X3_lays_b2 p1) FUEL ((0 : Int32), μ)).bind fun μ12 => some μ12
abbrev M_X3_lays : MD := (yX3_lays, cX3_lays, 3, none, [])
theorem ok_X3_lays : mOK yX3_lays 3 1 := ⟨⟨by decide +kernel, by decide +kernel⟩, by decide +kernel, by decide⟩
theorem w_X3_lays {l : Launch} {g : GG} {h : AH} {B : BM} {μ : MS} {p1 : Int32} {z : MS} (hM : IsM B h μ) (hT : TX g h) (hn : m_X3_lays p1 μ = some z) : Sp l g M_X3_lays 0 [.ref B.1, .int p1] h (QM B h none z) := by
  refine Sp.ofV (L := [some (.ref B.1), some (.int p1), none]) rfl rfl (hcR (hcI hc0)) (Nat.le_of_ble_eq_true rfl) rfl ?_
  have hM0 : MM B h h μ := ⟨hM, SameM.rf⟩
  unfold m_X3_lays at hn
  refine V.iconst (v := 0) dX3_lays_0 (by decide) ?_
  refine V.istore_n (i := 2) dX3_lays_1 rfl (by decide) ?_
  simp only [List.set_cons_zero, List.set_cons_succ]
  obtain ⟨b14, hL13, hn⟩ := bnd hn
  have hJ15 : ∀ (μ12 : MS), μ12 = b14 → ∀ h12, MM B h h12 μ12 → V l g M_X3_lays 0 33 [none, none, none] [] h12 (QM B h none z) := by
    intro μ12 e16 h12 hM12
    subst e16
    (try dsimp only at hn)
    obtain rfl := Option.some.inj hn
    exact V.vret dX3_lays_33 rfl ⟨rfl, hM12⟩
  refine iter_ind (P := fun (σ : Int32 × MS) => match σ with | (i1, μ2) => ∀ h2, MM B h h2 μ2 → V l g M_X3_lays 0 2 [some (.ref B.1), some (.int p1), some (.int i1)] [] h2 (QM B h none z)) (b := b14) ?_ FUEL ((0 : Int32), μ) hL13 _ hM0
  rintro ⟨i1, μ2⟩ ρ17 hr3 hi4 hx5 h2 hM2
  unfold m_X3_lays_b2 at hr3
  (try dsimp only at hr3)
  refine V.iload_n dX3_lays_2 rfl rfl ?_
  refine V.sipush (v := 835) dX3_lays_3 (by decide) ?_
  refine V.icmp_ge (tgt := 33) dX3_lays_6 (by decide) (fun hc11 => ?_) (fun hc11 => ?_)
  · rw [if_pos hc11] at hr3
    obtain rfl := Option.some.inj hr3
    have e18 := hx5 _ rfl
    exact V.forget (llN (llN (llN ll0))) (hJ15 _ e18 _ hM2)
  · rw [if_neg hc11] at hr3
    refine V.aload_n dX3_lays_9 rfl rfl IsR.ref ?_
    refine V.mgetA hM2 dX3_lays_10 fo_X3_13_0 ma_3 ?_
    refine V.sipush (v := 835) dX3_lays_13 (by decide) ?_
    refine V.iload_n dX3_lays_16 rfl rfl ?_
    refine V.imul dX3_lays_17 ?_
    refine V.iload_n dX3_lays_18 rfl rfl ?_
    refine V.iadd dX3_lays_19 ?_
    refine V.aload_n dX3_lays_20 rfl rfl IsR.ref ?_
    refine V.mgetA hM2 dX3_lays_21 fo_X3_7_0 ma_2 ?_
    refine V.iload_n dX3_lays_24 rfl rfl ?_
    obtain ⟨x7, e8, hr3⟩ := bnd hr3
    refine V.miald hM2 dX3_lays_25 ma_2 (mLd_some e8) ?_
    obtain ⟨μ10, e9, hr3⟩ := bnd hr3
    refine V.miast hM2 dX3_lays_26 ma_3 (mSt_some e9) (fun h10 hM10 => ?_)
    refine V.iinc (v := i1 + (1 : Int32)) (i := 2) dX3_lays_27 rfl (by rfl) (by decide) ?_
    simp only [List.set_cons_zero, List.set_cons_succ]
    refine V.goto (tgt := 2) dX3_lays_30 (by decide) ?_
    obtain rfl := Option.some.inj hr3
    have hi4P := hi4 _ rfl
    exact hi4P _ hM10
def m_X3_fetches_b2 (p1 : Int32) : (Int32 × MS) → Option ((Int32 × MS) ⊕ (MS)) := fun s => match s with
  | (i1, μ2) => if (835 : Int32) ≤ i1 then (some (.inr μ2)) else ((mLd μ2 3 7515 (((835 : Int32) * p1) + i1)).bind fun x7 => (mSt μ2 2 835 i1 x7).bind fun μ10 => some (.inl (i1 + (1 : Int32), μ10)))
def m_X3_fetches (p1 : Int32) (μ : MS) : Option (MS) := (iter (m_X3_fetches_b2 p1) FUEL ((0 : Int32), μ)).bind fun μ12 => some μ12
abbrev M_X3_fetches : MD := (yX3_fetches, cX3_fetches, 3, none, [])
theorem ok_X3_fetches : mOK yX3_fetches 3 1 := ⟨⟨by decide +kernel, by decide +kernel⟩, by decide +kernel, by decide⟩
theorem w_X3_fetches {l : Launch} {g : GG} {h : AH} {B : BM} {μ : MS} {p1 : Int32} {z : MS} (hM : IsM B h μ) (hT : TX g h) (hn : m_X3_fetches p1 μ = some z) : Sp l g M_X3_fetches 0 [.ref B.1, .int p1] h (QM B h none z) := by
  refine Sp.ofV (L := [some (.ref B.1), some (.int p1), none]) rfl rfl (hcR (hcI hc0)) (Nat.le_of_ble_eq_true rfl) rfl ?_
  have hM0 : MM B h h μ := ⟨hM, SameM.rf⟩
  unfold m_X3_fetches at hn
  refine V.iconst (v := 0) dX3_fetches_0 (by decide) ?_
  refine V.istore_n (i := 2) dX3_fetches_1 rfl (by decide) ?_
  simp only [List.set_cons_zero, List.set_cons_succ]
  obtain ⟨b14, hL13, hn⟩ := bnd hn
  have hJ15 : ∀ (μ12 : MS), μ12 = b14 → ∀ h12, MM B h h12 μ12 → V l g M_X3_fetches 0 33 [none, none, none] [] h12 (QM B h none z) := by
    intro μ12 e16 h12 hM12
    subst e16
    (try dsimp only at hn)
    obtain rfl := Option.some.inj hn
    exact V.vret dX3_fetches_33 rfl ⟨rfl, hM12⟩
  refine iter_ind (P := fun (σ : Int32 × MS) => match σ with | (i1, μ2) => ∀ h2, MM B h h2 μ2 → V l g M_X3_fetches 0 2 [some (.ref B.1), some (.int p1), some (.int i1)] [] h2 (QM B h none z)) (b := b14) ?_ FUEL ((0 : Int32), μ) hL13 _ hM0
  rintro ⟨i1, μ2⟩ ρ17 hr3 hi4 hx5 h2 hM2
  unfold m_X3_fetches_b2 at hr3
  (try dsimp only at hr3)
  refine V.iload_n dX3_fetches_2 rfl rfl ?_
  refine V.sipush (v := 835) dX3_fetches_3 (by decide) ?_
  refine V.icmp_ge (tgt := 33) dX3_fetches_6 (by decide) (fun hc11 => ?_) (fun hc11 => ?_)
  · rw [if_pos hc11] at hr3
    obtain rfl := Option.some.inj hr3
    have e18 := hx5 _ rfl
    exact V.forget (llN (llN (llN ll0))) (hJ15 _ e18 _ hM2)
  · rw [if_neg hc11] at hr3
    refine V.aload_n dX3_fetches_9 rfl rfl IsR.ref ?_
    refine V.mgetA hM2 dX3_fetches_10 fo_X3_7_0 ma_2 ?_
    refine V.iload_n dX3_fetches_13 rfl rfl ?_
    refine V.aload_n dX3_fetches_14 rfl rfl IsR.ref ?_
    refine V.mgetA hM2 dX3_fetches_15 fo_X3_13_0 ma_3 ?_
    refine V.sipush (v := 835) dX3_fetches_18 (by decide) ?_
    refine V.iload_n dX3_fetches_21 rfl rfl ?_
    refine V.imul dX3_fetches_22 ?_
    refine V.iload_n dX3_fetches_23 rfl rfl ?_
    refine V.iadd dX3_fetches_24 ?_
    obtain ⟨x7, e8, hr3⟩ := bnd hr3
    refine V.miald hM2 dX3_fetches_25 ma_3 (mLd_some e8) ?_
    obtain ⟨μ10, e9, hr3⟩ := bnd hr3
    refine V.miast hM2 dX3_fetches_26 ma_2 (mSt_some e9) (fun h10 hM10 => ?_)
    refine V.iinc (v := i1 + (1 : Int32)) (i := 2) dX3_fetches_27 rfl (by rfl) (by decide) ?_
    simp only [List.set_cons_zero, List.set_cons_succ]
    refine V.goto (tgt := 2) dX3_fetches_30 (by decide) ?_
    obtain rfl := Option.some.inj hr3
    have hi4P := hi4 _ rfl
    exact hi4P _ hM10
def m_X3_offer (p1 : Int32) (p2 : Int32) (p3 : Int32) (p4 : Int32) (p5 : Int32) (p6 : Int32) (μ : MS) : Option (Int32 × MS) := (m_X3_noRequest p1 p2 p3 p4 p5 p6 μ).bind fun y1 => if y1.1 = (0 : Int32) then ((m_X3_lays (0 : Int32) y1.2).bind fun μ4 => (m_X3_comes p1 p2 p3 p4 p5 p6 μ4).bind fun μ6 => (mLd μ6 2 835 (1 : Int32)).bind fun x8 => (m_X3_call (x8 - (1 : Int32)) (7 : Int32) μ6).bind fun x10 => (m_X3_fetches (0 : Int32) μ6).bind fun μ12 => some (x10, μ12)) else (some ((0 : Int32), y1.2))
abbrev M_X3_offer : MD := (yX3_offer, cX3_offer, 8, (some .int), [])
theorem ok_X3_offer : mOK yX3_offer 8 6 := ⟨⟨by decide +kernel, by decide +kernel⟩, by decide +kernel, by decide⟩
theorem w_X3_offer {l : Launch} {g : GG} {h : AH} {B : BM} {μ : MS} {p1 : Int32} {p2 : Int32} {p3 : Int32} {p4 : Int32} {p5 : Int32} {p6 : Int32} {z : Int32 × MS} (hM : IsM B h μ) (hT : TX g h) (hn : m_X3_offer p1 p2 p3 p4 p5 p6 μ = some z) : Sp l g M_X3_offer 11 [.ref B.1, .int p1, .int p2, .int p3, .int p4, .int p5, .int p6] h (QM B h (some (.int z.1)) z.2) := by
  refine Sp.ofV (L := [some (.ref B.1), some (.int p1), some (.int p2), some (.int p3), some (.int p4), some (.int p5), some (.int p6), none]) rfl rfl (hcR (hcI (hcI (hcI (hcI (hcI (hcI hc0))))))) (Nat.le_of_ble_eq_true rfl) rfl ?_
  have hM0 : MM B h h μ := ⟨hM, SameM.rf⟩
  unfold m_X3_offer at hn
  refine V.aload_n dX3_offer_0 rfl rfl IsR.ref ?_
  refine V.iload_n dX3_offer_1 rfl rfl ?_
  refine V.iload_n dX3_offer_2 rfl rfl ?_
  refine V.iload_n dX3_offer_3 rfl rfl ?_
  refine V.iload dX3_offer_4 rfl ?_
  refine V.iload dX3_offer_6 rfl ?_
  refine V.iload dX3_offer_8 rfl ?_
  obtain ⟨y1, e3, hn⟩ := bnd hn
  refine V.invV (as := [.int p1, .int p2, .int p3, .int p4, .int p5, .int p6]) (b := B.1) (ci := 0) (w := true) (rc := rc0) dX3_offer_10 ok_X3_noRequest (lw_V q2727 q2729 qs128 q151 q2730) rfl hM0.1.1 rfl (by decide) (Nat.le_of_ble_eq_true rfl) (w_X3_noRequest hM0.1 (hT.mm hM hM0) e3) (kmI hM0.2 (fun h2 hM2 => ?_)) kxM
  refine V.if_eq (tgt := 18) dX3_offer_13 (by decide) (fun hc14 => ?_) (fun hc14 => ?_)
  · rw [if_pos hc14] at hn
    refine V.aload_n dX3_offer_18 rfl rfl IsR.ref ?_
    refine V.iconst (v := 0) dX3_offer_19 (by decide) ?_
    obtain ⟨μ4, e5, hn⟩ := bnd hn
    refine V.invV (as := [.int (0 : Int32)]) (b := B.1) (ci := 0) (w := true) (rc := rc0) dX3_offer_20 ok_X3_lays (lw_V q2731 q2733 qs129 q151 q2734) rfl hM2.1.1 rfl (by decide) (Nat.le_of_ble_eq_true rfl) (w_X3_lays hM2.1 (hT.mm hM hM2) e5) (kmV hM2.2 (fun h4 hM4 => ?_)) kxM
    refine V.aload_n dX3_offer_23 rfl rfl IsR.ref ?_
    refine V.iload_n dX3_offer_24 rfl rfl ?_
    refine V.iload_n dX3_offer_25 rfl rfl ?_
    refine V.iload_n dX3_offer_26 rfl rfl ?_
    refine V.iload dX3_offer_27 rfl ?_
    refine V.iload dX3_offer_29 rfl ?_
    refine V.iload dX3_offer_31 rfl ?_
    obtain ⟨μ6, e7, hn⟩ := bnd hn
    refine V.invV (as := [.int p1, .int p2, .int p3, .int p4, .int p5, .int p6]) (b := B.1) (ci := 0) (w := true) (rc := rc0) dX3_offer_33 ok_X3_comes (lw_V q2413 q2415 qs84 q151 q2416) rfl hM4.1.1 rfl (by decide) (Nat.le_of_ble_eq_true rfl) (w_X3_comes hM4.1 (hT.mm hM hM4) e7) (kmV hM4.2 (fun h6 hM6 => ?_)) kxM
    refine V.aload_n dX3_offer_36 rfl rfl IsR.ref ?_
    refine V.aload_n dX3_offer_37 rfl rfl IsR.ref ?_
    refine V.mgetA hM6 dX3_offer_38 fo_X3_7_0 ma_2 ?_
    refine V.iconst (v := 1) dX3_offer_41 (by decide) ?_
    obtain ⟨x8, e9, hn⟩ := bnd hn
    refine V.miald hM6 dX3_offer_42 ma_2 (mLd_some e9) ?_
    refine V.iconst (v := 1) dX3_offer_43 (by decide) ?_
    refine V.isub dX3_offer_44 ?_
    refine V.bipush (v := 7) dX3_offer_45 (by decide) ?_
    obtain ⟨x10, e11, hn⟩ := bnd hn
    refine V.invV (as := [.int (x8 - (1 : Int32)), .int (7 : Int32)]) (b := B.1) (ci := 0) (w := true) (rc := rc0) dX3_offer_47 ok_X3_call (lw_V q2448 q2450 qs92 q151 q2451) rfl hM6.1.1 rfl (by decide) (Nat.le_of_ble_eq_true rfl) (w_X3_call hM6.1 (hT.mm hM hM6) e11) (krI ?_) kxZ
    refine V.istore (i := 7) dX3_offer_50 (by decide) ?_
    simp only [List.set_cons_zero, List.set_cons_succ]
    refine V.aload_n dX3_offer_52 rfl rfl IsR.ref ?_
    refine V.iconst (v := 0) dX3_offer_53 (by decide) ?_
    obtain ⟨μ12, e13, hn⟩ := bnd hn
    refine V.invV (as := [.int (0 : Int32)]) (b := B.1) (ci := 0) (w := true) (rc := rc0) dX3_offer_54 ok_X3_fetches (lw_V q2735 q2737 qs130 q151 q2738) rfl hM6.1.1 rfl (by decide) (Nat.le_of_ble_eq_true rfl) (w_X3_fetches hM6.1 (hT.mm hM hM6) e13) (kmV hM6.2 (fun h12 hM12 => ?_)) kxM
    refine V.iload dX3_offer_57 rfl ?_
    obtain rfl := Option.some.inj hn
    exact V.iret dX3_offer_59 rfl ⟨rfl, hM12⟩
  · rw [if_neg hc14] at hn
    refine V.iconst (v := 0) dX3_offer_16 (by decide) ?_
    obtain rfl := Option.some.inj hn
    exact V.iret dX3_offer_17 rfl ⟨rfl, hM2⟩
def m_X3_offeredVan (p1 : Int32) (p2 : Int32) (p3 : Int32) (p4 : Int32) (p5 : Int32) (p6 : Int32) (μ : MS) : Option (Int32 × MS) := (m_X3_noRequest p1 p2 p3 p4 p5 p6 μ).bind fun y1 => if y1.1 = (0 : Int32) then ((m_X3_lays (0 : Int32) y1.2).bind fun μ4 => (m_X3_comes p1 p2 p3 p4 p5 p6 μ4).bind fun μ6 => (m_X3_fetches (0 : Int32) μ6).bind fun μ8 => some (μ8.1 22, μ8)) else (some ((0 : Int32), y1.2))
abbrev M_X3_offeredVan : MD := (yX3_offeredVan, cX3_offeredVan, 7, (some .int), [])
theorem ok_X3_offeredVan : mOK yX3_offeredVan 7 6 := ⟨⟨by decide +kernel, by decide +kernel⟩, by decide +kernel, by decide⟩
theorem w_X3_offeredVan {l : Launch} {g : GG} {h : AH} {B : BM} {μ : MS} {p1 : Int32} {p2 : Int32} {p3 : Int32} {p4 : Int32} {p5 : Int32} {p6 : Int32} {z : Int32 × MS} (hM : IsM B h μ) (hT : TX g h) (hn : m_X3_offeredVan p1 p2 p3 p4 p5 p6 μ = some z) : Sp l g M_X3_offeredVan 11 [.ref B.1, .int p1, .int p2, .int p3, .int p4, .int p5, .int p6] h (QM B h (some (.int z.1)) z.2) := by
  refine Sp.ofV (L := [some (.ref B.1), some (.int p1), some (.int p2), some (.int p3), some (.int p4), some (.int p5), some (.int p6)]) rfl rfl (hcR (hcI (hcI (hcI (hcI (hcI (hcI hc0))))))) (Nat.le_of_ble_eq_true rfl) rfl ?_
  have hM0 : MM B h h μ := ⟨hM, SameM.rf⟩
  unfold m_X3_offeredVan at hn
  refine V.aload_n dX3_offeredVan_0 rfl rfl IsR.ref ?_
  refine V.iload_n dX3_offeredVan_1 rfl rfl ?_
  refine V.iload_n dX3_offeredVan_2 rfl rfl ?_
  refine V.iload_n dX3_offeredVan_3 rfl rfl ?_
  refine V.iload dX3_offeredVan_4 rfl ?_
  refine V.iload dX3_offeredVan_6 rfl ?_
  refine V.iload dX3_offeredVan_8 rfl ?_
  obtain ⟨y1, e3, hn⟩ := bnd hn
  refine V.invV (as := [.int p1, .int p2, .int p3, .int p4, .int p5, .int p6]) (b := B.1) (ci := 0) (w := true) (rc := rc0) dX3_offeredVan_10 ok_X3_noRequest (lw_V q2727 q2729 qs128 q151 q2730) rfl hM0.1.1 rfl (by decide) (Nat.le_of_ble_eq_true rfl) (w_X3_noRequest hM0.1 (hT.mm hM hM0) e3) (kmI hM0.2 (fun h2 hM2 => ?_)) kxM
  refine V.if_eq (tgt := 18) dX3_offeredVan_13 (by decide) (fun hc10 => ?_) (fun hc10 => ?_)
  · rw [if_pos hc10] at hn
    refine V.aload_n dX3_offeredVan_18 rfl rfl IsR.ref ?_
    refine V.iconst (v := 0) dX3_offeredVan_19 (by decide) ?_
    obtain ⟨μ4, e5, hn⟩ := bnd hn
    refine V.invV (as := [.int (0 : Int32)]) (b := B.1) (ci := 0) (w := true) (rc := rc0) dX3_offeredVan_20 ok_X3_lays (lw_V q2731 q2733 qs129 q151 q2734) rfl hM2.1.1 rfl (by decide) (Nat.le_of_ble_eq_true rfl) (w_X3_lays hM2.1 (hT.mm hM hM2) e5) (kmV hM2.2 (fun h4 hM4 => ?_)) kxM
    refine V.aload_n dX3_offeredVan_23 rfl rfl IsR.ref ?_
    refine V.iload_n dX3_offeredVan_24 rfl rfl ?_
    refine V.iload_n dX3_offeredVan_25 rfl rfl ?_
    refine V.iload_n dX3_offeredVan_26 rfl rfl ?_
    refine V.iload dX3_offeredVan_27 rfl ?_
    refine V.iload dX3_offeredVan_29 rfl ?_
    refine V.iload dX3_offeredVan_31 rfl ?_
    obtain ⟨μ6, e7, hn⟩ := bnd hn
    refine V.invV (as := [.int p1, .int p2, .int p3, .int p4, .int p5, .int p6]) (b := B.1) (ci := 0) (w := true) (rc := rc0) dX3_offeredVan_33 ok_X3_comes (lw_V q2413 q2415 qs84 q151 q2416) rfl hM4.1.1 rfl (by decide) (Nat.le_of_ble_eq_true rfl) (w_X3_comes hM4.1 (hT.mm hM hM4) e7) (kmV hM4.2 (fun h6 hM6 => ?_)) kxM
    refine V.aload_n dX3_offeredVan_36 rfl rfl IsR.ref ?_
    refine V.iconst (v := 0) dX3_offeredVan_37 (by decide) ?_
    obtain ⟨μ8, e9, hn⟩ := bnd hn
    refine V.invV (as := [.int (0 : Int32)]) (b := B.1) (ci := 0) (w := true) (rc := rc0) dX3_offeredVan_38 ok_X3_fetches (lw_V q2735 q2737 qs130 q151 q2738) rfl hM6.1.1 rfl (by decide) (Nat.le_of_ble_eq_true rfl) (w_X3_fetches hM6.1 (hT.mm hM hM6) e9) (kmV hM6.2 (fun h8 hM8 => ?_)) kxM
    refine V.aload_n dX3_offeredVan_41 rfl rfl IsR.ref ?_
    refine V.mgetI hM8 dX3_offeredVan_42 fo_X3_310_0 mi_22 ?_
    obtain rfl := Option.some.inj hn
    exact V.iret dX3_offeredVan_45 rfl ⟨rfl, hM8⟩
  · rw [if_neg hc10] at hn
    refine V.iconst (v := 0) dX3_offeredVan_16 (by decide) ?_
    obtain rfl := Option.some.inj hn
    exact V.iret dX3_offeredVan_17 rfl ⟨rfl, hM2⟩
def m_X3_soonest_b27 (p1 : Int32) (p2 : Int32) (p3 : Int32) (p4 : Int32) (p5 : Int32) (p6 : Int32) : (Int32 × MS) → Option ((Int32 × MS) ⊕ ((Int32 × MS) ⊕ (Int32 × MS))) := fun s => match s with
  | (i6, μ7) => if (p6 + (60 : Int32)) < i6 then (some (.inr (.inr ((-1 : Int32), μ7)))) else (if (1440 : Int32) < i6 then (some (.inr (.inr ((-1 : Int32), μ7)))) else ((m_X3_comes p1 p2 p3 p4 p5 i6 μ7).bind fun μ14 => (some (if (μ14.1 22) = (-1 : Int32) then ((0 : Int32)) else ((1 : Int32)))).bind fun v19 => (m_X3_fetches (0 : Int32) μ14).bind fun μ20 => if v19 = (0 : Int32) then (some (.inl (i6 + (1 : Int32), μ20))) else (some (.inr (.inl (i6, μ20))))))
def m_X3_soonest (p1 : Int32) (p2 : Int32) (p3 : Int32) (p4 : Int32) (p5 : Int32) (p6 : Int32) (μ : MS) : Option (Int32 × MS) := (m_X3_noRequest p1 p2 p3 p4 p5 p6 μ).bind fun y1 => if y1.1 = (0 : Int32) then ((m_X3_lays (0 : Int32) y1.2).bind fun μ4 => (iter (m_X3_soonest_b27 p1 p2 p3 p4 p5 p6) FUEL (p6, μ4)).bind fun y => match y with | .inr e => some e | .inl (v27, μ28) => some (v27, μ28)) else (some ((0 : Int32), y1.2))
abbrev M_X3_soonest : MD := (yX3_soonest, cX3_soonest, 9, (some .int), [])
theorem ok_X3_soonest : mOK yX3_soonest 9 6 := ⟨⟨by decide +kernel, by decide +kernel⟩, by decide +kernel, by decide⟩
theorem w_X3_soonest {l : Launch} {g : GG} {h : AH} {B : BM} {μ : MS} {p1 : Int32} {p2 : Int32} {p3 : Int32} {p4 : Int32} {p5 : Int32} {p6 : Int32} {z : Int32 × MS} (hM : IsM B h μ) (hT : TX g h) (hn : m_X3_soonest p1 p2 p3 p4 p5 p6 μ = some z) : Sp l g M_X3_soonest 11 [.ref B.1, .int p1, .int p2, .int p3, .int p4, .int p5, .int p6] h (QM B h (some (.int z.1)) z.2) := by
  refine Sp.ofV (L := [some (.ref B.1), some (.int p1), some (.int p2), some (.int p3), some (.int p4), some (.int p5), some (.int p6), none, none]) rfl rfl (hcR (hcI (hcI (hcI (hcI (hcI (hcI hc0))))))) (Nat.le_of_ble_eq_true rfl) rfl ?_
  have hM0 : MM B h h μ := ⟨hM, SameM.rf⟩
  unfold m_X3_soonest at hn
  refine V.aload_n dX3_soonest_0 rfl rfl IsR.ref ?_
  refine V.iload_n dX3_soonest_1 rfl rfl ?_
  refine V.iload_n dX3_soonest_2 rfl rfl ?_
  refine V.iload_n dX3_soonest_3 rfl rfl ?_
  refine V.iload dX3_soonest_4 rfl ?_
  refine V.iload dX3_soonest_6 rfl ?_
  refine V.iload dX3_soonest_8 rfl ?_
  obtain ⟨y1, e3, hn⟩ := bnd hn
  refine V.invV (as := [.int p1, .int p2, .int p3, .int p4, .int p5, .int p6]) (b := B.1) (ci := 0) (w := true) (rc := rc0) dX3_soonest_10 ok_X3_noRequest (lw_V q2727 q2729 qs128 q151 q2730) rfl hM0.1.1 rfl (by decide) (Nat.le_of_ble_eq_true rfl) (w_X3_noRequest hM0.1 (hT.mm hM hM0) e3) (kmI hM0.2 (fun h2 hM2 => ?_)) kxM
  refine V.if_eq (tgt := 18) dX3_soonest_13 (by decide) (fun hc35 => ?_) (fun hc35 => ?_)
  · rw [if_pos hc35] at hn
    refine V.aload_n dX3_soonest_18 rfl rfl IsR.ref ?_
    refine V.iconst (v := 0) dX3_soonest_19 (by decide) ?_
    obtain ⟨μ4, e5, hn⟩ := bnd hn
    refine V.invV (as := [.int (0 : Int32)]) (b := B.1) (ci := 0) (w := true) (rc := rc0) dX3_soonest_20 ok_X3_lays (lw_V q2731 q2733 qs129 q151 q2734) rfl hM2.1.1 rfl (by decide) (Nat.le_of_ble_eq_true rfl) (w_X3_lays hM2.1 (hT.mm hM hM2) e5) (kmV hM2.2 (fun h4 hM4 => ?_)) kxM
    refine V.iload dX3_soonest_23 rfl ?_
    refine V.istore (i := 7) dX3_soonest_25 (by decide) ?_
    simp only [List.set_cons_zero, List.set_cons_succ]
    obtain ⟨b30, hL29, hn⟩ := bnd hn
    have hJ31 : ∀ (v27 : Int32) (μ28 : MS), .inl (v27, μ28) = b30 → ∀ h28, MM B h h28 μ28 → V l g M_X3_soonest 11 83 [none, none, none, none, none, none, none, some (.int v27), none] [] h28 (QM B h (some (.int z.1)) z.2) := by
      intro v27 μ28 e32 h28 hM28
      subst e32
      (try dsimp only at hn)
      refine V.iload dX3_soonest_83 rfl ?_
      obtain rfl := Option.some.inj hn
      exact V.iret dX3_soonest_85 rfl ⟨rfl, hM28⟩
    refine iter_ind (P := fun (σ : Int32 × MS) => match σ with | (i6, μ7) => ∀ h7, MM B h h7 μ7 → V l g M_X3_soonest 11 27 [some (.ref B.1), some (.int p1), some (.int p2), some (.int p3), some (.int p4), some (.int p5), some (.int p6), some (.int i6), none] [] h7 (QM B h (some (.int z.1)) z.2)) (b := b30) ?_ FUEL (p6, μ4) hL29 _ hM4
    rintro ⟨i6, μ7⟩ ρ33 hr8 hi9 hx10 h7 hM7
    unfold m_X3_soonest_b27 at hr8
    (try dsimp only at hr8)
    refine V.iload dX3_soonest_27 rfl ?_
    refine V.iload dX3_soonest_29 rfl ?_
    refine V.bipush (v := 60) dX3_soonest_31 (by decide) ?_
    refine V.iadd dX3_soonest_33 ?_
    refine V.icmp_gt (tgt := 92) dX3_soonest_34 (by decide) (fun hc26 => ?_) (fun hc26 => ?_)
    · rw [if_pos hc26] at hr8
      refine V.iconst (v := -1) dX3_soonest_92 (by decide) ?_
      obtain rfl := Option.some.inj hr8
      have e12 := hx10 _ rfl
      subst e12
      (try dsimp only at hn)
      obtain rfl := Option.some.inj hn
      exact V.iret dX3_soonest_93 rfl ⟨rfl, hM7⟩
    · rw [if_neg hc26] at hr8
      refine V.iload dX3_soonest_37 rfl ?_
      refine V.sipush (v := 1440) dX3_soonest_39 (by decide) ?_
      refine V.icmp_gt (tgt := 92) dX3_soonest_42 (by decide) (fun hc25 => ?_) (fun hc25 => ?_)
      · rw [if_pos hc25] at hr8
        refine V.iconst (v := -1) dX3_soonest_92 (by decide) ?_
        obtain rfl := Option.some.inj hr8
        have e13 := hx10 _ rfl
        subst e13
        (try dsimp only at hn)
        obtain rfl := Option.some.inj hn
        exact V.iret dX3_soonest_93 rfl ⟨rfl, hM7⟩
      · rw [if_neg hc25] at hr8
        refine V.aload_n dX3_soonest_45 rfl rfl IsR.ref ?_
        refine V.iload_n dX3_soonest_46 rfl rfl ?_
        refine V.iload_n dX3_soonest_47 rfl rfl ?_
        refine V.iload_n dX3_soonest_48 rfl rfl ?_
        refine V.iload dX3_soonest_49 rfl ?_
        refine V.iload dX3_soonest_51 rfl ?_
        refine V.iload dX3_soonest_53 rfl ?_
        obtain ⟨μ14, e15, hr8⟩ := bnd hr8
        refine V.invV (as := [.int p1, .int p2, .int p3, .int p4, .int p5, .int i6]) (b := B.1) (ci := 0) (w := true) (rc := rc0) dX3_soonest_55 ok_X3_comes (lw_V q2413 q2415 qs84 q151 q2416) rfl hM7.1.1 rfl (by decide) (Nat.le_of_ble_eq_true rfl) (w_X3_comes hM7.1 (hT.mm hM hM7) e15) (kmV hM7.2 (fun h14 hM14 => ?_)) kxM
        refine V.aload_n dX3_soonest_58 rfl rfl IsR.ref ?_
        refine V.mgetI hM14 dX3_soonest_59 fo_X3_310_0 mi_22 ?_
        refine V.iconst (v := -1) dX3_soonest_62 (by decide) ?_
        obtain ⟨v19, e24, hr8⟩ := bnd hr8
        have e24 := Option.some.inj e24
        have hJ23 : V l g M_X3_soonest 11 71 [some (.ref B.1), some (.int p1), some (.int p2), some (.int p3), some (.int p4), some (.int p5), some (.int p6), some (.int i6), none] [.int v19] h14 (QM B h (some (.int z.1)) z.2) := by
          refine V.istore (i := 8) dX3_soonest_71 (by decide) ?_
          simp only [List.set_cons_zero, List.set_cons_succ]
          refine V.aload_n dX3_soonest_73 rfl rfl IsR.ref ?_
          refine V.iconst (v := 0) dX3_soonest_74 (by decide) ?_
          obtain ⟨μ20, e21, hr8⟩ := bnd hr8
          refine V.invV (as := [.int (0 : Int32)]) (b := B.1) (ci := 0) (w := true) (rc := rc0) dX3_soonest_75 ok_X3_fetches (lw_V q2735 q2737 qs130 q151 q2738) rfl hM14.1.1 rfl (by decide) (Nat.le_of_ble_eq_true rfl) (w_X3_fetches hM14.1 (hT.mm hM hM14) e21) (kmV hM14.2 (fun h20 hM20 => ?_)) kxM
          refine V.iload dX3_soonest_78 rfl ?_
          refine V.if_eq (tgt := 86) dX3_soonest_80 (by decide) (fun hc22 => ?_) (fun hc22 => ?_)
          · rw [if_pos hc22] at hr8
            refine V.iinc (v := i6 + (1 : Int32)) (i := 7) dX3_soonest_86 rfl (by rfl) (by decide) ?_
            simp only [List.set_cons_zero, List.set_cons_succ]
            refine V.goto (tgt := 27) dX3_soonest_89 (by decide) ?_
            obtain rfl := Option.some.inj hr8
            have hi9P := hi9 _ rfl
            exact V.forget (llS (llS (llS (llS (llS (llS (llS (llS (llN ll0))))))))) (hi9P _ hM20)
          · rw [if_neg hc22] at hr8
            obtain rfl := Option.some.inj hr8
            have e34 := hx10 _ rfl
            exact V.forget (llN (llN (llN (llN (llN (llN (llN (llS (llN ll0))))))))) (hJ31 _ _ e34 _ hM20)
        refine V.icmp_eq (tgt := 70) dX3_soonest_63 (by decide) (fun hc18 => ?_) (fun hc18 => ?_)
        · skip
          refine V.iconst (v := 0) dX3_soonest_70 (by decide) ?_
          rw [if_pos hc18] at e24
          subst e24
          exact hJ23
        · skip
          refine V.iconst (v := 1) dX3_soonest_66 (by decide) ?_
          refine V.goto (tgt := 71) dX3_soonest_67 (by decide) ?_
          rw [if_neg hc18] at e24
          subst e24
          exact hJ23
  · rw [if_neg hc35] at hn
    refine V.iconst (v := 0) dX3_soonest_16 (by decide) ?_
    obtain rfl := Option.some.inj hn
    exact V.iret dX3_soonest_17 rfl ⟨rfl, hM2⟩
def m_X3_lateness (p1 : Int32) (μ : MS) : Option (Int32) := (m_X3_timeOf p1 (0 : Int32) μ).bind fun x1 => (m_X3_call p1 (7 : Int32) μ).bind fun x3 => (mLd μ 20 184 (5 : Int32)).bind fun x5 => if ((x1 - x3) - x5) ≤ (0 : Int32) then (some (0 : Int32)) else (some ((x1 - x3) - x5))
abbrev M_X3_lateness : MD := (yX3_lateness, cX3_lateness, 3, (some .int), [])
theorem ok_X3_lateness : mOK yX3_lateness 3 1 := ⟨⟨by decide +kernel, by decide +kernel⟩, by decide +kernel, by decide⟩
theorem w_X3_lateness {l : Launch} {g : GG} {h : AH} {B : BM} {μ : MS} {p1 : Int32} {z : Int32} (hM : IsM B h μ) (hT : TX g h) (hn : m_X3_lateness p1 μ = some z) : Sp l g M_X3_lateness 5 [.ref B.1, .int p1] h (QZ (some (.int z)) h) := by
  refine Sp.ofV (L := [some (.ref B.1), some (.int p1), none]) rfl rfl (hcR (hcI hc0)) (Nat.le_of_ble_eq_true rfl) rfl ?_
  have hM0 : MM B h h μ := ⟨hM, SameM.rf⟩
  unfold m_X3_lateness at hn
  refine V.aload_n dX3_lateness_0 rfl rfl IsR.ref ?_
  refine V.iload_n dX3_lateness_1 rfl rfl ?_
  refine V.iconst (v := 0) dX3_lateness_2 (by decide) ?_
  obtain ⟨x1, e2, hn⟩ := bnd hn
  refine V.invV (as := [.int p1, .int (0 : Int32)]) (b := B.1) (ci := 0) (w := true) (rc := rc0) dX3_lateness_3 ok_X3_timeOf (lw_V q2667 q2669 qs125 q151 q2670) rfl hM0.1.1 rfl (by decide) (Nat.le_of_ble_eq_true rfl) (w_X3_timeOf hM0.1 (hT.mm hM hM0) e2) (krI ?_) kxZ
  refine V.aload_n dX3_lateness_6 rfl rfl IsR.ref ?_
  refine V.iload_n dX3_lateness_7 rfl rfl ?_
  refine V.bipush (v := 7) dX3_lateness_8 (by decide) ?_
  obtain ⟨x3, e4, hn⟩ := bnd hn
  refine V.invV (as := [.int p1, .int (7 : Int32)]) (b := B.1) (ci := 0) (w := true) (rc := rc0) dX3_lateness_10 ok_X3_call (lw_V q2448 q2450 qs92 q151 q2451) rfl hM0.1.1 rfl (by decide) (Nat.le_of_ble_eq_true rfl) (w_X3_call hM0.1 (hT.mm hM hM0) e4) (krI ?_) kxZ
  refine V.isub dX3_lateness_13 ?_
  refine V.aload_n dX3_lateness_14 rfl rfl IsR.ref ?_
  refine V.mgetA hM0 dX3_lateness_15 fo_X3_33_0 ma_20 ?_
  refine V.iconst (v := 5) dX3_lateness_18 (by decide) ?_
  obtain ⟨x5, e6, hn⟩ := bnd hn
  refine V.miald hM0 dX3_lateness_19 ma_20 (mLd_some e6) ?_
  refine V.isub dX3_lateness_20 ?_
  refine V.istore_n (i := 2) dX3_lateness_21 rfl (by decide) ?_
  simp only [List.set_cons_zero, List.set_cons_succ]
  refine V.iload_n dX3_lateness_22 rfl rfl ?_
  refine V.if_le (tgt := 30) dX3_lateness_23 (by decide) (fun hc7 => ?_) (fun hc7 => ?_)
  · rw [if_pos hc7] at hn
    refine V.iconst (v := 0) dX3_lateness_30 (by decide) ?_
    obtain rfl := Option.some.inj hn
    exact V.iret dX3_lateness_31 rfl ⟨rfl, rfl⟩
  · rw [if_neg hc7] at hn
    refine V.iload_n dX3_lateness_26 rfl rfl ?_
    refine V.goto (tgt := 31) dX3_lateness_27 (by decide) ?_
    obtain rfl := Option.some.inj hn
    exact V.iret dX3_lateness_31 rfl ⟨rfl, rfl⟩
def m_X3_lateCalls_b13 (y1 : Int32 × MS) : (Int32 × Int32) → Option ((Int32 × Int32) ⊕ (Int32)) := fun s => match s with
  | (i4, i5) => (mLd y1.2 2 835 (1 : Int32)).bind fun x10 => if x10 ≤ i5 then (some (.inr i4)) else ((m_X3_call i5 (6 : Int32) y1.2).bind fun x12 => if x12 = (1 : Int32) then ((m_X3_lateness i5 y1.2).bind fun x14 => if x14 ≤ (0 : Int32) then (some (.inl (i4 ||| (0 : Int32), i5 + (1 : Int32)))) else (some (.inl (i4 ||| ((1 : Int32) <<< (i5 &&& 31)), i5 + (1 : Int32))))) else (some (.inl (i4 ||| (0 : Int32), i5 + (1 : Int32)))))
def m_X3_lateCalls (μ : MS) : Option (Int32 × MS) := (m_X3_noDesk μ).bind fun y1 => if y1.1 = (0 : Int32) then ((iter (m_X3_lateCalls_b13 y1) FUEL ((0 : Int32), (0 : Int32))).bind fun v19 => some (v19, y1.2)) else (some ((0 : Int32), y1.2))
abbrev M_X3_lateCalls : MD := (yX3_lateCalls, cX3_lateCalls, 3, (some .int), [])
theorem ok_X3_lateCalls : mOK yX3_lateCalls 3 0 := ⟨⟨by decide +kernel, by decide +kernel⟩, by decide +kernel, by decide⟩
theorem w_X3_lateCalls {l : Launch} {g : GG} {h : AH} {B : BM} {μ : MS} {z : Int32 × MS} (hM : IsM B h μ) (hT : TX g h) (hn : m_X3_lateCalls μ = some z) : Sp l g M_X3_lateCalls 6 [.ref B.1] h (QM B h (some (.int z.1)) z.2) := by
  refine Sp.ofV (L := [some (.ref B.1), none, none]) rfl rfl (hcR hc0) (Nat.le_of_ble_eq_true rfl) rfl ?_
  have hM0 : MM B h h μ := ⟨hM, SameM.rf⟩
  unfold m_X3_lateCalls at hn
  refine V.aload_n dX3_lateCalls_0 rfl rfl IsR.ref ?_
  obtain ⟨y1, e3, hn⟩ := bnd hn
  refine V.invV (as := []) (b := B.1) (ci := 0) (w := true) (rc := rc0) dX3_lateCalls_1 ok_X3_noDesk (lw_V q2564 q2566 qs116 q151 q2567) rfl hM0.1.1 rfl (by decide) (Nat.le_of_ble_eq_true rfl) (w_X3_noDesk hM0.1 (hT.mm hM hM0) e3) (kmI hM0.2 (fun h2 hM2 => ?_)) kxM
  refine V.if_eq (tgt := 9) dX3_lateCalls_4 (by decide) (fun hc26 => ?_) (fun hc26 => ?_)
  · rw [if_pos hc26] at hn
    refine V.iconst (v := 0) dX3_lateCalls_9 (by decide) ?_
    refine V.istore_n (i := 1) dX3_lateCalls_10 rfl (by decide) ?_
    simp only [List.set_cons_zero, List.set_cons_succ]
    refine V.iconst (v := 0) dX3_lateCalls_11 (by decide) ?_
    refine V.istore_n (i := 2) dX3_lateCalls_12 rfl (by decide) ?_
    simp only [List.set_cons_zero, List.set_cons_succ]
    obtain ⟨b21, hL20, hn⟩ := bnd hn
    have hJ22 : ∀ (v19 : Int32), v19 = b21 → V l g M_X3_lateCalls 6 58 [none, some (.int v19), none] [] h2 (QM B h (some (.int z.1)) z.2) := by
      intro v19 e23
      subst e23
      (try dsimp only at hn)
      refine V.iload_n dX3_lateCalls_58 rfl rfl ?_
      obtain rfl := Option.some.inj hn
      exact V.iret dX3_lateCalls_59 rfl ⟨rfl, hM2⟩
    refine iter_ind (P := fun (σ : Int32 × Int32) => match σ with | (i4, i5) => V l g M_X3_lateCalls 6 13 [some (.ref B.1), some (.int i4), some (.int i5)] [] h2 (QM B h (some (.int z.1)) z.2)) (b := b21) ?_ FUEL ((0 : Int32), (0 : Int32)) hL20
    rintro ⟨i4, i5⟩ ρ24 hr6 hi7 hx8
    unfold m_X3_lateCalls_b13 at hr6
    (try dsimp only at hr6)
    refine V.iload_n dX3_lateCalls_13 rfl rfl ?_
    refine V.aload_n dX3_lateCalls_14 rfl rfl IsR.ref ?_
    refine V.mgetA hM2 dX3_lateCalls_15 fo_X3_7_0 ma_2 ?_
    refine V.iconst (v := 1) dX3_lateCalls_18 (by decide) ?_
    obtain ⟨x10, e11, hr6⟩ := bnd hr6
    refine V.miald hM2 dX3_lateCalls_19 ma_2 (mLd_some e11) ?_
    refine V.icmp_ge (tgt := 58) dX3_lateCalls_20 (by decide) (fun hc18 => ?_) (fun hc18 => ?_)
    · rw [if_pos hc18] at hr6
      obtain rfl := Option.some.inj hr6
      have e25 := hx8 _ rfl
      exact V.forget (llN (llS (llN ll0))) (hJ22 _ e25)
    · rw [if_neg hc18] at hr6
      refine V.iload_n dX3_lateCalls_23 rfl rfl ?_
      refine V.aload_n dX3_lateCalls_24 rfl rfl IsR.ref ?_
      refine V.iload_n dX3_lateCalls_25 rfl rfl ?_
      refine V.bipush (v := 6) dX3_lateCalls_26 (by decide) ?_
      obtain ⟨x12, e13, hr6⟩ := bnd hr6
      refine V.invV (as := [.int i5, .int (6 : Int32)]) (b := B.1) (ci := 0) (w := true) (rc := rc0) dX3_lateCalls_28 ok_X3_call (lw_V q2448 q2450 qs92 q151 q2451) rfl hM2.1.1 rfl (by decide) (Nat.le_of_ble_eq_true rfl) (w_X3_call hM2.1 (hT.mm hM hM2) e13) (krI ?_) kxZ
      refine V.iconst (v := 1) dX3_lateCalls_31 (by decide) ?_
      refine V.icmp_ne (tgt := 49) dX3_lateCalls_32 (by decide) (fun hc17 => ?_) (fun hc17 => ?_)
      · rw [if_neg hc17] at hr6
        refine V.iconst (v := 0) dX3_lateCalls_49 (by decide) ?_
        refine V.ior dX3_lateCalls_50 ?_
        refine V.istore_n (i := 1) dX3_lateCalls_51 rfl (by decide) ?_
        simp only [List.set_cons_zero, List.set_cons_succ]
        refine V.iinc (v := i5 + (1 : Int32)) (i := 2) dX3_lateCalls_52 rfl (by rfl) (by decide) ?_
        simp only [List.set_cons_zero, List.set_cons_succ]
        refine V.goto (tgt := 13) dX3_lateCalls_55 (by decide) ?_
        obtain rfl := Option.some.inj hr6
        have hi7P := hi7 _ rfl
        exact hi7P
      · rw [if_pos hc17] at hr6
        refine V.aload_n dX3_lateCalls_35 rfl rfl IsR.ref ?_
        refine V.iload_n dX3_lateCalls_36 rfl rfl ?_
        obtain ⟨x14, e15, hr6⟩ := bnd hr6
        refine V.invV (as := [.int i5]) (b := B.1) (ci := 0) (w := true) (rc := rc0) dX3_lateCalls_37 ok_X3_lateness (lw_V q2751 q2753 qs131 q151 q2754) rfl hM2.1.1 rfl (by decide) (Nat.le_of_ble_eq_true rfl) (w_X3_lateness hM2.1 (hT.mm hM hM2) e15) (krI ?_) kxZ
        refine V.if_le (tgt := 49) dX3_lateCalls_40 (by decide) (fun hc16 => ?_) (fun hc16 => ?_)
        · rw [if_pos hc16] at hr6
          refine V.iconst (v := 0) dX3_lateCalls_49 (by decide) ?_
          refine V.ior dX3_lateCalls_50 ?_
          refine V.istore_n (i := 1) dX3_lateCalls_51 rfl (by decide) ?_
          simp only [List.set_cons_zero, List.set_cons_succ]
          refine V.iinc (v := i5 + (1 : Int32)) (i := 2) dX3_lateCalls_52 rfl (by rfl) (by decide) ?_
          simp only [List.set_cons_zero, List.set_cons_succ]
          refine V.goto (tgt := 13) dX3_lateCalls_55 (by decide) ?_
          obtain rfl := Option.some.inj hr6
          have hi7P := hi7 _ rfl
          exact hi7P
        · rw [if_neg hc16] at hr6
          refine V.iconst (v := 1) dX3_lateCalls_43 (by decide) ?_
          refine V.iload_n dX3_lateCalls_44 rfl rfl ?_
          refine V.ishl dX3_lateCalls_45 ?_
          refine V.goto (tgt := 50) dX3_lateCalls_46 (by decide) ?_
          refine V.ior dX3_lateCalls_50 ?_
          refine V.istore_n (i := 1) dX3_lateCalls_51 rfl (by decide) ?_
          simp only [List.set_cons_zero, List.set_cons_succ]
          refine V.iinc (v := i5 + (1 : Int32)) (i := 2) dX3_lateCalls_52 rfl (by rfl) (by decide) ?_
          simp only [List.set_cons_zero, List.set_cons_succ]
          refine V.goto (tgt := 13) dX3_lateCalls_55 (by decide) ?_
          obtain rfl := Option.some.inj hr6
          have hi7P := hi7 _ rfl
          exact hi7P
  · rw [if_neg hc26] at hn
    refine V.iconst (v := 0) dX3_lateCalls_7 (by decide) ?_
    obtain rfl := Option.some.inj hn
    exact V.iret dX3_lateCalls_8 rfl ⟨rfl, hM2⟩
def m_X3_expectedCredits_b13 (y1 : Int32 × MS) : (Int32 × Int32) → Option ((Int32 × Int32) ⊕ (Int32)) := fun s => match s with
  | (i4, i5) => (mLd y1.2 2 835 (1 : Int32)).bind fun x10 => if x10 ≤ i5 then (some (.inr i4)) else ((m_X3_call i5 (6 : Int32) y1.2).bind fun x12 => if x12 = (1 : Int32) then ((mLd y1.2 20 184 (6 : Int32)).bind fun x16 => (m_X3_lateness i5 y1.2).bind fun x18 => some (.inl (i4 + (x16 * x18), i5 + (1 : Int32)))) else ((m_X3_call i5 (8 : Int32) y1.2).bind fun x14 => some (.inl (i4 + x14, i5 + (1 : Int32)))))
def m_X3_expectedCredits (μ : MS) : Option (Int32 × MS) := (m_X3_noDesk μ).bind fun y1 => if y1.1 = (0 : Int32) then ((iter (m_X3_expectedCredits_b13 y1) FUEL ((0 : Int32), (0 : Int32))).bind fun v22 => some (v22, y1.2)) else (some ((0 : Int32), y1.2))
abbrev M_X3_expectedCredits : MD := (yX3_expectedCredits, cX3_expectedCredits, 3, (some .int), [])
theorem ok_X3_expectedCredits : mOK yX3_expectedCredits 3 0 := ⟨⟨by decide +kernel, by decide +kernel⟩, by decide +kernel, by decide⟩
theorem w_X3_expectedCredits {l : Launch} {g : GG} {h : AH} {B : BM} {μ : MS} {z : Int32 × MS} (hM : IsM B h μ) (hT : TX g h) (hn : m_X3_expectedCredits μ = some z) : Sp l g M_X3_expectedCredits 6 [.ref B.1] h (QM B h (some (.int z.1)) z.2) := by
  refine Sp.ofV (L := [some (.ref B.1), none, none]) rfl rfl (hcR hc0) (Nat.le_of_ble_eq_true rfl) rfl ?_
  have hM0 : MM B h h μ := ⟨hM, SameM.rf⟩
  unfold m_X3_expectedCredits at hn
  refine V.aload_n dX3_expectedCredits_0 rfl rfl IsR.ref ?_
  obtain ⟨y1, e3, hn⟩ := bnd hn
  refine V.invV (as := []) (b := B.1) (ci := 0) (w := true) (rc := rc0) dX3_expectedCredits_1 ok_X3_noDesk (lw_V q2564 q2566 qs116 q151 q2567) rfl hM0.1.1 rfl (by decide) (Nat.le_of_ble_eq_true rfl) (w_X3_noDesk hM0.1 (hT.mm hM hM0) e3) (kmI hM0.2 (fun h2 hM2 => ?_)) kxM
  refine V.if_eq (tgt := 9) dX3_expectedCredits_4 (by decide) (fun hc29 => ?_) (fun hc29 => ?_)
  · rw [if_pos hc29] at hn
    refine V.iconst (v := 0) dX3_expectedCredits_9 (by decide) ?_
    refine V.istore_n (i := 1) dX3_expectedCredits_10 rfl (by decide) ?_
    simp only [List.set_cons_zero, List.set_cons_succ]
    refine V.iconst (v := 0) dX3_expectedCredits_11 (by decide) ?_
    refine V.istore_n (i := 2) dX3_expectedCredits_12 rfl (by decide) ?_
    simp only [List.set_cons_zero, List.set_cons_succ]
    obtain ⟨b24, hL23, hn⟩ := bnd hn
    have hJ25 : ∀ (v22 : Int32), v22 = b24 → V l g M_X3_expectedCredits 6 66 [none, some (.int v22), none] [] h2 (QM B h (some (.int z.1)) z.2) := by
      intro v22 e26
      subst e26
      (try dsimp only at hn)
      refine V.iload_n dX3_expectedCredits_66 rfl rfl ?_
      obtain rfl := Option.some.inj hn
      exact V.iret dX3_expectedCredits_67 rfl ⟨rfl, hM2⟩
    refine iter_ind (P := fun (σ : Int32 × Int32) => match σ with | (i4, i5) => V l g M_X3_expectedCredits 6 13 [some (.ref B.1), some (.int i4), some (.int i5)] [] h2 (QM B h (some (.int z.1)) z.2)) (b := b24) ?_ FUEL ((0 : Int32), (0 : Int32)) hL23
    rintro ⟨i4, i5⟩ ρ27 hr6 hi7 hx8
    unfold m_X3_expectedCredits_b13 at hr6
    (try dsimp only at hr6)
    refine V.iload_n dX3_expectedCredits_13 rfl rfl ?_
    refine V.aload_n dX3_expectedCredits_14 rfl rfl IsR.ref ?_
    refine V.mgetA hM2 dX3_expectedCredits_15 fo_X3_7_0 ma_2 ?_
    refine V.iconst (v := 1) dX3_expectedCredits_18 (by decide) ?_
    obtain ⟨x10, e11, hr6⟩ := bnd hr6
    refine V.miald hM2 dX3_expectedCredits_19 ma_2 (mLd_some e11) ?_
    refine V.icmp_ge (tgt := 66) dX3_expectedCredits_20 (by decide) (fun hc21 => ?_) (fun hc21 => ?_)
    · rw [if_pos hc21] at hr6
      obtain rfl := Option.some.inj hr6
      have e28 := hx8 _ rfl
      exact V.forget (llN (llS (llN ll0))) (hJ25 _ e28)
    · rw [if_neg hc21] at hr6
      refine V.iload_n dX3_expectedCredits_23 rfl rfl ?_
      refine V.aload_n dX3_expectedCredits_24 rfl rfl IsR.ref ?_
      refine V.iload_n dX3_expectedCredits_25 rfl rfl ?_
      refine V.bipush (v := 6) dX3_expectedCredits_26 (by decide) ?_
      obtain ⟨x12, e13, hr6⟩ := bnd hr6
      refine V.invV (as := [.int i5, .int (6 : Int32)]) (b := B.1) (ci := 0) (w := true) (rc := rc0) dX3_expectedCredits_28 ok_X3_call (lw_V q2448 q2450 qs92 q151 q2451) rfl hM2.1.1 rfl (by decide) (Nat.le_of_ble_eq_true rfl) (w_X3_call hM2.1 (hT.mm hM hM2) e13) (krI ?_) kxZ
      refine V.iconst (v := 1) dX3_expectedCredits_31 (by decide) ?_
      refine V.icmp_ne (tgt := 51) dX3_expectedCredits_32 (by decide) (fun hc20 => ?_) (fun hc20 => ?_)
      · rw [if_neg hc20] at hr6
        refine V.aload_n dX3_expectedCredits_51 rfl rfl IsR.ref ?_
        refine V.iload_n dX3_expectedCredits_52 rfl rfl ?_
        refine V.bipush (v := 8) dX3_expectedCredits_53 (by decide) ?_
        obtain ⟨x14, e15, hr6⟩ := bnd hr6
        refine V.invV (as := [.int i5, .int (8 : Int32)]) (b := B.1) (ci := 0) (w := true) (rc := rc0) dX3_expectedCredits_55 ok_X3_call (lw_V q2448 q2450 qs92 q151 q2451) rfl hM2.1.1 rfl (by decide) (Nat.le_of_ble_eq_true rfl) (w_X3_call hM2.1 (hT.mm hM hM2) e15) (krI ?_) kxZ
        refine V.iadd dX3_expectedCredits_58 ?_
        refine V.istore_n (i := 1) dX3_expectedCredits_59 rfl (by decide) ?_
        simp only [List.set_cons_zero, List.set_cons_succ]
        refine V.iinc (v := i5 + (1 : Int32)) (i := 2) dX3_expectedCredits_60 rfl (by rfl) (by decide) ?_
        simp only [List.set_cons_zero, List.set_cons_succ]
        refine V.goto (tgt := 13) dX3_expectedCredits_63 (by decide) ?_
        obtain rfl := Option.some.inj hr6
        have hi7P := hi7 _ rfl
        exact hi7P
      · rw [if_pos hc20] at hr6
        refine V.aload_n dX3_expectedCredits_35 rfl rfl IsR.ref ?_
        refine V.mgetA hM2 dX3_expectedCredits_36 fo_X3_33_0 ma_20 ?_
        refine V.bipush (v := 6) dX3_expectedCredits_39 (by decide) ?_
        obtain ⟨x16, e17, hr6⟩ := bnd hr6
        refine V.miald hM2 dX3_expectedCredits_41 ma_20 (mLd_some e17) ?_
        refine V.aload_n dX3_expectedCredits_42 rfl rfl IsR.ref ?_
        refine V.iload_n dX3_expectedCredits_43 rfl rfl ?_
        obtain ⟨x18, e19, hr6⟩ := bnd hr6
        refine V.invV (as := [.int i5]) (b := B.1) (ci := 0) (w := true) (rc := rc0) dX3_expectedCredits_44 ok_X3_lateness (lw_V q2751 q2753 qs131 q151 q2754) rfl hM2.1.1 rfl (by decide) (Nat.le_of_ble_eq_true rfl) (w_X3_lateness hM2.1 (hT.mm hM hM2) e19) (krI ?_) kxZ
        refine V.imul dX3_expectedCredits_47 ?_
        refine V.goto (tgt := 58) dX3_expectedCredits_48 (by decide) ?_
        refine V.iadd dX3_expectedCredits_58 ?_
        refine V.istore_n (i := 1) dX3_expectedCredits_59 rfl (by decide) ?_
        simp only [List.set_cons_zero, List.set_cons_succ]
        refine V.iinc (v := i5 + (1 : Int32)) (i := 2) dX3_expectedCredits_60 rfl (by rfl) (by decide) ?_
        simp only [List.set_cons_zero, List.set_cons_succ]
        refine V.goto (tgt := 13) dX3_expectedCredits_63 (by decide) ?_
        obtain rfl := Option.some.inj hr6
        have hi7P := hi7 _ rfl
        exact hi7P
  · rw [if_neg hc29] at hn
    refine V.iconst (v := 0) dX3_expectedCredits_7 (by decide) ?_
    obtain rfl := Option.some.inj hn
    exact V.iret dX3_expectedCredits_8 rfl ⟨rfl, hM2⟩
def m_X3_freeAt_b6 (p1 : Int32) (p2 : Int32) (μ : MS) : (Int32 × Int32) → Option ((Int32 × Int32) ⊕ (Int32)) := fun s => match s with
  | (i1, i2) => (mLd μ 2 835 ((6 : Int32) + p1)).bind fun x7 => if x7 ≤ i2 then (some (.inr i1)) else ((m_X3_begin p1 i2 μ).bind fun x9 => if p2 < x9 then (some (.inl (i1, i2 + (1 : Int32)))) else (some (.inl (i2, i2 + (1 : Int32)))))
def m_X3_freeAt (p1 : Int32) (p2 : Int32) (p3 : Int32) (μ : MS) : Option (Int32) := (iter (m_X3_freeAt_b6 p1 p2 μ) FUEL ((-1 : Int32), (0 : Int32))).bind fun v13 => (m_X3_van p1 (2 : Int32) μ).bind fun x17 => (m_X3_taken p1 v13 (0 : Int32) μ).bind fun x19 => (m_X3_van p1 (3 : Int32) μ).bind fun x21 => (m_X3_taken p1 v13 (1 : Int32) μ).bind fun x23 => (some (if (x21 - x23) ≤ (x17 - x19) then (x21 - x23) else (x17 - x19))).bind fun v28 => if p3 = (0 : Int32) then (some (x17 - x19)) else (if p3 = (1 : Int32) then (some (x21 - x23)) else (some v28))
abbrev M_X3_freeAt : MD := (yX3_freeAt, cX3_freeAt, 8, (some .int), [])
theorem ok_X3_freeAt : mOK yX3_freeAt 8 3 := ⟨⟨by decide +kernel, by decide +kernel⟩, by decide +kernel, by decide⟩
theorem w_X3_freeAt {l : Launch} {g : GG} {h : AH} {B : BM} {μ : MS} {p1 : Int32} {p2 : Int32} {p3 : Int32} {z : Int32} (hM : IsM B h μ) (hT : TX g h) (hn : m_X3_freeAt p1 p2 p3 μ = some z) : Sp l g M_X3_freeAt 4 [.ref B.1, .int p1, .int p2, .int p3] h (QZ (some (.int z)) h) := by
  refine Sp.ofV (L := [some (.ref B.1), some (.int p1), some (.int p2), some (.int p3), none, none, none, none]) rfl rfl (hcR (hcI (hcI (hcI hc0)))) (Nat.le_of_ble_eq_true rfl) rfl ?_
  have hM0 : MM B h h μ := ⟨hM, SameM.rf⟩
  unfold m_X3_freeAt at hn
  refine V.iconst (v := -1) dX3_freeAt_0 (by decide) ?_
  refine V.istore (i := 4) dX3_freeAt_1 (by decide) ?_
  simp only [List.set_cons_zero, List.set_cons_succ]
  refine V.iconst (v := 0) dX3_freeAt_3 (by decide) ?_
  refine V.istore (i := 5) dX3_freeAt_4 (by decide) ?_
  simp only [List.set_cons_zero, List.set_cons_succ]
  obtain ⟨b15, hL14, hn⟩ := bnd hn
  have hJ16 : ∀ (v13 : Int32), v13 = b15 → V l g M_X3_freeAt 4 46 [some (.ref B.1), some (.int p1), none, some (.int p3), some (.int v13), none, none, none] [] h (QZ (some (.int z)) h) := by
    intro v13 e33
    subst e33
    (try dsimp only at hn)
    refine V.aload_n dX3_freeAt_46 rfl rfl IsR.ref ?_
    refine V.iload_n dX3_freeAt_47 rfl rfl ?_
    refine V.iconst (v := 2) dX3_freeAt_48 (by decide) ?_
    obtain ⟨x17, e18, hn⟩ := bnd hn
    refine V.invV (as := [.int p1, .int (2 : Int32)]) (b := B.1) (ci := 0) (w := true) (rc := rc0) dX3_freeAt_49 ok_X3_van (lw_V q2409 q2411 qs83 q151 q2412) rfl hM0.1.1 rfl (by decide) (Nat.le_of_ble_eq_true rfl) (w_X3_van hM0.1 (hT.mm hM hM0) e18) (krI ?_) kxZ
    refine V.aload_n dX3_freeAt_52 rfl rfl IsR.ref ?_
    refine V.iload_n dX3_freeAt_53 rfl rfl ?_
    refine V.iload dX3_freeAt_54 rfl ?_
    refine V.iconst (v := 0) dX3_freeAt_56 (by decide) ?_
    obtain ⟨x19, e20, hn⟩ := bnd hn
    refine V.invV (as := [.int p1, .int v13, .int (0 : Int32)]) (b := B.1) (ci := 0) (w := true) (rc := rc0) dX3_freeAt_57 ok_X3_taken (lw_V q2480 q2482 qs100 q151 q2483) rfl hM0.1.1 rfl (by decide) (Nat.le_of_ble_eq_true rfl) (w_X3_taken hM0.1 (hT.mm hM hM0) e20) (krI ?_) kxZ
    refine V.isub dX3_freeAt_60 ?_
    refine V.istore (i := 5) dX3_freeAt_61 (by decide) ?_
    simp only [List.set_cons_zero, List.set_cons_succ]
    refine V.aload_n dX3_freeAt_63 rfl rfl IsR.ref ?_
    refine V.iload_n dX3_freeAt_64 rfl rfl ?_
    refine V.iconst (v := 3) dX3_freeAt_65 (by decide) ?_
    obtain ⟨x21, e22, hn⟩ := bnd hn
    refine V.invV (as := [.int p1, .int (3 : Int32)]) (b := B.1) (ci := 0) (w := true) (rc := rc0) dX3_freeAt_66 ok_X3_van (lw_V q2409 q2411 qs83 q151 q2412) rfl hM0.1.1 rfl (by decide) (Nat.le_of_ble_eq_true rfl) (w_X3_van hM0.1 (hT.mm hM hM0) e22) (krI ?_) kxZ
    refine V.aload_n dX3_freeAt_69 rfl rfl IsR.ref ?_
    refine V.iload_n dX3_freeAt_70 rfl rfl ?_
    refine V.iload dX3_freeAt_71 rfl ?_
    refine V.iconst (v := 1) dX3_freeAt_73 (by decide) ?_
    obtain ⟨x23, e24, hn⟩ := bnd hn
    refine V.invV (as := [.int p1, .int v13, .int (1 : Int32)]) (b := B.1) (ci := 0) (w := true) (rc := rc0) dX3_freeAt_74 ok_X3_taken (lw_V q2480 q2482 qs100 q151 q2483) rfl hM0.1.1 rfl (by decide) (Nat.le_of_ble_eq_true rfl) (w_X3_taken hM0.1 (hT.mm hM hM0) e24) (krI ?_) kxZ
    refine V.isub dX3_freeAt_77 ?_
    refine V.istore (i := 6) dX3_freeAt_78 (by decide) ?_
    simp only [List.set_cons_zero, List.set_cons_succ]
    refine V.iload dX3_freeAt_80 rfl ?_
    refine V.iload dX3_freeAt_82 rfl ?_
    obtain ⟨v28, e32, hn⟩ := bnd hn
    have e32 := Option.some.inj e32
    have hJ31 : V l g M_X3_freeAt 4 94 [none, none, none, some (.int p3), none, some (.int (x17 - x19)), some (.int (x21 - x23)), none] [.int v28] h (QZ (some (.int z)) h) := by
      refine V.istore (i := 7) dX3_freeAt_94 (by decide) ?_
      simp only [List.set_cons_zero, List.set_cons_succ]
      refine V.iload_n dX3_freeAt_96 rfl rfl ?_
      refine V.if_ne (tgt := 105) dX3_freeAt_97 (by decide) (fun hc30 => ?_) (fun hc30 => ?_)
      · rw [if_neg hc30] at hn
        refine V.iload_n dX3_freeAt_105 rfl rfl ?_
        refine V.iconst (v := 1) dX3_freeAt_106 (by decide) ?_
        refine V.icmp_ne (tgt := 115) dX3_freeAt_107 (by decide) (fun hc29 => ?_) (fun hc29 => ?_)
        · rw [if_neg hc29] at hn
          refine V.iload dX3_freeAt_115 rfl ?_
          obtain rfl := Option.some.inj hn
          exact V.iret dX3_freeAt_117 rfl ⟨rfl, rfl⟩
        · rw [if_pos hc29] at hn
          refine V.iload dX3_freeAt_110 rfl ?_
          refine V.goto (tgt := 117) dX3_freeAt_112 (by decide) ?_
          obtain rfl := Option.some.inj hn
          exact V.iret dX3_freeAt_117 rfl ⟨rfl, rfl⟩
      · rw [if_pos hc30] at hn
        refine V.iload dX3_freeAt_100 rfl ?_
        refine V.goto (tgt := 117) dX3_freeAt_102 (by decide) ?_
        obtain rfl := Option.some.inj hn
        exact V.iret dX3_freeAt_117 rfl ⟨rfl, rfl⟩
    refine V.icmp_ge (tgt := 92) dX3_freeAt_84 (by decide) (fun hc27 => ?_) (fun hc27 => ?_)
    · skip
      refine V.iload dX3_freeAt_92 rfl ?_
      rw [if_pos hc27] at e32
      subst e32
      exact V.forget (llN (llN (llN (llS (llN (llS (llS (llN ll0)))))))) (hJ31)
    · skip
      refine V.iload dX3_freeAt_87 rfl ?_
      refine V.goto (tgt := 94) dX3_freeAt_89 (by decide) ?_
      rw [if_neg hc27] at e32
      subst e32
      exact V.forget (llN (llN (llN (llS (llN (llS (llS (llN ll0)))))))) (hJ31)
  refine iter_ind (P := fun (σ : Int32 × Int32) => match σ with | (i1, i2) => V l g M_X3_freeAt 4 6 [some (.ref B.1), some (.int p1), some (.int p2), some (.int p3), some (.int i1), some (.int i2), none, none] [] h (QZ (some (.int z)) h)) (b := b15) ?_ FUEL ((-1 : Int32), (0 : Int32)) hL14
  rintro ⟨i1, i2⟩ ρ34 hr3 hi4 hx5
  unfold m_X3_freeAt_b6 at hr3
  (try dsimp only at hr3)
  refine V.iload dX3_freeAt_6 rfl ?_
  refine V.aload_n dX3_freeAt_8 rfl rfl IsR.ref ?_
  refine V.mgetA hM0 dX3_freeAt_9 fo_X3_7_0 ma_2 ?_
  refine V.bipush (v := 6) dX3_freeAt_12 (by decide) ?_
  refine V.iload_n dX3_freeAt_14 rfl rfl ?_
  refine V.iadd dX3_freeAt_15 ?_
  obtain ⟨x7, e8, hr3⟩ := bnd hr3
  refine V.miald hM0 dX3_freeAt_16 ma_2 (mLd_some e8) ?_
  refine V.icmp_ge (tgt := 46) dX3_freeAt_17 (by decide) (fun hc12 => ?_) (fun hc12 => ?_)
  · rw [if_pos hc12] at hr3
    obtain rfl := Option.some.inj hr3
    have e35 := hx5 _ rfl
    exact V.forget (llS (llS (llN (llS (llS (llN (llN (llN ll0)))))))) (hJ16 _ e35)
  · rw [if_neg hc12] at hr3
    refine V.aload_n dX3_freeAt_20 rfl rfl IsR.ref ?_
    refine V.iload_n dX3_freeAt_21 rfl rfl ?_
    refine V.iload dX3_freeAt_22 rfl ?_
    obtain ⟨x9, e10, hr3⟩ := bnd hr3
    refine V.invV (as := [.int p1, .int i2]) (b := B.1) (ci := 0) (w := true) (rc := rc0) dX3_freeAt_24 ok_X3_begin (lw_V q2464 q2466 qs96 q151 q2467) rfl hM0.1.1 rfl (by decide) (Nat.le_of_ble_eq_true rfl) (w_X3_begin hM0.1 (hT.mm hM hM0) e10) (krI ?_) kxZ
    refine V.iload_n dX3_freeAt_27 rfl rfl ?_
    refine V.icmp_gt (tgt := 36) dX3_freeAt_28 (by decide) (fun hc11 => ?_) (fun hc11 => ?_)
    · rw [if_pos hc11] at hr3
      refine V.iload dX3_freeAt_36 rfl ?_
      refine V.istore (i := 4) dX3_freeAt_38 (by decide) ?_
      simp only [List.set_cons_zero, List.set_cons_succ]
      refine V.iinc (v := i2 + (1 : Int32)) (i := 5) dX3_freeAt_40 rfl (by rfl) (by decide) ?_
      simp only [List.set_cons_zero, List.set_cons_succ]
      refine V.goto (tgt := 6) dX3_freeAt_43 (by decide) ?_
      obtain rfl := Option.some.inj hr3
      have hi4P := hi4 _ rfl
      exact hi4P
    · rw [if_neg hc11] at hr3
      refine V.iload dX3_freeAt_31 rfl ?_
      refine V.goto (tgt := 38) dX3_freeAt_33 (by decide) ?_
      refine V.istore (i := 4) dX3_freeAt_38 (by decide) ?_
      simp only [List.set_cons_zero, List.set_cons_succ]
      refine V.iinc (v := i2 + (1 : Int32)) (i := 5) dX3_freeAt_40 rfl (by rfl) (by decide) ?_
      simp only [List.set_cons_zero, List.set_cons_succ]
      refine V.goto (tgt := 6) dX3_freeAt_43 (by decide) ?_
      obtain rfl := Option.some.inj hr3
      have hi4P := hi4 _ rfl
      exact hi4P
def m_X3_freeVan_b50 (p1 : Int32) (p2 : Int32) (y13 : Int32 × MS) : (Int32 × Int32 × Int32) → Option ((Int32 × Int32 × Int32) ⊕ (Int32)) := fun s => match s with
  | (i16, i17, i18) => (mLd y13.2 20 184 (8 : Int32)).bind fun x23 => if x23 ≤ i18 then (some (.inr i16)) else ((m_X3_freeAt i18 p1 p2 y13.2).bind fun x25 => (some (if x25 ≤ i17 then (i16) else (i18))).bind fun v30 => if x25 ≤ i17 then (some (.inl (v30, i17, i18 + (1 : Int32)))) else (some (.inl (v30, x25, i18 + (1 : Int32)))))
def m_X3_freeVan (p1 : Int32) (p2 : Int32) (μ : MS) : Option (Int32 × MS) := (m_X3_noDesk μ).bind fun y1 => if y1.1 = (0 : Int32) then ((m_X3_in p1 (0 : Int32) (1440 : Int32)).bind fun x4 => (if x4 = (0 : Int32) then (some (1 : Int32)) else ((m_X3_in p2 (0 : Int32) (2 : Int32)).bind fun x8 => if x8 = (0 : Int32) then (some (1 : Int32)) else (some (0 : Int32))) : Option (Int32)).bind fun v12 => (m_X3_refuse v12 (2 : Int32) y1.2).bind fun y13 => if y13.1 = (0 : Int32) then ((iter (m_X3_freeVan_b50 p1 p2 y13) FUEL ((-1 : Int32), (0 : Int32), (0 : Int32))).bind fun v35 => some (v35, y13.2)) else (some ((0 : Int32), y13.2))) else (some ((0 : Int32), y1.2))
abbrev M_X3_freeVan : MD := (yX3_freeVan, cX3_freeVan, 7, (some .int), [])
theorem ok_X3_freeVan : mOK yX3_freeVan 7 2 := ⟨⟨by decide +kernel, by decide +kernel⟩, by decide +kernel, by decide⟩
theorem w_X3_freeVan {l : Launch} {g : GG} {h : AH} {B : BM} {μ : MS} {p1 : Int32} {p2 : Int32} {z : Int32 × MS} (hM : IsM B h μ) (hT : TX g h) (hn : m_X3_freeVan p1 p2 μ = some z) : Sp l g M_X3_freeVan 5 [.ref B.1, .int p1, .int p2] h (QM B h (some (.int z.1)) z.2) := by
  refine Sp.ofV (L := [some (.ref B.1), some (.int p1), some (.int p2), none, none, none, none]) rfl rfl (hcR (hcI (hcI hc0))) (Nat.le_of_ble_eq_true rfl) rfl ?_
  have hM0 : MM B h h μ := ⟨hM, SameM.rf⟩
  unfold m_X3_freeVan at hn
  refine V.aload_n dX3_freeVan_0 rfl rfl IsR.ref ?_
  obtain ⟨y1, e3, hn⟩ := bnd hn
  refine V.invV (as := []) (b := B.1) (ci := 0) (w := true) (rc := rc0) dX3_freeVan_1 ok_X3_noDesk (lw_V q2564 q2566 qs116 q151 q2567) rfl hM0.1.1 rfl (by decide) (Nat.le_of_ble_eq_true rfl) (w_X3_noDesk hM0.1 (hT.mm hM hM0) e3) (kmI hM0.2 (fun h2 hM2 => ?_)) kxM
  refine V.if_ne (tgt := 40) dX3_freeVan_4 (by decide) (fun hc44 => ?_) (fun hc44 => ?_)
  · rw [if_neg hc44] at hn
    refine V.iconst (v := 0) dX3_freeVan_40 (by decide) ?_
    obtain rfl := Option.some.inj hn
    exact V.iret dX3_freeVan_41 rfl ⟨rfl, hM2⟩
  · rw [if_pos hc44] at hn
    refine V.aload_n dX3_freeVan_7 rfl rfl IsR.ref ?_
    refine V.iload_n dX3_freeVan_8 rfl rfl ?_
    refine V.iconst (v := 0) dX3_freeVan_9 (by decide) ?_
    refine V.sipush (v := 1440) dX3_freeVan_10 (by decide) ?_
    obtain ⟨x4, e5, hn⟩ := bnd hn
    refine V.invS (as := [.int p1, .int (0 : Int32), .int (1440 : Int32)]) dX3_freeVan_13 ok_X3_in (lw_S q2308 q2309 q151 q2310) (by decide) (Nat.le_of_ble_eq_true rfl) (w_X3_in e5) (krI ?_) kxZ
    obtain ⟨v12, hA7, hn⟩ := bnd hn
    (try dsimp only at hn)
    have hJ43 : V l g M_X3_freeVan 5 33 [some (.ref B.1), some (.int p1), some (.int p2), none, none, none, none] [.int v12, .ref B.1] h2 (QM B h (some (.int z.1)) z.2) := by
      refine V.iconst (v := 2) dX3_freeVan_33 (by decide) ?_
      obtain ⟨y13, e15, hn⟩ := bnd hn
      refine V.invV (as := [.int v12, .int (2 : Int32)]) (b := B.1) (ci := 0) (w := true) (rc := rc0) dX3_freeVan_34 ok_X3_refuse (lw_V q2311 q2313 qs67 q151 q2314) rfl hM2.1.1 rfl (by decide) (Nat.le_of_ble_eq_true rfl) (w_X3_refuse hM2.1 (hT.mm hM hM2) e15) (kmI hM2.2 (fun h14 hM14 => ?_)) kxM
      refine V.if_eq (tgt := 42) dX3_freeVan_37 (by decide) (fun hc42 => ?_) (fun hc42 => ?_)
      · rw [if_pos hc42] at hn
        refine V.iconst (v := -1) dX3_freeVan_42 (by decide) ?_
        refine V.istore_n (i := 3) dX3_freeVan_43 rfl (by decide) ?_
        simp only [List.set_cons_zero, List.set_cons_succ]
        refine V.iconst (v := 0) dX3_freeVan_44 (by decide) ?_
        refine V.istore (i := 4) dX3_freeVan_45 (by decide) ?_
        simp only [List.set_cons_zero, List.set_cons_succ]
        refine V.iconst (v := 0) dX3_freeVan_47 (by decide) ?_
        refine V.istore (i := 5) dX3_freeVan_48 (by decide) ?_
        simp only [List.set_cons_zero, List.set_cons_succ]
        obtain ⟨b37, hL36, hn⟩ := bnd hn
        have hJ38 : ∀ (v35 : Int32), v35 = b37 → V l g M_X3_freeVan 5 108 [none, none, none, some (.int v35), none, none, none] [] h14 (QM B h (some (.int z.1)) z.2) := by
          intro v35 e39
          subst e39
          (try dsimp only at hn)
          refine V.iload_n dX3_freeVan_108 rfl rfl ?_
          obtain rfl := Option.some.inj hn
          exact V.iret dX3_freeVan_109 rfl ⟨rfl, hM14⟩
        refine iter_ind (P := fun (σ : Int32 × Int32 × Int32) => match σ with | (i16, i17, i18) => V l g M_X3_freeVan 5 50 [some (.ref B.1), some (.int p1), some (.int p2), some (.int i16), some (.int i17), some (.int i18), none] [] h14 (QM B h (some (.int z.1)) z.2)) (b := b37) ?_ FUEL ((-1 : Int32), (0 : Int32), (0 : Int32)) hL36
        rintro ⟨i16, i17, i18⟩ ρ40 hr19 hi20 hx21
        unfold m_X3_freeVan_b50 at hr19
        (try dsimp only at hr19)
        refine V.iload dX3_freeVan_50 rfl ?_
        refine V.aload_n dX3_freeVan_52 rfl rfl IsR.ref ?_
        refine V.mgetA hM14 dX3_freeVan_53 fo_X3_33_0 ma_20 ?_
        refine V.bipush (v := 8) dX3_freeVan_56 (by decide) ?_
        obtain ⟨x23, e24, hr19⟩ := bnd hr19
        refine V.miald hM14 dX3_freeVan_58 ma_20 (mLd_some e24) ?_
        refine V.icmp_ge (tgt := 108) dX3_freeVan_59 (by decide) (fun hc34 => ?_) (fun hc34 => ?_)
        · rw [if_pos hc34] at hr19
          obtain rfl := Option.some.inj hr19
          have e41 := hx21 _ rfl
          exact V.forget (llN (llN (llN (llS (llN (llN (llN ll0))))))) (hJ38 _ e41)
        · rw [if_neg hc34] at hr19
          refine V.aload_n dX3_freeVan_62 rfl rfl IsR.ref ?_
          refine V.iload dX3_freeVan_63 rfl ?_
          refine V.iload_n dX3_freeVan_65 rfl rfl ?_
          refine V.iload_n dX3_freeVan_66 rfl rfl ?_
          obtain ⟨x25, e26, hr19⟩ := bnd hr19
          refine V.invV (as := [.int i18, .int p1, .int p2]) (b := B.1) (ci := 0) (w := true) (rc := rc0) dX3_freeVan_67 ok_X3_freeAt (lw_V q2763 q2765 qs132 q151 q2766) rfl hM14.1.1 rfl (by decide) (Nat.le_of_ble_eq_true rfl) (w_X3_freeAt hM14.1 (hT.mm hM hM14) e26) (krI ?_) kxZ
          refine V.istore (i := 6) dX3_freeVan_70 (by decide) ?_
          simp only [List.set_cons_zero, List.set_cons_succ]
          refine V.iload dX3_freeVan_72 rfl ?_
          refine V.iload dX3_freeVan_74 rfl ?_
          obtain ⟨v30, e33, hr19⟩ := bnd hr19
          have e33 := Option.some.inj e33
          have hJ32 : V l g M_X3_freeVan 5 85 [some (.ref B.1), some (.int p1), some (.int p2), none, some (.int i17), some (.int i18), some (.int x25)] [.int v30] h14 (QM B h (some (.int z.1)) z.2) := by
            refine V.istore_n (i := 3) dX3_freeVan_85 rfl (by decide) ?_
            simp only [List.set_cons_zero, List.set_cons_succ]
            refine V.iload dX3_freeVan_86 rfl ?_
            refine V.iload dX3_freeVan_88 rfl ?_
            refine V.icmp_le (tgt := 98) dX3_freeVan_90 (by decide) (fun hc31 => ?_) (fun hc31 => ?_)
            · rw [if_pos hc31] at hr19
              refine V.iload dX3_freeVan_98 rfl ?_
              refine V.istore (i := 4) dX3_freeVan_100 (by decide) ?_
              simp only [List.set_cons_zero, List.set_cons_succ]
              refine V.iinc (v := i18 + (1 : Int32)) (i := 5) dX3_freeVan_102 rfl (by rfl) (by decide) ?_
              simp only [List.set_cons_zero, List.set_cons_succ]
              refine V.goto (tgt := 50) dX3_freeVan_105 (by decide) ?_
              obtain rfl := Option.some.inj hr19
              have hi20P := hi20 _ rfl
              exact V.forget (llS (llS (llS (llS (llS (llS (llN ll0))))))) (hi20P)
            · rw [if_neg hc31] at hr19
              refine V.iload dX3_freeVan_93 rfl ?_
              refine V.goto (tgt := 100) dX3_freeVan_95 (by decide) ?_
              refine V.istore (i := 4) dX3_freeVan_100 (by decide) ?_
              simp only [List.set_cons_zero, List.set_cons_succ]
              refine V.iinc (v := i18 + (1 : Int32)) (i := 5) dX3_freeVan_102 rfl (by rfl) (by decide) ?_
              simp only [List.set_cons_zero, List.set_cons_succ]
              refine V.goto (tgt := 50) dX3_freeVan_105 (by decide) ?_
              obtain rfl := Option.some.inj hr19
              have hi20P := hi20 _ rfl
              exact V.forget (llS (llS (llS (llS (llS (llS (llN ll0))))))) (hi20P)
          refine V.icmp_le (tgt := 84) dX3_freeVan_76 (by decide) (fun hc29 => ?_) (fun hc29 => ?_)
          · skip
            refine V.iload_n dX3_freeVan_84 rfl rfl ?_
            rw [if_pos hc29] at e33
            subst e33
            exact V.forget (llS (llS (llS (llN (llS (llS (llS ll0))))))) (hJ32)
          · skip
            refine V.iload dX3_freeVan_79 rfl ?_
            refine V.goto (tgt := 85) dX3_freeVan_81 (by decide) ?_
            rw [if_neg hc29] at e33
            subst e33
            exact V.forget (llS (llS (llS (llN (llS (llS (llS ll0))))))) (hJ32)
      · rw [if_neg hc42] at hn
        refine V.iconst (v := 0) dX3_freeVan_40 (by decide) ?_
        obtain rfl := Option.some.inj hn
        exact V.iret dX3_freeVan_41 rfl ⟨rfl, hM14⟩
    refine V.if_eq (tgt := 28) dX3_freeVan_16 (by decide) (fun hc11 => ?_) (fun hc11 => ?_)
    · rw [if_pos hc11] at hA7
      refine V.iconst (v := 1) dX3_freeVan_28 (by decide) ?_
      refine V.goto (tgt := 33) dX3_freeVan_29 (by decide) ?_
      obtain rfl := Option.some.inj hA7
      exact hJ43
    · rw [if_neg hc11] at hA7
      refine V.iload_n dX3_freeVan_19 rfl rfl ?_
      refine V.iconst (v := 0) dX3_freeVan_20 (by decide) ?_
      refine V.iconst (v := 2) dX3_freeVan_21 (by decide) ?_
      obtain ⟨x8, e9, hA7⟩ := bnd hA7
      refine V.invS (as := [.int p2, .int (0 : Int32), .int (2 : Int32)]) dX3_freeVan_22 ok_X3_in (lw_S q2308 q2309 q151 q2310) (by decide) (Nat.le_of_ble_eq_true rfl) (w_X3_in e9) (krI ?_) kxZ
      refine V.if_ne (tgt := 32) dX3_freeVan_25 (by decide) (fun hc10 => ?_) (fun hc10 => ?_)
      · rw [if_neg hc10] at hA7
        refine V.iconst (v := 0) dX3_freeVan_32 (by decide) ?_
        obtain rfl := Option.some.inj hA7
        exact hJ43
      · rw [if_pos hc10] at hA7
        refine V.iconst (v := 1) dX3_freeVan_28 (by decide) ?_
        refine V.goto (tgt := 33) dX3_freeVan_29 (by decide) ?_
        obtain rfl := Option.some.inj hA7
        exact hJ43
def m_X3_writes (p1 : Int32) (μ : MS) : Option (MS) := (mSt μ 34 700 (μ.1 35) p1).bind fun μ2 => (some (mSF μ2 35 ((μ2.1 35) + (1 : Int32)))).bind fun μ4 => some μ4
abbrev M_X3_writes : MD := (yX3_writes, cX3_writes, 2, none, [])
theorem ok_X3_writes : mOK yX3_writes 2 1 := ⟨⟨by decide +kernel, by decide +kernel⟩, by decide +kernel, by decide⟩
theorem w_X3_writes {l : Launch} {g : GG} {h : AH} {B : BM} {μ : MS} {p1 : Int32} {z : MS} (hM : IsM B h μ) (hT : TX g h) (hn : m_X3_writes p1 μ = some z) : Sp l g M_X3_writes 0 [.ref B.1, .int p1] h (QM B h none z) := by
  refine Sp.ofV (L := [some (.ref B.1), some (.int p1)]) rfl rfl (hcR (hcI hc0)) (Nat.le_of_ble_eq_true rfl) rfl ?_
  have hM0 : MM B h h μ := ⟨hM, SameM.rf⟩
  unfold m_X3_writes at hn
  refine V.aload_n dX3_writes_0 rfl rfl IsR.ref ?_
  refine V.mgetA hM0 dX3_writes_1 fo_X3_45_0 ma_34 ?_
  refine V.aload_n dX3_writes_4 rfl rfl IsR.ref ?_
  refine V.mgetI hM0 dX3_writes_5 fo_X3_399_0 mi_35 ?_
  refine V.iload_n dX3_writes_8 rfl rfl ?_
  obtain ⟨μ2, e1, hn⟩ := bnd hn
  refine V.miast hM0 dX3_writes_9 ma_34 (mSt_some e1) (fun h2 hM2 => ?_)
  refine V.aload_n dX3_writes_10 rfl rfl IsR.ref ?_
  refine V.dup dX3_writes_11 rfl ?_
  refine V.mgetI hM2 dX3_writes_12 fo_X3_399_0 mi_35 ?_
  refine V.iconst (v := 1) dX3_writes_15 (by decide) ?_
  refine V.iadd dX3_writes_16 ?_
  obtain ⟨μ4, e3, hn⟩ := bnd hn
  refine V.mputI hM2 dX3_writes_17 po_M_399 mi_35 (fun h4 hM4 => ?_)
  rw [Option.some.inj e3] at hM4
  obtain rfl := Option.some.inj hn
  exact V.vret dX3_writes_20 rfl ⟨rfl, hM4⟩
def m_X3_writesNumber_b2 (p1 : Int32) : (Int32) → Option ((Int32) ⊕ (Int32)) := fun i1 => (nz i1).bind fun _ => if (p1 / i1) ≤ (9 : Int32) then (some (.inr i1)) else (some (.inl (i1 * (10 : Int32))))
def m_X3_writesNumber_b18 (p1 : Int32) : (Int32 × MS) → Option ((Int32 × MS) ⊕ (MS)) := fun s => match s with
  | (i12, μ13) => if i12 ≤ (0 : Int32) then (some (.inr μ13)) else ((nz i12).bind fun _ => (m_X3_writes ((48 : Int32) + ((p1 / i12) - (p1 / i12) / (10 : Int32) * (10 : Int32))) μ13).bind fun μ19 => some (.inl (i12 / (10 : Int32), μ19)))
def m_X3_writesNumber (p1 : Int32) (μ : MS) : Option (MS) := (iter (m_X3_writesNumber_b2 p1) FUEL (1 : Int32)).bind fun v8 => (iter (m_X3_writesNumber_b18 p1) FUEL (v8, μ)).bind fun μ22 => some μ22
abbrev M_X3_writesNumber : MD := (yX3_writesNumber, cX3_writesNumber, 3, none, [])
theorem ok_X3_writesNumber : mOK yX3_writesNumber 3 1 := ⟨⟨by decide +kernel, by decide +kernel⟩, by decide +kernel, by decide⟩
theorem w_X3_writesNumber {l : Launch} {g : GG} {h : AH} {B : BM} {μ : MS} {p1 : Int32} {z : MS} (hM : IsM B h μ) (hT : TX g h) (hn : m_X3_writesNumber p1 μ = some z) : Sp l g M_X3_writesNumber 1 [.ref B.1, .int p1] h (QM B h none z) := by
  refine Sp.ofV (L := [some (.ref B.1), some (.int p1), none]) rfl rfl (hcR (hcI hc0)) (Nat.le_of_ble_eq_true rfl) rfl ?_
  have hM0 : MM B h h μ := ⟨hM, SameM.rf⟩
  unfold m_X3_writesNumber at hn
  refine V.iconst (v := 1) dX3_writesNumber_0 (by decide) ?_
  refine V.istore_n (i := 2) dX3_writesNumber_1 rfl (by decide) ?_
  simp only [List.set_cons_zero, List.set_cons_succ]
  obtain ⟨b10, hL9, hn⟩ := bnd hn
  have hJ11 : ∀ (v8 : Int32), v8 = b10 → V l g M_X3_writesNumber 1 18 [some (.ref B.1), some (.int p1), some (.int v8)] [] h (QM B h none z) := by
    intro v8 e29
    subst e29
    (try dsimp only at hn)
    obtain ⟨b24, hL23, hn⟩ := bnd hn
    have hJ25 : ∀ (μ22 : MS), μ22 = b24 → ∀ h22, MM B h h22 μ22 → V l g M_X3_writesNumber 1 43 [none, none, none] [] h22 (QM B h none z) := by
      intro μ22 e26 h22 hM22
      subst e26
      (try dsimp only at hn)
      obtain rfl := Option.some.inj hn
      exact V.vret dX3_writesNumber_43 rfl ⟨rfl, hM22⟩
    refine iter_ind (P := fun (σ : Int32 × MS) => match σ with | (i12, μ13) => ∀ h13, MM B h h13 μ13 → V l g M_X3_writesNumber 1 18 [some (.ref B.1), some (.int p1), some (.int i12)] [] h13 (QM B h none z)) (b := b24) ?_ FUEL (v8, μ) hL23 _ hM0
    rintro ⟨i12, μ13⟩ ρ27 hr14 hi15 hx16 h13 hM13
    unfold m_X3_writesNumber_b18 at hr14
    (try dsimp only at hr14)
    refine V.iload_n dX3_writesNumber_18 rfl rfl ?_
    refine V.if_le (tgt := 43) dX3_writesNumber_19 (by decide) (fun hc21 => ?_) (fun hc21 => ?_)
    · rw [if_pos hc21] at hr14
      obtain rfl := Option.some.inj hr14
      have e28 := hx16 _ rfl
      exact V.forget (llN (llN (llN ll0))) (hJ25 _ e28 _ hM13)
    · rw [if_neg hc21] at hr14
      refine V.aload_n dX3_writesNumber_22 rfl rfl IsR.ref ?_
      refine V.bipush (v := 48) dX3_writesNumber_23 (by decide) ?_
      refine V.iload_n dX3_writesNumber_25 rfl rfl ?_
      refine V.iload_n dX3_writesNumber_26 rfl rfl ?_
      obtain ⟨_, e18, hr14⟩ := bnd hr14
      refine V.idiv dX3_writesNumber_27 (nz_some e18) ?_
      refine V.bipush (v := 10) dX3_writesNumber_28 (by decide) ?_
      refine V.irem dX3_writesNumber_30 (by decide) ?_
      refine V.iadd dX3_writesNumber_31 ?_
      obtain ⟨μ19, e20, hr14⟩ := bnd hr14
      refine V.invV (as := [.int ((48 : Int32) + ((p1 / i12) - (p1 / i12) / (10 : Int32) * (10 : Int32)))]) (b := B.1) (ci := 0) (w := true) (rc := rc0) dX3_writesNumber_32 ok_X3_writes (lw_V q2771 q2773 qs133 q151 q2774) rfl hM13.1.1 rfl (by decide) (Nat.le_of_ble_eq_true rfl) (w_X3_writes hM13.1 (hT.mm hM hM13) e20) (kmV hM13.2 (fun h19 hM19 => ?_)) kxM
      refine V.iload_n dX3_writesNumber_35 rfl rfl ?_
      refine V.bipush (v := 10) dX3_writesNumber_36 (by decide) ?_
      refine V.idiv dX3_writesNumber_38 (by decide) ?_
      refine V.istore_n (i := 2) dX3_writesNumber_39 rfl (by decide) ?_
      simp only [List.set_cons_zero, List.set_cons_succ]
      refine V.goto (tgt := 18) dX3_writesNumber_40 (by decide) ?_
      obtain rfl := Option.some.inj hr14
      have hi15P := hi15 _ rfl
      exact hi15P _ hM19
  refine iter_ind (P := fun (i1 : Int32) => V l g M_X3_writesNumber 1 2 [some (.ref B.1), some (.int p1), some (.int i1)] [] h (QM B h none z)) (b := b10) ?_ FUEL (1 : Int32) hL9
  rintro i1 ρ30 hr2 hi3 hx4
  unfold m_X3_writesNumber_b2 at hr2
  (try dsimp only at hr2)
  refine V.iload_n dX3_writesNumber_2 rfl rfl ?_
  refine V.iload_n dX3_writesNumber_3 rfl rfl ?_
  obtain ⟨_, e6, hr2⟩ := bnd hr2
  refine V.idiv dX3_writesNumber_4 (nz_some e6) ?_
  refine V.bipush (v := 9) dX3_writesNumber_5 (by decide) ?_
  refine V.icmp_le (tgt := 18) dX3_writesNumber_7 (by decide) (fun hc7 => ?_) (fun hc7 => ?_)
  · rw [if_pos hc7] at hr2
    obtain rfl := Option.some.inj hr2
    have e31 := hx4 _ rfl
    exact hJ11 _ e31
  · rw [if_neg hc7] at hr2
    refine V.iload_n dX3_writesNumber_10 rfl rfl ?_
    refine V.bipush (v := 10) dX3_writesNumber_11 (by decide) ?_
    refine V.imul dX3_writesNumber_13 ?_
    refine V.istore_n (i := 2) dX3_writesNumber_14 rfl (by decide) ?_
    simp only [List.set_cons_zero, List.set_cons_succ]
    refine V.goto (tgt := 2) dX3_writesNumber_15 (by decide) ?_
    obtain rfl := Option.some.inj hr2
    have hi3P := hi3 _ rfl
    exact hi3P
def m_X3_manifest_b17 (p1 : Int32) : (Int32 × MS) → Option ((Int32 × MS) ⊕ (MS)) := fun s => match s with
  | (i6, μ7) => (mLd μ7 2 835 ((6 : Int32) + p1)).bind fun x12 => if x12 ≤ i6 then (some (.inr μ7)) else ((if i6 ≤ (0 : Int32) then (some μ7) else ((m_X3_writes (59 : Int32) μ7).bind fun μ16 => some μ16) : Option (MS)).bind fun μ19 => (m_X3_isDrop p1 i6 μ19).bind fun x20 => (some (if x20 = (0 : Int32) then ((80 : Int32)) else ((68 : Int32)))).bind fun v25 => (m_X3_writes v25 μ19).bind fun μ26 => (m_X3_callOf p1 i6 μ26).bind fun x28 => (m_X3_writesNumber x28 μ26).bind fun μ30 => (m_X3_writes (64 : Int32) μ30).bind fun μ32 => (m_X3_begin p1 i6 μ32).bind fun x34 => (m_X3_writesNumber x34 μ32).bind fun μ36 => (m_X3_isFixed p1 i6 μ36).bind fun x38 => if x38 = (0 : Int32) then (some (.inl (i6 + (1 : Int32), μ36))) else ((m_X3_writes (42 : Int32) μ36).bind fun μ40 => some (.inl (i6 + (1 : Int32), μ40))))
def m_X3_manifest (p1 : Int32) (μ : MS) : Option (Int32 × MS) := (m_X3_noVan p1 μ).bind fun y1 => if y1.1 = (0 : Int32) then ((some (mSF y1.2 35 (0 : Int32))).bind fun μ5 => (iter (m_X3_manifest_b17 p1) FUEL ((0 : Int32), μ5)).bind fun μ47 => some (μ47.1 35, μ47)) else (some ((0 : Int32), y1.2))
abbrev M_X3_manifest : MD := (yX3_manifest, cX3_manifest, 3, (some .int), [])
theorem ok_X3_manifest : mOK yX3_manifest 3 1 := ⟨⟨by decide +kernel, by decide +kernel⟩, by decide +kernel, by decide⟩
theorem w_X3_manifest {l : Launch} {g : GG} {h : AH} {B : BM} {μ : MS} {p1 : Int32} {z : Int32 × MS} (hM : IsM B h μ) (hT : TX g h) (hn : m_X3_manifest p1 μ = some z) : Sp l g M_X3_manifest 4 [.ref B.1, .int p1] h (QM B h (some (.int z.1)) z.2) := by
  refine Sp.ofV (L := [some (.ref B.1), some (.int p1), none]) rfl rfl (hcR (hcI hc0)) (Nat.le_of_ble_eq_true rfl) rfl ?_
  have hM0 : MM B h h μ := ⟨hM, SameM.rf⟩
  unfold m_X3_manifest at hn
  refine V.aload_n dX3_manifest_0 rfl rfl IsR.ref ?_
  refine V.iload_n dX3_manifest_1 rfl rfl ?_
  obtain ⟨y1, e3, hn⟩ := bnd hn
  refine V.invV (as := [.int p1]) (b := B.1) (ci := 0) (w := true) (rc := rc0) dX3_manifest_2 ok_X3_noVan (lw_V q2560 q2562 qs115 q151 q2563) rfl hM0.1.1 rfl (by decide) (Nat.le_of_ble_eq_true rfl) (w_X3_noVan hM0.1 (hT.mm hM hM0) e3) (kmI hM0.2 (fun h2 hM2 => ?_)) kxM
  refine V.if_eq (tgt := 10) dX3_manifest_5 (by decide) (fun hc54 => ?_) (fun hc54 => ?_)
  · rw [if_pos hc54] at hn
    refine V.aload_n dX3_manifest_10 rfl rfl IsR.ref ?_
    refine V.iconst (v := 0) dX3_manifest_11 (by decide) ?_
    obtain ⟨μ5, e4, hn⟩ := bnd hn
    refine V.mputI hM2 dX3_manifest_12 po_M_399 mi_35 (fun h5 hM5 => ?_)
    rw [Option.some.inj e4] at hM5
    refine V.iconst (v := 0) dX3_manifest_15 (by decide) ?_
    refine V.istore_n (i := 2) dX3_manifest_16 rfl (by decide) ?_
    simp only [List.set_cons_zero, List.set_cons_succ]
    obtain ⟨b49, hL48, hn⟩ := bnd hn
    have hJ50 : ∀ (μ47 : MS), μ47 = b49 → ∀ h47, MM B h h47 μ47 → V l g M_X3_manifest 4 107 [some (.ref B.1), none, none] [] h47 (QM B h (some (.int z.1)) z.2) := by
      intro μ47 e51 h47 hM47
      subst e51
      (try dsimp only at hn)
      refine V.aload_n dX3_manifest_107 rfl rfl IsR.ref ?_
      refine V.mgetI hM47 dX3_manifest_108 fo_X3_399_0 mi_35 ?_
      obtain rfl := Option.some.inj hn
      exact V.iret dX3_manifest_111 rfl ⟨rfl, hM47⟩
    refine iter_ind (P := fun (σ : Int32 × MS) => match σ with | (i6, μ7) => ∀ h7, MM B h h7 μ7 → V l g M_X3_manifest 4 17 [some (.ref B.1), some (.int p1), some (.int i6)] [] h7 (QM B h (some (.int z.1)) z.2)) (b := b49) ?_ FUEL ((0 : Int32), μ5) hL48 _ hM5
    rintro ⟨i6, μ7⟩ ρ52 hr8 hi9 hx10 h7 hM7
    unfold m_X3_manifest_b17 at hr8
    (try dsimp only at hr8)
    refine V.iload_n dX3_manifest_17 rfl rfl ?_
    refine V.aload_n dX3_manifest_18 rfl rfl IsR.ref ?_
    refine V.mgetA hM7 dX3_manifest_19 fo_X3_7_0 ma_2 ?_
    refine V.bipush (v := 6) dX3_manifest_22 (by decide) ?_
    refine V.iload_n dX3_manifest_24 rfl rfl ?_
    refine V.iadd dX3_manifest_25 ?_
    obtain ⟨x12, e13, hr8⟩ := bnd hr8
    refine V.miald hM7 dX3_manifest_26 ma_2 (mLd_some e13) ?_
    refine V.icmp_ge (tgt := 107) dX3_manifest_27 (by decide) (fun hc46 => ?_) (fun hc46 => ?_)
    · rw [if_pos hc46] at hr8
      obtain rfl := Option.some.inj hr8
      have e53 := hx10 _ rfl
      exact V.forget (llS (llN (llN ll0))) (hJ50 _ e53 _ hM7)
    · rw [if_neg hc46] at hr8
      refine V.iload_n dX3_manifest_30 rfl rfl ?_
      obtain ⟨μ19, hA15, hr8⟩ := bnd hr8
      (try dsimp only at hr8)
      have hJ45 : ∀ h19, MM B h h19 μ19 → V l g M_X3_manifest 4 40 [some (.ref B.1), some (.int p1), some (.int i6)] [] h19 (QM B h (some (.int z.1)) z.2) := by
        intro h19 hM19
        refine V.aload_n dX3_manifest_40 rfl rfl IsR.ref ?_
        refine V.aload_n dX3_manifest_41 rfl rfl IsR.ref ?_
        refine V.iload_n dX3_manifest_42 rfl rfl ?_
        refine V.iload_n dX3_manifest_43 rfl rfl ?_
        obtain ⟨x20, e21, hr8⟩ := bnd hr8
        refine V.invV (as := [.int p1, .int i6]) (b := B.1) (ci := 0) (w := true) (rc := rc0) dX3_manifest_44 ok_X3_isDrop (lw_V q2452 q2454 qs93 q151 q2455) rfl hM19.1.1 rfl (by decide) (Nat.le_of_ble_eq_true rfl) (w_X3_isDrop hM19.1 (hT.mm hM hM19) e21) (krI ?_) kxZ
        obtain ⟨v25, e44, hr8⟩ := bnd hr8
        have e44 := Option.some.inj e44
        have hJ43 : V l g M_X3_manifest 4 57 [some (.ref B.1), some (.int p1), some (.int i6)] [.int v25, .ref B.1] h19 (QM B h (some (.int z.1)) z.2) := by
          obtain ⟨μ26, e27, hr8⟩ := bnd hr8
          refine V.invV (as := [.int v25]) (b := B.1) (ci := 0) (w := true) (rc := rc0) dX3_manifest_57 ok_X3_writes (lw_V q2771 q2773 qs133 q151 q2774) rfl hM19.1.1 rfl (by decide) (Nat.le_of_ble_eq_true rfl) (w_X3_writes hM19.1 (hT.mm hM hM19) e27) (kmV hM19.2 (fun h26 hM26 => ?_)) kxM
          refine V.aload_n dX3_manifest_60 rfl rfl IsR.ref ?_
          refine V.aload_n dX3_manifest_61 rfl rfl IsR.ref ?_
          refine V.iload_n dX3_manifest_62 rfl rfl ?_
          refine V.iload_n dX3_manifest_63 rfl rfl ?_
          obtain ⟨x28, e29, hr8⟩ := bnd hr8
          refine V.invV (as := [.int p1, .int i6]) (b := B.1) (ci := 0) (w := true) (rc := rc0) dX3_manifest_64 ok_X3_callOf (lw_V q2437 q2439 qs90 q151 q2440) rfl hM26.1.1 rfl (by decide) (Nat.le_of_ble_eq_true rfl) (w_X3_callOf hM26.1 (hT.mm hM hM26) e29) (krI ?_) kxZ
          obtain ⟨μ30, e31, hr8⟩ := bnd hr8
          refine V.invV (as := [.int x28]) (b := B.1) (ci := 0) (w := true) (rc := rc0) dX3_manifest_67 ok_X3_writesNumber (lw_V q2775 q2777 qs134 q151 q2778) rfl hM26.1.1 rfl (by decide) (Nat.le_of_ble_eq_true rfl) (w_X3_writesNumber hM26.1 (hT.mm hM hM26) e31) (kmV hM26.2 (fun h30 hM30 => ?_)) kxM
          refine V.aload_n dX3_manifest_70 rfl rfl IsR.ref ?_
          refine V.bipush (v := 64) dX3_manifest_71 (by decide) ?_
          obtain ⟨μ32, e33, hr8⟩ := bnd hr8
          refine V.invV (as := [.int (64 : Int32)]) (b := B.1) (ci := 0) (w := true) (rc := rc0) dX3_manifest_73 ok_X3_writes (lw_V q2771 q2773 qs133 q151 q2774) rfl hM30.1.1 rfl (by decide) (Nat.le_of_ble_eq_true rfl) (w_X3_writes hM30.1 (hT.mm hM hM30) e33) (kmV hM30.2 (fun h32 hM32 => ?_)) kxM
          refine V.aload_n dX3_manifest_76 rfl rfl IsR.ref ?_
          refine V.aload_n dX3_manifest_77 rfl rfl IsR.ref ?_
          refine V.iload_n dX3_manifest_78 rfl rfl ?_
          refine V.iload_n dX3_manifest_79 rfl rfl ?_
          obtain ⟨x34, e35, hr8⟩ := bnd hr8
          refine V.invV (as := [.int p1, .int i6]) (b := B.1) (ci := 0) (w := true) (rc := rc0) dX3_manifest_80 ok_X3_begin (lw_V q2464 q2466 qs96 q151 q2467) rfl hM32.1.1 rfl (by decide) (Nat.le_of_ble_eq_true rfl) (w_X3_begin hM32.1 (hT.mm hM hM32) e35) (krI ?_) kxZ
          obtain ⟨μ36, e37, hr8⟩ := bnd hr8
          refine V.invV (as := [.int x34]) (b := B.1) (ci := 0) (w := true) (rc := rc0) dX3_manifest_83 ok_X3_writesNumber (lw_V q2775 q2777 qs134 q151 q2778) rfl hM32.1.1 rfl (by decide) (Nat.le_of_ble_eq_true rfl) (w_X3_writesNumber hM32.1 (hT.mm hM hM32) e37) (kmV hM32.2 (fun h36 hM36 => ?_)) kxM
          refine V.aload_n dX3_manifest_86 rfl rfl IsR.ref ?_
          refine V.iload_n dX3_manifest_87 rfl rfl ?_
          refine V.iload_n dX3_manifest_88 rfl rfl ?_
          obtain ⟨x38, e39, hr8⟩ := bnd hr8
          refine V.invV (as := [.int p1, .int i6]) (b := B.1) (ci := 0) (w := true) (rc := rc0) dX3_manifest_89 ok_X3_isFixed (lw_V q2433 q2435 qs89 q151 q2436) rfl hM36.1.1 rfl (by decide) (Nat.le_of_ble_eq_true rfl) (w_X3_isFixed hM36.1 (hT.mm hM hM36) e39) (krI ?_) kxZ
          refine V.if_eq (tgt := 101) dX3_manifest_92 (by decide) (fun hc42 => ?_) (fun hc42 => ?_)
          · rw [if_pos hc42] at hr8
            refine V.iinc (v := i6 + (1 : Int32)) (i := 2) dX3_manifest_101 rfl (by rfl) (by decide) ?_
            simp only [List.set_cons_zero, List.set_cons_succ]
            refine V.goto (tgt := 17) dX3_manifest_104 (by decide) ?_
            obtain rfl := Option.some.inj hr8
            have hi9P := hi9 _ rfl
            exact hi9P _ hM36
          · rw [if_neg hc42] at hr8
            refine V.aload_n dX3_manifest_95 rfl rfl IsR.ref ?_
            refine V.bipush (v := 42) dX3_manifest_96 (by decide) ?_
            obtain ⟨μ40, e41, hr8⟩ := bnd hr8
            refine V.invV (as := [.int (42 : Int32)]) (b := B.1) (ci := 0) (w := true) (rc := rc0) dX3_manifest_98 ok_X3_writes (lw_V q2771 q2773 qs133 q151 q2774) rfl hM36.1.1 rfl (by decide) (Nat.le_of_ble_eq_true rfl) (w_X3_writes hM36.1 (hT.mm hM hM36) e41) (kmV hM36.2 (fun h40 hM40 => ?_)) kxM
            refine V.iinc (v := i6 + (1 : Int32)) (i := 2) dX3_manifest_101 rfl (by rfl) (by decide) ?_
            simp only [List.set_cons_zero, List.set_cons_succ]
            refine V.goto (tgt := 17) dX3_manifest_104 (by decide) ?_
            obtain rfl := Option.some.inj hr8
            have hi9P := hi9 _ rfl
            exact hi9P _ hM40
        refine V.if_eq (tgt := 55) dX3_manifest_47 (by decide) (fun hc24 => ?_) (fun hc24 => ?_)
        · skip
          refine V.bipush (v := 80) dX3_manifest_55 (by decide) ?_
          rw [if_pos hc24] at e44
          subst e44
          exact hJ43
        · skip
          refine V.bipush (v := 68) dX3_manifest_50 (by decide) ?_
          refine V.goto (tgt := 57) dX3_manifest_52 (by decide) ?_
          rw [if_neg hc24] at e44
          subst e44
          exact hJ43
      refine V.if_le (tgt := 40) dX3_manifest_31 (by decide) (fun hc18 => ?_) (fun hc18 => ?_)
      · rw [if_pos hc18] at hA15
        obtain rfl := Option.some.inj hA15
        exact hJ45 _ hM7
      · rw [if_neg hc18] at hA15
        refine V.aload_n dX3_manifest_34 rfl rfl IsR.ref ?_
        refine V.bipush (v := 59) dX3_manifest_35 (by decide) ?_
        obtain ⟨μ16, e17, hA15⟩ := bnd hA15
        refine V.invV (as := [.int (59 : Int32)]) (b := B.1) (ci := 0) (w := true) (rc := rc0) dX3_manifest_37 ok_X3_writes (lw_V q2771 q2773 qs133 q151 q2774) rfl hM7.1.1 rfl (by decide) (Nat.le_of_ble_eq_true rfl) (w_X3_writes hM7.1 (hT.mm hM hM7) e17) (kmV hM7.2 (fun h16 hM16 => ?_)) kxM
        obtain rfl := Option.some.inj hA15
        exact hJ45 _ hM16
  · rw [if_neg hc54] at hn
    refine V.iconst (v := 0) dX3_manifest_8 (by decide) ?_
    obtain rfl := Option.some.inj hn
    exact V.iret dX3_manifest_9 rfl ⟨rfl, hM2⟩
def m_X3_manifestByte (p1 : Int32) (μ : MS) : Option (Int32 × MS) := (some (mSF μ 0 (0 : Int32))).bind fun μ2 => (m_X3_in p1 (0 : Int32) ((μ2.1 35) - (1 : Int32))).bind fun x3 => (some (if x3 = (0 : Int32) then ((1 : Int32)) else ((0 : Int32)))).bind fun v8 => (m_X3_refuse v8 (1 : Int32) μ2).bind fun y9 => if y9.1 = (0 : Int32) then ((mLd y9.2 34 700 p1).bind fun x12 => some (x12, y9.2)) else (some ((0 : Int32), y9.2))
abbrev M_X3_manifestByte : MD := (yX3_manifestByte, cX3_manifestByte, 2, (some .int), [])
theorem ok_X3_manifestByte : mOK yX3_manifestByte 2 1 := ⟨⟨by decide +kernel, by decide +kernel⟩, by decide +kernel, by decide⟩
theorem w_X3_manifestByte {l : Launch} {g : GG} {h : AH} {B : BM} {μ : MS} {p1 : Int32} {z : Int32 × MS} (hM : IsM B h μ) (hT : TX g h) (hn : m_X3_manifestByte p1 μ = some z) : Sp l g M_X3_manifestByte 1 [.ref B.1, .int p1] h (QM B h (some (.int z.1)) z.2) := by
  refine Sp.ofV (L := [some (.ref B.1), some (.int p1)]) rfl rfl (hcR (hcI hc0)) (Nat.le_of_ble_eq_true rfl) rfl ?_
  have hM0 : MM B h h μ := ⟨hM, SameM.rf⟩
  unfold m_X3_manifestByte at hn
  refine V.aload_n dX3_manifestByte_0 rfl rfl IsR.ref ?_
  refine V.iconst (v := 0) dX3_manifestByte_1 (by decide) ?_
  obtain ⟨μ2, e1, hn⟩ := bnd hn
  refine V.mputI hM0 dX3_manifestByte_2 po_M_48 mi_0 (fun h2 hM2 => ?_)
  rw [Option.some.inj e1] at hM2
  refine V.aload_n dX3_manifestByte_5 rfl rfl IsR.ref ?_
  refine V.iload_n dX3_manifestByte_6 rfl rfl ?_
  refine V.iconst (v := 0) dX3_manifestByte_7 (by decide) ?_
  refine V.aload_n dX3_manifestByte_8 rfl rfl IsR.ref ?_
  refine V.mgetI hM2 dX3_manifestByte_9 fo_X3_399_0 mi_35 ?_
  refine V.iconst (v := 1) dX3_manifestByte_12 (by decide) ?_
  refine V.isub dX3_manifestByte_13 ?_
  obtain ⟨x3, e4, hn⟩ := bnd hn
  refine V.invS (as := [.int p1, .int (0 : Int32), .int ((μ2.1 35) - (1 : Int32))]) dX3_manifestByte_14 ok_X3_in (lw_S q2308 q2309 q151 q2310) (by decide) (Nat.le_of_ble_eq_true rfl) (w_X3_in e4) (krI ?_) kxZ
  obtain ⟨v8, e16, hn⟩ := bnd hn
  have e16 := Option.some.inj e16
  have hJ15 : V l g M_X3_manifestByte 1 25 [some (.ref B.1), some (.int p1)] [.int v8, .ref B.1] h2 (QM B h (some (.int z.1)) z.2) := by
    refine V.iconst (v := 1) dX3_manifestByte_25 (by decide) ?_
    obtain ⟨y9, e11, hn⟩ := bnd hn
    refine V.invV (as := [.int v8, .int (1 : Int32)]) (b := B.1) (ci := 0) (w := true) (rc := rc0) dX3_manifestByte_26 ok_X3_refuse (lw_V q2311 q2313 qs67 q151 q2314) rfl hM2.1.1 rfl (by decide) (Nat.le_of_ble_eq_true rfl) (w_X3_refuse hM2.1 (hT.mm hM hM2) e11) (kmI hM2.2 (fun h10 hM10 => ?_)) kxM
    refine V.if_eq (tgt := 36) dX3_manifestByte_29 (by decide) (fun hc14 => ?_) (fun hc14 => ?_)
    · rw [if_pos hc14] at hn
      refine V.aload_n dX3_manifestByte_36 rfl rfl IsR.ref ?_
      refine V.mgetA hM10 dX3_manifestByte_37 fo_X3_45_0 ma_34 ?_
      refine V.iload_n dX3_manifestByte_40 rfl rfl ?_
      obtain ⟨x12, e13, hn⟩ := bnd hn
      refine V.miald hM10 dX3_manifestByte_41 ma_34 (mLd_some e13) ?_
      obtain rfl := Option.some.inj hn
      exact V.iret dX3_manifestByte_42 rfl ⟨rfl, hM10⟩
    · rw [if_neg hc14] at hn
      refine V.iconst (v := 0) dX3_manifestByte_32 (by decide) ?_
      refine V.goto (tgt := 42) dX3_manifestByte_33 (by decide) ?_
      obtain rfl := Option.some.inj hn
      exact V.iret dX3_manifestByte_42 rfl ⟨rfl, hM10⟩
  refine V.if_ne (tgt := 24) dX3_manifestByte_17 (by decide) (fun hc7 => ?_) (fun hc7 => ?_)
  · skip
    refine V.iconst (v := 0) dX3_manifestByte_24 (by decide) ?_
    rw [if_neg hc7] at e16
    subst e16
    exact hJ15
  · skip
    refine V.iconst (v := 1) dX3_manifestByte_20 (by decide) ?_
    refine V.goto (tgt := 25) dX3_manifestByte_21 (by decide) ?_
    rw [if_pos hc7] at e16
    subst e16
    exact hJ15
def m_X3_isOpen (p1 : Int32) (p2 : Int32) (μ : MS) : Option (Int32) := (m_X3_placeOf p1 ((2 : Int32) * p2) μ).bind fun x1 => if x1 = (-1 : Int32) then (some (0 : Int32)) else ((m_X3_isFixed p1 x1 μ).bind fun x3 => if x3 = (0 : Int32) then (some (1 : Int32)) else (some (0 : Int32)))
abbrev M_X3_isOpen : MD := (yX3_isOpen, cX3_isOpen, 4, (some .boolean), [])
theorem ok_X3_isOpen : mOK yX3_isOpen 4 2 := ⟨⟨by decide +kernel, by decide +kernel⟩, by decide +kernel, by decide⟩
theorem w_X3_isOpen {l : Launch} {g : GG} {h : AH} {B : BM} {μ : MS} {p1 : Int32} {p2 : Int32} {z : Int32} (hM : IsM B h μ) (hT : TX g h) (hn : m_X3_isOpen p1 p2 μ = some z) : Sp l g M_X3_isOpen 4 [.ref B.1, .int p1, .int p2] h (QZ (some (.int z)) h) := by
  refine Sp.ofV (L := [some (.ref B.1), some (.int p1), some (.int p2), none]) rfl rfl (hcR (hcI (hcI hc0))) (Nat.le_of_ble_eq_true rfl) rfl ?_
  have hM0 : MM B h h μ := ⟨hM, SameM.rf⟩
  unfold m_X3_isOpen at hn
  refine V.aload_n dX3_isOpen_0 rfl rfl IsR.ref ?_
  refine V.iload_n dX3_isOpen_1 rfl rfl ?_
  refine V.iconst (v := 2) dX3_isOpen_2 (by decide) ?_
  refine V.iload_n dX3_isOpen_3 rfl rfl ?_
  refine V.imul dX3_isOpen_4 ?_
  obtain ⟨x1, e2, hn⟩ := bnd hn
  refine V.invV (as := [.int p1, .int ((2 : Int32) * p2)]) (b := B.1) (ci := 0) (w := true) (rc := rc0) dX3_isOpen_5 ok_X3_placeOf (lw_V q2619 q2621 qs119 q151 q2622) rfl hM0.1.1 rfl (by decide) (Nat.le_of_ble_eq_true rfl) (w_X3_placeOf hM0.1 (hT.mm hM hM0) e2) (krI ?_) kxZ
  refine V.istore_n (i := 3) dX3_isOpen_8 rfl (by decide) ?_
  simp only [List.set_cons_zero, List.set_cons_succ]
  refine V.iload_n dX3_isOpen_9 rfl rfl ?_
  refine V.iconst (v := -1) dX3_isOpen_10 (by decide) ?_
  refine V.icmp_eq (tgt := 27) dX3_isOpen_11 (by decide) (fun hc6 => ?_) (fun hc6 => ?_)
  · rw [if_pos hc6] at hn
    refine V.iconst (v := 0) dX3_isOpen_27 (by decide) ?_
    obtain rfl := Option.some.inj hn
    exact V.zret dX3_isOpen_28 rfl rfl ⟨rfl, rfl⟩
  · rw [if_neg hc6] at hn
    refine V.aload_n dX3_isOpen_14 rfl rfl IsR.ref ?_
    refine V.iload_n dX3_isOpen_15 rfl rfl ?_
    refine V.iload_n dX3_isOpen_16 rfl rfl ?_
    obtain ⟨x3, e4, hn⟩ := bnd hn
    refine V.invV (as := [.int p1, .int x1]) (b := B.1) (ci := 0) (w := true) (rc := rc0) dX3_isOpen_17 ok_X3_isFixed (lw_V q2433 q2435 qs89 q151 q2436) rfl hM0.1.1 rfl (by decide) (Nat.le_of_ble_eq_true rfl) (w_X3_isFixed hM0.1 (hT.mm hM hM0) e4) (krI ?_) kxZ
    refine V.if_ne (tgt := 27) dX3_isOpen_20 (by decide) (fun hc5 => ?_) (fun hc5 => ?_)
    · rw [if_neg hc5] at hn
      refine V.iconst (v := 0) dX3_isOpen_27 (by decide) ?_
      obtain rfl := Option.some.inj hn
      exact V.zret dX3_isOpen_28 rfl rfl ⟨rfl, rfl⟩
    · rw [if_pos hc5] at hn
      refine V.iconst (v := 1) dX3_isOpen_23 (by decide) ?_
      refine V.goto (tgt := 28) dX3_isOpen_24 (by decide) ?_
      obtain rfl := Option.some.inj hn
      exact V.zret dX3_isOpen_28 rfl rfl ⟨rfl, rfl⟩
def m_X3_isStuck (p1 : Int32) (μ : MS) : Option (Int32) := (m_X3_call p1 (6 : Int32) μ).bind fun x1 => if x1 = (1 : Int32) then ((m_X3_vanWith p1 μ).bind fun x3 => (m_X3_isOpen x3 p1 μ).bind fun x5 => if x5 = (0 : Int32) then (some (1 : Int32)) else (some (0 : Int32))) else (some (1 : Int32))
abbrev M_X3_isStuck : MD := (yX3_isStuck, cX3_isStuck, 2, (some .boolean), [])
theorem ok_X3_isStuck : mOK yX3_isStuck 2 1 := ⟨⟨by decide +kernel, by decide +kernel⟩, by decide +kernel, by decide⟩
theorem w_X3_isStuck {l : Launch} {g : GG} {h : AH} {B : BM} {μ : MS} {p1 : Int32} {z : Int32} (hM : IsM B h μ) (hT : TX g h) (hn : m_X3_isStuck p1 μ = some z) : Sp l g M_X3_isStuck 5 [.ref B.1, .int p1] h (QZ (some (.int z)) h) := by
  refine Sp.ofV (L := [some (.ref B.1), some (.int p1)]) rfl rfl (hcR (hcI hc0)) (Nat.le_of_ble_eq_true rfl) rfl ?_
  have hM0 : MM B h h μ := ⟨hM, SameM.rf⟩
  unfold m_X3_isStuck at hn
  refine V.aload_n dX3_isStuck_0 rfl rfl IsR.ref ?_
  refine V.iload_n dX3_isStuck_1 rfl rfl ?_
  refine V.bipush (v := 6) dX3_isStuck_2 (by decide) ?_
  obtain ⟨x1, e2, hn⟩ := bnd hn
  refine V.invV (as := [.int p1, .int (6 : Int32)]) (b := B.1) (ci := 0) (w := true) (rc := rc0) dX3_isStuck_4 ok_X3_call (lw_V q2448 q2450 qs92 q151 q2451) rfl hM0.1.1 rfl (by decide) (Nat.le_of_ble_eq_true rfl) (w_X3_call hM0.1 (hT.mm hM hM0) e2) (krI ?_) kxZ
  refine V.iconst (v := 1) dX3_isStuck_7 (by decide) ?_
  refine V.icmp_ne (tgt := 24) dX3_isStuck_8 (by decide) (fun hc8 => ?_) (fun hc8 => ?_)
  · rw [if_neg hc8] at hn
    refine V.iconst (v := 1) dX3_isStuck_24 (by decide) ?_
    refine V.goto (tgt := 29) dX3_isStuck_25 (by decide) ?_
    obtain rfl := Option.some.inj hn
    exact V.zret dX3_isStuck_29 rfl rfl ⟨rfl, rfl⟩
  · rw [if_pos hc8] at hn
    refine V.aload_n dX3_isStuck_11 rfl rfl IsR.ref ?_
    refine V.aload_n dX3_isStuck_12 rfl rfl IsR.ref ?_
    refine V.iload_n dX3_isStuck_13 rfl rfl ?_
    obtain ⟨x3, e4, hn⟩ := bnd hn
    refine V.invV (as := [.int p1]) (b := B.1) (ci := 0) (w := true) (rc := rc0) dX3_isStuck_14 ok_X3_vanWith (lw_V q2659 q2661 qs124 q151 q2662) rfl hM0.1.1 rfl (by decide) (Nat.le_of_ble_eq_true rfl) (w_X3_vanWith hM0.1 (hT.mm hM hM0) e4) (krI ?_) kxZ
    refine V.iload_n dX3_isStuck_17 rfl rfl ?_
    obtain ⟨x5, e6, hn⟩ := bnd hn
    refine V.invV (as := [.int x3, .int p1]) (b := B.1) (ci := 0) (w := true) (rc := rc0) dX3_isStuck_18 ok_X3_isOpen (lw_V q2791 q2793 qs136 q151 q2794) rfl hM0.1.1 rfl (by decide) (Nat.le_of_ble_eq_true rfl) (w_X3_isOpen hM0.1 (hT.mm hM hM0) e6) (krI ?_) kxZ
    refine V.if_ne (tgt := 28) dX3_isStuck_21 (by decide) (fun hc7 => ?_) (fun hc7 => ?_)
    · rw [if_neg hc7] at hn
      refine V.iconst (v := 0) dX3_isStuck_28 (by decide) ?_
      obtain rfl := Option.some.inj hn
      exact V.zret dX3_isStuck_29 rfl rfl ⟨rfl, rfl⟩
    · rw [if_pos hc7] at hn
      refine V.iconst (v := 1) dX3_isStuck_24 (by decide) ?_
      refine V.goto (tgt := 29) dX3_isStuck_25 (by decide) ?_
      obtain rfl := Option.some.inj hn
      exact V.zret dX3_isStuck_29 rfl rfl ⟨rfl, rfl⟩
def m_X3_takesOut_b47 (p1 : Int32) (i3 : Int32) (i4 : Int32) (v17 : Int32) : (Int32 × MS) → Option ((Int32 × MS) ⊕ (MS)) := fun s => match s with
  | (i18, μ19) => if (3 : Int32) ≤ i18 then (some (.inr μ19)) else (if v17 = (0 : Int32) then ((m_X3_cell p1 i3 i18).bind fun x24 => (m_X3_cell p1 i4 i18).bind fun x26 => (mLd μ19 2 835 x26).bind fun x28 => (mSt μ19 2 835 x24 x28).bind fun μ31 => some (.inl (i18 + (1 : Int32), μ31))) else (some (.inr μ19)))
def m_X3_takesOut_b12 (p1 : Int32) (p2 : Int32) : (Int32 × Int32 × MS) → Option ((Int32 × Int32 × MS) ⊕ (Int32 × MS)) := fun s => match s with
  | (i3, i4, μ5) => (mLd μ5 2 835 ((6 : Int32) + p1)).bind fun x10 => if x10 ≤ i4 then (some (.inr (i3, μ5))) else ((m_X3_callOf p1 i4 μ5).bind fun x12 => (some (if x12 = p2 then ((1 : Int32)) else ((0 : Int32)))).bind fun v17 => (iter (m_X3_takesOut_b47 p1 i3 i4 v17) FUEL ((0 : Int32), μ5)).bind fun μ34 => if v17 = (0 : Int32) then (some (.inl (i3 + (1 : Int32), i4 + (1 : Int32), μ34))) else (some (.inl (i3 + (0 : Int32), i4 + (1 : Int32), μ34))))
def m_X3_takesOut (p1 : Int32) (p2 : Int32) (μ : MS) : Option (MS) := (m_X3_fixed p1 μ).bind fun x1 => (iter (m_X3_takesOut_b12 p1 p2) FUEL ((0 : Int32), (0 : Int32), μ)).bind fun y => match y with | (v46, μ47) => (mSt μ47 2 835 ((6 : Int32) + p1) v46).bind fun μ52 => (m_X3_reckons p1 x1 μ52).bind fun μ53 => some μ53
abbrev M_X3_takesOut : MD := (yX3_takesOut, cX3_takesOut, 8, none, [])
theorem ok_X3_takesOut : mOK yX3_takesOut 8 2 := ⟨⟨by decide +kernel, by decide +kernel⟩, by decide +kernel, by decide⟩
theorem w_X3_takesOut {l : Launch} {g : GG} {h : AH} {B : BM} {μ : MS} {p1 : Int32} {p2 : Int32} {z : MS} (hM : IsM B h μ) (hT : TX g h) (hn : m_X3_takesOut p1 p2 μ = some z) : Sp l g M_X3_takesOut 6 [.ref B.1, .int p1, .int p2] h (QM B h none z) := by
  refine Sp.ofV (L := [some (.ref B.1), some (.int p1), some (.int p2), none, none, none, none, none]) rfl rfl (hcR (hcI (hcI hc0))) (Nat.le_of_ble_eq_true rfl) rfl ?_
  have hM0 : MM B h h μ := ⟨hM, SameM.rf⟩
  unfold m_X3_takesOut at hn
  refine V.aload_n dX3_takesOut_0 rfl rfl IsR.ref ?_
  refine V.iload_n dX3_takesOut_1 rfl rfl ?_
  obtain ⟨x1, e2, hn⟩ := bnd hn
  refine V.invV (as := [.int p1]) (b := B.1) (ci := 0) (w := true) (rc := rc0) dX3_takesOut_2 ok_X3_fixed (lw_V q2429 q2431 qs88 q151 q2432) rfl hM0.1.1 rfl (by decide) (Nat.le_of_ble_eq_true rfl) (w_X3_fixed hM0.1 (hT.mm hM hM0) e2) (krI ?_) kxZ
  refine V.istore_n (i := 3) dX3_takesOut_5 rfl (by decide) ?_
  simp only [List.set_cons_zero, List.set_cons_succ]
  refine V.iconst (v := 0) dX3_takesOut_6 (by decide) ?_
  refine V.istore (i := 4) dX3_takesOut_7 (by decide) ?_
  simp only [List.set_cons_zero, List.set_cons_succ]
  refine V.iconst (v := 0) dX3_takesOut_9 (by decide) ?_
  refine V.istore (i := 5) dX3_takesOut_10 (by decide) ?_
  simp only [List.set_cons_zero, List.set_cons_succ]
  obtain ⟨b49, hL48, hn⟩ := bnd hn
  have hJ50 : ∀ (v46 : Int32) (μ47 : MS), (v46, μ47) = b49 → ∀ h47, MM B h h47 μ47 → V l g M_X3_takesOut 6 111 [some (.ref B.1), some (.int p1), none, some (.int x1), some (.int v46), none, none, none] [] h47 (QM B h none z) := by
    intro v46 μ47 e55 h47 hM47
    subst e55
    (try dsimp only at hn)
    refine V.aload_n dX3_takesOut_111 rfl rfl IsR.ref ?_
    refine V.mgetA hM47 dX3_takesOut_112 fo_X3_7_0 ma_2 ?_
    refine V.bipush (v := 6) dX3_takesOut_115 (by decide) ?_
    refine V.iload_n dX3_takesOut_117 rfl rfl ?_
    refine V.iadd dX3_takesOut_118 ?_
    refine V.iload dX3_takesOut_119 rfl ?_
    obtain ⟨μ52, e51, hn⟩ := bnd hn
    refine V.miast hM47 dX3_takesOut_121 ma_2 (mSt_some e51) (fun h52 hM52 => ?_)
    refine V.aload_n dX3_takesOut_122 rfl rfl IsR.ref ?_
    refine V.iload_n dX3_takesOut_123 rfl rfl ?_
    refine V.iload_n dX3_takesOut_124 rfl rfl ?_
    obtain ⟨μ53, e54, hn⟩ := bnd hn
    refine V.invV (as := [.int p1, .int x1]) (b := B.1) (ci := 0) (w := true) (rc := rc0) dX3_takesOut_125 ok_X3_reckons (lw_V q2528 q2530 qs112 q151 q2531) rfl hM52.1.1 rfl (by decide) (Nat.le_of_ble_eq_true rfl) (w_X3_reckons hM52.1 (hT.mm hM hM52) e54) (kmV hM52.2 (fun h53 hM53 => ?_)) kxM
    obtain rfl := Option.some.inj hn
    exact V.vret dX3_takesOut_128 rfl ⟨rfl, hM53⟩
  refine iter_ind (P := fun (σ : Int32 × Int32 × MS) => match σ with | (i3, i4, μ5) => ∀ h5, MM B h h5 μ5 → V l g M_X3_takesOut 6 12 [some (.ref B.1), some (.int p1), some (.int p2), some (.int x1), some (.int i3), some (.int i4), none, none] [] h5 (QM B h none z)) (b := b49) ?_ FUEL ((0 : Int32), (0 : Int32), μ) hL48 _ hM0
  rintro ⟨i3, i4, μ5⟩ ρ56 hr6 hi7 hx8 h5 hM5
  unfold m_X3_takesOut_b12 at hr6
  (try dsimp only at hr6)
  refine V.iload dX3_takesOut_12 rfl ?_
  refine V.aload_n dX3_takesOut_14 rfl rfl IsR.ref ?_
  refine V.mgetA hM5 dX3_takesOut_15 fo_X3_7_0 ma_2 ?_
  refine V.bipush (v := 6) dX3_takesOut_18 (by decide) ?_
  refine V.iload_n dX3_takesOut_20 rfl rfl ?_
  refine V.iadd dX3_takesOut_21 ?_
  obtain ⟨x10, e11, hr6⟩ := bnd hr6
  refine V.miald hM5 dX3_takesOut_22 ma_2 (mLd_some e11) ?_
  refine V.icmp_ge (tgt := 111) dX3_takesOut_23 (by decide) (fun hc45 => ?_) (fun hc45 => ?_)
  · rw [if_pos hc45] at hr6
    obtain rfl := Option.some.inj hr6
    have e57 := hx8 _ rfl
    exact V.forget (llS (llS (llN (llS (llS (llN (llN (llN ll0)))))))) (hJ50 _ _ e57 _ hM5)
  · rw [if_neg hc45] at hr6
    refine V.aload_n dX3_takesOut_26 rfl rfl IsR.ref ?_
    refine V.iload_n dX3_takesOut_27 rfl rfl ?_
    refine V.iload dX3_takesOut_28 rfl ?_
    obtain ⟨x12, e13, hr6⟩ := bnd hr6
    refine V.invV (as := [.int p1, .int i4]) (b := B.1) (ci := 0) (w := true) (rc := rc0) dX3_takesOut_30 ok_X3_callOf (lw_V q2437 q2439 qs90 q151 q2440) rfl hM5.1.1 rfl (by decide) (Nat.le_of_ble_eq_true rfl) (w_X3_callOf hM5.1 (hT.mm hM hM5) e13) (krI ?_) kxZ
    refine V.iload_n dX3_takesOut_33 rfl rfl ?_
    obtain ⟨v17, e44, hr6⟩ := bnd hr6
    have e44 := Option.some.inj e44
    have hJ43 : V l g M_X3_takesOut 6 42 [some (.ref B.1), some (.int p1), some (.int p2), some (.int x1), some (.int i3), some (.int i4), none, none] [.int v17] h5 (QM B h none z) := by
      refine V.istore (i := 6) dX3_takesOut_42 (by decide) ?_
      simp only [List.set_cons_zero, List.set_cons_succ]
      refine V.iconst (v := 0) dX3_takesOut_44 (by decide) ?_
      refine V.istore (i := 7) dX3_takesOut_45 (by decide) ?_
      simp only [List.set_cons_zero, List.set_cons_succ]
      obtain ⟨b36, hL35, hr6⟩ := bnd hr6
      have hJ37 : ∀ (μ34 : MS), μ34 = b36 → ∀ h34, MM B h h34 μ34 → V l g M_X3_takesOut 6 90 [some (.ref B.1), some (.int p1), some (.int p2), some (.int x1), some (.int i3), some (.int i4), some (.int v17), none] [] h34 (QM B h none z) := by
        intro μ34 e39 h34 hM34
        subst e39
        (try dsimp only at hr6)
        refine V.iload dX3_takesOut_90 rfl ?_
        refine V.iload dX3_takesOut_92 rfl ?_
        refine V.if_eq (tgt := 101) dX3_takesOut_94 (by decide) (fun hc38 => ?_) (fun hc38 => ?_)
        · rw [if_pos hc38] at hr6
          refine V.iconst (v := 1) dX3_takesOut_101 (by decide) ?_
          refine V.iadd dX3_takesOut_102 ?_
          refine V.istore (i := 4) dX3_takesOut_103 (by decide) ?_
          simp only [List.set_cons_zero, List.set_cons_succ]
          refine V.iinc (v := i4 + (1 : Int32)) (i := 5) dX3_takesOut_105 rfl (by rfl) (by decide) ?_
          simp only [List.set_cons_zero, List.set_cons_succ]
          refine V.goto (tgt := 12) dX3_takesOut_108 (by decide) ?_
          obtain rfl := Option.some.inj hr6
          have hi7P := hi7 _ rfl
          exact V.forget (llS (llS (llS (llS (llS (llS (llN (llN ll0)))))))) (hi7P _ hM34)
        · rw [if_neg hc38] at hr6
          refine V.iconst (v := 0) dX3_takesOut_97 (by decide) ?_
          refine V.goto (tgt := 102) dX3_takesOut_98 (by decide) ?_
          refine V.iadd dX3_takesOut_102 ?_
          refine V.istore (i := 4) dX3_takesOut_103 (by decide) ?_
          simp only [List.set_cons_zero, List.set_cons_succ]
          refine V.iinc (v := i4 + (1 : Int32)) (i := 5) dX3_takesOut_105 rfl (by rfl) (by decide) ?_
          simp only [List.set_cons_zero, List.set_cons_succ]
          refine V.goto (tgt := 12) dX3_takesOut_108 (by decide) ?_
          obtain rfl := Option.some.inj hr6
          have hi7P := hi7 _ rfl
          exact V.forget (llS (llS (llS (llS (llS (llS (llN (llN ll0)))))))) (hi7P _ hM34)
      refine iter_ind (P := fun (σ : Int32 × MS) => match σ with | (i18, μ19) => ∀ h19, MM B h h19 μ19 → V l g M_X3_takesOut 6 47 [some (.ref B.1), some (.int p1), some (.int p2), some (.int x1), some (.int i3), some (.int i4), some (.int v17), some (.int i18)] [] h19 (QM B h none z)) (b := b36) ?_ FUEL ((0 : Int32), μ5) hL35 _ hM5
      rintro ⟨i18, μ19⟩ ρ40 hr20 hi21 hx22 h19 hM19
      unfold m_X3_takesOut_b47 at hr20
      (try dsimp only at hr20)
      refine V.iload dX3_takesOut_47 rfl ?_
      refine V.iconst (v := 3) dX3_takesOut_49 (by decide) ?_
      refine V.icmp_ge (tgt := 90) dX3_takesOut_50 (by decide) (fun hc33 => ?_) (fun hc33 => ?_)
      · rw [if_pos hc33] at hr20
        obtain rfl := Option.some.inj hr20
        have e41 := hx22 _ rfl
        exact V.forget (llS (llS (llS (llS (llS (llS (llS (llN ll0)))))))) (hJ37 _ e41 _ hM19)
      · rw [if_neg hc33] at hr20
        refine V.iload dX3_takesOut_53 rfl ?_
        refine V.if_ne (tgt := 90) dX3_takesOut_55 (by decide) (fun hc32 => ?_) (fun hc32 => ?_)
        · rw [if_neg hc32] at hr20
          obtain rfl := Option.some.inj hr20
          have e42 := hx22 _ rfl
          exact V.forget (llS (llS (llS (llS (llS (llS (llS (llN ll0)))))))) (hJ37 _ e42 _ hM19)
        · rw [if_pos hc32] at hr20
          refine V.aload_n dX3_takesOut_58 rfl rfl IsR.ref ?_
          refine V.mgetA hM19 dX3_takesOut_59 fo_X3_7_0 ma_2 ?_
          refine V.iload_n dX3_takesOut_62 rfl rfl ?_
          refine V.iload dX3_takesOut_63 rfl ?_
          refine V.iload dX3_takesOut_65 rfl ?_
          obtain ⟨x24, e25, hr20⟩ := bnd hr20
          refine V.invS (as := [.int p1, .int i3, .int i18]) dX3_takesOut_67 ok_X3_cell (lw_S q2445 q2446 q151 q2447) (by decide) (Nat.le_of_ble_eq_true rfl) (w_X3_cell e25) (krI ?_) kxZ
          refine V.aload_n dX3_takesOut_70 rfl rfl IsR.ref ?_
          refine V.mgetA hM19 dX3_takesOut_71 fo_X3_7_0 ma_2 ?_
          refine V.iload_n dX3_takesOut_74 rfl rfl ?_
          refine V.iload dX3_takesOut_75 rfl ?_
          refine V.iload dX3_takesOut_77 rfl ?_
          obtain ⟨x26, e27, hr20⟩ := bnd hr20
          refine V.invS (as := [.int p1, .int i4, .int i18]) dX3_takesOut_79 ok_X3_cell (lw_S q2445 q2446 q151 q2447) (by decide) (Nat.le_of_ble_eq_true rfl) (w_X3_cell e27) (krI ?_) kxZ
          obtain ⟨x28, e29, hr20⟩ := bnd hr20
          refine V.miald hM19 dX3_takesOut_82 ma_2 (mLd_some e29) ?_
          obtain ⟨μ31, e30, hr20⟩ := bnd hr20
          refine V.miast hM19 dX3_takesOut_83 ma_2 (mSt_some e30) (fun h31 hM31 => ?_)
          refine V.iinc (v := i18 + (1 : Int32)) (i := 7) dX3_takesOut_84 rfl (by rfl) (by decide) ?_
          simp only [List.set_cons_zero, List.set_cons_succ]
          refine V.goto (tgt := 47) dX3_takesOut_87 (by decide) ?_
          obtain rfl := Option.some.inj hr20
          have hi21P := hi21 _ rfl
          exact hi21P _ hM31
    refine V.icmp_ne (tgt := 41) dX3_takesOut_34 (by decide) (fun hc16 => ?_) (fun hc16 => ?_)
    · skip
      refine V.iconst (v := 0) dX3_takesOut_41 (by decide) ?_
      rw [if_neg hc16] at e44
      subst e44
      exact hJ43
    · skip
      refine V.iconst (v := 1) dX3_takesOut_37 (by decide) ?_
      refine V.goto (tgt := 42) dX3_takesOut_38 (by decide) ?_
      rw [if_pos hc16] at e44
      subst e44
      exact hJ43
def m_X3_isPossible_b2 (p1 : Int32) (μ : MS) : (Int32) → Option ((Int32) ⊕ ((Unit) ⊕ (Int32))) := fun i1 => (mLd μ 2 835 ((6 : Int32) + p1)).bind fun x6 => if x6 ≤ i1 then (some (.inr (.inl ()))) else ((m_X3_callOf p1 i1 μ).bind fun x8 => (m_X3_isDrop p1 i1 μ).bind fun x10 => if x10 = (0 : Int32) then ((m_X3_begin p1 i1 μ).bind fun x12 => (m_X3_call x8 (5 : Int32) μ).bind fun x14 => (mLd μ 20 184 (0 : Int32)).bind fun x16 => if x12 ≤ (x14 + x16) then ((m_X3_taken p1 i1 (0 : Int32) μ).bind fun x18 => (m_X3_van p1 (2 : Int32) μ).bind fun x20 => if x20 < x18 then (some (.inr (.inr (0 : Int32)))) else ((m_X3_taken p1 i1 (1 : Int32) μ).bind fun x23 => (m_X3_van p1 (3 : Int32) μ).bind fun x25 => if x23 ≤ x25 then (some (.inl (i1 + (1 : Int32)))) else (some (.inr (.inr (0 : Int32)))))) else (some (.inr (.inr (0 : Int32))))) else ((m_X3_ride p1 x8 μ).bind fun x32 => (m_X3_limit x8 μ).bind fun x34 => if x32 ≤ x34 then ((m_X3_taken p1 i1 (0 : Int32) μ).bind fun x36 => (m_X3_van p1 (2 : Int32) μ).bind fun x38 => if x38 < x36 then (some (.inr (.inr (0 : Int32)))) else ((m_X3_taken p1 i1 (1 : Int32) μ).bind fun x41 => (m_X3_van p1 (3 : Int32) μ).bind fun x43 => if x41 ≤ x43 then (some (.inl (i1 + (1 : Int32)))) else (some (.inr (.inr (0 : Int32)))))) else (some (.inr (.inr (0 : Int32))))))
def m_X3_isPossible (p1 : Int32) (p2 : Int32) (μ : MS) : Option (Int32) := (iter (m_X3_isPossible_b2 p1 μ) FUEL p2).bind fun y => match y with | .inr e => some e | .inl _u => (mLd μ 2 835 ((6 : Int32) + p1)).bind fun x55 => if x55 = (0 : Int32) then (some (1 : Int32)) else ((m_X3_end p1 μ).bind fun x57 => (mLd μ 2 835 ((2 : Int32) + p1)).bind fun x59 => if x59 < x57 then (some (0 : Int32)) else (some (1 : Int32)))
abbrev M_X3_isPossible : MD := (yX3_isPossible, cX3_isPossible, 5, (some .boolean), [])
theorem ok_X3_isPossible : mOK yX3_isPossible 5 2 := ⟨⟨by decide +kernel, by decide +kernel⟩, by decide +kernel, by decide⟩
theorem w_X3_isPossible {l : Launch} {g : GG} {h : AH} {B : BM} {μ : MS} {p1 : Int32} {p2 : Int32} {z : Int32} (hM : IsM B h μ) (hT : TX g h) (hn : m_X3_isPossible p1 p2 μ = some z) : Sp l g M_X3_isPossible 6 [.ref B.1, .int p1, .int p2] h (QZ (some (.int z)) h) := by
  refine Sp.ofV (L := [some (.ref B.1), some (.int p1), some (.int p2), none, none]) rfl rfl (hcR (hcI (hcI hc0))) (Nat.le_of_ble_eq_true rfl) rfl ?_
  have hM0 : MM B h h μ := ⟨hM, SameM.rf⟩
  unfold m_X3_isPossible at hn
  refine V.iload_n dX3_isPossible_0 rfl rfl ?_
  refine V.istore_n (i := 3) dX3_isPossible_1 rfl (by decide) ?_
  simp only [List.set_cons_zero, List.set_cons_succ]
  obtain ⟨b53, hL52, hn⟩ := bnd hn
  have hJ54 : ∀ (_u : Unit), .inl _u = b53 → V l g M_X3_isPossible 6 116 [some (.ref B.1), some (.int p1), none, none, none] [] h (QZ (some (.int z)) h) := by
    intro _u e63
    subst e63
    (try dsimp only at hn)
    refine V.aload_n dX3_isPossible_116 rfl rfl IsR.ref ?_
    refine V.mgetA hM0 dX3_isPossible_117 fo_X3_7_0 ma_2 ?_
    refine V.bipush (v := 6) dX3_isPossible_120 (by decide) ?_
    refine V.iload_n dX3_isPossible_122 rfl rfl ?_
    refine V.iadd dX3_isPossible_123 ?_
    obtain ⟨x55, e56, hn⟩ := bnd hn
    refine V.miald hM0 dX3_isPossible_124 ma_2 (mLd_some e56) ?_
    refine V.if_eq (tgt := 144) dX3_isPossible_125 (by decide) (fun hc62 => ?_) (fun hc62 => ?_)
    · rw [if_pos hc62] at hn
      refine V.iconst (v := 1) dX3_isPossible_144 (by decide) ?_
      refine V.goto (tgt := 149) dX3_isPossible_145 (by decide) ?_
      obtain rfl := Option.some.inj hn
      exact V.zret dX3_isPossible_149 rfl rfl ⟨rfl, rfl⟩
    · rw [if_neg hc62] at hn
      refine V.aload_n dX3_isPossible_128 rfl rfl IsR.ref ?_
      refine V.iload_n dX3_isPossible_129 rfl rfl ?_
      obtain ⟨x57, e58, hn⟩ := bnd hn
      refine V.invV (as := [.int p1]) (b := B.1) (ci := 0) (w := true) (rc := rc0) dX3_isPossible_130 ok_X3_end (lw_V q2627 q2629 qs120 q151 q2630) rfl hM0.1.1 rfl (by decide) (Nat.le_of_ble_eq_true rfl) (w_X3_end hM0.1 (hT.mm hM hM0) e58) (krI ?_) kxZ
      refine V.aload_n dX3_isPossible_133 rfl rfl IsR.ref ?_
      refine V.mgetA hM0 dX3_isPossible_134 fo_X3_7_0 ma_2 ?_
      refine V.iconst (v := 2) dX3_isPossible_137 (by decide) ?_
      refine V.iload_n dX3_isPossible_138 rfl rfl ?_
      refine V.iadd dX3_isPossible_139 ?_
      obtain ⟨x59, e60, hn⟩ := bnd hn
      refine V.miald hM0 dX3_isPossible_140 ma_2 (mLd_some e60) ?_
      refine V.icmp_gt (tgt := 148) dX3_isPossible_141 (by decide) (fun hc61 => ?_) (fun hc61 => ?_)
      · rw [if_pos hc61] at hn
        refine V.iconst (v := 0) dX3_isPossible_148 (by decide) ?_
        obtain rfl := Option.some.inj hn
        exact V.zret dX3_isPossible_149 rfl rfl ⟨rfl, rfl⟩
      · rw [if_neg hc61] at hn
        refine V.iconst (v := 1) dX3_isPossible_144 (by decide) ?_
        refine V.goto (tgt := 149) dX3_isPossible_145 (by decide) ?_
        obtain rfl := Option.some.inj hn
        exact V.zret dX3_isPossible_149 rfl rfl ⟨rfl, rfl⟩
  refine V.forget (llS (llS (llN (llS (llN ll0))))) (iter_ind (P := fun (i1 : Int32) => V l g M_X3_isPossible 6 2 [some (.ref B.1), some (.int p1), none, some (.int i1), none] [] h (QZ (some (.int z)) h)) (b := b53) ?_ FUEL p2 hL52)
  rintro i1 ρ64 hr2 hi3 hx4
  unfold m_X3_isPossible_b2 at hr2
  (try dsimp only at hr2)
  refine V.iload_n dX3_isPossible_2 rfl rfl ?_
  refine V.aload_n dX3_isPossible_3 rfl rfl IsR.ref ?_
  refine V.mgetA hM0 dX3_isPossible_4 fo_X3_7_0 ma_2 ?_
  refine V.bipush (v := 6) dX3_isPossible_7 (by decide) ?_
  refine V.iload_n dX3_isPossible_9 rfl rfl ?_
  refine V.iadd dX3_isPossible_10 ?_
  obtain ⟨x6, e7, hr2⟩ := bnd hr2
  refine V.miald hM0 dX3_isPossible_11 ma_2 (mLd_some e7) ?_
  refine V.icmp_ge (tgt := 116) dX3_isPossible_12 (by decide) (fun hc51 => ?_) (fun hc51 => ?_)
  · rw [if_pos hc51] at hr2
    obtain rfl := Option.some.inj hr2
    have e65 := hx4 _ rfl
    exact V.forget (llS (llS (llN (llN (llN ll0))))) (hJ54 _ e65)
  · rw [if_neg hc51] at hr2
    refine V.aload_n dX3_isPossible_15 rfl rfl IsR.ref ?_
    refine V.iload_n dX3_isPossible_16 rfl rfl ?_
    refine V.iload_n dX3_isPossible_17 rfl rfl ?_
    obtain ⟨x8, e9, hr2⟩ := bnd hr2
    refine V.invV (as := [.int p1, .int i1]) (b := B.1) (ci := 0) (w := true) (rc := rc0) dX3_isPossible_18 ok_X3_callOf (lw_V q2437 q2439 qs90 q151 q2440) rfl hM0.1.1 rfl (by decide) (Nat.le_of_ble_eq_true rfl) (w_X3_callOf hM0.1 (hT.mm hM hM0) e9) (krI ?_) kxZ
    refine V.istore (i := 4) dX3_isPossible_21 (by decide) ?_
    simp only [List.set_cons_zero, List.set_cons_succ]
    refine V.aload_n dX3_isPossible_23 rfl rfl IsR.ref ?_
    refine V.iload_n dX3_isPossible_24 rfl rfl ?_
    refine V.iload_n dX3_isPossible_25 rfl rfl ?_
    obtain ⟨x10, e11, hr2⟩ := bnd hr2
    refine V.invV (as := [.int p1, .int i1]) (b := B.1) (ci := 0) (w := true) (rc := rc0) dX3_isPossible_26 ok_X3_isDrop (lw_V q2452 q2454 qs93 q151 q2455) rfl hM0.1.1 rfl (by decide) (Nat.le_of_ble_eq_true rfl) (w_X3_isDrop hM0.1 (hT.mm hM hM0) e11) (krI ?_) kxZ
    refine V.if_eq (tgt := 51) dX3_isPossible_29 (by decide) (fun hc50 => ?_) (fun hc50 => ?_)
    · rw [if_pos hc50] at hr2
      refine V.aload_n dX3_isPossible_51 rfl rfl IsR.ref ?_
      refine V.iload_n dX3_isPossible_52 rfl rfl ?_
      refine V.iload_n dX3_isPossible_53 rfl rfl ?_
      obtain ⟨x12, e13, hr2⟩ := bnd hr2
      refine V.invV (as := [.int p1, .int i1]) (b := B.1) (ci := 0) (w := true) (rc := rc0) dX3_isPossible_54 ok_X3_begin (lw_V q2464 q2466 qs96 q151 q2467) rfl hM0.1.1 rfl (by decide) (Nat.le_of_ble_eq_true rfl) (w_X3_begin hM0.1 (hT.mm hM hM0) e13) (krI ?_) kxZ
      refine V.aload_n dX3_isPossible_57 rfl rfl IsR.ref ?_
      refine V.iload dX3_isPossible_58 rfl ?_
      refine V.iconst (v := 5) dX3_isPossible_60 (by decide) ?_
      obtain ⟨x14, e15, hr2⟩ := bnd hr2
      refine V.invV (as := [.int x8, .int (5 : Int32)]) (b := B.1) (ci := 0) (w := true) (rc := rc0) dX3_isPossible_61 ok_X3_call (lw_V q2448 q2450 qs92 q151 q2451) rfl hM0.1.1 rfl (by decide) (Nat.le_of_ble_eq_true rfl) (w_X3_call hM0.1 (hT.mm hM hM0) e15) (krI ?_) kxZ
      refine V.aload_n dX3_isPossible_64 rfl rfl IsR.ref ?_
      refine V.mgetA hM0 dX3_isPossible_65 fo_X3_33_0 ma_20 ?_
      refine V.iconst (v := 0) dX3_isPossible_68 (by decide) ?_
      obtain ⟨x16, e17, hr2⟩ := bnd hr2
      refine V.miald hM0 dX3_isPossible_69 ma_20 (mLd_some e17) ?_
      refine V.iadd dX3_isPossible_70 ?_
      refine V.icmp_le (tgt := 76) dX3_isPossible_71 (by decide) (fun hc31 => ?_) (fun hc31 => ?_)
      · rw [if_pos hc31] at hr2
        refine V.aload_n dX3_isPossible_76 rfl rfl IsR.ref ?_
        refine V.iload_n dX3_isPossible_77 rfl rfl ?_
        refine V.iload_n dX3_isPossible_78 rfl rfl ?_
        refine V.iconst (v := 0) dX3_isPossible_79 (by decide) ?_
        obtain ⟨x18, e19, hr2⟩ := bnd hr2
        refine V.invV (as := [.int p1, .int i1, .int (0 : Int32)]) (b := B.1) (ci := 0) (w := true) (rc := rc0) dX3_isPossible_80 ok_X3_taken (lw_V q2480 q2482 qs100 q151 q2483) rfl hM0.1.1 rfl (by decide) (Nat.le_of_ble_eq_true rfl) (w_X3_taken hM0.1 (hT.mm hM hM0) e19) (krI ?_) kxZ
        refine V.aload_n dX3_isPossible_83 rfl rfl IsR.ref ?_
        refine V.iload_n dX3_isPossible_84 rfl rfl ?_
        refine V.iconst (v := 2) dX3_isPossible_85 (by decide) ?_
        obtain ⟨x20, e21, hr2⟩ := bnd hr2
        refine V.invV (as := [.int p1, .int (2 : Int32)]) (b := B.1) (ci := 0) (w := true) (rc := rc0) dX3_isPossible_86 ok_X3_van (lw_V q2409 q2411 qs83 q151 q2412) rfl hM0.1.1 rfl (by decide) (Nat.le_of_ble_eq_true rfl) (w_X3_van hM0.1 (hT.mm hM hM0) e21) (krI ?_) kxZ
        refine V.icmp_gt (tgt := 108) dX3_isPossible_89 (by decide) (fun hc29 => ?_) (fun hc29 => ?_)
        · rw [if_pos hc29] at hr2
          refine V.iconst (v := 0) dX3_isPossible_108 (by decide) ?_
          obtain rfl := Option.some.inj hr2
          have e22 := hx4 _ rfl
          subst e22
          (try dsimp only at hn)
          obtain rfl := Option.some.inj hn
          exact V.zret dX3_isPossible_109 rfl rfl ⟨rfl, rfl⟩
        · rw [if_neg hc29] at hr2
          refine V.aload_n dX3_isPossible_92 rfl rfl IsR.ref ?_
          refine V.iload_n dX3_isPossible_93 rfl rfl ?_
          refine V.iload_n dX3_isPossible_94 rfl rfl ?_
          refine V.iconst (v := 1) dX3_isPossible_95 (by decide) ?_
          obtain ⟨x23, e24, hr2⟩ := bnd hr2
          refine V.invV (as := [.int p1, .int i1, .int (1 : Int32)]) (b := B.1) (ci := 0) (w := true) (rc := rc0) dX3_isPossible_96 ok_X3_taken (lw_V q2480 q2482 qs100 q151 q2483) rfl hM0.1.1 rfl (by decide) (Nat.le_of_ble_eq_true rfl) (w_X3_taken hM0.1 (hT.mm hM hM0) e24) (krI ?_) kxZ
          refine V.aload_n dX3_isPossible_99 rfl rfl IsR.ref ?_
          refine V.iload_n dX3_isPossible_100 rfl rfl ?_
          refine V.iconst (v := 3) dX3_isPossible_101 (by decide) ?_
          obtain ⟨x25, e26, hr2⟩ := bnd hr2
          refine V.invV (as := [.int p1, .int (3 : Int32)]) (b := B.1) (ci := 0) (w := true) (rc := rc0) dX3_isPossible_102 ok_X3_van (lw_V q2409 q2411 qs83 q151 q2412) rfl hM0.1.1 rfl (by decide) (Nat.le_of_ble_eq_true rfl) (w_X3_van hM0.1 (hT.mm hM hM0) e26) (krI ?_) kxZ
          refine V.icmp_le (tgt := 110) dX3_isPossible_105 (by decide) (fun hc28 => ?_) (fun hc28 => ?_)
          · rw [if_pos hc28] at hr2
            refine V.iinc (v := i1 + (1 : Int32)) (i := 3) dX3_isPossible_110 rfl (by rfl) (by decide) ?_
            simp only [List.set_cons_zero, List.set_cons_succ]
            refine V.goto (tgt := 2) dX3_isPossible_113 (by decide) ?_
            obtain rfl := Option.some.inj hr2
            have hi3P := hi3 _ rfl
            exact V.forget (llS (llS (llN (llS (llN ll0))))) (hi3P)
          · rw [if_neg hc28] at hr2
            refine V.iconst (v := 0) dX3_isPossible_108 (by decide) ?_
            obtain rfl := Option.some.inj hr2
            have e27 := hx4 _ rfl
            subst e27
            (try dsimp only at hn)
            obtain rfl := Option.some.inj hn
            exact V.zret dX3_isPossible_109 rfl rfl ⟨rfl, rfl⟩
      · rw [if_neg hc31] at hr2
        refine V.iconst (v := 0) dX3_isPossible_74 (by decide) ?_
        obtain rfl := Option.some.inj hr2
        have e30 := hx4 _ rfl
        subst e30
        (try dsimp only at hn)
        obtain rfl := Option.some.inj hn
        exact V.zret dX3_isPossible_75 rfl rfl ⟨rfl, rfl⟩
    · rw [if_neg hc50] at hr2
      refine V.aload_n dX3_isPossible_32 rfl rfl IsR.ref ?_
      refine V.iload_n dX3_isPossible_33 rfl rfl ?_
      refine V.iload dX3_isPossible_34 rfl ?_
      obtain ⟨x32, e33, hr2⟩ := bnd hr2
      refine V.invV (as := [.int p1, .int x8]) (b := B.1) (ci := 0) (w := true) (rc := rc0) dX3_isPossible_36 ok_X3_ride (lw_V q2679 q2681 qs126 q151 q2682) rfl hM0.1.1 rfl (by decide) (Nat.le_of_ble_eq_true rfl) (w_X3_ride hM0.1 (hT.mm hM hM0) e33) (krI ?_) kxZ
      refine V.aload_n dX3_isPossible_39 rfl rfl IsR.ref ?_
      refine V.iload dX3_isPossible_40 rfl ?_
      obtain ⟨x34, e35, hr2⟩ := bnd hr2
      refine V.invV (as := [.int x8]) (b := B.1) (ci := 0) (w := true) (rc := rc0) dX3_isPossible_42 ok_X3_limit (lw_V q2492 q2494 qs103 q151 q2495) rfl hM0.1.1 rfl (by decide) (Nat.le_of_ble_eq_true rfl) (w_X3_limit hM0.1 (hT.mm hM hM0) e35) (krI ?_) kxZ
      refine V.icmp_le (tgt := 76) dX3_isPossible_45 (by decide) (fun hc49 => ?_) (fun hc49 => ?_)
      · rw [if_pos hc49] at hr2
        refine V.aload_n dX3_isPossible_76 rfl rfl IsR.ref ?_
        refine V.iload_n dX3_isPossible_77 rfl rfl ?_
        refine V.iload_n dX3_isPossible_78 rfl rfl ?_
        refine V.iconst (v := 0) dX3_isPossible_79 (by decide) ?_
        obtain ⟨x36, e37, hr2⟩ := bnd hr2
        refine V.invV (as := [.int p1, .int i1, .int (0 : Int32)]) (b := B.1) (ci := 0) (w := true) (rc := rc0) dX3_isPossible_80 ok_X3_taken (lw_V q2480 q2482 qs100 q151 q2483) rfl hM0.1.1 rfl (by decide) (Nat.le_of_ble_eq_true rfl) (w_X3_taken hM0.1 (hT.mm hM hM0) e37) (krI ?_) kxZ
        refine V.aload_n dX3_isPossible_83 rfl rfl IsR.ref ?_
        refine V.iload_n dX3_isPossible_84 rfl rfl ?_
        refine V.iconst (v := 2) dX3_isPossible_85 (by decide) ?_
        obtain ⟨x38, e39, hr2⟩ := bnd hr2
        refine V.invV (as := [.int p1, .int (2 : Int32)]) (b := B.1) (ci := 0) (w := true) (rc := rc0) dX3_isPossible_86 ok_X3_van (lw_V q2409 q2411 qs83 q151 q2412) rfl hM0.1.1 rfl (by decide) (Nat.le_of_ble_eq_true rfl) (w_X3_van hM0.1 (hT.mm hM hM0) e39) (krI ?_) kxZ
        refine V.icmp_gt (tgt := 108) dX3_isPossible_89 (by decide) (fun hc47 => ?_) (fun hc47 => ?_)
        · rw [if_pos hc47] at hr2
          refine V.iconst (v := 0) dX3_isPossible_108 (by decide) ?_
          obtain rfl := Option.some.inj hr2
          have e40 := hx4 _ rfl
          subst e40
          (try dsimp only at hn)
          obtain rfl := Option.some.inj hn
          exact V.zret dX3_isPossible_109 rfl rfl ⟨rfl, rfl⟩
        · rw [if_neg hc47] at hr2
          refine V.aload_n dX3_isPossible_92 rfl rfl IsR.ref ?_
          refine V.iload_n dX3_isPossible_93 rfl rfl ?_
          refine V.iload_n dX3_isPossible_94 rfl rfl ?_
          refine V.iconst (v := 1) dX3_isPossible_95 (by decide) ?_
          obtain ⟨x41, e42, hr2⟩ := bnd hr2
          refine V.invV (as := [.int p1, .int i1, .int (1 : Int32)]) (b := B.1) (ci := 0) (w := true) (rc := rc0) dX3_isPossible_96 ok_X3_taken (lw_V q2480 q2482 qs100 q151 q2483) rfl hM0.1.1 rfl (by decide) (Nat.le_of_ble_eq_true rfl) (w_X3_taken hM0.1 (hT.mm hM hM0) e42) (krI ?_) kxZ
          refine V.aload_n dX3_isPossible_99 rfl rfl IsR.ref ?_
          refine V.iload_n dX3_isPossible_100 rfl rfl ?_
          refine V.iconst (v := 3) dX3_isPossible_101 (by decide) ?_
          obtain ⟨x43, e44, hr2⟩ := bnd hr2
          refine V.invV (as := [.int p1, .int (3 : Int32)]) (b := B.1) (ci := 0) (w := true) (rc := rc0) dX3_isPossible_102 ok_X3_van (lw_V q2409 q2411 qs83 q151 q2412) rfl hM0.1.1 rfl (by decide) (Nat.le_of_ble_eq_true rfl) (w_X3_van hM0.1 (hT.mm hM hM0) e44) (krI ?_) kxZ
          refine V.icmp_le (tgt := 110) dX3_isPossible_105 (by decide) (fun hc46 => ?_) (fun hc46 => ?_)
          · rw [if_pos hc46] at hr2
            refine V.iinc (v := i1 + (1 : Int32)) (i := 3) dX3_isPossible_110 rfl (by rfl) (by decide) ?_
            simp only [List.set_cons_zero, List.set_cons_succ]
            refine V.goto (tgt := 2) dX3_isPossible_113 (by decide) ?_
            obtain rfl := Option.some.inj hr2
            have hi3P := hi3 _ rfl
            exact V.forget (llS (llS (llN (llS (llN ll0))))) (hi3P)
          · rw [if_neg hc46] at hr2
            refine V.iconst (v := 0) dX3_isPossible_108 (by decide) ?_
            obtain rfl := Option.some.inj hr2
            have e45 := hx4 _ rfl
            subst e45
            (try dsimp only at hn)
            obtain rfl := Option.some.inj hn
            exact V.zret dX3_isPossible_109 rfl rfl ⟨rfl, rfl⟩
      · rw [if_neg hc49] at hr2
        refine V.goto (tgt := 74) dX3_isPossible_48 (by decide) ?_
        refine V.iconst (v := 0) dX3_isPossible_74 (by decide) ?_
        obtain rfl := Option.some.inj hr2
        have e48 := hx4 _ rfl
        subst e48
        (try dsimp only at hn)
        obtain rfl := Option.some.inj hn
        exact V.zret dX3_isPossible_75 rfl rfl ⟨rfl, rfl⟩
def m_X3_empties_b2 (p1 : Int32) : (Int32 × MS) → Option ((Int32 × MS) ⊕ (MS)) := fun s => match s with
  | (i1, μ2) => (mLd μ2 2 835 (1 : Int32)).bind fun x7 => if x7 ≤ i1 then (some (.inr μ2)) else ((m_X3_isOpen p1 i1 μ2).bind fun x9 => (zg x9).bind fun _ => (mSt μ2 32 25 i1 x9).bind fun μ12 => some (.inl (i1 + (1 : Int32), μ12)))
def m_X3_empties_b32 (p1 : Int32) : (Int32 × MS) → Option ((Int32 × MS) ⊕ (MS)) := fun s => match s with
  | (i19, μ20) => (mLd μ20 2 835 (1 : Int32)).bind fun x25 => if x25 ≤ i19 then (some (.inr μ20)) else ((mLd μ20 32 25 i19).bind fun x27 => if x27 = (0 : Int32) then (some (.inl (i19 + (1 : Int32), μ20))) else ((m_X3_takesOut p1 i19 μ20).bind fun μ29 => some (.inl (i19 + (1 : Int32), μ29))))
def m_X3_empties (p1 : Int32) (μ : MS) : Option (MS) := (iter (m_X3_empties_b2 p1) FUEL ((0 : Int32), μ)).bind fun μ15 => (iter (m_X3_empties_b32 p1) FUEL ((0 : Int32), μ15)).bind fun μ33 => some μ33
abbrev M_X3_empties : MD := (yX3_empties, cX3_empties, 3, none, [])
theorem ok_X3_empties : mOK yX3_empties 3 1 := ⟨⟨by decide +kernel, by decide +kernel⟩, by decide +kernel, by decide⟩
theorem w_X3_empties {l : Launch} {g : GG} {h : AH} {B : BM} {μ : MS} {p1 : Int32} {z : MS} (hM : IsM B h μ) (hT : TX g h) (hn : m_X3_empties p1 μ = some z) : Sp l g M_X3_empties 7 [.ref B.1, .int p1] h (QM B h none z) := by
  refine Sp.ofV (L := [some (.ref B.1), some (.int p1), none]) rfl rfl (hcR (hcI hc0)) (Nat.le_of_ble_eq_true rfl) rfl ?_
  have hM0 : MM B h h μ := ⟨hM, SameM.rf⟩
  unfold m_X3_empties at hn
  refine V.iconst (v := 0) dX3_empties_0 (by decide) ?_
  refine V.istore_n (i := 2) dX3_empties_1 rfl (by decide) ?_
  simp only [List.set_cons_zero, List.set_cons_succ]
  obtain ⟨b17, hL16, hn⟩ := bnd hn
  have hJ18 : ∀ (μ15 : MS), μ15 = b17 → ∀ h15, MM B h h15 μ15 → V l g M_X3_empties 7 30 [some (.ref B.1), some (.int p1), none] [] h15 (QM B h none z) := by
    intro μ15 e40 h15 hM15
    subst e40
    (try dsimp only at hn)
    refine V.iconst (v := 0) dX3_empties_30 (by decide) ?_
    refine V.istore_n (i := 2) dX3_empties_31 rfl (by decide) ?_
    simp only [List.set_cons_zero, List.set_cons_succ]
    obtain ⟨b35, hL34, hn⟩ := bnd hn
    have hJ36 : ∀ (μ33 : MS), μ33 = b35 → ∀ h33, MM B h h33 μ33 → V l g M_X3_empties 7 63 [none, none, none] [] h33 (QM B h none z) := by
      intro μ33 e37 h33 hM33
      subst e37
      (try dsimp only at hn)
      obtain rfl := Option.some.inj hn
      exact V.vret dX3_empties_63 rfl ⟨rfl, hM33⟩
    refine iter_ind (P := fun (σ : Int32 × MS) => match σ with | (i19, μ20) => ∀ h20, MM B h h20 μ20 → V l g M_X3_empties 7 32 [some (.ref B.1), some (.int p1), some (.int i19)] [] h20 (QM B h none z)) (b := b35) ?_ FUEL ((0 : Int32), μ15) hL34 _ hM15
    rintro ⟨i19, μ20⟩ ρ38 hr21 hi22 hx23 h20 hM20
    unfold m_X3_empties_b32 at hr21
    (try dsimp only at hr21)
    refine V.iload_n dX3_empties_32 rfl rfl ?_
    refine V.aload_n dX3_empties_33 rfl rfl IsR.ref ?_
    refine V.mgetA hM20 dX3_empties_34 fo_X3_7_0 ma_2 ?_
    refine V.iconst (v := 1) dX3_empties_37 (by decide) ?_
    obtain ⟨x25, e26, hr21⟩ := bnd hr21
    refine V.miald hM20 dX3_empties_38 ma_2 (mLd_some e26) ?_
    refine V.icmp_ge (tgt := 63) dX3_empties_39 (by decide) (fun hc32 => ?_) (fun hc32 => ?_)
    · rw [if_pos hc32] at hr21
      obtain rfl := Option.some.inj hr21
      have e39 := hx23 _ rfl
      exact V.forget (llN (llN (llN ll0))) (hJ36 _ e39 _ hM20)
    · rw [if_neg hc32] at hr21
      refine V.aload_n dX3_empties_42 rfl rfl IsR.ref ?_
      refine V.mgetA hM20 dX3_empties_43 fo_X3_39_0 ma_32 ?_
      refine V.iload_n dX3_empties_46 rfl rfl ?_
      obtain ⟨x27, e28, hr21⟩ := bnd hr21
      refine V.mzald hM20 dX3_empties_47 ma_32 (mLd_some e28) ?_
      refine V.if_eq (tgt := 57) dX3_empties_48 (by decide) (fun hc31 => ?_) (fun hc31 => ?_)
      · rw [if_pos hc31] at hr21
        refine V.iinc (v := i19 + (1 : Int32)) (i := 2) dX3_empties_57 rfl (by rfl) (by decide) ?_
        simp only [List.set_cons_zero, List.set_cons_succ]
        refine V.goto (tgt := 32) dX3_empties_60 (by decide) ?_
        obtain rfl := Option.some.inj hr21
        have hi22P := hi22 _ rfl
        exact hi22P _ hM20
      · rw [if_neg hc31] at hr21
        refine V.aload_n dX3_empties_51 rfl rfl IsR.ref ?_
        refine V.iload_n dX3_empties_52 rfl rfl ?_
        refine V.iload_n dX3_empties_53 rfl rfl ?_
        obtain ⟨μ29, e30, hr21⟩ := bnd hr21
        refine V.invV (as := [.int p1, .int i19]) (b := B.1) (ci := 0) (w := true) (rc := rc0) dX3_empties_54 ok_X3_takesOut (lw_V q2799 q2801 qs138 q151 q2802) rfl hM20.1.1 rfl (by decide) (Nat.le_of_ble_eq_true rfl) (w_X3_takesOut hM20.1 (hT.mm hM hM20) e30) (kmV hM20.2 (fun h29 hM29 => ?_)) kxM
        refine V.iinc (v := i19 + (1 : Int32)) (i := 2) dX3_empties_57 rfl (by rfl) (by decide) ?_
        simp only [List.set_cons_zero, List.set_cons_succ]
        refine V.goto (tgt := 32) dX3_empties_60 (by decide) ?_
        obtain rfl := Option.some.inj hr21
        have hi22P := hi22 _ rfl
        exact hi22P _ hM29
  refine iter_ind (P := fun (σ : Int32 × MS) => match σ with | (i1, μ2) => ∀ h2, MM B h h2 μ2 → V l g M_X3_empties 7 2 [some (.ref B.1), some (.int p1), some (.int i1)] [] h2 (QM B h none z)) (b := b17) ?_ FUEL ((0 : Int32), μ) hL16 _ hM0
  rintro ⟨i1, μ2⟩ ρ41 hr3 hi4 hx5 h2 hM2
  unfold m_X3_empties_b2 at hr3
  (try dsimp only at hr3)
  refine V.iload_n dX3_empties_2 rfl rfl ?_
  refine V.aload_n dX3_empties_3 rfl rfl IsR.ref ?_
  refine V.mgetA hM2 dX3_empties_4 fo_X3_7_0 ma_2 ?_
  refine V.iconst (v := 1) dX3_empties_7 (by decide) ?_
  obtain ⟨x7, e8, hr3⟩ := bnd hr3
  refine V.miald hM2 dX3_empties_8 ma_2 (mLd_some e8) ?_
  refine V.icmp_ge (tgt := 30) dX3_empties_9 (by decide) (fun hc14 => ?_) (fun hc14 => ?_)
  · rw [if_pos hc14] at hr3
    obtain rfl := Option.some.inj hr3
    have e42 := hx5 _ rfl
    exact V.forget (llS (llS (llN ll0))) (hJ18 _ e42 _ hM2)
  · rw [if_neg hc14] at hr3
    refine V.aload_n dX3_empties_12 rfl rfl IsR.ref ?_
    refine V.mgetA hM2 dX3_empties_13 fo_X3_39_0 ma_32 ?_
    refine V.iload_n dX3_empties_16 rfl rfl ?_
    refine V.aload_n dX3_empties_17 rfl rfl IsR.ref ?_
    refine V.iload_n dX3_empties_18 rfl rfl ?_
    refine V.iload_n dX3_empties_19 rfl rfl ?_
    obtain ⟨x9, e10, hr3⟩ := bnd hr3
    refine V.invV (as := [.int p1, .int i1]) (b := B.1) (ci := 0) (w := true) (rc := rc0) dX3_empties_20 ok_X3_isOpen (lw_V q2791 q2793 qs136 q151 q2794) rfl hM2.1.1 rfl (by decide) (Nat.le_of_ble_eq_true rfl) (w_X3_isOpen hM2.1 (hT.mm hM hM2) e10) (krI ?_) kxZ
    obtain ⟨_, ez13, hr3⟩ := bnd hr3
    obtain ⟨μ12, e11, hr3⟩ := bnd hr3
    refine V.mzast hM2 dX3_empties_23 ma_32 (mSt_some e11) (zg_some ez13).2 (fun h12 hM12 => ?_)
    refine V.iinc (v := i1 + (1 : Int32)) (i := 2) dX3_empties_24 rfl (by rfl) (by decide) ?_
    simp only [List.set_cons_zero, List.set_cons_succ]
    refine V.goto (tgt := 2) dX3_empties_27 (by decide) ?_
    obtain rfl := Option.some.inj hr3
    have hi4P := hi4 _ rfl
    exact hi4P _ hM12
def m_X3_repairs_b7 : (Int32 × MS) → Option ((Int32 × MS) ⊕ (MS)) := fun s => match s with
  | (i3, μ4) => (mLd μ4 2 835 (1 : Int32)).bind fun x9 => if x9 ≤ i3 then (some (.inr μ4)) else ((mLd μ4 32 25 i3).bind fun x11 => if x11 = (0 : Int32) then (some (.inl (i3 + (1 : Int32), μ4))) else ((m_X3_inserts i3 μ4).bind fun y13 => if y13.1 = (0 : Int32) then ((m_X3_lets i3 (6 : Int32) (5 : Int32) y13.2).bind fun μ16 => (mLd μ16 20 184 (6 : Int32)).bind fun x18 => (m_X3_lets i3 (8 : Int32) ((60 : Int32) * x18) μ16).bind fun μ20 => some (.inl (i3 + (1 : Int32), μ20))) else (some (.inl (i3 + (1 : Int32), y13.2)))))
def m_X3_repairs (p1 : Int32) (μ : MS) : Option (MS) := (m_X3_empties p1 μ).bind fun μ1 => (iter (m_X3_repairs_b7) FUEL ((0 : Int32), μ1)).bind fun μ25 => some μ25
abbrev M_X3_repairs : MD := (yX3_repairs, cX3_repairs, 3, none, [])
theorem ok_X3_repairs : mOK yX3_repairs 3 1 := ⟨⟨by decide +kernel, by decide +kernel⟩, by decide +kernel, by decide⟩
theorem w_X3_repairs {l : Launch} {g : GG} {h : AH} {B : BM} {μ : MS} {p1 : Int32} {z : MS} (hM : IsM B h μ) (hT : TX g h) (hn : m_X3_repairs p1 μ = some z) : Sp l g M_X3_repairs 10 [.ref B.1, .int p1] h (QM B h none z) := by
  refine Sp.ofV (L := [some (.ref B.1), some (.int p1), none]) rfl rfl (hcR (hcI hc0)) (Nat.le_of_ble_eq_true rfl) rfl ?_
  have hM0 : MM B h h μ := ⟨hM, SameM.rf⟩
  unfold m_X3_repairs at hn
  refine V.aload_n dX3_repairs_0 rfl rfl IsR.ref ?_
  refine V.iload_n dX3_repairs_1 rfl rfl ?_
  obtain ⟨μ1, e2, hn⟩ := bnd hn
  refine V.invV (as := [.int p1]) (b := B.1) (ci := 0) (w := true) (rc := rc0) dX3_repairs_2 ok_X3_empties (lw_V q2811 q2813 qs141 q151 q2814) rfl hM0.1.1 rfl (by decide) (Nat.le_of_ble_eq_true rfl) (w_X3_empties hM0.1 (hT.mm hM hM0) e2) (kmV hM0.2 (fun h1 hM1 => ?_)) kxM
  refine V.iconst (v := 0) dX3_repairs_5 (by decide) ?_
  refine V.istore_n (i := 2) dX3_repairs_6 rfl (by decide) ?_
  simp only [List.set_cons_zero, List.set_cons_succ]
  obtain ⟨b27, hL26, hn⟩ := bnd hn
  have hJ28 : ∀ (μ25 : MS), μ25 = b27 → ∀ h25, MM B h h25 μ25 → V l g M_X3_repairs 10 65 [none, none, none] [] h25 (QM B h none z) := by
    intro μ25 e29 h25 hM25
    subst e29
    (try dsimp only at hn)
    obtain rfl := Option.some.inj hn
    exact V.vret dX3_repairs_65 rfl ⟨rfl, hM25⟩
  refine V.forget (llS (llN (llS ll0))) (iter_ind (P := fun (σ : Int32 × MS) => match σ with | (i3, μ4) => ∀ h4, MM B h h4 μ4 → V l g M_X3_repairs 10 7 [some (.ref B.1), none, some (.int i3)] [] h4 (QM B h none z)) (b := b27) ?_ FUEL ((0 : Int32), μ1) hL26 _ hM1)
  rintro ⟨i3, μ4⟩ ρ30 hr5 hi6 hx7 h4 hM4
  unfold m_X3_repairs_b7 at hr5
  (try dsimp only at hr5)
  refine V.iload_n dX3_repairs_7 rfl rfl ?_
  refine V.aload_n dX3_repairs_8 rfl rfl IsR.ref ?_
  refine V.mgetA hM4 dX3_repairs_9 fo_X3_7_0 ma_2 ?_
  refine V.iconst (v := 1) dX3_repairs_12 (by decide) ?_
  obtain ⟨x9, e10, hr5⟩ := bnd hr5
  refine V.miald hM4 dX3_repairs_13 ma_2 (mLd_some e10) ?_
  refine V.icmp_ge (tgt := 65) dX3_repairs_14 (by decide) (fun hc24 => ?_) (fun hc24 => ?_)
  · rw [if_pos hc24] at hr5
    obtain rfl := Option.some.inj hr5
    have e31 := hx7 _ rfl
    exact V.forget (llN (llN (llN ll0))) (hJ28 _ e31 _ hM4)
  · rw [if_neg hc24] at hr5
    refine V.aload_n dX3_repairs_17 rfl rfl IsR.ref ?_
    refine V.mgetA hM4 dX3_repairs_18 fo_X3_39_0 ma_32 ?_
    refine V.iload_n dX3_repairs_21 rfl rfl ?_
    obtain ⟨x11, e12, hr5⟩ := bnd hr5
    refine V.mzald hM4 dX3_repairs_22 ma_32 (mLd_some e12) ?_
    refine V.if_eq (tgt := 59) dX3_repairs_23 (by decide) (fun hc23 => ?_) (fun hc23 => ?_)
    · rw [if_pos hc23] at hr5
      refine V.iinc (v := i3 + (1 : Int32)) (i := 2) dX3_repairs_59 rfl (by rfl) (by decide) ?_
      simp only [List.set_cons_zero, List.set_cons_succ]
      refine V.goto (tgt := 7) dX3_repairs_62 (by decide) ?_
      obtain rfl := Option.some.inj hr5
      have hi6P := hi6 _ rfl
      exact hi6P _ hM4
    · rw [if_neg hc23] at hr5
      refine V.aload_n dX3_repairs_26 rfl rfl IsR.ref ?_
      refine V.iload_n dX3_repairs_27 rfl rfl ?_
      obtain ⟨y13, e15, hr5⟩ := bnd hr5
      refine V.invV (as := [.int i3]) (b := B.1) (ci := 0) (w := true) (rc := rc0) dX3_repairs_28 ok_X3_inserts (lw_V q2421 q2423 qs86 q151 q2424) rfl hM4.1.1 rfl (by decide) (Nat.le_of_ble_eq_true rfl) (w_X3_inserts hM4.1 (hT.mm hM hM4) e15) (kmI hM4.2 (fun h14 hM14 => ?_)) kxM
      refine V.if_ne (tgt := 59) dX3_repairs_31 (by decide) (fun hc22 => ?_) (fun hc22 => ?_)
      · rw [if_neg hc22] at hr5
        refine V.iinc (v := i3 + (1 : Int32)) (i := 2) dX3_repairs_59 rfl (by rfl) (by decide) ?_
        simp only [List.set_cons_zero, List.set_cons_succ]
        refine V.goto (tgt := 7) dX3_repairs_62 (by decide) ?_
        obtain rfl := Option.some.inj hr5
        have hi6P := hi6 _ rfl
        exact hi6P _ hM14
      · rw [if_pos hc22] at hr5
        refine V.aload_n dX3_repairs_34 rfl rfl IsR.ref ?_
        refine V.iload_n dX3_repairs_35 rfl rfl ?_
        refine V.bipush (v := 6) dX3_repairs_36 (by decide) ?_
        refine V.iconst (v := 5) dX3_repairs_38 (by decide) ?_
        obtain ⟨μ16, e17, hr5⟩ := bnd hr5
        refine V.invV (as := [.int i3, .int (6 : Int32), .int (5 : Int32)]) (b := B.1) (ci := 0) (w := true) (rc := rc0) dX3_repairs_39 ok_X3_lets (lw_V q2417 q2419 qs85 q151 q2420) rfl hM14.1.1 rfl (by decide) (Nat.le_of_ble_eq_true rfl) (w_X3_lets hM14.1 (hT.mm hM hM14) e17) (kmV hM14.2 (fun h16 hM16 => ?_)) kxM
        refine V.aload_n dX3_repairs_42 rfl rfl IsR.ref ?_
        refine V.iload_n dX3_repairs_43 rfl rfl ?_
        refine V.bipush (v := 8) dX3_repairs_44 (by decide) ?_
        refine V.bipush (v := 60) dX3_repairs_46 (by decide) ?_
        refine V.aload_n dX3_repairs_48 rfl rfl IsR.ref ?_
        refine V.mgetA hM16 dX3_repairs_49 fo_X3_33_0 ma_20 ?_
        refine V.bipush (v := 6) dX3_repairs_52 (by decide) ?_
        obtain ⟨x18, e19, hr5⟩ := bnd hr5
        refine V.miald hM16 dX3_repairs_54 ma_20 (mLd_some e19) ?_
        refine V.imul dX3_repairs_55 ?_
        obtain ⟨μ20, e21, hr5⟩ := bnd hr5
        refine V.invV (as := [.int i3, .int (8 : Int32), .int ((60 : Int32) * x18)]) (b := B.1) (ci := 0) (w := true) (rc := rc0) dX3_repairs_56 ok_X3_lets (lw_V q2417 q2419 qs85 q151 q2420) rfl hM16.1.1 rfl (by decide) (Nat.le_of_ble_eq_true rfl) (w_X3_lets hM16.1 (hT.mm hM hM16) e21) (kmV hM16.2 (fun h20 hM20 => ?_)) kxM
        refine V.iinc (v := i3 + (1 : Int32)) (i := 2) dX3_repairs_59 rfl (by rfl) (by decide) ?_
        simp only [List.set_cons_zero, List.set_cons_succ]
        refine V.goto (tgt := 7) dX3_repairs_62 (by decide) ?_
        obtain rfl := Option.some.inj hr5
        have hi6P := hi6 _ rfl
        exact hi6P _ hM20
def m_X3_cancels (p1 : Int32) (μ : MS) : Option (MS) := (m_X3_vanWith p1 μ).bind fun x1 => (m_X3_takesOut x1 p1 μ).bind fun μ3 => (m_X3_lets p1 (6 : Int32) (4 : Int32) μ3).bind fun μ5 => (m_X3_fixed x1 μ5).bind fun x7 => (m_X3_isPossible x1 x7 μ5).bind fun x9 => if x9 = (0 : Int32) then ((m_X3_repairs x1 μ5).bind fun μ11 => some μ11) else (some μ5)
abbrev M_X3_cancels : MD := (yX3_cancels, cX3_cancels, 3, none, [])
theorem ok_X3_cancels : mOK yX3_cancels 3 1 := ⟨⟨by decide +kernel, by decide +kernel⟩, by decide +kernel, by decide⟩
theorem w_X3_cancels {l : Launch} {g : GG} {h : AH} {B : BM} {μ : MS} {p1 : Int32} {z : MS} (hM : IsM B h μ) (hT : TX g h) (hn : m_X3_cancels p1 μ = some z) : Sp l g M_X3_cancels 11 [.ref B.1, .int p1] h (QM B h none z) := by
  refine Sp.ofV (L := [some (.ref B.1), some (.int p1), none]) rfl rfl (hcR (hcI hc0)) (Nat.le_of_ble_eq_true rfl) rfl ?_
  have hM0 : MM B h h μ := ⟨hM, SameM.rf⟩
  unfold m_X3_cancels at hn
  refine V.aload_n dX3_cancels_0 rfl rfl IsR.ref ?_
  refine V.iload_n dX3_cancels_1 rfl rfl ?_
  obtain ⟨x1, e2, hn⟩ := bnd hn
  refine V.invV (as := [.int p1]) (b := B.1) (ci := 0) (w := true) (rc := rc0) dX3_cancels_2 ok_X3_vanWith (lw_V q2659 q2661 qs124 q151 q2662) rfl hM0.1.1 rfl (by decide) (Nat.le_of_ble_eq_true rfl) (w_X3_vanWith hM0.1 (hT.mm hM hM0) e2) (krI ?_) kxZ
  refine V.istore_n (i := 2) dX3_cancels_5 rfl (by decide) ?_
  simp only [List.set_cons_zero, List.set_cons_succ]
  refine V.aload_n dX3_cancels_6 rfl rfl IsR.ref ?_
  refine V.iload_n dX3_cancels_7 rfl rfl ?_
  refine V.iload_n dX3_cancels_8 rfl rfl ?_
  obtain ⟨μ3, e4, hn⟩ := bnd hn
  refine V.invV (as := [.int x1, .int p1]) (b := B.1) (ci := 0) (w := true) (rc := rc0) dX3_cancels_9 ok_X3_takesOut (lw_V q2799 q2801 qs138 q151 q2802) rfl hM0.1.1 rfl (by decide) (Nat.le_of_ble_eq_true rfl) (w_X3_takesOut hM0.1 (hT.mm hM hM0) e4) (kmV hM0.2 (fun h3 hM3 => ?_)) kxM
  refine V.aload_n dX3_cancels_12 rfl rfl IsR.ref ?_
  refine V.iload_n dX3_cancels_13 rfl rfl ?_
  refine V.bipush (v := 6) dX3_cancels_14 (by decide) ?_
  refine V.iconst (v := 4) dX3_cancels_16 (by decide) ?_
  obtain ⟨μ5, e6, hn⟩ := bnd hn
  refine V.invV (as := [.int p1, .int (6 : Int32), .int (4 : Int32)]) (b := B.1) (ci := 0) (w := true) (rc := rc0) dX3_cancels_17 ok_X3_lets (lw_V q2417 q2419 qs85 q151 q2420) rfl hM3.1.1 rfl (by decide) (Nat.le_of_ble_eq_true rfl) (w_X3_lets hM3.1 (hT.mm hM hM3) e6) (kmV hM3.2 (fun h5 hM5 => ?_)) kxM
  refine V.aload_n dX3_cancels_20 rfl rfl IsR.ref ?_
  refine V.iload_n dX3_cancels_21 rfl rfl ?_
  refine V.aload_n dX3_cancels_22 rfl rfl IsR.ref ?_
  refine V.iload_n dX3_cancels_23 rfl rfl ?_
  obtain ⟨x7, e8, hn⟩ := bnd hn
  refine V.invV (as := [.int x1]) (b := B.1) (ci := 0) (w := true) (rc := rc0) dX3_cancels_24 ok_X3_fixed (lw_V q2429 q2431 qs88 q151 q2432) rfl hM5.1.1 rfl (by decide) (Nat.le_of_ble_eq_true rfl) (w_X3_fixed hM5.1 (hT.mm hM hM5) e8) (krI ?_) kxZ
  obtain ⟨x9, e10, hn⟩ := bnd hn
  refine V.invV (as := [.int x1, .int x7]) (b := B.1) (ci := 0) (w := true) (rc := rc0) dX3_cancels_27 ok_X3_isPossible (lw_V q2803 q2805 qs139 q151 q2806) rfl hM5.1.1 rfl (by decide) (Nat.le_of_ble_eq_true rfl) (w_X3_isPossible hM5.1 (hT.mm hM hM5) e10) (krI ?_) kxZ
  refine V.if_ne (tgt := 38) dX3_cancels_30 (by decide) (fun hc13 => ?_) (fun hc13 => ?_)
  · rw [if_neg hc13] at hn
    obtain rfl := Option.some.inj hn
    exact V.vret dX3_cancels_38 rfl ⟨rfl, hM5⟩
  · rw [if_pos hc13] at hn
    refine V.aload_n dX3_cancels_33 rfl rfl IsR.ref ?_
    refine V.iload_n dX3_cancels_34 rfl rfl ?_
    obtain ⟨μ11, e12, hn⟩ := bnd hn
    refine V.invV (as := [.int x1]) (b := B.1) (ci := 0) (w := true) (rc := rc0) dX3_cancels_35 ok_X3_repairs (lw_V q2807 q2809 qs140 q151 q2810) rfl hM5.1.1 rfl (by decide) (Nat.le_of_ble_eq_true rfl) (w_X3_repairs hM5.1 (hT.mm hM hM5) e12) (kmV hM5.2 (fun h11 hM11 => ?_)) kxM
    obtain rfl := Option.some.inj hn
    exact V.vret dX3_cancels_38 rfl ⟨rfl, hM11⟩
def m_X3_savings (p1 : Int32) (μ : MS) : Option (Int32 × MS) := (m_X3_noCall p1 μ).bind fun y1 => if y1.1 = (0 : Int32) then ((m_X3_isStuck p1 y1.2).bind fun x4 => (m_X3_refuse x4 (3 : Int32) y1.2).bind fun y6 => if y6.1 = (0 : Int32) then ((m_X3_lays (0 : Int32) y6.2).bind fun μ9 => (m_X3_drivesAll μ9).bind fun x11 => (m_X3_cancels p1 μ9).bind fun μ13 => (m_X3_drivesAll μ13).bind fun x15 => (m_X3_fetches (0 : Int32) μ13).bind fun μ17 => some (x11 - x15, μ17)) else (some ((0 : Int32), y6.2))) else (some ((0 : Int32), y1.2))
abbrev M_X3_savings : MD := (yX3_savings, cX3_savings, 4, (some .int), [])
theorem ok_X3_savings : mOK yX3_savings 4 1 := ⟨⟨by decide +kernel, by decide +kernel⟩, by decide +kernel, by decide⟩
theorem w_X3_savings {l : Launch} {g : GG} {h : AH} {B : BM} {μ : MS} {p1 : Int32} {z : Int32 × MS} (hM : IsM B h μ) (hT : TX g h) (hn : m_X3_savings p1 μ = some z) : Sp l g M_X3_savings 12 [.ref B.1, .int p1] h (QM B h (some (.int z.1)) z.2) := by
  refine Sp.ofV (L := [some (.ref B.1), some (.int p1), none, none]) rfl rfl (hcR (hcI hc0)) (Nat.le_of_ble_eq_true rfl) rfl ?_
  have hM0 : MM B h h μ := ⟨hM, SameM.rf⟩
  unfold m_X3_savings at hn
  refine V.aload_n dX3_savings_0 rfl rfl IsR.ref ?_
  refine V.iload_n dX3_savings_1 rfl rfl ?_
  obtain ⟨y1, e3, hn⟩ := bnd hn
  refine V.invV (as := [.int p1]) (b := B.1) (ci := 0) (w := true) (rc := rc0) dX3_savings_2 ok_X3_noCall (lw_V q2651 q2653 qs123 q151 q2654) rfl hM0.1.1 rfl (by decide) (Nat.le_of_ble_eq_true rfl) (w_X3_noCall hM0.1 (hT.mm hM hM0) e3) (kmI hM0.2 (fun h2 hM2 => ?_)) kxM
  refine V.if_ne (tgt := 21) dX3_savings_5 (by decide) (fun hc20 => ?_) (fun hc20 => ?_)
  · rw [if_neg hc20] at hn
    refine V.iconst (v := 0) dX3_savings_21 (by decide) ?_
    obtain rfl := Option.some.inj hn
    exact V.iret dX3_savings_22 rfl ⟨rfl, hM2⟩
  · rw [if_pos hc20] at hn
    refine V.aload_n dX3_savings_8 rfl rfl IsR.ref ?_
    refine V.aload_n dX3_savings_9 rfl rfl IsR.ref ?_
    refine V.iload_n dX3_savings_10 rfl rfl ?_
    obtain ⟨x4, e5, hn⟩ := bnd hn
    refine V.invV (as := [.int p1]) (b := B.1) (ci := 0) (w := true) (rc := rc0) dX3_savings_11 ok_X3_isStuck (lw_V q2787 q2789 qs135 q151 q2790) rfl hM2.1.1 rfl (by decide) (Nat.le_of_ble_eq_true rfl) (w_X3_isStuck hM2.1 (hT.mm hM hM2) e5) (krI ?_) kxZ
    refine V.iconst (v := 3) dX3_savings_14 (by decide) ?_
    obtain ⟨y6, e8, hn⟩ := bnd hn
    refine V.invV (as := [.int x4, .int (3 : Int32)]) (b := B.1) (ci := 0) (w := true) (rc := rc0) dX3_savings_15 ok_X3_refuse (lw_V q2311 q2313 qs67 q151 q2314) rfl hM2.1.1 rfl (by decide) (Nat.le_of_ble_eq_true rfl) (w_X3_refuse hM2.1 (hT.mm hM hM2) e8) (kmI hM2.2 (fun h7 hM7 => ?_)) kxM
    refine V.if_eq (tgt := 23) dX3_savings_18 (by decide) (fun hc19 => ?_) (fun hc19 => ?_)
    · rw [if_pos hc19] at hn
      refine V.aload_n dX3_savings_23 rfl rfl IsR.ref ?_
      refine V.iconst (v := 0) dX3_savings_24 (by decide) ?_
      obtain ⟨μ9, e10, hn⟩ := bnd hn
      refine V.invV (as := [.int (0 : Int32)]) (b := B.1) (ci := 0) (w := true) (rc := rc0) dX3_savings_25 ok_X3_lays (lw_V q2731 q2733 qs129 q151 q2734) rfl hM7.1.1 rfl (by decide) (Nat.le_of_ble_eq_true rfl) (w_X3_lays hM7.1 (hT.mm hM hM7) e10) (kmV hM7.2 (fun h9 hM9 => ?_)) kxM
      refine V.aload_n dX3_savings_28 rfl rfl IsR.ref ?_
      obtain ⟨x11, e12, hn⟩ := bnd hn
      refine V.invV (as := []) (b := B.1) (ci := 0) (w := true) (rc := rc0) dX3_savings_29 ok_X3_drivesAll (lw_V q2711 q2713 qs127 q151 q2714) rfl hM9.1.1 rfl (by decide) (Nat.le_of_ble_eq_true rfl) (w_X3_drivesAll hM9.1 (hT.mm hM hM9) e12) (krI ?_) kxZ
      refine V.istore_n (i := 2) dX3_savings_32 rfl (by decide) ?_
      simp only [List.set_cons_zero, List.set_cons_succ]
      refine V.aload_n dX3_savings_33 rfl rfl IsR.ref ?_
      refine V.iload_n dX3_savings_34 rfl rfl ?_
      obtain ⟨μ13, e14, hn⟩ := bnd hn
      refine V.invV (as := [.int p1]) (b := B.1) (ci := 0) (w := true) (rc := rc0) dX3_savings_35 ok_X3_cancels (lw_V q2795 q2797 qs137 q151 q2798) rfl hM9.1.1 rfl (by decide) (Nat.le_of_ble_eq_true rfl) (w_X3_cancels hM9.1 (hT.mm hM hM9) e14) (kmV hM9.2 (fun h13 hM13 => ?_)) kxM
      refine V.iload_n dX3_savings_38 rfl rfl ?_
      refine V.aload_n dX3_savings_39 rfl rfl IsR.ref ?_
      obtain ⟨x15, e16, hn⟩ := bnd hn
      refine V.invV (as := []) (b := B.1) (ci := 0) (w := true) (rc := rc0) dX3_savings_40 ok_X3_drivesAll (lw_V q2711 q2713 qs127 q151 q2714) rfl hM13.1.1 rfl (by decide) (Nat.le_of_ble_eq_true rfl) (w_X3_drivesAll hM13.1 (hT.mm hM hM13) e16) (krI ?_) kxZ
      refine V.isub dX3_savings_43 ?_
      refine V.istore_n (i := 3) dX3_savings_44 rfl (by decide) ?_
      simp only [List.set_cons_zero, List.set_cons_succ]
      refine V.aload_n dX3_savings_45 rfl rfl IsR.ref ?_
      refine V.iconst (v := 0) dX3_savings_46 (by decide) ?_
      obtain ⟨μ17, e18, hn⟩ := bnd hn
      refine V.invV (as := [.int (0 : Int32)]) (b := B.1) (ci := 0) (w := true) (rc := rc0) dX3_savings_47 ok_X3_fetches (lw_V q2735 q2737 qs130 q151 q2738) rfl hM13.1.1 rfl (by decide) (Nat.le_of_ble_eq_true rfl) (w_X3_fetches hM13.1 (hT.mm hM hM13) e18) (kmV hM13.2 (fun h17 hM17 => ?_)) kxM
      refine V.iload_n dX3_savings_50 rfl rfl ?_
      obtain rfl := Option.some.inj hn
      exact V.iret dX3_savings_51 rfl ⟨rfl, hM17⟩
    · rw [if_neg hc19] at hn
      refine V.iconst (v := 0) dX3_savings_21 (by decide) ?_
      obtain rfl := Option.some.inj hn
      exact V.iret dX3_savings_22 rfl ⟨rfl, hM7⟩
def m_X3_keepsTrial_b13 : (Int32 × MS) → Option ((Int32 × MS) ⊕ (MS)) := fun s => match s with
  | (i3, μ4) => if (5010 : Int32) ≤ i3 then (some (.inr μ4)) else ((mLd μ4 3 7515 (i3 + (835 : Int32))).bind fun x9 => (mSt μ4 3 7515 i3 x9).bind fun μ12 => some (.inl (i3 + (1 : Int32), μ12)))
def m_X3_keepsTrial_b54 : (Int32 × MS) → Option ((Int32 × MS) ⊕ (MS)) := fun s => match s with
  | (i25, μ26) => if (835 : Int32) ≤ i25 then (some (.inr μ26)) else ((mLd μ26 3 7515 ((0 : Int32) + i25)).bind fun x31 => (mSt μ26 3 7515 (((835 : Int32) * ((1 : Int32) + (μ26.1 4))) + i25) x31).bind fun μ34 => some (.inl (i25 + (1 : Int32), μ34)))
def m_X3_keepsTrial (μ : MS) : Option (MS) := (if (μ.1 4) = (6 : Int32) then ((iter (m_X3_keepsTrial_b13) FUEL ((835 : Int32), μ)).bind fun μ14 => (some (mSF μ14 4 ((μ14.1 4) - (1 : Int32)))).bind fun μ19 => some μ19) else (some μ) : Option (MS)).bind fun μ24 => (iter (m_X3_keepsTrial_b54) FUEL ((0 : Int32), μ24)).bind fun μ36 => (some (mSF μ36 4 ((μ36.1 4) + (1 : Int32)))).bind fun μ41 => some μ41
abbrev M_X3_keepsTrial : MD := (yX3_keepsTrial, cX3_keepsTrial, 2, none, [])
theorem ok_X3_keepsTrial : mOK yX3_keepsTrial 2 0 := ⟨⟨by decide +kernel, by decide +kernel⟩, by decide +kernel, by decide⟩
theorem w_X3_keepsTrial {l : Launch} {g : GG} {h : AH} {B : BM} {μ : MS} {z : MS} (hM : IsM B h μ) (hT : TX g h) (hn : m_X3_keepsTrial μ = some z) : Sp l g M_X3_keepsTrial 0 [.ref B.1] h (QM B h none z) := by
  refine Sp.ofV (L := [some (.ref B.1), none]) rfl rfl (hcR hc0) (Nat.le_of_ble_eq_true rfl) rfl ?_
  have hM0 : MM B h h μ := ⟨hM, SameM.rf⟩
  unfold m_X3_keepsTrial at hn
  refine V.aload_n dX3_keepsTrial_0 rfl rfl IsR.ref ?_
  refine V.mgetI hM0 dX3_keepsTrial_1 fo_X3_198_0 mi_4 ?_
  refine V.bipush (v := 6) dX3_keepsTrial_4 (by decide) ?_
  obtain ⟨μ24, hA2, hn⟩ := bnd hn
  (try dsimp only at hn)
  have hJ45 : ∀ h24, MM B h h24 μ24 → V l g M_X3_keepsTrial 0 52 [some (.ref B.1), none] [] h24 (QM B h none z) := by
    intro h24 hM24
    refine V.iconst (v := 0) dX3_keepsTrial_52 (by decide) ?_
    refine V.istore_n (i := 1) dX3_keepsTrial_53 rfl (by decide) ?_
    simp only [List.set_cons_zero, List.set_cons_succ]
    obtain ⟨b38, hL37, hn⟩ := bnd hn
    have hJ39 : ∀ (μ36 : MS), μ36 = b38 → ∀ h36, MM B h h36 μ36 → V l g M_X3_keepsTrial 0 92 [some (.ref B.1), none] [] h36 (QM B h none z) := by
      intro μ36 e42 h36 hM36
      subst e42
      (try dsimp only at hn)
      refine V.aload_n dX3_keepsTrial_92 rfl rfl IsR.ref ?_
      refine V.dup dX3_keepsTrial_93 rfl ?_
      refine V.mgetI hM36 dX3_keepsTrial_94 fo_X3_198_0 mi_4 ?_
      refine V.iconst (v := 1) dX3_keepsTrial_97 (by decide) ?_
      refine V.iadd dX3_keepsTrial_98 ?_
      obtain ⟨μ41, e40, hn⟩ := bnd hn
      refine V.mputI hM36 dX3_keepsTrial_99 po_M_198 mi_4 (fun h41 hM41 => ?_)
      rw [Option.some.inj e40] at hM41
      obtain rfl := Option.some.inj hn
      exact V.vret dX3_keepsTrial_102 rfl ⟨rfl, hM41⟩
    refine iter_ind (P := fun (σ : Int32 × MS) => match σ with | (i25, μ26) => ∀ h26, MM B h h26 μ26 → V l g M_X3_keepsTrial 0 54 [some (.ref B.1), some (.int i25)] [] h26 (QM B h none z)) (b := b38) ?_ FUEL ((0 : Int32), μ24) hL37 _ hM24
    rintro ⟨i25, μ26⟩ ρ43 hr27 hi28 hx29 h26 hM26
    unfold m_X3_keepsTrial_b54 at hr27
    (try dsimp only at hr27)
    refine V.iload_n dX3_keepsTrial_54 rfl rfl ?_
    refine V.sipush (v := 835) dX3_keepsTrial_55 (by decide) ?_
    refine V.icmp_ge (tgt := 92) dX3_keepsTrial_58 (by decide) (fun hc35 => ?_) (fun hc35 => ?_)
    · rw [if_pos hc35] at hr27
      obtain rfl := Option.some.inj hr27
      have e44 := hx29 _ rfl
      exact V.forget (llS (llN ll0)) (hJ39 _ e44 _ hM26)
    · rw [if_neg hc35] at hr27
      refine V.aload_n dX3_keepsTrial_61 rfl rfl IsR.ref ?_
      refine V.mgetA hM26 dX3_keepsTrial_62 fo_X3_13_0 ma_3 ?_
      refine V.sipush (v := 835) dX3_keepsTrial_65 (by decide) ?_
      refine V.iconst (v := 1) dX3_keepsTrial_68 (by decide) ?_
      refine V.aload_n dX3_keepsTrial_69 rfl rfl IsR.ref ?_
      refine V.mgetI hM26 dX3_keepsTrial_70 fo_X3_198_0 mi_4 ?_
      refine V.iadd dX3_keepsTrial_73 ?_
      refine V.imul dX3_keepsTrial_74 ?_
      refine V.iload_n dX3_keepsTrial_75 rfl rfl ?_
      refine V.iadd dX3_keepsTrial_76 ?_
      refine V.aload_n dX3_keepsTrial_77 rfl rfl IsR.ref ?_
      refine V.mgetA hM26 dX3_keepsTrial_78 fo_X3_13_0 ma_3 ?_
      refine V.iconst (v := 0) dX3_keepsTrial_81 (by decide) ?_
      refine V.iload_n dX3_keepsTrial_82 rfl rfl ?_
      refine V.iadd dX3_keepsTrial_83 ?_
      obtain ⟨x31, e32, hr27⟩ := bnd hr27
      refine V.miald hM26 dX3_keepsTrial_84 ma_3 (mLd_some e32) ?_
      obtain ⟨μ34, e33, hr27⟩ := bnd hr27
      refine V.miast hM26 dX3_keepsTrial_85 ma_3 (mSt_some e33) (fun h34 hM34 => ?_)
      refine V.iinc (v := i25 + (1 : Int32)) (i := 1) dX3_keepsTrial_86 rfl (by rfl) (by decide) ?_
      simp only [List.set_cons_zero, List.set_cons_succ]
      refine V.goto (tgt := 54) dX3_keepsTrial_89 (by decide) ?_
      obtain rfl := Option.some.inj hr27
      have hi28P := hi28 _ rfl
      exact hi28P _ hM34
  refine V.icmp_ne (tgt := 52) dX3_keepsTrial_6 (by decide) (fun hc23 => ?_) (fun hc23 => ?_)
  · rw [if_neg hc23] at hA2
    obtain rfl := Option.some.inj hA2
    exact hJ45 _ hM0
  · rw [if_pos hc23] at hA2
    refine V.sipush (v := 835) dX3_keepsTrial_9 (by decide) ?_
    refine V.istore_n (i := 1) dX3_keepsTrial_12 rfl (by decide) ?_
    simp only [List.set_cons_zero, List.set_cons_succ]
    obtain ⟨b16, hL15, hA2⟩ := bnd hA2
    have hJ17 : ∀ (μ14 : MS), μ14 = b16 → ∀ h14, MM B h h14 μ14 → V l g M_X3_keepsTrial 0 42 [some (.ref B.1), none] [] h14 (QM B h none z) := by
      intro μ14 e20 h14 hM14
      subst e20
      (try dsimp only at hA2)
      refine V.aload_n dX3_keepsTrial_42 rfl rfl IsR.ref ?_
      refine V.dup dX3_keepsTrial_43 rfl ?_
      refine V.mgetI hM14 dX3_keepsTrial_44 fo_X3_198_0 mi_4 ?_
      refine V.iconst (v := 1) dX3_keepsTrial_47 (by decide) ?_
      refine V.isub dX3_keepsTrial_48 ?_
      obtain ⟨μ19, e18, hA2⟩ := bnd hA2
      refine V.mputI hM14 dX3_keepsTrial_49 po_M_198 mi_4 (fun h19 hM19 => ?_)
      rw [Option.some.inj e18] at hM19
      obtain rfl := Option.some.inj hA2
      exact hJ45 _ hM19
    refine iter_ind (P := fun (σ : Int32 × MS) => match σ with | (i3, μ4) => ∀ h4, MM B h h4 μ4 → V l g M_X3_keepsTrial 0 13 [some (.ref B.1), some (.int i3)] [] h4 (QM B h none z)) (b := b16) ?_ FUEL ((835 : Int32), μ) hL15 _ hM0
    rintro ⟨i3, μ4⟩ ρ21 hr5 hi6 hx7 h4 hM4
    unfold m_X3_keepsTrial_b13 at hr5
    (try dsimp only at hr5)
    refine V.iload_n dX3_keepsTrial_13 rfl rfl ?_
    refine V.sipush (v := 5010) dX3_keepsTrial_14 (by decide) ?_
    refine V.icmp_ge (tgt := 42) dX3_keepsTrial_17 (by decide) (fun hc13 => ?_) (fun hc13 => ?_)
    · rw [if_pos hc13] at hr5
      obtain rfl := Option.some.inj hr5
      have e22 := hx7 _ rfl
      exact V.forget (llS (llN ll0)) (hJ17 _ e22 _ hM4)
    · rw [if_neg hc13] at hr5
      refine V.aload_n dX3_keepsTrial_20 rfl rfl IsR.ref ?_
      refine V.mgetA hM4 dX3_keepsTrial_21 fo_X3_13_0 ma_3 ?_
      refine V.iload_n dX3_keepsTrial_24 rfl rfl ?_
      refine V.aload_n dX3_keepsTrial_25 rfl rfl IsR.ref ?_
      refine V.mgetA hM4 dX3_keepsTrial_26 fo_X3_13_0 ma_3 ?_
      refine V.iload_n dX3_keepsTrial_29 rfl rfl ?_
      refine V.sipush (v := 835) dX3_keepsTrial_30 (by decide) ?_
      refine V.iadd dX3_keepsTrial_33 ?_
      obtain ⟨x9, e10, hr5⟩ := bnd hr5
      refine V.miald hM4 dX3_keepsTrial_34 ma_3 (mLd_some e10) ?_
      obtain ⟨μ12, e11, hr5⟩ := bnd hr5
      refine V.miast hM4 dX3_keepsTrial_35 ma_3 (mSt_some e11) (fun h12 hM12 => ?_)
      refine V.iinc (v := i3 + (1 : Int32)) (i := 1) dX3_keepsTrial_36 rfl (by rfl) (by decide) ?_
      simp only [List.set_cons_zero, List.set_cons_succ]
      refine V.goto (tgt := 13) dX3_keepsTrial_39 (by decide) ?_
      obtain rfl := Option.some.inj hr5
      have hi6P := hi6 _ rfl
      exact hi6P _ hM12
def m_X3_keeps (μ : MS) : Option (MS) := (m_X3_lays (0 : Int32) μ).bind fun μ1 => (m_X3_keepsTrial μ1).bind fun μ3 => some μ3
abbrev M_X3_keeps : MD := (yX3_keeps, cX3_keeps, 1, none, [])
theorem ok_X3_keeps : mOK yX3_keeps 1 0 := ⟨⟨by decide +kernel, by decide +kernel⟩, by decide +kernel, by decide⟩
theorem w_X3_keeps {l : Launch} {g : GG} {h : AH} {B : BM} {μ : MS} {z : MS} (hM : IsM B h μ) (hT : TX g h) (hn : m_X3_keeps μ = some z) : Sp l g M_X3_keeps 1 [.ref B.1] h (QM B h none z) := by
  refine Sp.ofV (L := [some (.ref B.1)]) rfl rfl (hcR hc0) (Nat.le_of_ble_eq_true rfl) rfl ?_
  have hM0 : MM B h h μ := ⟨hM, SameM.rf⟩
  unfold m_X3_keeps at hn
  refine V.aload_n dX3_keeps_0 rfl rfl IsR.ref ?_
  refine V.iconst (v := 0) dX3_keeps_1 (by decide) ?_
  obtain ⟨μ1, e2, hn⟩ := bnd hn
  refine V.invV (as := [.int (0 : Int32)]) (b := B.1) (ci := 0) (w := true) (rc := rc0) dX3_keeps_2 ok_X3_lays (lw_V q2731 q2733 qs129 q151 q2734) rfl hM0.1.1 rfl (by decide) (Nat.le_of_ble_eq_true rfl) (w_X3_lays hM0.1 (hT.mm hM hM0) e2) (kmV hM0.2 (fun h1 hM1 => ?_)) kxM
  refine V.aload_n dX3_keeps_5 rfl rfl IsR.ref ?_
  obtain ⟨μ3, e4, hn⟩ := bnd hn
  refine V.invV (as := []) (b := B.1) (ci := 0) (w := true) (rc := rc0) dX3_keeps_6 ok_X3_keepsTrial (lw_V q2823 q2825 qs143 q151 q2826) rfl hM1.1.1 rfl (by decide) (Nat.le_of_ble_eq_true rfl) (w_X3_keepsTrial hM1.1 (hT.mm hM hM1) e4) (kmV hM1.2 (fun h3 hM3 => ?_)) kxM
  obtain rfl := Option.some.inj hn
  exact V.vret dX3_keeps_9 rfl ⟨rfl, hM3⟩
def m_X3_request (p1 : Int32) (p2 : Int32) (p3 : Int32) (p4 : Int32) (p5 : Int32) (p6 : Int32) (μ : MS) : Option (Int32 × MS) := (m_X3_noRequest p1 p2 p3 p4 p5 p6 μ).bind fun y1 => if y1.1 = (0 : Int32) then ((mLd y1.2 2 835 (1 : Int32)).bind fun x4 => (some (if x4 = (24 : Int32) then ((1 : Int32)) else ((0 : Int32)))).bind fun v9 => (m_X3_refuse v9 (1 : Int32) y1.2).bind fun y10 => if y10.1 = (0 : Int32) then ((m_X3_keeps y10.2).bind fun μ13 => (m_X3_comes p1 p2 p3 p4 p5 p6 μ13).bind fun μ15 => (mLd μ15 2 835 (1 : Int32)).bind fun x17 => some (x17 - (1 : Int32), μ15)) else (some ((0 : Int32), y10.2))) else (some ((0 : Int32), y1.2))
abbrev M_X3_request : MD := (yX3_request, cX3_request, 7, (some .int), [])
theorem ok_X3_request : mOK yX3_request 7 6 := ⟨⟨by decide +kernel, by decide +kernel⟩, by decide +kernel, by decide⟩
theorem w_X3_request {l : Launch} {g : GG} {h : AH} {B : BM} {μ : MS} {p1 : Int32} {p2 : Int32} {p3 : Int32} {p4 : Int32} {p5 : Int32} {p6 : Int32} {z : Int32 × MS} (hM : IsM B h μ) (hT : TX g h) (hn : m_X3_request p1 p2 p3 p4 p5 p6 μ = some z) : Sp l g M_X3_request 11 [.ref B.1, .int p1, .int p2, .int p3, .int p4, .int p5, .int p6] h (QM B h (some (.int z.1)) z.2) := by
  refine Sp.ofV (L := [some (.ref B.1), some (.int p1), some (.int p2), some (.int p3), some (.int p4), some (.int p5), some (.int p6)]) rfl rfl (hcR (hcI (hcI (hcI (hcI (hcI (hcI hc0))))))) (Nat.le_of_ble_eq_true rfl) rfl ?_
  have hM0 : MM B h h μ := ⟨hM, SameM.rf⟩
  unfold m_X3_request at hn
  refine V.aload_n dX3_request_0 rfl rfl IsR.ref ?_
  refine V.iload_n dX3_request_1 rfl rfl ?_
  refine V.iload_n dX3_request_2 rfl rfl ?_
  refine V.iload_n dX3_request_3 rfl rfl ?_
  refine V.iload dX3_request_4 rfl ?_
  refine V.iload dX3_request_6 rfl ?_
  refine V.iload dX3_request_8 rfl ?_
  obtain ⟨y1, e3, hn⟩ := bnd hn
  refine V.invV (as := [.int p1, .int p2, .int p3, .int p4, .int p5, .int p6]) (b := B.1) (ci := 0) (w := true) (rc := rc0) dX3_request_10 ok_X3_noRequest (lw_V q2727 q2729 qs128 q151 q2730) rfl hM0.1.1 rfl (by decide) (Nat.le_of_ble_eq_true rfl) (w_X3_noRequest hM0.1 (hT.mm hM hM0) e3) (kmI hM0.2 (fun h2 hM2 => ?_)) kxM
  refine V.if_ne (tgt := 40) dX3_request_13 (by decide) (fun hc22 => ?_) (fun hc22 => ?_)
  · rw [if_neg hc22] at hn
    refine V.iconst (v := 0) dX3_request_40 (by decide) ?_
    obtain rfl := Option.some.inj hn
    exact V.iret dX3_request_41 rfl ⟨rfl, hM2⟩
  · rw [if_pos hc22] at hn
    refine V.aload_n dX3_request_16 rfl rfl IsR.ref ?_
    refine V.aload_n dX3_request_17 rfl rfl IsR.ref ?_
    refine V.mgetA hM2 dX3_request_18 fo_X3_7_0 ma_2 ?_
    refine V.iconst (v := 1) dX3_request_21 (by decide) ?_
    obtain ⟨x4, e5, hn⟩ := bnd hn
    refine V.miald hM2 dX3_request_22 ma_2 (mLd_some e5) ?_
    refine V.bipush (v := 24) dX3_request_23 (by decide) ?_
    obtain ⟨v9, e21, hn⟩ := bnd hn
    have e21 := Option.some.inj e21
    have hJ20 : V l g M_X3_request 11 33 [some (.ref B.1), some (.int p1), some (.int p2), some (.int p3), some (.int p4), some (.int p5), some (.int p6)] [.int v9, .ref B.1] h2 (QM B h (some (.int z.1)) z.2) := by
      refine V.iconst (v := 1) dX3_request_33 (by decide) ?_
      obtain ⟨y10, e12, hn⟩ := bnd hn
      refine V.invV (as := [.int v9, .int (1 : Int32)]) (b := B.1) (ci := 0) (w := true) (rc := rc0) dX3_request_34 ok_X3_refuse (lw_V q2311 q2313 qs67 q151 q2314) rfl hM2.1.1 rfl (by decide) (Nat.le_of_ble_eq_true rfl) (w_X3_refuse hM2.1 (hT.mm hM hM2) e12) (kmI hM2.2 (fun h11 hM11 => ?_)) kxM
      refine V.if_eq (tgt := 42) dX3_request_37 (by decide) (fun hc19 => ?_) (fun hc19 => ?_)
      · rw [if_pos hc19] at hn
        refine V.aload_n dX3_request_42 rfl rfl IsR.ref ?_
        obtain ⟨μ13, e14, hn⟩ := bnd hn
        refine V.invV (as := []) (b := B.1) (ci := 0) (w := true) (rc := rc0) dX3_request_43 ok_X3_keeps (lw_V q2819 q2821 qs142 q151 q2822) rfl hM11.1.1 rfl (by decide) (Nat.le_of_ble_eq_true rfl) (w_X3_keeps hM11.1 (hT.mm hM hM11) e14) (kmV hM11.2 (fun h13 hM13 => ?_)) kxM
        refine V.aload_n dX3_request_46 rfl rfl IsR.ref ?_
        refine V.iload_n dX3_request_47 rfl rfl ?_
        refine V.iload_n dX3_request_48 rfl rfl ?_
        refine V.iload_n dX3_request_49 rfl rfl ?_
        refine V.iload dX3_request_50 rfl ?_
        refine V.iload dX3_request_52 rfl ?_
        refine V.iload dX3_request_54 rfl ?_
        obtain ⟨μ15, e16, hn⟩ := bnd hn
        refine V.invV (as := [.int p1, .int p2, .int p3, .int p4, .int p5, .int p6]) (b := B.1) (ci := 0) (w := true) (rc := rc0) dX3_request_56 ok_X3_comes (lw_V q2413 q2415 qs84 q151 q2416) rfl hM13.1.1 rfl (by decide) (Nat.le_of_ble_eq_true rfl) (w_X3_comes hM13.1 (hT.mm hM hM13) e16) (kmV hM13.2 (fun h15 hM15 => ?_)) kxM
        refine V.aload_n dX3_request_59 rfl rfl IsR.ref ?_
        refine V.mgetA hM15 dX3_request_60 fo_X3_7_0 ma_2 ?_
        refine V.iconst (v := 1) dX3_request_63 (by decide) ?_
        obtain ⟨x17, e18, hn⟩ := bnd hn
        refine V.miald hM15 dX3_request_64 ma_2 (mLd_some e18) ?_
        refine V.iconst (v := 1) dX3_request_65 (by decide) ?_
        refine V.isub dX3_request_66 ?_
        obtain rfl := Option.some.inj hn
        exact V.iret dX3_request_67 rfl ⟨rfl, hM15⟩
      · rw [if_neg hc19] at hn
        refine V.iconst (v := 0) dX3_request_40 (by decide) ?_
        obtain rfl := Option.some.inj hn
        exact V.iret dX3_request_41 rfl ⟨rfl, hM11⟩
    refine V.icmp_ne (tgt := 32) dX3_request_25 (by decide) (fun hc8 => ?_) (fun hc8 => ?_)
    · skip
      refine V.iconst (v := 0) dX3_request_32 (by decide) ?_
      rw [if_neg hc8] at e21
      subst e21
      exact hJ20
    · skip
      refine V.iconst (v := 1) dX3_request_28 (by decide) ?_
      refine V.goto (tgt := 33) dX3_request_29 (by decide) ?_
      rw [if_pos hc8] at e21
      subst e21
      exact hJ20
def m_X3_cancel (p1 : Int32) (μ : MS) : Option (Int32 × MS) := (m_X3_noCall p1 μ).bind fun y1 => if y1.1 = (0 : Int32) then ((m_X3_isStuck p1 y1.2).bind fun x4 => (m_X3_refuse x4 (3 : Int32) y1.2).bind fun y6 => if y6.1 = (0 : Int32) then ((m_X3_keeps y6.2).bind fun μ9 => (m_X3_countIn (5 : Int32) μ9).bind fun x11 => (m_X3_cancels p1 μ9).bind fun μ13 => (m_X3_countIn (5 : Int32) μ13).bind fun x15 => some (x15 - x11, μ13)) else (some ((0 : Int32), y6.2))) else (some ((0 : Int32), y1.2))
abbrev M_X3_cancel : MD := (yX3_cancel, cX3_cancel, 3, (some .int), [])
theorem ok_X3_cancel : mOK yX3_cancel 3 1 := ⟨⟨by decide +kernel, by decide +kernel⟩, by decide +kernel, by decide⟩
theorem w_X3_cancel {l : Launch} {g : GG} {h : AH} {B : BM} {μ : MS} {p1 : Int32} {z : Int32 × MS} (hM : IsM B h μ) (hT : TX g h) (hn : m_X3_cancel p1 μ = some z) : Sp l g M_X3_cancel 12 [.ref B.1, .int p1] h (QM B h (some (.int z.1)) z.2) := by
  refine Sp.ofV (L := [some (.ref B.1), some (.int p1), none]) rfl rfl (hcR (hcI hc0)) (Nat.le_of_ble_eq_true rfl) rfl ?_
  have hM0 : MM B h h μ := ⟨hM, SameM.rf⟩
  unfold m_X3_cancel at hn
  refine V.aload_n dX3_cancel_0 rfl rfl IsR.ref ?_
  refine V.iload_n dX3_cancel_1 rfl rfl ?_
  obtain ⟨y1, e3, hn⟩ := bnd hn
  refine V.invV (as := [.int p1]) (b := B.1) (ci := 0) (w := true) (rc := rc0) dX3_cancel_2 ok_X3_noCall (lw_V q2651 q2653 qs123 q151 q2654) rfl hM0.1.1 rfl (by decide) (Nat.le_of_ble_eq_true rfl) (w_X3_noCall hM0.1 (hT.mm hM hM0) e3) (kmI hM0.2 (fun h2 hM2 => ?_)) kxM
  refine V.if_ne (tgt := 21) dX3_cancel_5 (by decide) (fun hc18 => ?_) (fun hc18 => ?_)
  · rw [if_neg hc18] at hn
    refine V.iconst (v := 0) dX3_cancel_21 (by decide) ?_
    obtain rfl := Option.some.inj hn
    exact V.iret dX3_cancel_22 rfl ⟨rfl, hM2⟩
  · rw [if_pos hc18] at hn
    refine V.aload_n dX3_cancel_8 rfl rfl IsR.ref ?_
    refine V.aload_n dX3_cancel_9 rfl rfl IsR.ref ?_
    refine V.iload_n dX3_cancel_10 rfl rfl ?_
    obtain ⟨x4, e5, hn⟩ := bnd hn
    refine V.invV (as := [.int p1]) (b := B.1) (ci := 0) (w := true) (rc := rc0) dX3_cancel_11 ok_X3_isStuck (lw_V q2787 q2789 qs135 q151 q2790) rfl hM2.1.1 rfl (by decide) (Nat.le_of_ble_eq_true rfl) (w_X3_isStuck hM2.1 (hT.mm hM hM2) e5) (krI ?_) kxZ
    refine V.iconst (v := 3) dX3_cancel_14 (by decide) ?_
    obtain ⟨y6, e8, hn⟩ := bnd hn
    refine V.invV (as := [.int x4, .int (3 : Int32)]) (b := B.1) (ci := 0) (w := true) (rc := rc0) dX3_cancel_15 ok_X3_refuse (lw_V q2311 q2313 qs67 q151 q2314) rfl hM2.1.1 rfl (by decide) (Nat.le_of_ble_eq_true rfl) (w_X3_refuse hM2.1 (hT.mm hM hM2) e8) (kmI hM2.2 (fun h7 hM7 => ?_)) kxM
    refine V.if_eq (tgt := 23) dX3_cancel_18 (by decide) (fun hc17 => ?_) (fun hc17 => ?_)
    · rw [if_pos hc17] at hn
      refine V.aload_n dX3_cancel_23 rfl rfl IsR.ref ?_
      obtain ⟨μ9, e10, hn⟩ := bnd hn
      refine V.invV (as := []) (b := B.1) (ci := 0) (w := true) (rc := rc0) dX3_cancel_24 ok_X3_keeps (lw_V q2819 q2821 qs142 q151 q2822) rfl hM7.1.1 rfl (by decide) (Nat.le_of_ble_eq_true rfl) (w_X3_keeps hM7.1 (hT.mm hM hM7) e10) (kmV hM7.2 (fun h9 hM9 => ?_)) kxM
      refine V.aload_n dX3_cancel_27 rfl rfl IsR.ref ?_
      refine V.iconst (v := 5) dX3_cancel_28 (by decide) ?_
      obtain ⟨x11, e12, hn⟩ := bnd hn
      refine V.invV (as := [.int (5 : Int32)]) (b := B.1) (ci := 0) (w := true) (rc := rc0) dX3_cancel_29 ok_X3_countIn (lw_V q2532 q2534 qs113 q151 q2535) rfl hM9.1.1 rfl (by decide) (Nat.le_of_ble_eq_true rfl) (w_X3_countIn hM9.1 (hT.mm hM hM9) e12) (krI ?_) kxZ
      refine V.istore_n (i := 2) dX3_cancel_32 rfl (by decide) ?_
      simp only [List.set_cons_zero, List.set_cons_succ]
      refine V.aload_n dX3_cancel_33 rfl rfl IsR.ref ?_
      refine V.iload_n dX3_cancel_34 rfl rfl ?_
      obtain ⟨μ13, e14, hn⟩ := bnd hn
      refine V.invV (as := [.int p1]) (b := B.1) (ci := 0) (w := true) (rc := rc0) dX3_cancel_35 ok_X3_cancels (lw_V q2795 q2797 qs137 q151 q2798) rfl hM9.1.1 rfl (by decide) (Nat.le_of_ble_eq_true rfl) (w_X3_cancels hM9.1 (hT.mm hM hM9) e14) (kmV hM9.2 (fun h13 hM13 => ?_)) kxM
      refine V.aload_n dX3_cancel_38 rfl rfl IsR.ref ?_
      refine V.iconst (v := 5) dX3_cancel_39 (by decide) ?_
      obtain ⟨x15, e16, hn⟩ := bnd hn
      refine V.invV (as := [.int (5 : Int32)]) (b := B.1) (ci := 0) (w := true) (rc := rc0) dX3_cancel_40 ok_X3_countIn (lw_V q2532 q2534 qs113 q151 q2535) rfl hM13.1.1 rfl (by decide) (Nat.le_of_ble_eq_true rfl) (w_X3_countIn hM13.1 (hT.mm hM hM13) e16) (krI ?_) kxZ
      refine V.iload_n dX3_cancel_43 rfl rfl ?_
      refine V.isub dX3_cancel_44 ?_
      obtain rfl := Option.some.inj hn
      exact V.iret dX3_cancel_45 rfl ⟨rfl, hM13⟩
    · rw [if_neg hc17] at hn
      refine V.iconst (v := 0) dX3_cancel_21 (by decide) ?_
      obtain rfl := Option.some.inj hn
      exact V.iret dX3_cancel_22 rfl ⟨rfl, hM7⟩
def m_X3_areAllPossible_b2 (μ : MS) : (Int32) → Option ((Int32) ⊕ ((Unit) ⊕ (Int32))) := fun i1 => (mLd μ 20 184 (8 : Int32)).bind fun x6 => if x6 ≤ i1 then (some (.inr (.inr (1 : Int32)))) else ((m_X3_fixed i1 μ).bind fun x9 => (m_X3_isPossible i1 x9 μ).bind fun x11 => if x11 = (0 : Int32) then (some (.inr (.inl ()))) else (some (.inl (i1 + (1 : Int32)))))
def m_X3_areAllPossible (μ : MS) : Option (Int32) := (iter (m_X3_areAllPossible_b2 μ) FUEL (0 : Int32)).bind fun y => match y with | .inr e => some e | .inl _u => some (0 : Int32)
abbrev M_X3_areAllPossible : MD := (yX3_areAllPossible, cX3_areAllPossible, 2, (some .boolean), [])
theorem ok_X3_areAllPossible : mOK yX3_areAllPossible 2 0 := ⟨⟨by decide +kernel, by decide +kernel⟩, by decide +kernel, by decide⟩
theorem w_X3_areAllPossible {l : Launch} {g : GG} {h : AH} {B : BM} {μ : MS} {z : Int32} (hM : IsM B h μ) (hT : TX g h) (hn : m_X3_areAllPossible μ = some z) : Sp l g M_X3_areAllPossible 7 [.ref B.1] h (QZ (some (.int z)) h) := by
  refine Sp.ofV (L := [some (.ref B.1), none]) rfl rfl (hcR hc0) (Nat.le_of_ble_eq_true rfl) rfl ?_
  have hM0 : MM B h h μ := ⟨hM, SameM.rf⟩
  unfold m_X3_areAllPossible at hn
  refine V.iconst (v := 0) dX3_areAllPossible_0 (by decide) ?_
  refine V.istore_n (i := 1) dX3_areAllPossible_1 rfl (by decide) ?_
  simp only [List.set_cons_zero, List.set_cons_succ]
  obtain ⟨b16, hL15, hn⟩ := bnd hn
  have hJ17 : ∀ (_u : Unit), .inl _u = b16 → V l g M_X3_areAllPossible 7 26 [none, none] [] h (QZ (some (.int z)) h) := by
    intro _u e18
    subst e18
    (try dsimp only at hn)
    refine V.iconst (v := 0) dX3_areAllPossible_26 (by decide) ?_
    obtain rfl := Option.some.inj hn
    exact V.zret dX3_areAllPossible_27 rfl rfl ⟨rfl, rfl⟩
  refine iter_ind (P := fun (i1 : Int32) => V l g M_X3_areAllPossible 7 2 [some (.ref B.1), some (.int i1)] [] h (QZ (some (.int z)) h)) (b := b16) ?_ FUEL (0 : Int32) hL15
  rintro i1 ρ19 hr2 hi3 hx4
  unfold m_X3_areAllPossible_b2 at hr2
  (try dsimp only at hr2)
  refine V.iload_n dX3_areAllPossible_2 rfl rfl ?_
  refine V.aload_n dX3_areAllPossible_3 rfl rfl IsR.ref ?_
  refine V.mgetA hM0 dX3_areAllPossible_4 fo_X3_33_0 ma_20 ?_
  refine V.bipush (v := 8) dX3_areAllPossible_7 (by decide) ?_
  obtain ⟨x6, e7, hr2⟩ := bnd hr2
  refine V.miald hM0 dX3_areAllPossible_9 ma_20 (mLd_some e7) ?_
  refine V.icmp_ge (tgt := 34) dX3_areAllPossible_10 (by decide) (fun hc14 => ?_) (fun hc14 => ?_)
  · rw [if_pos hc14] at hr2
    refine V.iconst (v := 1) dX3_areAllPossible_34 (by decide) ?_
    obtain rfl := Option.some.inj hr2
    have e8 := hx4 _ rfl
    subst e8
    (try dsimp only at hn)
    obtain rfl := Option.some.inj hn
    exact V.zret dX3_areAllPossible_35 rfl rfl ⟨rfl, rfl⟩
  · rw [if_neg hc14] at hr2
    refine V.aload_n dX3_areAllPossible_13 rfl rfl IsR.ref ?_
    refine V.iload_n dX3_areAllPossible_14 rfl rfl ?_
    refine V.aload_n dX3_areAllPossible_15 rfl rfl IsR.ref ?_
    refine V.iload_n dX3_areAllPossible_16 rfl rfl ?_
    obtain ⟨x9, e10, hr2⟩ := bnd hr2
    refine V.invV (as := [.int i1]) (b := B.1) (ci := 0) (w := true) (rc := rc0) dX3_areAllPossible_17 ok_X3_fixed (lw_V q2429 q2431 qs88 q151 q2432) rfl hM0.1.1 rfl (by decide) (Nat.le_of_ble_eq_true rfl) (w_X3_fixed hM0.1 (hT.mm hM hM0) e10) (krI ?_) kxZ
    obtain ⟨x11, e12, hr2⟩ := bnd hr2
    refine V.invV (as := [.int i1, .int x9]) (b := B.1) (ci := 0) (w := true) (rc := rc0) dX3_areAllPossible_20 ok_X3_isPossible (lw_V q2803 q2805 qs139 q151 q2806) rfl hM0.1.1 rfl (by decide) (Nat.le_of_ble_eq_true rfl) (w_X3_isPossible hM0.1 (hT.mm hM hM0) e12) (krI ?_) kxZ
    refine V.if_ne (tgt := 28) dX3_areAllPossible_23 (by decide) (fun hc13 => ?_) (fun hc13 => ?_)
    · rw [if_neg hc13] at hr2
      refine V.iinc (v := i1 + (1 : Int32)) (i := 1) dX3_areAllPossible_28 rfl (by rfl) (by decide) ?_
      simp only [List.set_cons_zero, List.set_cons_succ]
      refine V.goto (tgt := 2) dX3_areAllPossible_31 (by decide) ?_
      obtain rfl := Option.some.inj hr2
      have hi3P := hi3 _ rfl
      exact hi3P
    · rw [if_pos hc13] at hr2
      obtain rfl := Option.some.inj hr2
      have e20 := hx4 _ rfl
      exact V.forget (llN (llN ll0)) (hJ17 _ e20)
def m_X3_postpone (p1 : Int32) (p2 : Int32) (μ : MS) : Option (Int32 × MS) := (m_X3_noCall p1 μ).bind fun y1 => if y1.1 = (0 : Int32) then ((m_X3_isStuck p1 y1.2).bind fun x4 => (if x4 = (0 : Int32) then ((m_X3_in p2 (0 : Int32) (1440 : Int32)).bind fun x8 => if x8 = (0 : Int32) then (some (1 : Int32)) else (some (0 : Int32))) else (some (1 : Int32)) : Option (Int32)).bind fun v12 => (m_X3_refuse v12 (3 : Int32) y1.2).bind fun y13 => if y13.1 = (0 : Int32) then ((m_X3_lays (0 : Int32) y13.2).bind fun μ16 => (m_X3_vanWith p1 μ16).bind fun x18 => (m_X3_takesOut x18 p1 μ16).bind fun μ20 => (m_X3_lets p1 (5 : Int32) p2 μ20).bind fun μ22 => (m_X3_inserts p1 μ22).bind fun y24 => (if y24.1 = (0 : Int32) then (some (.inl ())) else ((m_X3_areAllPossible y24.2).bind fun x29 => if x29 = (0 : Int32) then (some (.inl ())) else ((m_X3_begin (y24.2.1 22) (y24.2.1 23) y24.2).bind fun x31 => (m_X3_lets p1 (7 : Int32) x31 y24.2).bind fun μ33 => (m_X3_keepsTrial μ33).bind fun μ35 => some (.inr (x31, μ35)))) : Option ((Unit) ⊕ (Int32 × MS))).bind fun y => match y with | .inr e => some e | .inl _u => (m_X3_fetches (0 : Int32) y24.2).bind fun μ39 => (m_X3_refuse (1 : Int32) (3 : Int32) μ39).bind fun y41 => if y41.1 = (0 : Int32) then (some ((-1 : Int32), y41.2)) else (some ((0 : Int32), y41.2))) else (some ((0 : Int32), y13.2))) else (some ((0 : Int32), y1.2))
abbrev M_X3_postpone : MD := (yX3_postpone, cX3_postpone, 4, (some .int), [])
theorem ok_X3_postpone : mOK yX3_postpone 4 2 := ⟨⟨by decide +kernel, by decide +kernel⟩, by decide +kernel, by decide⟩
theorem w_X3_postpone {l : Launch} {g : GG} {h : AH} {B : BM} {μ : MS} {p1 : Int32} {p2 : Int32} {z : Int32 × MS} (hM : IsM B h μ) (hT : TX g h) (hn : m_X3_postpone p1 p2 μ = some z) : Sp l g M_X3_postpone 10 [.ref B.1, .int p1, .int p2] h (QM B h (some (.int z.1)) z.2) := by
  refine Sp.ofV (L := [some (.ref B.1), some (.int p1), some (.int p2), none]) rfl rfl (hcR (hcI (hcI hc0))) (Nat.le_of_ble_eq_true rfl) rfl ?_
  have hM0 : MM B h h μ := ⟨hM, SameM.rf⟩
  unfold m_X3_postpone at hn
  refine V.aload_n dX3_postpone_0 rfl rfl IsR.ref ?_
  refine V.iload_n dX3_postpone_1 rfl rfl ?_
  obtain ⟨y1, e3, hn⟩ := bnd hn
  refine V.invV (as := [.int p1]) (b := B.1) (ci := 0) (w := true) (rc := rc0) dX3_postpone_2 ok_X3_noCall (lw_V q2651 q2653 qs123 q151 q2654) rfl hM0.1.1 rfl (by decide) (Nat.le_of_ble_eq_true rfl) (w_X3_noCall hM0.1 (hT.mm hM hM0) e3) (kmI hM0.2 (fun h2 hM2 => ?_)) kxM
  refine V.if_ne (tgt := 40) dX3_postpone_5 (by decide) (fun hc50 => ?_) (fun hc50 => ?_)
  · rw [if_neg hc50] at hn
    refine V.iconst (v := 0) dX3_postpone_40 (by decide) ?_
    obtain rfl := Option.some.inj hn
    exact V.iret dX3_postpone_41 rfl ⟨rfl, hM2⟩
  · rw [if_pos hc50] at hn
    refine V.aload_n dX3_postpone_8 rfl rfl IsR.ref ?_
    refine V.aload_n dX3_postpone_9 rfl rfl IsR.ref ?_
    refine V.iload_n dX3_postpone_10 rfl rfl ?_
    obtain ⟨x4, e5, hn⟩ := bnd hn
    refine V.invV (as := [.int p1]) (b := B.1) (ci := 0) (w := true) (rc := rc0) dX3_postpone_11 ok_X3_isStuck (lw_V q2787 q2789 qs135 q151 q2790) rfl hM2.1.1 rfl (by decide) (Nat.le_of_ble_eq_true rfl) (w_X3_isStuck hM2.1 (hT.mm hM hM2) e5) (krI ?_) kxZ
    obtain ⟨v12, hA7, hn⟩ := bnd hn
    (try dsimp only at hn)
    have hJ49 : V l g M_X3_postpone 10 33 [some (.ref B.1), some (.int p1), some (.int p2), none] [.int v12, .ref B.1] h2 (QM B h (some (.int z.1)) z.2) := by
      refine V.iconst (v := 3) dX3_postpone_33 (by decide) ?_
      obtain ⟨y13, e15, hn⟩ := bnd hn
      refine V.invV (as := [.int v12, .int (3 : Int32)]) (b := B.1) (ci := 0) (w := true) (rc := rc0) dX3_postpone_34 ok_X3_refuse (lw_V q2311 q2313 qs67 q151 q2314) rfl hM2.1.1 rfl (by decide) (Nat.le_of_ble_eq_true rfl) (w_X3_refuse hM2.1 (hT.mm hM hM2) e15) (kmI hM2.2 (fun h14 hM14 => ?_)) kxM
      refine V.if_eq (tgt := 42) dX3_postpone_37 (by decide) (fun hc48 => ?_) (fun hc48 => ?_)
      · rw [if_pos hc48] at hn
        refine V.aload_n dX3_postpone_42 rfl rfl IsR.ref ?_
        refine V.iconst (v := 0) dX3_postpone_43 (by decide) ?_
        obtain ⟨μ16, e17, hn⟩ := bnd hn
        refine V.invV (as := [.int (0 : Int32)]) (b := B.1) (ci := 0) (w := true) (rc := rc0) dX3_postpone_44 ok_X3_lays (lw_V q2731 q2733 qs129 q151 q2734) rfl hM14.1.1 rfl (by decide) (Nat.le_of_ble_eq_true rfl) (w_X3_lays hM14.1 (hT.mm hM hM14) e17) (kmV hM14.2 (fun h16 hM16 => ?_)) kxM
        refine V.aload_n dX3_postpone_47 rfl rfl IsR.ref ?_
        refine V.aload_n dX3_postpone_48 rfl rfl IsR.ref ?_
        refine V.iload_n dX3_postpone_49 rfl rfl ?_
        obtain ⟨x18, e19, hn⟩ := bnd hn
        refine V.invV (as := [.int p1]) (b := B.1) (ci := 0) (w := true) (rc := rc0) dX3_postpone_50 ok_X3_vanWith (lw_V q2659 q2661 qs124 q151 q2662) rfl hM16.1.1 rfl (by decide) (Nat.le_of_ble_eq_true rfl) (w_X3_vanWith hM16.1 (hT.mm hM hM16) e19) (krI ?_) kxZ
        refine V.iload_n dX3_postpone_53 rfl rfl ?_
        obtain ⟨μ20, e21, hn⟩ := bnd hn
        refine V.invV (as := [.int x18, .int p1]) (b := B.1) (ci := 0) (w := true) (rc := rc0) dX3_postpone_54 ok_X3_takesOut (lw_V q2799 q2801 qs138 q151 q2802) rfl hM16.1.1 rfl (by decide) (Nat.le_of_ble_eq_true rfl) (w_X3_takesOut hM16.1 (hT.mm hM hM16) e21) (kmV hM16.2 (fun h20 hM20 => ?_)) kxM
        refine V.aload_n dX3_postpone_57 rfl rfl IsR.ref ?_
        refine V.iload_n dX3_postpone_58 rfl rfl ?_
        refine V.iconst (v := 5) dX3_postpone_59 (by decide) ?_
        refine V.iload_n dX3_postpone_60 rfl rfl ?_
        obtain ⟨μ22, e23, hn⟩ := bnd hn
        refine V.invV (as := [.int p1, .int (5 : Int32), .int p2]) (b := B.1) (ci := 0) (w := true) (rc := rc0) dX3_postpone_61 ok_X3_lets (lw_V q2417 q2419 qs85 q151 q2420) rfl hM20.1.1 rfl (by decide) (Nat.le_of_ble_eq_true rfl) (w_X3_lets hM20.1 (hT.mm hM hM20) e23) (kmV hM20.2 (fun h22 hM22 => ?_)) kxM
        refine V.aload_n dX3_postpone_64 rfl rfl IsR.ref ?_
        refine V.iload_n dX3_postpone_65 rfl rfl ?_
        obtain ⟨y24, e26, hn⟩ := bnd hn
        refine V.invV (as := [.int p1]) (b := B.1) (ci := 0) (w := true) (rc := rc0) dX3_postpone_66 ok_X3_inserts (lw_V q2421 q2423 qs86 q151 q2424) rfl hM22.1.1 rfl (by decide) (Nat.le_of_ble_eq_true rfl) (w_X3_inserts hM22.1 (hT.mm hM hM22) e26) (kmI hM22.2 (fun h25 hM25 => ?_)) kxM
        obtain ⟨y46, hA28, hn⟩ := bnd hn
        have hJ45 : ∀ (_u : Unit), y46 = .inl _u → V l g M_X3_postpone 10 79 [some (.ref B.1), none, none, none] [] h25 (QM B h (some (.int z.1)) z.2) := by
          intro _u e47
          subst e47
          (try dsimp only at hn)
          refine V.aload_n dX3_postpone_79 rfl rfl IsR.ref ?_
          refine V.iconst (v := 0) dX3_postpone_80 (by decide) ?_
          obtain ⟨μ39, e40, hn⟩ := bnd hn
          refine V.invV (as := [.int (0 : Int32)]) (b := B.1) (ci := 0) (w := true) (rc := rc0) dX3_postpone_81 ok_X3_fetches (lw_V q2735 q2737 qs130 q151 q2738) rfl hM25.1.1 rfl (by decide) (Nat.le_of_ble_eq_true rfl) (w_X3_fetches hM25.1 (hT.mm hM hM25) e40) (kmV hM25.2 (fun h39 hM39 => ?_)) kxM
          refine V.aload_n dX3_postpone_84 rfl rfl IsR.ref ?_
          refine V.iconst (v := 1) dX3_postpone_85 (by decide) ?_
          refine V.iconst (v := 3) dX3_postpone_86 (by decide) ?_
          obtain ⟨y41, e43, hn⟩ := bnd hn
          refine V.invV (as := [.int (1 : Int32), .int (3 : Int32)]) (b := B.1) (ci := 0) (w := true) (rc := rc0) dX3_postpone_87 ok_X3_refuse (lw_V q2311 q2313 qs67 q151 q2314) rfl hM39.1.1 rfl (by decide) (Nat.le_of_ble_eq_true rfl) (w_X3_refuse hM39.1 (hT.mm hM hM39) e43) (kmI hM39.2 (fun h42 hM42 => ?_)) kxM
          refine V.if_eq (tgt := 97) dX3_postpone_90 (by decide) (fun hc44 => ?_) (fun hc44 => ?_)
          · rw [if_pos hc44] at hn
            refine V.iconst (v := -1) dX3_postpone_97 (by decide) ?_
            obtain rfl := Option.some.inj hn
            exact V.iret dX3_postpone_98 rfl ⟨rfl, hM42⟩
          · rw [if_neg hc44] at hn
            refine V.iconst (v := 0) dX3_postpone_93 (by decide) ?_
            refine V.goto (tgt := 98) dX3_postpone_94 (by decide) ?_
            obtain rfl := Option.some.inj hn
            exact V.iret dX3_postpone_98 rfl ⟨rfl, hM42⟩
        refine V.if_eq (tgt := 79) dX3_postpone_69 (by decide) (fun hc38 => ?_) (fun hc38 => ?_)
        · rw [if_pos hc38] at hA28
          obtain rfl := Option.some.inj hA28
          exact V.forget (llS (llN (llN (llN ll0)))) (hJ45 _ rfl)
        · rw [if_neg hc38] at hA28
          refine V.aload_n dX3_postpone_72 rfl rfl IsR.ref ?_
          obtain ⟨x29, e30, hA28⟩ := bnd hA28
          refine V.invV (as := []) (b := B.1) (ci := 0) (w := true) (rc := rc0) dX3_postpone_73 ok_X3_areAllPossible (lw_V q2835 q2837 qs144 q151 q2838) rfl hM25.1.1 rfl (by decide) (Nat.le_of_ble_eq_true rfl) (w_X3_areAllPossible hM25.1 (hT.mm hM hM25) e30) (krI ?_) kxZ
          refine V.if_ne (tgt := 99) dX3_postpone_76 (by decide) (fun hc37 => ?_) (fun hc37 => ?_)
          · rw [if_neg hc37] at hA28
            refine V.aload_n dX3_postpone_99 rfl rfl IsR.ref ?_
            refine V.aload_n dX3_postpone_100 rfl rfl IsR.ref ?_
            refine V.mgetI hM25 dX3_postpone_101 fo_X3_310_0 mi_22 ?_
            refine V.aload_n dX3_postpone_104 rfl rfl IsR.ref ?_
            refine V.mgetI hM25 dX3_postpone_105 fo_X3_319_0 mi_23 ?_
            obtain ⟨x31, e32, hA28⟩ := bnd hA28
            refine V.invV (as := [.int (y24.2.1 22), .int (y24.2.1 23)]) (b := B.1) (ci := 0) (w := true) (rc := rc0) dX3_postpone_108 ok_X3_begin (lw_V q2464 q2466 qs96 q151 q2467) rfl hM25.1.1 rfl (by decide) (Nat.le_of_ble_eq_true rfl) (w_X3_begin hM25.1 (hT.mm hM hM25) e32) (krI ?_) kxZ
            refine V.istore_n (i := 3) dX3_postpone_111 rfl (by decide) ?_
            simp only [List.set_cons_zero, List.set_cons_succ]
            refine V.aload_n dX3_postpone_112 rfl rfl IsR.ref ?_
            refine V.iload_n dX3_postpone_113 rfl rfl ?_
            refine V.bipush (v := 7) dX3_postpone_114 (by decide) ?_
            refine V.iload_n dX3_postpone_116 rfl rfl ?_
            obtain ⟨μ33, e34, hA28⟩ := bnd hA28
            refine V.invV (as := [.int p1, .int (7 : Int32), .int x31]) (b := B.1) (ci := 0) (w := true) (rc := rc0) dX3_postpone_117 ok_X3_lets (lw_V q2417 q2419 qs85 q151 q2420) rfl hM25.1.1 rfl (by decide) (Nat.le_of_ble_eq_true rfl) (w_X3_lets hM25.1 (hT.mm hM hM25) e34) (kmV hM25.2 (fun h33 hM33 => ?_)) kxM
            refine V.aload_n dX3_postpone_120 rfl rfl IsR.ref ?_
            obtain ⟨μ35, e36, hA28⟩ := bnd hA28
            refine V.invV (as := []) (b := B.1) (ci := 0) (w := true) (rc := rc0) dX3_postpone_121 ok_X3_keepsTrial (lw_V q2823 q2825 qs143 q151 q2826) rfl hM33.1.1 rfl (by decide) (Nat.le_of_ble_eq_true rfl) (w_X3_keepsTrial hM33.1 (hT.mm hM hM33) e36) (kmV hM33.2 (fun h35 hM35 => ?_)) kxM
            refine V.iload_n dX3_postpone_124 rfl rfl ?_
            obtain rfl := Option.some.inj hA28
            (try dsimp only at hn)
            obtain rfl := Option.some.inj hn
            exact V.iret dX3_postpone_125 rfl ⟨rfl, hM35⟩
          · rw [if_pos hc37] at hA28
            obtain rfl := Option.some.inj hA28
            exact V.forget (llS (llN (llN (llN ll0)))) (hJ45 _ rfl)
      · rw [if_neg hc48] at hn
        refine V.iconst (v := 0) dX3_postpone_40 (by decide) ?_
        obtain rfl := Option.some.inj hn
        exact V.iret dX3_postpone_41 rfl ⟨rfl, hM14⟩
    refine V.if_ne (tgt := 28) dX3_postpone_14 (by decide) (fun hc11 => ?_) (fun hc11 => ?_)
    · rw [if_neg hc11] at hA7
      refine V.iconst (v := 1) dX3_postpone_28 (by decide) ?_
      refine V.goto (tgt := 33) dX3_postpone_29 (by decide) ?_
      obtain rfl := Option.some.inj hA7
      exact hJ49
    · rw [if_pos hc11] at hA7
      refine V.iload_n dX3_postpone_17 rfl rfl ?_
      refine V.iconst (v := 0) dX3_postpone_18 (by decide) ?_
      refine V.sipush (v := 1440) dX3_postpone_19 (by decide) ?_
      obtain ⟨x8, e9, hA7⟩ := bnd hA7
      refine V.invS (as := [.int p2, .int (0 : Int32), .int (1440 : Int32)]) dX3_postpone_22 ok_X3_in (lw_S q2308 q2309 q151 q2310) (by decide) (Nat.le_of_ble_eq_true rfl) (w_X3_in e9) (krI ?_) kxZ
      refine V.if_ne (tgt := 32) dX3_postpone_25 (by decide) (fun hc10 => ?_) (fun hc10 => ?_)
      · rw [if_neg hc10] at hA7
        refine V.iconst (v := 0) dX3_postpone_32 (by decide) ?_
        obtain rfl := Option.some.inj hA7
        exact hJ49
      · rw [if_pos hc10] at hA7
        refine V.iconst (v := 1) dX3_postpone_28 (by decide) ?_
        refine V.goto (tgt := 33) dX3_postpone_29 (by decide) ?_
        obtain rfl := Option.some.inj hA7
        exact hJ49
def m_X3_setUntil (p1 : Int32) (p2 : Int32) (μ : MS) : Option (Int32 × MS) := (m_X3_noVan p1 μ).bind fun y1 => if y1.1 = (0 : Int32) then ((m_X3_van p1 (4 : Int32) y1.2).bind fun x4 => (m_X3_in p2 x4 (1440 : Int32)).bind fun x6 => (some (if x6 = (0 : Int32) then ((1 : Int32)) else ((0 : Int32)))).bind fun v11 => (m_X3_refuse v11 (3 : Int32) y1.2).bind fun y12 => if y12.1 = (0 : Int32) then ((m_X3_lays (0 : Int32) y12.2).bind fun μ15 => (mSt μ15 2 835 ((2 : Int32) + p1) p2).bind fun μ18 => (m_X3_empties p1 μ18).bind fun μ19 => (m_X3_fixed p1 μ19).bind fun x21 => (m_X3_isPossible p1 x21 μ19).bind fun x23 => (m_X3_fetches (0 : Int32) μ19).bind fun μ25 => (some (if x23 = (0 : Int32) then ((1 : Int32)) else ((0 : Int32)))).bind fun v30 => (m_X3_refuse v30 (3 : Int32) μ25).bind fun y31 => if y31.1 = (0 : Int32) then ((m_X3_keepsTrial y31.2).bind fun μ34 => (m_X3_countIn (5 : Int32) μ34).bind fun x36 => (mSt μ34 2 835 ((2 : Int32) + p1) p2).bind fun μ39 => (m_X3_fixed p1 μ39).bind fun x40 => (m_X3_isPossible p1 x40 μ39).bind fun x42 => (if x42 = (0 : Int32) then ((m_X3_repairs p1 μ39).bind fun μ46 => some μ46) else (some μ39) : Option (MS)).bind fun μ49 => (m_X3_countIn (5 : Int32) μ49).bind fun x50 => some (x50 - x36, μ49)) else (some ((0 : Int32), y31.2))) else (some ((0 : Int32), y12.2))) else (some ((0 : Int32), y1.2))
abbrev M_X3_setUntil : MD := (yX3_setUntil, cX3_setUntil, 5, (some .int), [])
theorem ok_X3_setUntil : mOK yX3_setUntil 5 2 := ⟨⟨by decide +kernel, by decide +kernel⟩, by decide +kernel, by decide⟩
theorem w_X3_setUntil {l : Launch} {g : GG} {h : AH} {B : BM} {μ : MS} {p1 : Int32} {p2 : Int32} {z : Int32 × MS} (hM : IsM B h μ) (hT : TX g h) (hn : m_X3_setUntil p1 p2 μ = some z) : Sp l g M_X3_setUntil 11 [.ref B.1, .int p1, .int p2] h (QM B h (some (.int z.1)) z.2) := by
  refine Sp.ofV (L := [some (.ref B.1), some (.int p1), some (.int p2), none, none]) rfl rfl (hcR (hcI (hcI hc0))) (Nat.le_of_ble_eq_true rfl) rfl ?_
  have hM0 : MM B h h μ := ⟨hM, SameM.rf⟩
  unfold m_X3_setUntil at hn
  refine V.aload_n dX3_setUntil_0 rfl rfl IsR.ref ?_
  refine V.iload_n dX3_setUntil_1 rfl rfl ?_
  obtain ⟨y1, e3, hn⟩ := bnd hn
  refine V.invV (as := [.int p1]) (b := B.1) (ci := 0) (w := true) (rc := rc0) dX3_setUntil_2 ok_X3_noVan (lw_V q2560 q2562 qs115 q151 q2563) rfl hM0.1.1 rfl (by decide) (Nat.le_of_ble_eq_true rfl) (w_X3_noVan hM0.1 (hT.mm hM hM0) e3) (kmI hM0.2 (fun h2 hM2 => ?_)) kxM
  refine V.if_ne (tgt := 37) dX3_setUntil_5 (by decide) (fun hc59 => ?_) (fun hc59 => ?_)
  · rw [if_neg hc59] at hn
    refine V.iconst (v := 0) dX3_setUntil_37 (by decide) ?_
    obtain rfl := Option.some.inj hn
    exact V.iret dX3_setUntil_38 rfl ⟨rfl, hM2⟩
  · rw [if_pos hc59] at hn
    refine V.aload_n dX3_setUntil_8 rfl rfl IsR.ref ?_
    refine V.iload_n dX3_setUntil_9 rfl rfl ?_
    refine V.aload_n dX3_setUntil_10 rfl rfl IsR.ref ?_
    refine V.iload_n dX3_setUntil_11 rfl rfl ?_
    refine V.iconst (v := 4) dX3_setUntil_12 (by decide) ?_
    obtain ⟨x4, e5, hn⟩ := bnd hn
    refine V.invV (as := [.int p1, .int (4 : Int32)]) (b := B.1) (ci := 0) (w := true) (rc := rc0) dX3_setUntil_13 ok_X3_van (lw_V q2409 q2411 qs83 q151 q2412) rfl hM2.1.1 rfl (by decide) (Nat.le_of_ble_eq_true rfl) (w_X3_van hM2.1 (hT.mm hM hM2) e5) (krI ?_) kxZ
    refine V.sipush (v := 1440) dX3_setUntil_16 (by decide) ?_
    obtain ⟨x6, e7, hn⟩ := bnd hn
    refine V.invS (as := [.int p2, .int x4, .int (1440 : Int32)]) dX3_setUntil_19 ok_X3_in (lw_S q2308 q2309 q151 q2310) (by decide) (Nat.le_of_ble_eq_true rfl) (w_X3_in e7) (krI ?_) kxZ
    obtain ⟨v11, e58, hn⟩ := bnd hn
    have e58 := Option.some.inj e58
    have hJ57 : V l g M_X3_setUntil 11 30 [some (.ref B.1), some (.int p1), some (.int p2), none, none] [.int v11, .ref B.1] h2 (QM B h (some (.int z.1)) z.2) := by
      refine V.iconst (v := 3) dX3_setUntil_30 (by decide) ?_
      obtain ⟨y12, e14, hn⟩ := bnd hn
      refine V.invV (as := [.int v11, .int (3 : Int32)]) (b := B.1) (ci := 0) (w := true) (rc := rc0) dX3_setUntil_31 ok_X3_refuse (lw_V q2311 q2313 qs67 q151 q2314) rfl hM2.1.1 rfl (by decide) (Nat.le_of_ble_eq_true rfl) (w_X3_refuse hM2.1 (hT.mm hM hM2) e14) (kmI hM2.2 (fun h13 hM13 => ?_)) kxM
      refine V.if_eq (tgt := 39) dX3_setUntil_34 (by decide) (fun hc56 => ?_) (fun hc56 => ?_)
      · rw [if_pos hc56] at hn
        refine V.aload_n dX3_setUntil_39 rfl rfl IsR.ref ?_
        refine V.iconst (v := 0) dX3_setUntil_40 (by decide) ?_
        obtain ⟨μ15, e16, hn⟩ := bnd hn
        refine V.invV (as := [.int (0 : Int32)]) (b := B.1) (ci := 0) (w := true) (rc := rc0) dX3_setUntil_41 ok_X3_lays (lw_V q2731 q2733 qs129 q151 q2734) rfl hM13.1.1 rfl (by decide) (Nat.le_of_ble_eq_true rfl) (w_X3_lays hM13.1 (hT.mm hM hM13) e16) (kmV hM13.2 (fun h15 hM15 => ?_)) kxM
        refine V.aload_n dX3_setUntil_44 rfl rfl IsR.ref ?_
        refine V.mgetA hM15 dX3_setUntil_45 fo_X3_7_0 ma_2 ?_
        refine V.iconst (v := 2) dX3_setUntil_48 (by decide) ?_
        refine V.iload_n dX3_setUntil_49 rfl rfl ?_
        refine V.iadd dX3_setUntil_50 ?_
        refine V.iload_n dX3_setUntil_51 rfl rfl ?_
        obtain ⟨μ18, e17, hn⟩ := bnd hn
        refine V.miast hM15 dX3_setUntil_52 ma_2 (mSt_some e17) (fun h18 hM18 => ?_)
        refine V.aload_n dX3_setUntil_53 rfl rfl IsR.ref ?_
        refine V.iload_n dX3_setUntil_54 rfl rfl ?_
        obtain ⟨μ19, e20, hn⟩ := bnd hn
        refine V.invV (as := [.int p1]) (b := B.1) (ci := 0) (w := true) (rc := rc0) dX3_setUntil_55 ok_X3_empties (lw_V q2811 q2813 qs141 q151 q2814) rfl hM18.1.1 rfl (by decide) (Nat.le_of_ble_eq_true rfl) (w_X3_empties hM18.1 (hT.mm hM hM18) e20) (kmV hM18.2 (fun h19 hM19 => ?_)) kxM
        refine V.aload_n dX3_setUntil_58 rfl rfl IsR.ref ?_
        refine V.iload_n dX3_setUntil_59 rfl rfl ?_
        refine V.aload_n dX3_setUntil_60 rfl rfl IsR.ref ?_
        refine V.iload_n dX3_setUntil_61 rfl rfl ?_
        obtain ⟨x21, e22, hn⟩ := bnd hn
        refine V.invV (as := [.int p1]) (b := B.1) (ci := 0) (w := true) (rc := rc0) dX3_setUntil_62 ok_X3_fixed (lw_V q2429 q2431 qs88 q151 q2432) rfl hM19.1.1 rfl (by decide) (Nat.le_of_ble_eq_true rfl) (w_X3_fixed hM19.1 (hT.mm hM hM19) e22) (krI ?_) kxZ
        obtain ⟨x23, e24, hn⟩ := bnd hn
        refine V.invV (as := [.int p1, .int x21]) (b := B.1) (ci := 0) (w := true) (rc := rc0) dX3_setUntil_65 ok_X3_isPossible (lw_V q2803 q2805 qs139 q151 q2806) rfl hM19.1.1 rfl (by decide) (Nat.le_of_ble_eq_true rfl) (w_X3_isPossible hM19.1 (hT.mm hM hM19) e24) (krI ?_) kxZ
        refine V.istore_n (i := 3) dX3_setUntil_68 rfl (by decide) ?_
        simp only [List.set_cons_zero, List.set_cons_succ]
        refine V.aload_n dX3_setUntil_69 rfl rfl IsR.ref ?_
        refine V.iconst (v := 0) dX3_setUntil_70 (by decide) ?_
        obtain ⟨μ25, e26, hn⟩ := bnd hn
        refine V.invV (as := [.int (0 : Int32)]) (b := B.1) (ci := 0) (w := true) (rc := rc0) dX3_setUntil_71 ok_X3_fetches (lw_V q2735 q2737 qs130 q151 q2738) rfl hM19.1.1 rfl (by decide) (Nat.le_of_ble_eq_true rfl) (w_X3_fetches hM19.1 (hT.mm hM hM19) e26) (kmV hM19.2 (fun h25 hM25 => ?_)) kxM
        refine V.aload_n dX3_setUntil_74 rfl rfl IsR.ref ?_
        refine V.iload_n dX3_setUntil_75 rfl rfl ?_
        obtain ⟨v30, e55, hn⟩ := bnd hn
        have e55 := Option.some.inj e55
        have hJ54 : V l g M_X3_setUntil 11 84 [some (.ref B.1), some (.int p1), some (.int p2), none, none] [.int v30, .ref B.1] h25 (QM B h (some (.int z.1)) z.2) := by
          refine V.iconst (v := 3) dX3_setUntil_84 (by decide) ?_
          obtain ⟨y31, e33, hn⟩ := bnd hn
          refine V.invV (as := [.int v30, .int (3 : Int32)]) (b := B.1) (ci := 0) (w := true) (rc := rc0) dX3_setUntil_85 ok_X3_refuse (lw_V q2311 q2313 qs67 q151 q2314) rfl hM25.1.1 rfl (by decide) (Nat.le_of_ble_eq_true rfl) (w_X3_refuse hM25.1 (hT.mm hM hM25) e33) (kmI hM25.2 (fun h32 hM32 => ?_)) kxM
          refine V.if_eq (tgt := 93) dX3_setUntil_88 (by decide) (fun hc53 => ?_) (fun hc53 => ?_)
          · rw [if_pos hc53] at hn
            refine V.aload_n dX3_setUntil_93 rfl rfl IsR.ref ?_
            obtain ⟨μ34, e35, hn⟩ := bnd hn
            refine V.invV (as := []) (b := B.1) (ci := 0) (w := true) (rc := rc0) dX3_setUntil_94 ok_X3_keepsTrial (lw_V q2823 q2825 qs143 q151 q2826) rfl hM32.1.1 rfl (by decide) (Nat.le_of_ble_eq_true rfl) (w_X3_keepsTrial hM32.1 (hT.mm hM hM32) e35) (kmV hM32.2 (fun h34 hM34 => ?_)) kxM
            refine V.aload_n dX3_setUntil_97 rfl rfl IsR.ref ?_
            refine V.iconst (v := 5) dX3_setUntil_98 (by decide) ?_
            obtain ⟨x36, e37, hn⟩ := bnd hn
            refine V.invV (as := [.int (5 : Int32)]) (b := B.1) (ci := 0) (w := true) (rc := rc0) dX3_setUntil_99 ok_X3_countIn (lw_V q2532 q2534 qs113 q151 q2535) rfl hM34.1.1 rfl (by decide) (Nat.le_of_ble_eq_true rfl) (w_X3_countIn hM34.1 (hT.mm hM hM34) e37) (krI ?_) kxZ
            refine V.istore (i := 4) dX3_setUntil_102 (by decide) ?_
            simp only [List.set_cons_zero, List.set_cons_succ]
            refine V.aload_n dX3_setUntil_104 rfl rfl IsR.ref ?_
            refine V.mgetA hM34 dX3_setUntil_105 fo_X3_7_0 ma_2 ?_
            refine V.iconst (v := 2) dX3_setUntil_108 (by decide) ?_
            refine V.iload_n dX3_setUntil_109 rfl rfl ?_
            refine V.iadd dX3_setUntil_110 ?_
            refine V.iload_n dX3_setUntil_111 rfl rfl ?_
            obtain ⟨μ39, e38, hn⟩ := bnd hn
            refine V.miast hM34 dX3_setUntil_112 ma_2 (mSt_some e38) (fun h39 hM39 => ?_)
            refine V.aload_n dX3_setUntil_113 rfl rfl IsR.ref ?_
            refine V.iload_n dX3_setUntil_114 rfl rfl ?_
            refine V.aload_n dX3_setUntil_115 rfl rfl IsR.ref ?_
            refine V.iload_n dX3_setUntil_116 rfl rfl ?_
            obtain ⟨x40, e41, hn⟩ := bnd hn
            refine V.invV (as := [.int p1]) (b := B.1) (ci := 0) (w := true) (rc := rc0) dX3_setUntil_117 ok_X3_fixed (lw_V q2429 q2431 qs88 q151 q2432) rfl hM39.1.1 rfl (by decide) (Nat.le_of_ble_eq_true rfl) (w_X3_fixed hM39.1 (hT.mm hM hM39) e41) (krI ?_) kxZ
            obtain ⟨x42, e43, hn⟩ := bnd hn
            refine V.invV (as := [.int p1, .int x40]) (b := B.1) (ci := 0) (w := true) (rc := rc0) dX3_setUntil_120 ok_X3_isPossible (lw_V q2803 q2805 qs139 q151 q2806) rfl hM39.1.1 rfl (by decide) (Nat.le_of_ble_eq_true rfl) (w_X3_isPossible hM39.1 (hT.mm hM hM39) e43) (krI ?_) kxZ
            obtain ⟨μ49, hA45, hn⟩ := bnd hn
            (try dsimp only at hn)
            have hJ52 : ∀ h49, MM B h h49 μ49 → V l g M_X3_setUntil 11 131 [some (.ref B.1), none, none, none, some (.int x36)] [] h49 (QM B h (some (.int z.1)) z.2) := by
              intro h49 hM49
              refine V.aload_n dX3_setUntil_131 rfl rfl IsR.ref ?_
              refine V.iconst (v := 5) dX3_setUntil_132 (by decide) ?_
              obtain ⟨x50, e51, hn⟩ := bnd hn
              refine V.invV (as := [.int (5 : Int32)]) (b := B.1) (ci := 0) (w := true) (rc := rc0) dX3_setUntil_133 ok_X3_countIn (lw_V q2532 q2534 qs113 q151 q2535) rfl hM49.1.1 rfl (by decide) (Nat.le_of_ble_eq_true rfl) (w_X3_countIn hM49.1 (hT.mm hM hM49) e51) (krI ?_) kxZ
              refine V.iload dX3_setUntil_136 rfl ?_
              refine V.isub dX3_setUntil_138 ?_
              obtain rfl := Option.some.inj hn
              exact V.iret dX3_setUntil_139 rfl ⟨rfl, hM49⟩
            refine V.if_ne (tgt := 131) dX3_setUntil_123 (by decide) (fun hc48 => ?_) (fun hc48 => ?_)
            · rw [if_neg hc48] at hA45
              obtain rfl := Option.some.inj hA45
              exact V.forget (llS (llN (llN (llN (llS ll0))))) (hJ52 _ hM39)
            · rw [if_pos hc48] at hA45
              refine V.aload_n dX3_setUntil_126 rfl rfl IsR.ref ?_
              refine V.iload_n dX3_setUntil_127 rfl rfl ?_
              obtain ⟨μ46, e47, hA45⟩ := bnd hA45
              refine V.invV (as := [.int p1]) (b := B.1) (ci := 0) (w := true) (rc := rc0) dX3_setUntil_128 ok_X3_repairs (lw_V q2807 q2809 qs140 q151 q2810) rfl hM39.1.1 rfl (by decide) (Nat.le_of_ble_eq_true rfl) (w_X3_repairs hM39.1 (hT.mm hM hM39) e47) (kmV hM39.2 (fun h46 hM46 => ?_)) kxM
              obtain rfl := Option.some.inj hA45
              exact V.forget (llS (llN (llN (llN (llS ll0))))) (hJ52 _ hM46)
          · rw [if_neg hc53] at hn
            refine V.iconst (v := 0) dX3_setUntil_91 (by decide) ?_
            obtain rfl := Option.some.inj hn
            exact V.iret dX3_setUntil_92 rfl ⟨rfl, hM32⟩
        refine V.if_ne (tgt := 83) dX3_setUntil_76 (by decide) (fun hc29 => ?_) (fun hc29 => ?_)
        · skip
          refine V.iconst (v := 0) dX3_setUntil_83 (by decide) ?_
          rw [if_neg hc29] at e55
          subst e55
          exact V.forget (llS (llS (llS (llN (llN ll0))))) (hJ54)
        · skip
          refine V.iconst (v := 1) dX3_setUntil_79 (by decide) ?_
          refine V.goto (tgt := 84) dX3_setUntil_80 (by decide) ?_
          rw [if_pos hc29] at e55
          subst e55
          exact V.forget (llS (llS (llS (llN (llN ll0))))) (hJ54)
      · rw [if_neg hc56] at hn
        refine V.iconst (v := 0) dX3_setUntil_37 (by decide) ?_
        obtain rfl := Option.some.inj hn
        exact V.iret dX3_setUntil_38 rfl ⟨rfl, hM13⟩
    refine V.if_ne (tgt := 29) dX3_setUntil_22 (by decide) (fun hc10 => ?_) (fun hc10 => ?_)
    · skip
      refine V.iconst (v := 0) dX3_setUntil_29 (by decide) ?_
      rw [if_neg hc10] at e58
      subst e58
      exact hJ57
    · skip
      refine V.iconst (v := 1) dX3_setUntil_25 (by decide) ?_
      refine V.goto (tgt := 30) dX3_setUntil_26 (by decide) ?_
      rw [if_pos hc10] at e58
      subst e58
      exact hJ57
def m_X3_improve_b20 : (Int32 × MS) → Option ((Int32 × MS) ⊕ (MS)) := fun s => match s with
  | (i8, μ9) => (mLd μ9 2 835 (1 : Int32)).bind fun x14 => if x14 ≤ i8 then (some (.inr μ9)) else ((m_X3_isStuck i8 μ9).bind fun x16 => if x16 = (0 : Int32) then ((m_X3_drivesAll μ9).bind fun x18 => (m_X3_lays (0 : Int32) μ9).bind fun μ20 => (m_X3_vanWith i8 μ20).bind fun x22 => (m_X3_takesOut x22 i8 μ20).bind fun μ24 => (m_X3_inserts i8 μ24).bind fun y26 => if y26.1 = (0 : Int32) then ((m_X3_fetches (0 : Int32) y26.2).bind fun μ29 => some (.inl (i8 + (1 : Int32), μ29))) else ((m_X3_drivesAll y26.2).bind fun x31 => if x18 ≤ x31 then ((m_X3_fetches (0 : Int32) y26.2).bind fun μ33 => some (.inl (i8 + (1 : Int32), μ33))) else ((m_X3_areAllPossible y26.2).bind fun x35 => if x35 = (0 : Int32) then ((m_X3_fetches (0 : Int32) y26.2).bind fun μ37 => some (.inl (i8 + (1 : Int32), μ37))) else (some (.inl (i8 + (1 : Int32), y26.2)))))) else (some (.inl (i8 + (1 : Int32), μ9))))
def m_X3_improve (μ : MS) : Option (Int32 × MS) := (m_X3_noDesk μ).bind fun y1 => if y1.1 = (0 : Int32) then ((m_X3_keeps y1.2).bind fun μ4 => (m_X3_drivesAll μ4).bind fun x6 => (iter (m_X3_improve_b20) FUEL ((0 : Int32), μ4)).bind fun μ44 => (m_X3_drivesAll μ44).bind fun x48 => some (x6 - x48, μ44)) else (some ((0 : Int32), y1.2))
abbrev M_X3_improve : MD := (yX3_improve, cX3_improve, 4, (some .int), [])
theorem ok_X3_improve : mOK yX3_improve 4 0 := ⟨⟨by decide +kernel, by decide +kernel⟩, by decide +kernel, by decide⟩
theorem w_X3_improve {l : Launch} {g : GG} {h : AH} {B : BM} {μ : MS} {z : Int32 × MS} (hM : IsM B h μ) (hT : TX g h) (hn : m_X3_improve μ = some z) : Sp l g M_X3_improve 10 [.ref B.1] h (QM B h (some (.int z.1)) z.2) := by
  refine Sp.ofV (L := [some (.ref B.1), none, none, none]) rfl rfl (hcR hc0) (Nat.le_of_ble_eq_true rfl) rfl ?_
  have hM0 : MM B h h μ := ⟨hM, SameM.rf⟩
  unfold m_X3_improve at hn
  refine V.aload_n dX3_improve_0 rfl rfl IsR.ref ?_
  obtain ⟨y1, e3, hn⟩ := bnd hn
  refine V.invV (as := []) (b := B.1) (ci := 0) (w := true) (rc := rc0) dX3_improve_1 ok_X3_noDesk (lw_V q2564 q2566 qs116 q151 q2567) rfl hM0.1.1 rfl (by decide) (Nat.le_of_ble_eq_true rfl) (w_X3_noDesk hM0.1 (hT.mm hM hM0) e3) (kmI hM0.2 (fun h2 hM2 => ?_)) kxM
  refine V.if_eq (tgt := 9) dX3_improve_4 (by decide) (fun hc53 => ?_) (fun hc53 => ?_)
  · rw [if_pos hc53] at hn
    refine V.aload_n dX3_improve_9 rfl rfl IsR.ref ?_
    obtain ⟨μ4, e5, hn⟩ := bnd hn
    refine V.invV (as := []) (b := B.1) (ci := 0) (w := true) (rc := rc0) dX3_improve_10 ok_X3_keeps (lw_V q2819 q2821 qs142 q151 q2822) rfl hM2.1.1 rfl (by decide) (Nat.le_of_ble_eq_true rfl) (w_X3_keeps hM2.1 (hT.mm hM hM2) e5) (kmV hM2.2 (fun h4 hM4 => ?_)) kxM
    refine V.aload_n dX3_improve_13 rfl rfl IsR.ref ?_
    obtain ⟨x6, e7, hn⟩ := bnd hn
    refine V.invV (as := []) (b := B.1) (ci := 0) (w := true) (rc := rc0) dX3_improve_14 ok_X3_drivesAll (lw_V q2711 q2713 qs127 q151 q2714) rfl hM4.1.1 rfl (by decide) (Nat.le_of_ble_eq_true rfl) (w_X3_drivesAll hM4.1 (hT.mm hM hM4) e7) (krI ?_) kxZ
    refine V.istore_n (i := 1) dX3_improve_17 rfl (by decide) ?_
    simp only [List.set_cons_zero, List.set_cons_succ]
    refine V.iconst (v := 0) dX3_improve_18 (by decide) ?_
    refine V.istore_n (i := 2) dX3_improve_19 rfl (by decide) ?_
    simp only [List.set_cons_zero, List.set_cons_succ]
    obtain ⟨b46, hL45, hn⟩ := bnd hn
    have hJ47 : ∀ (μ44 : MS), μ44 = b46 → ∀ h44, MM B h h44 μ44 → V l g M_X3_improve 10 95 [some (.ref B.1), some (.int x6), none, none] [] h44 (QM B h (some (.int z.1)) z.2) := by
      intro μ44 e50 h44 hM44
      subst e50
      (try dsimp only at hn)
      refine V.iload_n dX3_improve_95 rfl rfl ?_
      refine V.aload_n dX3_improve_96 rfl rfl IsR.ref ?_
      obtain ⟨x48, e49, hn⟩ := bnd hn
      refine V.invV (as := []) (b := B.1) (ci := 0) (w := true) (rc := rc0) dX3_improve_97 ok_X3_drivesAll (lw_V q2711 q2713 qs127 q151 q2714) rfl hM44.1.1 rfl (by decide) (Nat.le_of_ble_eq_true rfl) (w_X3_drivesAll hM44.1 (hT.mm hM hM44) e49) (krI ?_) kxZ
      refine V.isub dX3_improve_100 ?_
      obtain rfl := Option.some.inj hn
      exact V.iret dX3_improve_101 rfl ⟨rfl, hM44⟩
    refine iter_ind (P := fun (σ : Int32 × MS) => match σ with | (i8, μ9) => ∀ h9, MM B h h9 μ9 → V l g M_X3_improve 10 20 [some (.ref B.1), some (.int x6), some (.int i8), none] [] h9 (QM B h (some (.int z.1)) z.2)) (b := b46) ?_ FUEL ((0 : Int32), μ4) hL45 _ hM4
    rintro ⟨i8, μ9⟩ ρ51 hr10 hi11 hx12 h9 hM9
    unfold m_X3_improve_b20 at hr10
    (try dsimp only at hr10)
    refine V.iload_n dX3_improve_20 rfl rfl ?_
    refine V.aload_n dX3_improve_21 rfl rfl IsR.ref ?_
    refine V.mgetA hM9 dX3_improve_22 fo_X3_7_0 ma_2 ?_
    refine V.iconst (v := 1) dX3_improve_25 (by decide) ?_
    obtain ⟨x14, e15, hr10⟩ := bnd hr10
    refine V.miald hM9 dX3_improve_26 ma_2 (mLd_some e15) ?_
    refine V.icmp_ge (tgt := 95) dX3_improve_27 (by decide) (fun hc43 => ?_) (fun hc43 => ?_)
    · rw [if_pos hc43] at hr10
      obtain rfl := Option.some.inj hr10
      have e52 := hx12 _ rfl
      exact V.forget (llS (llS (llN (llN ll0)))) (hJ47 _ e52 _ hM9)
    · rw [if_neg hc43] at hr10
      refine V.aload_n dX3_improve_30 rfl rfl IsR.ref ?_
      refine V.iload_n dX3_improve_31 rfl rfl ?_
      obtain ⟨x16, e17, hr10⟩ := bnd hr10
      refine V.invV (as := [.int i8]) (b := B.1) (ci := 0) (w := true) (rc := rc0) dX3_improve_32 ok_X3_isStuck (lw_V q2787 q2789 qs135 q151 q2790) rfl hM9.1.1 rfl (by decide) (Nat.le_of_ble_eq_true rfl) (w_X3_isStuck hM9.1 (hT.mm hM hM9) e17) (krI ?_) kxZ
      refine V.if_eq (tgt := 41) dX3_improve_35 (by decide) (fun hc42 => ?_) (fun hc42 => ?_)
      · rw [if_pos hc42] at hr10
        refine V.aload_n dX3_improve_41 rfl rfl IsR.ref ?_
        obtain ⟨x18, e19, hr10⟩ := bnd hr10
        refine V.invV (as := []) (b := B.1) (ci := 0) (w := true) (rc := rc0) dX3_improve_42 ok_X3_drivesAll (lw_V q2711 q2713 qs127 q151 q2714) rfl hM9.1.1 rfl (by decide) (Nat.le_of_ble_eq_true rfl) (w_X3_drivesAll hM9.1 (hT.mm hM hM9) e19) (krI ?_) kxZ
        refine V.istore_n (i := 3) dX3_improve_45 rfl (by decide) ?_
        simp only [List.set_cons_zero, List.set_cons_succ]
        refine V.aload_n dX3_improve_46 rfl rfl IsR.ref ?_
        refine V.iconst (v := 0) dX3_improve_47 (by decide) ?_
        obtain ⟨μ20, e21, hr10⟩ := bnd hr10
        refine V.invV (as := [.int (0 : Int32)]) (b := B.1) (ci := 0) (w := true) (rc := rc0) dX3_improve_48 ok_X3_lays (lw_V q2731 q2733 qs129 q151 q2734) rfl hM9.1.1 rfl (by decide) (Nat.le_of_ble_eq_true rfl) (w_X3_lays hM9.1 (hT.mm hM hM9) e21) (kmV hM9.2 (fun h20 hM20 => ?_)) kxM
        refine V.aload_n dX3_improve_51 rfl rfl IsR.ref ?_
        refine V.aload_n dX3_improve_52 rfl rfl IsR.ref ?_
        refine V.iload_n dX3_improve_53 rfl rfl ?_
        obtain ⟨x22, e23, hr10⟩ := bnd hr10
        refine V.invV (as := [.int i8]) (b := B.1) (ci := 0) (w := true) (rc := rc0) dX3_improve_54 ok_X3_vanWith (lw_V q2659 q2661 qs124 q151 q2662) rfl hM20.1.1 rfl (by decide) (Nat.le_of_ble_eq_true rfl) (w_X3_vanWith hM20.1 (hT.mm hM hM20) e23) (krI ?_) kxZ
        refine V.iload_n dX3_improve_57 rfl rfl ?_
        obtain ⟨μ24, e25, hr10⟩ := bnd hr10
        refine V.invV (as := [.int x22, .int i8]) (b := B.1) (ci := 0) (w := true) (rc := rc0) dX3_improve_58 ok_X3_takesOut (lw_V q2799 q2801 qs138 q151 q2802) rfl hM20.1.1 rfl (by decide) (Nat.le_of_ble_eq_true rfl) (w_X3_takesOut hM20.1 (hT.mm hM hM20) e25) (kmV hM20.2 (fun h24 hM24 => ?_)) kxM
        refine V.aload_n dX3_improve_61 rfl rfl IsR.ref ?_
        refine V.iload_n dX3_improve_62 rfl rfl ?_
        obtain ⟨y26, e28, hr10⟩ := bnd hr10
        refine V.invV (as := [.int i8]) (b := B.1) (ci := 0) (w := true) (rc := rc0) dX3_improve_63 ok_X3_inserts (lw_V q2421 q2423 qs86 q151 q2424) rfl hM24.1.1 rfl (by decide) (Nat.le_of_ble_eq_true rfl) (w_X3_inserts hM24.1 (hT.mm hM hM24) e28) (kmI hM24.2 (fun h27 hM27 => ?_)) kxM
        refine V.if_eq (tgt := 84) dX3_improve_66 (by decide) (fun hc41 => ?_) (fun hc41 => ?_)
        · rw [if_pos hc41] at hr10
          refine V.aload_n dX3_improve_84 rfl rfl IsR.ref ?_
          refine V.iconst (v := 0) dX3_improve_85 (by decide) ?_
          obtain ⟨μ29, e30, hr10⟩ := bnd hr10
          refine V.invV (as := [.int (0 : Int32)]) (b := B.1) (ci := 0) (w := true) (rc := rc0) dX3_improve_86 ok_X3_fetches (lw_V q2735 q2737 qs130 q151 q2738) rfl hM27.1.1 rfl (by decide) (Nat.le_of_ble_eq_true rfl) (w_X3_fetches hM27.1 (hT.mm hM hM27) e30) (kmV hM27.2 (fun h29 hM29 => ?_)) kxM
          refine V.iinc (v := i8 + (1 : Int32)) (i := 2) dX3_improve_89 rfl (by rfl) (by decide) ?_
          simp only [List.set_cons_zero, List.set_cons_succ]
          refine V.goto (tgt := 20) dX3_improve_92 (by decide) ?_
          obtain rfl := Option.some.inj hr10
          have hi11P := hi11 _ rfl
          exact V.forget (llS (llS (llS (llN ll0)))) (hi11P _ hM29)
        · rw [if_neg hc41] at hr10
          refine V.aload_n dX3_improve_69 rfl rfl IsR.ref ?_
          obtain ⟨x31, e32, hr10⟩ := bnd hr10
          refine V.invV (as := []) (b := B.1) (ci := 0) (w := true) (rc := rc0) dX3_improve_70 ok_X3_drivesAll (lw_V q2711 q2713 qs127 q151 q2714) rfl hM27.1.1 rfl (by decide) (Nat.le_of_ble_eq_true rfl) (w_X3_drivesAll hM27.1 (hT.mm hM hM27) e32) (krI ?_) kxZ
          refine V.iload_n dX3_improve_73 rfl rfl ?_
          refine V.icmp_ge (tgt := 84) dX3_improve_74 (by decide) (fun hc40 => ?_) (fun hc40 => ?_)
          · rw [if_pos hc40] at hr10
            refine V.aload_n dX3_improve_84 rfl rfl IsR.ref ?_
            refine V.iconst (v := 0) dX3_improve_85 (by decide) ?_
            obtain ⟨μ33, e34, hr10⟩ := bnd hr10
            refine V.invV (as := [.int (0 : Int32)]) (b := B.1) (ci := 0) (w := true) (rc := rc0) dX3_improve_86 ok_X3_fetches (lw_V q2735 q2737 qs130 q151 q2738) rfl hM27.1.1 rfl (by decide) (Nat.le_of_ble_eq_true rfl) (w_X3_fetches hM27.1 (hT.mm hM hM27) e34) (kmV hM27.2 (fun h33 hM33 => ?_)) kxM
            refine V.iinc (v := i8 + (1 : Int32)) (i := 2) dX3_improve_89 rfl (by rfl) (by decide) ?_
            simp only [List.set_cons_zero, List.set_cons_succ]
            refine V.goto (tgt := 20) dX3_improve_92 (by decide) ?_
            obtain rfl := Option.some.inj hr10
            have hi11P := hi11 _ rfl
            exact V.forget (llS (llS (llS (llN ll0)))) (hi11P _ hM33)
          · rw [if_neg hc40] at hr10
            refine V.aload_n dX3_improve_77 rfl rfl IsR.ref ?_
            obtain ⟨x35, e36, hr10⟩ := bnd hr10
            refine V.invV (as := []) (b := B.1) (ci := 0) (w := true) (rc := rc0) dX3_improve_78 ok_X3_areAllPossible (lw_V q2835 q2837 qs144 q151 q2838) rfl hM27.1.1 rfl (by decide) (Nat.le_of_ble_eq_true rfl) (w_X3_areAllPossible hM27.1 (hT.mm hM hM27) e36) (krI ?_) kxZ
            refine V.if_ne (tgt := 89) dX3_improve_81 (by decide) (fun hc39 => ?_) (fun hc39 => ?_)
            · rw [if_neg hc39] at hr10
              refine V.iinc (v := i8 + (1 : Int32)) (i := 2) dX3_improve_89 rfl (by rfl) (by decide) ?_
              simp only [List.set_cons_zero, List.set_cons_succ]
              refine V.goto (tgt := 20) dX3_improve_92 (by decide) ?_
              obtain rfl := Option.some.inj hr10
              have hi11P := hi11 _ rfl
              exact V.forget (llS (llS (llS (llN ll0)))) (hi11P _ hM27)
            · rw [if_pos hc39] at hr10
              refine V.aload_n dX3_improve_84 rfl rfl IsR.ref ?_
              refine V.iconst (v := 0) dX3_improve_85 (by decide) ?_
              obtain ⟨μ37, e38, hr10⟩ := bnd hr10
              refine V.invV (as := [.int (0 : Int32)]) (b := B.1) (ci := 0) (w := true) (rc := rc0) dX3_improve_86 ok_X3_fetches (lw_V q2735 q2737 qs130 q151 q2738) rfl hM27.1.1 rfl (by decide) (Nat.le_of_ble_eq_true rfl) (w_X3_fetches hM27.1 (hT.mm hM hM27) e38) (kmV hM27.2 (fun h37 hM37 => ?_)) kxM
              refine V.iinc (v := i8 + (1 : Int32)) (i := 2) dX3_improve_89 rfl (by rfl) (by decide) ?_
              simp only [List.set_cons_zero, List.set_cons_succ]
              refine V.goto (tgt := 20) dX3_improve_92 (by decide) ?_
              obtain rfl := Option.some.inj hr10
              have hi11P := hi11 _ rfl
              exact V.forget (llS (llS (llS (llN ll0)))) (hi11P _ hM37)
      · rw [if_neg hc42] at hr10
        refine V.goto (tgt := 89) dX3_improve_38 (by decide) ?_
        refine V.iinc (v := i8 + (1 : Int32)) (i := 2) dX3_improve_89 rfl (by rfl) (by decide) ?_
        simp only [List.set_cons_zero, List.set_cons_succ]
        refine V.goto (tgt := 20) dX3_improve_92 (by decide) ?_
        obtain rfl := Option.some.inj hr10
        have hi11P := hi11 _ rfl
        exact hi11P _ hM9
  · rw [if_neg hc53] at hn
    refine V.iconst (v := 0) dX3_improve_7 (by decide) ?_
    obtain rfl := Option.some.inj hn
    exact V.iret dX3_improve_8 rfl ⟨rfl, hM2⟩
def m_X3_executes (p1 : Int32) (p2 : Int32) (μ : MS) : Option (Int32 × MS) := (m_X3_callOf p1 p2 μ).bind fun x1 => (m_X3_call x1 (6 : Int32) μ).bind fun x3 => (m_X3_begin p1 p2 μ).bind fun x5 => (mLd μ 2 835 (0 : Int32)).bind fun x7 => if x7 < x5 then (some ((0 : Int32), μ)) else ((m_X3_isDrop p1 p2 μ).bind fun x9 => (some (if x9 = (0 : Int32) then ((1 : Int32)) else ((2 : Int32)))).bind fun v14 => if x3 = v14 then ((m_X3_lets x1 (6 : Int32) (x3 + (1 : Int32)) μ).bind fun μ15 => (m_X3_begin p1 p2 μ15).bind fun x17 => (m_X3_call x1 (7 : Int32) μ15).bind fun x19 => (mLd μ15 20 184 (5 : Int32)).bind fun x21 => if x3 = (1 : Int32) then (if ((x17 - x19) - x21) ≤ (0 : Int32) then (some ((1 : Int32), μ15)) else ((mLd μ15 20 184 (6 : Int32)).bind fun x23 => (m_X3_lets x1 (8 : Int32) (x23 * ((x17 - x19) - x21)) μ15).bind fun μ25 => some ((1 : Int32), μ25))) else (some ((1 : Int32), μ15))) else (some ((0 : Int32), μ)))
abbrev M_X3_executes : MD := (yX3_executes, cX3_executes, 6, (some .int), [])
theorem ok_X3_executes : mOK yX3_executes 6 2 := ⟨⟨by decide +kernel, by decide +kernel⟩, by decide +kernel, by decide⟩
theorem w_X3_executes {l : Launch} {g : GG} {h : AH} {B : BM} {μ : MS} {p1 : Int32} {p2 : Int32} {z : Int32 × MS} (hM : IsM B h μ) (hT : TX g h) (hn : m_X3_executes p1 p2 μ = some z) : Sp l g M_X3_executes 3 [.ref B.1, .int p1, .int p2] h (QM B h (some (.int z.1)) z.2) := by
  refine Sp.ofV (L := [some (.ref B.1), some (.int p1), some (.int p2), none, none, none]) rfl rfl (hcR (hcI (hcI hc0))) (Nat.le_of_ble_eq_true rfl) rfl ?_
  have hM0 : MM B h h μ := ⟨hM, SameM.rf⟩
  unfold m_X3_executes at hn
  refine V.aload_n dX3_executes_0 rfl rfl IsR.ref ?_
  refine V.iload_n dX3_executes_1 rfl rfl ?_
  refine V.iload_n dX3_executes_2 rfl rfl ?_
  obtain ⟨x1, e2, hn⟩ := bnd hn
  refine V.invV (as := [.int p1, .int p2]) (b := B.1) (ci := 0) (w := true) (rc := rc0) dX3_executes_3 ok_X3_callOf (lw_V q2437 q2439 qs90 q151 q2440) rfl hM0.1.1 rfl (by decide) (Nat.le_of_ble_eq_true rfl) (w_X3_callOf hM0.1 (hT.mm hM hM0) e2) (krI ?_) kxZ
  refine V.istore_n (i := 3) dX3_executes_6 rfl (by decide) ?_
  simp only [List.set_cons_zero, List.set_cons_succ]
  refine V.aload_n dX3_executes_7 rfl rfl IsR.ref ?_
  refine V.iload_n dX3_executes_8 rfl rfl ?_
  refine V.bipush (v := 6) dX3_executes_9 (by decide) ?_
  obtain ⟨x3, e4, hn⟩ := bnd hn
  refine V.invV (as := [.int x1, .int (6 : Int32)]) (b := B.1) (ci := 0) (w := true) (rc := rc0) dX3_executes_11 ok_X3_call (lw_V q2448 q2450 qs92 q151 q2451) rfl hM0.1.1 rfl (by decide) (Nat.le_of_ble_eq_true rfl) (w_X3_call hM0.1 (hT.mm hM hM0) e4) (krI ?_) kxZ
  refine V.istore (i := 4) dX3_executes_14 (by decide) ?_
  simp only [List.set_cons_zero, List.set_cons_succ]
  refine V.aload_n dX3_executes_16 rfl rfl IsR.ref ?_
  refine V.iload_n dX3_executes_17 rfl rfl ?_
  refine V.iload_n dX3_executes_18 rfl rfl ?_
  obtain ⟨x5, e6, hn⟩ := bnd hn
  refine V.invV (as := [.int p1, .int p2]) (b := B.1) (ci := 0) (w := true) (rc := rc0) dX3_executes_19 ok_X3_begin (lw_V q2464 q2466 qs96 q151 q2467) rfl hM0.1.1 rfl (by decide) (Nat.le_of_ble_eq_true rfl) (w_X3_begin hM0.1 (hT.mm hM hM0) e6) (krI ?_) kxZ
  refine V.aload_n dX3_executes_22 rfl rfl IsR.ref ?_
  refine V.mgetA hM0 dX3_executes_23 fo_X3_7_0 ma_2 ?_
  refine V.iconst (v := 0) dX3_executes_26 (by decide) ?_
  obtain ⟨x7, e8, hn⟩ := bnd hn
  refine V.miald hM0 dX3_executes_27 ma_2 (mLd_some e8) ?_
  refine V.icmp_gt (tgt := 50) dX3_executes_28 (by decide) (fun hc32 => ?_) (fun hc32 => ?_)
  · rw [if_pos hc32] at hn
    refine V.iconst (v := 0) dX3_executes_50 (by decide) ?_
    obtain rfl := Option.some.inj hn
    exact V.iret dX3_executes_51 rfl ⟨rfl, hM0⟩
  · rw [if_neg hc32] at hn
    refine V.iload dX3_executes_31 rfl ?_
    refine V.aload_n dX3_executes_33 rfl rfl IsR.ref ?_
    refine V.iload_n dX3_executes_34 rfl rfl ?_
    refine V.iload_n dX3_executes_35 rfl rfl ?_
    obtain ⟨x9, e10, hn⟩ := bnd hn
    refine V.invV (as := [.int p1, .int p2]) (b := B.1) (ci := 0) (w := true) (rc := rc0) dX3_executes_36 ok_X3_isDrop (lw_V q2452 q2454 qs93 q151 q2455) rfl hM0.1.1 rfl (by decide) (Nat.le_of_ble_eq_true rfl) (w_X3_isDrop hM0.1 (hT.mm hM hM0) e10) (krI ?_) kxZ
    obtain ⟨v14, e31, hn⟩ := bnd hn
    have e31 := Option.some.inj e31
    have hJ30 : V l g M_X3_executes 3 47 [some (.ref B.1), some (.int p1), some (.int p2), some (.int x1), some (.int x3), none] [.int v14, .int x3] h (QM B h (some (.int z.1)) z.2) := by
      refine V.icmp_eq (tgt := 52) dX3_executes_47 (by decide) (fun hc29 => ?_) (fun hc29 => ?_)
      · rw [if_pos hc29] at hn
        refine V.aload_n dX3_executes_52 rfl rfl IsR.ref ?_
        refine V.iload_n dX3_executes_53 rfl rfl ?_
        refine V.bipush (v := 6) dX3_executes_54 (by decide) ?_
        refine V.iload dX3_executes_56 rfl ?_
        refine V.iconst (v := 1) dX3_executes_58 (by decide) ?_
        refine V.iadd dX3_executes_59 ?_
        obtain ⟨μ15, e16, hn⟩ := bnd hn
        refine V.invV (as := [.int x1, .int (6 : Int32), .int (x3 + (1 : Int32))]) (b := B.1) (ci := 0) (w := true) (rc := rc0) dX3_executes_60 ok_X3_lets (lw_V q2417 q2419 qs85 q151 q2420) rfl hM0.1.1 rfl (by decide) (Nat.le_of_ble_eq_true rfl) (w_X3_lets hM0.1 (hT.mm hM hM0) e16) (kmV hM0.2 (fun h15 hM15 => ?_)) kxM
        refine V.aload_n dX3_executes_63 rfl rfl IsR.ref ?_
        refine V.iload_n dX3_executes_64 rfl rfl ?_
        refine V.iload_n dX3_executes_65 rfl rfl ?_
        obtain ⟨x17, e18, hn⟩ := bnd hn
        refine V.invV (as := [.int p1, .int p2]) (b := B.1) (ci := 0) (w := true) (rc := rc0) dX3_executes_66 ok_X3_begin (lw_V q2464 q2466 qs96 q151 q2467) rfl hM15.1.1 rfl (by decide) (Nat.le_of_ble_eq_true rfl) (w_X3_begin hM15.1 (hT.mm hM hM15) e18) (krI ?_) kxZ
        refine V.aload_n dX3_executes_69 rfl rfl IsR.ref ?_
        refine V.iload_n dX3_executes_70 rfl rfl ?_
        refine V.bipush (v := 7) dX3_executes_71 (by decide) ?_
        obtain ⟨x19, e20, hn⟩ := bnd hn
        refine V.invV (as := [.int x1, .int (7 : Int32)]) (b := B.1) (ci := 0) (w := true) (rc := rc0) dX3_executes_73 ok_X3_call (lw_V q2448 q2450 qs92 q151 q2451) rfl hM15.1.1 rfl (by decide) (Nat.le_of_ble_eq_true rfl) (w_X3_call hM15.1 (hT.mm hM hM15) e20) (krI ?_) kxZ
        refine V.isub dX3_executes_76 ?_
        refine V.aload_n dX3_executes_77 rfl rfl IsR.ref ?_
        refine V.mgetA hM15 dX3_executes_78 fo_X3_33_0 ma_20 ?_
        refine V.iconst (v := 5) dX3_executes_81 (by decide) ?_
        obtain ⟨x21, e22, hn⟩ := bnd hn
        refine V.miald hM15 dX3_executes_82 ma_20 (mLd_some e22) ?_
        refine V.isub dX3_executes_83 ?_
        refine V.istore (i := 5) dX3_executes_84 (by decide) ?_
        simp only [List.set_cons_zero, List.set_cons_succ]
        refine V.iload dX3_executes_86 rfl ?_
        refine V.iconst (v := 1) dX3_executes_88 (by decide) ?_
        refine V.icmp_ne (tgt := 114) dX3_executes_89 (by decide) (fun hc28 => ?_) (fun hc28 => ?_)
        · rw [if_neg hc28] at hn
          refine V.iconst (v := 1) dX3_executes_114 (by decide) ?_
          obtain rfl := Option.some.inj hn
          exact V.iret dX3_executes_115 rfl ⟨rfl, hM15⟩
        · rw [if_pos hc28] at hn
          refine V.iload dX3_executes_92 rfl ?_
          refine V.if_le (tgt := 114) dX3_executes_94 (by decide) (fun hc27 => ?_) (fun hc27 => ?_)
          · rw [if_pos hc27] at hn
            refine V.iconst (v := 1) dX3_executes_114 (by decide) ?_
            obtain rfl := Option.some.inj hn
            exact V.iret dX3_executes_115 rfl ⟨rfl, hM15⟩
          · rw [if_neg hc27] at hn
            refine V.aload_n dX3_executes_97 rfl rfl IsR.ref ?_
            refine V.iload_n dX3_executes_98 rfl rfl ?_
            refine V.bipush (v := 8) dX3_executes_99 (by decide) ?_
            refine V.aload_n dX3_executes_101 rfl rfl IsR.ref ?_
            refine V.mgetA hM15 dX3_executes_102 fo_X3_33_0 ma_20 ?_
            refine V.bipush (v := 6) dX3_executes_105 (by decide) ?_
            obtain ⟨x23, e24, hn⟩ := bnd hn
            refine V.miald hM15 dX3_executes_107 ma_20 (mLd_some e24) ?_
            refine V.iload dX3_executes_108 rfl ?_
            refine V.imul dX3_executes_110 ?_
            obtain ⟨μ25, e26, hn⟩ := bnd hn
            refine V.invV (as := [.int x1, .int (8 : Int32), .int (x23 * ((x17 - x19) - x21))]) (b := B.1) (ci := 0) (w := true) (rc := rc0) dX3_executes_111 ok_X3_lets (lw_V q2417 q2419 qs85 q151 q2420) rfl hM15.1.1 rfl (by decide) (Nat.le_of_ble_eq_true rfl) (w_X3_lets hM15.1 (hT.mm hM hM15) e26) (kmV hM15.2 (fun h25 hM25 => ?_)) kxM
            refine V.iconst (v := 1) dX3_executes_114 (by decide) ?_
            obtain rfl := Option.some.inj hn
            exact V.iret dX3_executes_115 rfl ⟨rfl, hM25⟩
      · rw [if_neg hc29] at hn
        refine V.iconst (v := 0) dX3_executes_50 (by decide) ?_
        obtain rfl := Option.some.inj hn
        exact V.iret dX3_executes_51 rfl ⟨rfl, hM0⟩
    refine V.if_eq (tgt := 46) dX3_executes_39 (by decide) (fun hc13 => ?_) (fun hc13 => ?_)
    · skip
      refine V.iconst (v := 1) dX3_executes_46 (by decide) ?_
      rw [if_pos hc13] at e31
      subst e31
      exact hJ30
    · skip
      refine V.iconst (v := 2) dX3_executes_42 (by decide) ?_
      refine V.goto (tgt := 47) dX3_executes_43 (by decide) ?_
      rw [if_neg hc13] at e31
      subst e31
      exact hJ30
def m_X3_advance_b72 (i22 : Int32) : (Int32 × Int32 × MS) → Option ((Int32 × Int32 × MS) ⊕ (Int32 × MS)) := fun s => match s with
  | (i30, i31, μ32) => (mLd μ32 2 835 ((6 : Int32) + i22)).bind fun x37 => if x37 ≤ i31 then (some (.inr (i30, μ32))) else ((m_X3_executes i22 i31 μ32).bind fun y39 => some (.inl (i30 + y39.1, i31 + (1 : Int32), y39.2)))
def m_X3_advance_b58 : (Int32 × Int32 × MS) → Option ((Int32 × Int32 × MS) ⊕ (Int32 × MS)) := fun s => match s with
  | (i21, i22, μ23) => (mLd μ23 20 184 (8 : Int32)).bind fun x28 => if x28 ≤ i22 then (some (.inr (i21, μ23))) else ((iter (m_X3_advance_b72 i22) FUEL (i21, (0 : Int32), μ23)).bind fun y => match y with | (v43, μ44) => some (.inl (v43, i22 + (1 : Int32), μ44)))
def m_X3_advance (p1 : Int32) (μ : MS) : Option (Int32 × MS) := (m_X3_noDesk μ).bind fun y1 => if y1.1 = (0 : Int32) then ((mLd y1.2 2 835 (0 : Int32)).bind fun x4 => (m_X3_in p1 (1 : Int32) ((1440 : Int32) - x4)).bind fun x6 => (some (if x6 = (0 : Int32) then ((1 : Int32)) else ((0 : Int32)))).bind fun v11 => (m_X3_refuse v11 (2 : Int32) y1.2).bind fun y12 => if y12.1 = (0 : Int32) then ((m_X3_keeps y12.2).bind fun μ15 => (mLd μ15 2 835 (0 : Int32)).bind fun x17 => (mSt μ15 2 835 (0 : Int32) (x17 + p1)).bind fun μ20 => (iter (m_X3_advance_b58) FUEL ((0 : Int32), (0 : Int32), μ20)).bind fun y => match y with | (v52, μ53) => some (v52, μ53)) else (some ((0 : Int32), y12.2))) else (some ((0 : Int32), y1.2))
abbrev M_X3_advance : MD := (yX3_advance, cX3_advance, 5, (some .int), [])
theorem ok_X3_advance : mOK yX3_advance 5 1 := ⟨⟨by decide +kernel, by decide +kernel⟩, by decide +kernel, by decide⟩
theorem w_X3_advance {l : Launch} {g : GG} {h : AH} {B : BM} {μ : MS} {p1 : Int32} {z : Int32 × MS} (hM : IsM B h μ) (hT : TX g h) (hn : m_X3_advance p1 μ = some z) : Sp l g M_X3_advance 4 [.ref B.1, .int p1] h (QM B h (some (.int z.1)) z.2) := by
  refine Sp.ofV (L := [some (.ref B.1), some (.int p1), none, none, none]) rfl rfl (hcR (hcI hc0)) (Nat.le_of_ble_eq_true rfl) rfl ?_
  have hM0 : MM B h h μ := ⟨hM, SameM.rf⟩
  unfold m_X3_advance at hn
  refine V.aload_n dX3_advance_0 rfl rfl IsR.ref ?_
  obtain ⟨y1, e3, hn⟩ := bnd hn
  refine V.invV (as := []) (b := B.1) (ci := 0) (w := true) (rc := rc0) dX3_advance_1 ok_X3_noDesk (lw_V q2564 q2566 qs116 q151 q2567) rfl hM0.1.1 rfl (by decide) (Nat.le_of_ble_eq_true rfl) (w_X3_noDesk hM0.1 (hT.mm hM hM0) e3) (kmI hM0.2 (fun h2 hM2 => ?_)) kxM
  refine V.if_ne (tgt := 38) dX3_advance_4 (by decide) (fun hc63 => ?_) (fun hc63 => ?_)
  · rw [if_neg hc63] at hn
    refine V.iconst (v := 0) dX3_advance_38 (by decide) ?_
    obtain rfl := Option.some.inj hn
    exact V.iret dX3_advance_39 rfl ⟨rfl, hM2⟩
  · rw [if_pos hc63] at hn
    refine V.aload_n dX3_advance_7 rfl rfl IsR.ref ?_
    refine V.iload_n dX3_advance_8 rfl rfl ?_
    refine V.iconst (v := 1) dX3_advance_9 (by decide) ?_
    refine V.sipush (v := 1440) dX3_advance_10 (by decide) ?_
    refine V.aload_n dX3_advance_13 rfl rfl IsR.ref ?_
    refine V.mgetA hM2 dX3_advance_14 fo_X3_7_0 ma_2 ?_
    refine V.iconst (v := 0) dX3_advance_17 (by decide) ?_
    obtain ⟨x4, e5, hn⟩ := bnd hn
    refine V.miald hM2 dX3_advance_18 ma_2 (mLd_some e5) ?_
    refine V.isub dX3_advance_19 ?_
    obtain ⟨x6, e7, hn⟩ := bnd hn
    refine V.invS (as := [.int p1, .int (1 : Int32), .int ((1440 : Int32) - x4)]) dX3_advance_20 ok_X3_in (lw_S q2308 q2309 q151 q2310) (by decide) (Nat.le_of_ble_eq_true rfl) (w_X3_in e7) (krI ?_) kxZ
    obtain ⟨v11, e62, hn⟩ := bnd hn
    have e62 := Option.some.inj e62
    have hJ61 : V l g M_X3_advance 4 31 [some (.ref B.1), some (.int p1), none, none, none] [.int v11, .ref B.1] h2 (QM B h (some (.int z.1)) z.2) := by
      refine V.iconst (v := 2) dX3_advance_31 (by decide) ?_
      obtain ⟨y12, e14, hn⟩ := bnd hn
      refine V.invV (as := [.int v11, .int (2 : Int32)]) (b := B.1) (ci := 0) (w := true) (rc := rc0) dX3_advance_32 ok_X3_refuse (lw_V q2311 q2313 qs67 q151 q2314) rfl hM2.1.1 rfl (by decide) (Nat.le_of_ble_eq_true rfl) (w_X3_refuse hM2.1 (hT.mm hM hM2) e14) (kmI hM2.2 (fun h13 hM13 => ?_)) kxM
      refine V.if_eq (tgt := 40) dX3_advance_35 (by decide) (fun hc60 => ?_) (fun hc60 => ?_)
      · rw [if_pos hc60] at hn
        refine V.aload_n dX3_advance_40 rfl rfl IsR.ref ?_
        obtain ⟨μ15, e16, hn⟩ := bnd hn
        refine V.invV (as := []) (b := B.1) (ci := 0) (w := true) (rc := rc0) dX3_advance_41 ok_X3_keeps (lw_V q2819 q2821 qs142 q151 q2822) rfl hM13.1.1 rfl (by decide) (Nat.le_of_ble_eq_true rfl) (w_X3_keeps hM13.1 (hT.mm hM hM13) e16) (kmV hM13.2 (fun h15 hM15 => ?_)) kxM
        refine V.aload_n dX3_advance_44 rfl rfl IsR.ref ?_
        refine V.mgetA hM15 dX3_advance_45 fo_X3_7_0 ma_2 ?_
        refine V.iconst (v := 0) dX3_advance_48 (by decide) ?_
        refine V.dup2 dX3_advance_49 rfl rfl ?_
        obtain ⟨x17, e18, hn⟩ := bnd hn
        refine V.miald hM15 dX3_advance_50 ma_2 (mLd_some e18) ?_
        refine V.iload_n dX3_advance_51 rfl rfl ?_
        refine V.iadd dX3_advance_52 ?_
        obtain ⟨μ20, e19, hn⟩ := bnd hn
        refine V.miast hM15 dX3_advance_53 ma_2 (mSt_some e19) (fun h20 hM20 => ?_)
        refine V.iconst (v := 0) dX3_advance_54 (by decide) ?_
        refine V.istore_n (i := 2) dX3_advance_55 rfl (by decide) ?_
        simp only [List.set_cons_zero, List.set_cons_succ]
        refine V.iconst (v := 0) dX3_advance_56 (by decide) ?_
        refine V.istore_n (i := 3) dX3_advance_57 rfl (by decide) ?_
        simp only [List.set_cons_zero, List.set_cons_succ]
        obtain ⟨b55, hL54, hn⟩ := bnd hn
        have hJ56 : ∀ (v52 : Int32) (μ53 : MS), (v52, μ53) = b55 → ∀ h53, MM B h h53 μ53 → V l g M_X3_advance 4 108 [none, none, some (.int v52), none, none] [] h53 (QM B h (some (.int z.1)) z.2) := by
          intro v52 μ53 e57 h53 hM53
          subst e57
          (try dsimp only at hn)
          refine V.iload_n dX3_advance_108 rfl rfl ?_
          obtain rfl := Option.some.inj hn
          exact V.iret dX3_advance_109 rfl ⟨rfl, hM53⟩
        refine V.forget (llS (llN (llS (llS (llN ll0))))) (iter_ind (P := fun (σ : Int32 × Int32 × MS) => match σ with | (i21, i22, μ23) => ∀ h23, MM B h h23 μ23 → V l g M_X3_advance 4 58 [some (.ref B.1), none, some (.int i21), some (.int i22), none] [] h23 (QM B h (some (.int z.1)) z.2)) (b := b55) ?_ FUEL ((0 : Int32), (0 : Int32), μ20) hL54 _ hM20)
        rintro ⟨i21, i22, μ23⟩ ρ58 hr24 hi25 hx26 h23 hM23
        unfold m_X3_advance_b58 at hr24
        (try dsimp only at hr24)
        refine V.iload_n dX3_advance_58 rfl rfl ?_
        refine V.aload_n dX3_advance_59 rfl rfl IsR.ref ?_
        refine V.mgetA hM23 dX3_advance_60 fo_X3_33_0 ma_20 ?_
        refine V.bipush (v := 8) dX3_advance_63 (by decide) ?_
        obtain ⟨x28, e29, hr24⟩ := bnd hr24
        refine V.miald hM23 dX3_advance_65 ma_20 (mLd_some e29) ?_
        refine V.icmp_ge (tgt := 108) dX3_advance_66 (by decide) (fun hc51 => ?_) (fun hc51 => ?_)
        · rw [if_pos hc51] at hr24
          obtain rfl := Option.some.inj hr24
          have e59 := hx26 _ rfl
          exact V.forget (llN (llN (llS (llN (llN ll0))))) (hJ56 _ _ e59 _ hM23)
        · rw [if_neg hc51] at hr24
          refine V.iconst (v := 0) dX3_advance_69 (by decide) ?_
          refine V.istore (i := 4) dX3_advance_70 (by decide) ?_
          simp only [List.set_cons_zero, List.set_cons_succ]
          obtain ⟨b46, hL45, hr24⟩ := bnd hr24
          have hJ47 : ∀ (v43 : Int32) (μ44 : MS), (v43, μ44) = b46 → ∀ h44, MM B h h44 μ44 → V l g M_X3_advance 4 102 [some (.ref B.1), none, some (.int v43), some (.int i22), none] [] h44 (QM B h (some (.int z.1)) z.2) := by
            intro v43 μ44 e48 h44 hM44
            subst e48
            (try dsimp only at hr24)
            refine V.iinc (v := i22 + (1 : Int32)) (i := 3) dX3_advance_102 rfl (by rfl) (by decide) ?_
            simp only [List.set_cons_zero, List.set_cons_succ]
            refine V.goto (tgt := 58) dX3_advance_105 (by decide) ?_
            obtain rfl := Option.some.inj hr24
            have hi25P := hi25 _ rfl
            exact hi25P _ hM44
          refine iter_ind (P := fun (σ : Int32 × Int32 × MS) => match σ with | (i30, i31, μ32) => ∀ h32, MM B h h32 μ32 → V l g M_X3_advance 4 72 [some (.ref B.1), none, some (.int i30), some (.int i22), some (.int i31)] [] h32 (QM B h (some (.int z.1)) z.2)) (b := b46) ?_ FUEL (i21, (0 : Int32), μ23) hL45 _ hM23
          rintro ⟨i30, i31, μ32⟩ ρ49 hr33 hi34 hx35 h32 hM32
          unfold m_X3_advance_b72 at hr33
          (try dsimp only at hr33)
          refine V.iload dX3_advance_72 rfl ?_
          refine V.aload_n dX3_advance_74 rfl rfl IsR.ref ?_
          refine V.mgetA hM32 dX3_advance_75 fo_X3_7_0 ma_2 ?_
          refine V.bipush (v := 6) dX3_advance_78 (by decide) ?_
          refine V.iload_n dX3_advance_80 rfl rfl ?_
          refine V.iadd dX3_advance_81 ?_
          obtain ⟨x37, e38, hr33⟩ := bnd hr33
          refine V.miald hM32 dX3_advance_82 ma_2 (mLd_some e38) ?_
          refine V.icmp_ge (tgt := 102) dX3_advance_83 (by decide) (fun hc42 => ?_) (fun hc42 => ?_)
          · rw [if_pos hc42] at hr33
            obtain rfl := Option.some.inj hr33
            have e50 := hx35 _ rfl
            exact V.forget (llS (llN (llS (llS (llN ll0))))) (hJ47 _ _ e50 _ hM32)
          · rw [if_neg hc42] at hr33
            refine V.iload_n dX3_advance_86 rfl rfl ?_
            refine V.aload_n dX3_advance_87 rfl rfl IsR.ref ?_
            refine V.iload_n dX3_advance_88 rfl rfl ?_
            refine V.iload dX3_advance_89 rfl ?_
            obtain ⟨y39, e41, hr33⟩ := bnd hr33
            refine V.invV (as := [.int i22, .int i31]) (b := B.1) (ci := 0) (w := true) (rc := rc0) dX3_advance_91 ok_X3_executes (lw_V q2851 q2853 qs145 q151 q2854) rfl hM32.1.1 rfl (by decide) (Nat.le_of_ble_eq_true rfl) (w_X3_executes hM32.1 (hT.mm hM hM32) e41) (kmI hM32.2 (fun h40 hM40 => ?_)) kxM
            refine V.iadd dX3_advance_94 ?_
            refine V.istore_n (i := 2) dX3_advance_95 rfl (by decide) ?_
            simp only [List.set_cons_zero, List.set_cons_succ]
            refine V.iinc (v := i31 + (1 : Int32)) (i := 4) dX3_advance_96 rfl (by rfl) (by decide) ?_
            simp only [List.set_cons_zero, List.set_cons_succ]
            refine V.goto (tgt := 72) dX3_advance_99 (by decide) ?_
            obtain rfl := Option.some.inj hr33
            have hi34P := hi34 _ rfl
            exact hi34P _ hM40
      · rw [if_neg hc60] at hn
        refine V.iconst (v := 0) dX3_advance_38 (by decide) ?_
        obtain rfl := Option.some.inj hn
        exact V.iret dX3_advance_39 rfl ⟨rfl, hM13⟩
    refine V.if_ne (tgt := 30) dX3_advance_23 (by decide) (fun hc10 => ?_) (fun hc10 => ?_)
    · skip
      refine V.iconst (v := 0) dX3_advance_30 (by decide) ?_
      rw [if_neg hc10] at e62
      subst e62
      exact hJ61
    · skip
      refine V.iconst (v := 1) dX3_advance_26 (by decide) ?_
      refine V.goto (tgt := 31) dX3_advance_27 (by decide) ?_
      rw [if_pos hc10] at e62
      subst e62
      exact hJ61
def m_X3_undo (μ : MS) : Option (Int32 × MS) := (some (mSF μ 0 (0 : Int32))).bind fun μ2 => (some (if (μ2.1 4) = (0 : Int32) then ((1 : Int32)) else ((0 : Int32)))).bind fun v6 => (m_X3_refuse v6 (1 : Int32) μ2).bind fun y7 => if y7.1 = (0 : Int32) then ((some (mSF y7.2 4 ((y7.2.1 4) - (1 : Int32)))).bind fun μ11 => (m_X3_fetches ((1 : Int32) + (μ11.1 4)) μ11).bind fun μ12 => some (μ12.1 4, μ12)) else (some ((0 : Int32), y7.2))
abbrev M_X3_undo : MD := (yX3_undo, cX3_undo, 1, (some .int), [])
theorem ok_X3_undo : mOK yX3_undo 1 0 := ⟨⟨by decide +kernel, by decide +kernel⟩, by decide +kernel, by decide⟩
theorem w_X3_undo {l : Launch} {g : GG} {h : AH} {B : BM} {μ : MS} {z : Int32 × MS} (hM : IsM B h μ) (hT : TX g h) (hn : m_X3_undo μ = some z) : Sp l g M_X3_undo 1 [.ref B.1] h (QM B h (some (.int z.1)) z.2) := by
  refine Sp.ofV (L := [some (.ref B.1)]) rfl rfl (hcR hc0) (Nat.le_of_ble_eq_true rfl) rfl ?_
  have hM0 : MM B h h μ := ⟨hM, SameM.rf⟩
  unfold m_X3_undo at hn
  refine V.aload_n dX3_undo_0 rfl rfl IsR.ref ?_
  refine V.iconst (v := 0) dX3_undo_1 (by decide) ?_
  obtain ⟨μ2, e1, hn⟩ := bnd hn
  refine V.mputI hM0 dX3_undo_2 po_M_48 mi_0 (fun h2 hM2 => ?_)
  rw [Option.some.inj e1] at hM2
  refine V.aload_n dX3_undo_5 rfl rfl IsR.ref ?_
  refine V.aload_n dX3_undo_6 rfl rfl IsR.ref ?_
  refine V.mgetI hM2 dX3_undo_7 fo_X3_198_0 mi_4 ?_
  obtain ⟨v6, e16, hn⟩ := bnd hn
  have e16 := Option.some.inj e16
  have hJ15 : V l g M_X3_undo 1 18 [some (.ref B.1)] [.int v6, .ref B.1] h2 (QM B h (some (.int z.1)) z.2) := by
    refine V.iconst (v := 1) dX3_undo_18 (by decide) ?_
    obtain ⟨y7, e9, hn⟩ := bnd hn
    refine V.invV (as := [.int v6, .int (1 : Int32)]) (b := B.1) (ci := 0) (w := true) (rc := rc0) dX3_undo_19 ok_X3_refuse (lw_V q2311 q2313 qs67 q151 q2314) rfl hM2.1.1 rfl (by decide) (Nat.le_of_ble_eq_true rfl) (w_X3_refuse hM2.1 (hT.mm hM hM2) e9) (kmI hM2.2 (fun h8 hM8 => ?_)) kxM
    refine V.if_eq (tgt := 27) dX3_undo_22 (by decide) (fun hc14 => ?_) (fun hc14 => ?_)
    · rw [if_pos hc14] at hn
      refine V.aload_n dX3_undo_27 rfl rfl IsR.ref ?_
      refine V.dup dX3_undo_28 rfl ?_
      refine V.mgetI hM8 dX3_undo_29 fo_X3_198_0 mi_4 ?_
      refine V.iconst (v := 1) dX3_undo_32 (by decide) ?_
      refine V.isub dX3_undo_33 ?_
      obtain ⟨μ11, e10, hn⟩ := bnd hn
      refine V.mputI hM8 dX3_undo_34 po_M_198 mi_4 (fun h11 hM11 => ?_)
      rw [Option.some.inj e10] at hM11
      refine V.aload_n dX3_undo_37 rfl rfl IsR.ref ?_
      refine V.iconst (v := 1) dX3_undo_38 (by decide) ?_
      refine V.aload_n dX3_undo_39 rfl rfl IsR.ref ?_
      refine V.mgetI hM11 dX3_undo_40 fo_X3_198_0 mi_4 ?_
      refine V.iadd dX3_undo_43 ?_
      obtain ⟨μ12, e13, hn⟩ := bnd hn
      refine V.invV (as := [.int ((1 : Int32) + (μ11.1 4))]) (b := B.1) (ci := 0) (w := true) (rc := rc0) dX3_undo_44 ok_X3_fetches (lw_V q2735 q2737 qs130 q151 q2738) rfl hM11.1.1 rfl (by decide) (Nat.le_of_ble_eq_true rfl) (w_X3_fetches hM11.1 (hT.mm hM hM11) e13) (kmV hM11.2 (fun h12 hM12 => ?_)) kxM
      refine V.aload_n dX3_undo_47 rfl rfl IsR.ref ?_
      refine V.mgetI hM12 dX3_undo_48 fo_X3_198_0 mi_4 ?_
      obtain rfl := Option.some.inj hn
      exact V.iret dX3_undo_51 rfl ⟨rfl, hM12⟩
    · rw [if_neg hc14] at hn
      refine V.iconst (v := 0) dX3_undo_25 (by decide) ?_
      obtain rfl := Option.some.inj hn
      exact V.iret dX3_undo_26 rfl ⟨rfl, hM8⟩
  refine V.if_ne (tgt := 17) dX3_undo_10 (by decide) (fun hc5 => ?_) (fun hc5 => ?_)
  · skip
    refine V.iconst (v := 0) dX3_undo_17 (by decide) ?_
    rw [if_neg hc5] at e16
    subst e16
    exact hJ15
  · skip
    refine V.iconst (v := 1) dX3_undo_13 (by decide) ?_
    refine V.goto (tgt := 18) dX3_undo_14 (by decide) ?_
    rw [if_pos hc5] at e16
    subst e16
    exact hJ15
def m_X3_save (p1 : Int32) (μ : MS) : Option (Int32 × MS) := (m_X3_noDesk μ).bind fun y1 => if y1.1 = (0 : Int32) then ((m_X3_in p1 (0 : Int32) (1 : Int32)).bind fun x4 => (some (if x4 = (0 : Int32) then ((1 : Int32)) else ((0 : Int32)))).bind fun v9 => (m_X3_refuse v9 (2 : Int32) y1.2).bind fun y10 => if y10.1 = (0 : Int32) then ((m_X3_lays ((7 : Int32) + p1) y10.2).bind fun μ13 => (mSt μ13 5 2 p1 (1 : Int32)).bind fun μ16 => (mLd μ16 2 835 (0 : Int32)).bind fun x17 => some (x17, μ16)) else (some ((0 : Int32), y10.2))) else (some ((0 : Int32), y1.2))
abbrev M_X3_save : MD := (yX3_save, cX3_save, 2, (some .int), [])
theorem ok_X3_save : mOK yX3_save 2 1 := ⟨⟨by decide +kernel, by decide +kernel⟩, by decide +kernel, by decide⟩
theorem w_X3_save {l : Launch} {g : GG} {h : AH} {B : BM} {μ : MS} {p1 : Int32} {z : Int32 × MS} (hM : IsM B h μ) (hT : TX g h) (hn : m_X3_save p1 μ = some z) : Sp l g M_X3_save 2 [.ref B.1, .int p1] h (QM B h (some (.int z.1)) z.2) := by
  refine Sp.ofV (L := [some (.ref B.1), some (.int p1)]) rfl rfl (hcR (hcI hc0)) (Nat.le_of_ble_eq_true rfl) rfl ?_
  have hM0 : MM B h h μ := ⟨hM, SameM.rf⟩
  unfold m_X3_save at hn
  refine V.aload_n dX3_save_0 rfl rfl IsR.ref ?_
  obtain ⟨y1, e3, hn⟩ := bnd hn
  refine V.invV (as := []) (b := B.1) (ci := 0) (w := true) (rc := rc0) dX3_save_1 ok_X3_noDesk (lw_V q2564 q2566 qs116 q151 q2567) rfl hM0.1.1 rfl (by decide) (Nat.le_of_ble_eq_true rfl) (w_X3_noDesk hM0.1 (hT.mm hM hM0) e3) (kmI hM0.2 (fun h2 hM2 => ?_)) kxM
  refine V.if_ne (tgt := 29) dX3_save_4 (by decide) (fun hc22 => ?_) (fun hc22 => ?_)
  · rw [if_neg hc22] at hn
    refine V.iconst (v := 0) dX3_save_29 (by decide) ?_
    obtain rfl := Option.some.inj hn
    exact V.iret dX3_save_30 rfl ⟨rfl, hM2⟩
  · rw [if_pos hc22] at hn
    refine V.aload_n dX3_save_7 rfl rfl IsR.ref ?_
    refine V.iload_n dX3_save_8 rfl rfl ?_
    refine V.iconst (v := 0) dX3_save_9 (by decide) ?_
    refine V.iconst (v := 1) dX3_save_10 (by decide) ?_
    obtain ⟨x4, e5, hn⟩ := bnd hn
    refine V.invS (as := [.int p1, .int (0 : Int32), .int (1 : Int32)]) dX3_save_11 ok_X3_in (lw_S q2308 q2309 q151 q2310) (by decide) (Nat.le_of_ble_eq_true rfl) (w_X3_in e5) (krI ?_) kxZ
    obtain ⟨v9, e21, hn⟩ := bnd hn
    have e21 := Option.some.inj e21
    have hJ20 : V l g M_X3_save 2 22 [some (.ref B.1), some (.int p1)] [.int v9, .ref B.1] h2 (QM B h (some (.int z.1)) z.2) := by
      refine V.iconst (v := 2) dX3_save_22 (by decide) ?_
      obtain ⟨y10, e12, hn⟩ := bnd hn
      refine V.invV (as := [.int v9, .int (2 : Int32)]) (b := B.1) (ci := 0) (w := true) (rc := rc0) dX3_save_23 ok_X3_refuse (lw_V q2311 q2313 qs67 q151 q2314) rfl hM2.1.1 rfl (by decide) (Nat.le_of_ble_eq_true rfl) (w_X3_refuse hM2.1 (hT.mm hM hM2) e12) (kmI hM2.2 (fun h11 hM11 => ?_)) kxM
      refine V.if_eq (tgt := 31) dX3_save_26 (by decide) (fun hc19 => ?_) (fun hc19 => ?_)
      · rw [if_pos hc19] at hn
        refine V.aload_n dX3_save_31 rfl rfl IsR.ref ?_
        refine V.bipush (v := 7) dX3_save_32 (by decide) ?_
        refine V.iload_n dX3_save_34 rfl rfl ?_
        refine V.iadd dX3_save_35 ?_
        obtain ⟨μ13, e14, hn⟩ := bnd hn
        refine V.invV (as := [.int ((7 : Int32) + p1)]) (b := B.1) (ci := 0) (w := true) (rc := rc0) dX3_save_36 ok_X3_lays (lw_V q2731 q2733 qs129 q151 q2734) rfl hM11.1.1 rfl (by decide) (Nat.le_of_ble_eq_true rfl) (w_X3_lays hM11.1 (hT.mm hM hM11) e14) (kmV hM11.2 (fun h13 hM13 => ?_)) kxM
        refine V.aload_n dX3_save_39 rfl rfl IsR.ref ?_
        refine V.mgetA hM13 dX3_save_40 fo_X3_16_0 ma_5 ?_
        refine V.iload_n dX3_save_43 rfl rfl ?_
        refine V.iconst (v := 1) dX3_save_44 (by decide) ?_
        obtain ⟨μ16, e15, hn⟩ := bnd hn
        refine V.mzast hM13 dX3_save_45 ma_5 (mSt_some e15) rfl (fun h16 hM16 => ?_)
        refine V.aload_n dX3_save_46 rfl rfl IsR.ref ?_
        refine V.mgetA hM16 dX3_save_47 fo_X3_7_0 ma_2 ?_
        refine V.iconst (v := 0) dX3_save_50 (by decide) ?_
        obtain ⟨x17, e18, hn⟩ := bnd hn
        refine V.miald hM16 dX3_save_51 ma_2 (mLd_some e18) ?_
        obtain rfl := Option.some.inj hn
        exact V.iret dX3_save_52 rfl ⟨rfl, hM16⟩
      · rw [if_neg hc19] at hn
        refine V.iconst (v := 0) dX3_save_29 (by decide) ?_
        obtain rfl := Option.some.inj hn
        exact V.iret dX3_save_30 rfl ⟨rfl, hM11⟩
    refine V.if_ne (tgt := 21) dX3_save_14 (by decide) (fun hc8 => ?_) (fun hc8 => ?_)
    · skip
      refine V.iconst (v := 0) dX3_save_21 (by decide) ?_
      rw [if_neg hc8] at e21
      subst e21
      exact hJ20
    · skip
      refine V.iconst (v := 1) dX3_save_17 (by decide) ?_
      refine V.goto (tgt := 22) dX3_save_18 (by decide) ?_
      rw [if_pos hc8] at e21
      subst e21
      exact hJ20
def m_X3_restore (p1 : Int32) (μ : MS) : Option (Int32 × MS) := (some (mSF μ 0 (0 : Int32))).bind fun μ2 => (m_X3_in p1 (0 : Int32) (1 : Int32)).bind fun x3 => (some (if x3 = (0 : Int32) then ((1 : Int32)) else ((0 : Int32)))).bind fun v8 => (m_X3_refuse v8 (1 : Int32) μ2).bind fun y9 => if y9.1 = (0 : Int32) then ((mLd y9.2 5 2 p1).bind fun x12 => (some (if x12 = (0 : Int32) then ((1 : Int32)) else ((0 : Int32)))).bind fun v17 => (m_X3_refuse v17 (2 : Int32) y9.2).bind fun y18 => if y18.1 = (0 : Int32) then ((m_X3_fetches ((7 : Int32) + p1) y18.2).bind fun μ21 => (some (mSF μ21 4 (0 : Int32))).bind fun μ24 => (mLd μ24 2 835 (0 : Int32)).bind fun x25 => some (x25, μ24)) else (some ((0 : Int32), y18.2))) else (some ((0 : Int32), y9.2))
abbrev M_X3_restore : MD := (yX3_restore, cX3_restore, 2, (some .int), [])
theorem ok_X3_restore : mOK yX3_restore 2 1 := ⟨⟨by decide +kernel, by decide +kernel⟩, by decide +kernel, by decide⟩
theorem w_X3_restore {l : Launch} {g : GG} {h : AH} {B : BM} {μ : MS} {p1 : Int32} {z : Int32 × MS} (hM : IsM B h μ) (hT : TX g h) (hn : m_X3_restore p1 μ = some z) : Sp l g M_X3_restore 1 [.ref B.1, .int p1] h (QM B h (some (.int z.1)) z.2) := by
  refine Sp.ofV (L := [some (.ref B.1), some (.int p1)]) rfl rfl (hcR (hcI hc0)) (Nat.le_of_ble_eq_true rfl) rfl ?_
  have hM0 : MM B h h μ := ⟨hM, SameM.rf⟩
  unfold m_X3_restore at hn
  refine V.aload_n dX3_restore_0 rfl rfl IsR.ref ?_
  refine V.iconst (v := 0) dX3_restore_1 (by decide) ?_
  obtain ⟨μ2, e1, hn⟩ := bnd hn
  refine V.mputI hM0 dX3_restore_2 po_M_48 mi_0 (fun h2 hM2 => ?_)
  rw [Option.some.inj e1] at hM2
  refine V.aload_n dX3_restore_5 rfl rfl IsR.ref ?_
  refine V.iload_n dX3_restore_6 rfl rfl ?_
  refine V.iconst (v := 0) dX3_restore_7 (by decide) ?_
  refine V.iconst (v := 1) dX3_restore_8 (by decide) ?_
  obtain ⟨x3, e4, hn⟩ := bnd hn
  refine V.invS (as := [.int p1, .int (0 : Int32), .int (1 : Int32)]) dX3_restore_9 ok_X3_in (lw_S q2308 q2309 q151 q2310) (by decide) (Nat.le_of_ble_eq_true rfl) (w_X3_in e4) (krI ?_) kxZ
  obtain ⟨v8, e32, hn⟩ := bnd hn
  have e32 := Option.some.inj e32
  have hJ31 : V l g M_X3_restore 1 20 [some (.ref B.1), some (.int p1)] [.int v8, .ref B.1] h2 (QM B h (some (.int z.1)) z.2) := by
    refine V.iconst (v := 1) dX3_restore_20 (by decide) ?_
    obtain ⟨y9, e11, hn⟩ := bnd hn
    refine V.invV (as := [.int v8, .int (1 : Int32)]) (b := B.1) (ci := 0) (w := true) (rc := rc0) dX3_restore_21 ok_X3_refuse (lw_V q2311 q2313 qs67 q151 q2314) rfl hM2.1.1 rfl (by decide) (Nat.le_of_ble_eq_true rfl) (w_X3_refuse hM2.1 (hT.mm hM hM2) e11) (kmI hM2.2 (fun h10 hM10 => ?_)) kxM
    refine V.if_ne (tgt := 49) dX3_restore_24 (by decide) (fun hc30 => ?_) (fun hc30 => ?_)
    · rw [if_neg hc30] at hn
      refine V.iconst (v := 0) dX3_restore_49 (by decide) ?_
      obtain rfl := Option.some.inj hn
      exact V.iret dX3_restore_50 rfl ⟨rfl, hM10⟩
    · rw [if_pos hc30] at hn
      refine V.aload_n dX3_restore_27 rfl rfl IsR.ref ?_
      refine V.aload_n dX3_restore_28 rfl rfl IsR.ref ?_
      refine V.mgetA hM10 dX3_restore_29 fo_X3_16_0 ma_5 ?_
      refine V.iload_n dX3_restore_32 rfl rfl ?_
      obtain ⟨x12, e13, hn⟩ := bnd hn
      refine V.mzald hM10 dX3_restore_33 ma_5 (mLd_some e13) ?_
      obtain ⟨v17, e29, hn⟩ := bnd hn
      have e29 := Option.some.inj e29
      have hJ28 : V l g M_X3_restore 1 42 [some (.ref B.1), some (.int p1)] [.int v17, .ref B.1] h10 (QM B h (some (.int z.1)) z.2) := by
        refine V.iconst (v := 2) dX3_restore_42 (by decide) ?_
        obtain ⟨y18, e20, hn⟩ := bnd hn
        refine V.invV (as := [.int v17, .int (2 : Int32)]) (b := B.1) (ci := 0) (w := true) (rc := rc0) dX3_restore_43 ok_X3_refuse (lw_V q2311 q2313 qs67 q151 q2314) rfl hM10.1.1 rfl (by decide) (Nat.le_of_ble_eq_true rfl) (w_X3_refuse hM10.1 (hT.mm hM hM10) e20) (kmI hM10.2 (fun h19 hM19 => ?_)) kxM
        refine V.if_eq (tgt := 51) dX3_restore_46 (by decide) (fun hc27 => ?_) (fun hc27 => ?_)
        · rw [if_pos hc27] at hn
          refine V.aload_n dX3_restore_51 rfl rfl IsR.ref ?_
          refine V.bipush (v := 7) dX3_restore_52 (by decide) ?_
          refine V.iload_n dX3_restore_54 rfl rfl ?_
          refine V.iadd dX3_restore_55 ?_
          obtain ⟨μ21, e22, hn⟩ := bnd hn
          refine V.invV (as := [.int ((7 : Int32) + p1)]) (b := B.1) (ci := 0) (w := true) (rc := rc0) dX3_restore_56 ok_X3_fetches (lw_V q2735 q2737 qs130 q151 q2738) rfl hM19.1.1 rfl (by decide) (Nat.le_of_ble_eq_true rfl) (w_X3_fetches hM19.1 (hT.mm hM hM19) e22) (kmV hM19.2 (fun h21 hM21 => ?_)) kxM
          refine V.aload_n dX3_restore_59 rfl rfl IsR.ref ?_
          refine V.iconst (v := 0) dX3_restore_60 (by decide) ?_
          obtain ⟨μ24, e23, hn⟩ := bnd hn
          refine V.mputI hM21 dX3_restore_61 po_M_198 mi_4 (fun h24 hM24 => ?_)
          rw [Option.some.inj e23] at hM24
          refine V.aload_n dX3_restore_64 rfl rfl IsR.ref ?_
          refine V.mgetA hM24 dX3_restore_65 fo_X3_7_0 ma_2 ?_
          refine V.iconst (v := 0) dX3_restore_68 (by decide) ?_
          obtain ⟨x25, e26, hn⟩ := bnd hn
          refine V.miald hM24 dX3_restore_69 ma_2 (mLd_some e26) ?_
          obtain rfl := Option.some.inj hn
          exact V.iret dX3_restore_70 rfl ⟨rfl, hM24⟩
        · rw [if_neg hc27] at hn
          refine V.iconst (v := 0) dX3_restore_49 (by decide) ?_
          obtain rfl := Option.some.inj hn
          exact V.iret dX3_restore_50 rfl ⟨rfl, hM19⟩
      refine V.if_ne (tgt := 41) dX3_restore_34 (by decide) (fun hc16 => ?_) (fun hc16 => ?_)
      · skip
        refine V.iconst (v := 0) dX3_restore_41 (by decide) ?_
        rw [if_neg hc16] at e29
        subst e29
        exact hJ28
      · skip
        refine V.iconst (v := 1) dX3_restore_37 (by decide) ?_
        refine V.goto (tgt := 42) dX3_restore_38 (by decide) ?_
        rw [if_pos hc16] at e29
        subst e29
        exact hJ28
  refine V.if_ne (tgt := 19) dX3_restore_12 (by decide) (fun hc7 => ?_) (fun hc7 => ?_)
  · skip
    refine V.iconst (v := 0) dX3_restore_19 (by decide) ?_
    rw [if_neg hc7] at e32
    subst e32
    exact hJ31
  · skip
    refine V.iconst (v := 1) dX3_restore_15 (by decide) ?_
    refine V.goto (tgt := 20) dX3_restore_16 (by decide) ?_
    rw [if_pos hc7] at e32
    subst e32
    exact hJ31
