set_option maxRecDepth 100000
/-! grow -/
theorem wX5_grow_0 (K : KM) (hb : K.G.base ≤ K.m) {x1 : Int} {F : Nat → Int} {A : Nat → Int → Int} (h : RI mX5_isAtom K [.ref K.m, vI x1] F A fun r0 F0 A0 => (rI r0) ∧ ((¬ r0 = 0 → ((0 ≤ x1 ∧ x1 < 13) ∧ (RI mJ9_bitCount K [vI (A0 1 x1)] F0 A0 fun r3 F3 A3 => (rI r3) ∧ ((r3 = 4 → (SI K ((-4)) F3 A3)) ∧ (¬ r3 = 4 → ((rI (F3 3)) ∧ ((¬ (F3 3) = 12 → (RV mX5_looksAtDrawing K [.ref K.m] F3 A3 fun F6 A6 => (0 ≤ (F6 1) ∧ (F6 1) < 13) ∧ (RV mX5_binds K [.ref K.m, vI x1, vI (F6 1)] F6 (upA A6 0 (F6 1) 0) fun F8 A8 => RV mX5_draws K [.ref K.m] (upN F8 1 ((F8 1) + 1)) A8 fun F9 A9 => SI K ((F9 3) - 1) F9 A9))) ∧ ((F3 3) = 12 → (SI K ((-4)) F3 A3))))))))) ∧ (r0 = 0 → (SI K ((-1)) F0 A0)))) : VM K mX5_grow 0 [(0, .ref K.m), (1, vI x1)] [] F A := by
  refine v_aload_n 0 dX5_grow_0 rfl (isR_ref _) ?_
  refine v_iload_n 1 dX5_grow_1 rfl ?_
  refine m_callI K (As := [vI x1]) dX5_grow_2 LX5_244 rfl rfl (Nat.le_of_ble_eq_true rfl) h (fun r0 F0 A0 h => ?_)
  obtain ⟨s1, h⟩ := h
  obtain ⟨ht, hf⟩ := h
  refine v_if_ne 10 dX5_grow_5 (by decide) s1 (fun c => ?_) (fun c => ?_)
  · have h := ht c
    obtain ⟨s2, h⟩ := h
    refine v_aload_n 0 dX5_grow_10 rfl (isR_ref _) ?_
    refine m_get K dX5_grow_11 fX5_15 rfl ?_
    refine v_iload_n 1 dX5_grow_14 rfl ?_
    refine m_iald K 1 dX5_grow_15 rfl s2 (by decide) ?_
    refine m_callSI K (As := [vI (A0 1 x1)]) dX5_grow_16 LX5_160 rfl rfl (Nat.le_of_ble_eq_true rfl) h (fun r3 F3 A3 h => ?_)
    obtain ⟨s4, h⟩ := h
    refine v_iconst dX5_grow_19 ?_
    obtain ⟨ht, hf⟩ := h
    refine v_icmp_eq 32 dX5_grow_20 (by decide) s4 (by decide) (fun c => ?_) (fun c => ?_)
    · have h := ht c
      refine v_bipush dX5_grow_32 rfl ?_
      exact m_iret K dX5_grow_34 rfl h
    · have h := hf c
      obtain ⟨s5, h⟩ := h
      refine v_aload_n 0 dX5_grow_23 rfl (isR_ref _) ?_
      refine m_get (v := vI (F3 3)) K dX5_grow_24 fX5_18 rfl ?_
      refine v_bipush dX5_grow_27 rfl ?_
      obtain ⟨ht, hf⟩ := h
      refine v_icmp_ne 35 dX5_grow_29 (by decide) s5 (by decide) (fun c => ?_) (fun c => ?_)
      · have h := ht c
        refine v_aload_n 0 dX5_grow_35 rfl (isR_ref _) ?_
        refine m_callV K (As := []) dX5_grow_36 LX5_241 rfl rfl (Nat.le_of_ble_eq_true rfl) h (fun F6 A6 h => ?_)
        obtain ⟨s7, h⟩ := h
        refine v_aload_n 0 dX5_grow_39 rfl (isR_ref _) ?_
        refine m_get K dX5_grow_40 fX5_11 rfl ?_
        refine v_aload_n 0 dX5_grow_43 rfl (isR_ref _) ?_
        refine m_get (v := vI (F6 1)) K dX5_grow_44 fX5_145 rfl ?_
        refine v_iconst dX5_grow_47 ?_
        refine m_iast K 0 hb dX5_grow_48 rfl s7 (by decide) ?_
        refine v_aload_n 0 dX5_grow_49 rfl (isR_ref _) ?_
        refine v_iload_n 1 dX5_grow_50 rfl ?_
        refine v_aload_n 0 dX5_grow_51 rfl (isR_ref _) ?_
        refine m_get (v := vI (F6 1)) K dX5_grow_52 fX5_145 rfl ?_
        refine m_callV K (As := [vI x1, vI (F6 1)]) dX5_grow_55 LX5_206 rfl rfl (Nat.le_of_ble_eq_true rfl) h (fun F8 A8 h => ?_)
        refine v_aload_n 0 dX5_grow_58 rfl (isR_ref _) ?_
        refine v_dup dX5_grow_59 rfl ?_
        refine m_get (v := vI (F8 1)) K dX5_grow_60 fX5_145 rfl ?_
        refine v_iconst dX5_grow_63 ?_
        refine v_iadd dX5_grow_64 ?_
        refine m_put (F' := upN F8 1 ((F8 1) + 1)) K hb dX5_grow_65 fX5_145 (by decide) (by decide) rfl ?_
        refine v_aload_n 0 dX5_grow_68 rfl (isR_ref _) ?_
        refine m_callV K (As := []) dX5_grow_69 LX5_247 rfl rfl (Nat.le_of_ble_eq_true rfl) h (fun F9 A9 h => ?_)
        refine v_aload_n 0 dX5_grow_72 rfl (isR_ref _) ?_
        refine m_get (v := vI (F9 3)) K dX5_grow_73 fX5_18 rfl ?_
        refine v_iconst dX5_grow_76 ?_
        refine v_isub dX5_grow_77 ?_
        exact m_iret K dX5_grow_78 rfl h
      · have h := hf c
        refine v_bipush dX5_grow_32 rfl ?_
        exact m_iret K dX5_grow_34 rfl h
  · have h := hf c
    refine v_iconst dX5_grow_8 ?_
    exact m_iret K dX5_grow_9 rfl h
/-! isAtom -/
theorem wX5_isAtom_0 (K : KM) (hb : K.G.base ≤ K.m) {x1 : Int} {F : Nat → Int} {A : Nat → Int → Int} (h : (rI x1) ∧ (rI ((F 3) - 1)) ∧ (RI mX5_isIn K [vL x1, vL 0, vL ((F 3) - 1)] F A fun r2 F2 A2 => (r2 = 0 ∨ r2 = 1) ∧ (SI K r2 F2 A2))) : VM K mX5_isAtom 0 [(0, .ref K.m), (1, vI x1)] [] F A := by
  obtain ⟨s0, s1, h⟩ := h
  refine v_iload_n 1 dX5_isAtom_0 rfl ?_
  refine v_i2l dX5_isAtom_1 s0 ?_
  refine v_lconst (z := 0) dX5_isAtom_2 rfl ?_
  refine v_aload_n 0 dX5_isAtom_3 rfl (isR_ref _) ?_
  refine m_get (v := vI (F 3)) K dX5_isAtom_4 fX5_18 rfl ?_
  refine v_iconst dX5_isAtom_7 ?_
  refine v_isub dX5_isAtom_8 ?_
  refine v_i2l dX5_isAtom_9 s1 ?_
  refine m_callSI K (As := [vL x1, vL 0, vL ((F 3) - 1)]) dX5_isAtom_10 LX5_148 rfl rfl (Nat.le_of_ble_eq_true rfl) h (fun r2 F2 A2 h => ?_)
  obtain ⟨s3, h⟩ := h
  exact m_zret K dX5_isAtom_13 rfl s3 h
/-! isIn -/
theorem wX5_isIn_0 (K : KM) (hb : K.G.base ≤ K.m) {x0 x2 x4 : Int} {F : Nat → Int} {A : Nat → Int → Int} (h : (rL x0) ∧ (rL x2) ∧ (((cmpI x0 x2) < 0 → (SI K 0 F A)) ∧ (¬ (cmpI x0 x2) < 0 → ((rL x4) ∧ ((0 < (cmpI x0 x4) → (SI K 0 F A)) ∧ (¬ 0 < (cmpI x0 x4) → (SI K 1 F A))))))) : VM K mX5_isIn 0 [(0, vL x0), (2, vL x2), (4, vL x4)] [] F A := by
  obtain ⟨s0, s1, h⟩ := h
  refine v_lload_n 0 dX5_isIn_0 rfl ?_
  refine v_lload_n 1 dX5_isIn_1 rfl ?_
  refine v_lcmp dX5_isIn_2 s0 s1 ?_
  obtain ⟨ht, hf⟩ := h
  refine v_if_lt 17 dX5_isIn_3 (by decide) cmpI_rI (fun c => ?_) (fun c => ?_)
  · have h := ht c
    refine v_iconst dX5_isIn_17 ?_
    exact m_zret K dX5_isIn_18 rfl (by decide) h
  · have h := hf c
    obtain ⟨s2, h⟩ := h
    refine v_lload_n 0 dX5_isIn_6 rfl ?_
    refine v_lload 2 dX5_isIn_7 rfl ?_
    refine v_lcmp dX5_isIn_9 s0 s2 ?_
    obtain ⟨ht, hf⟩ := h
    refine v_if_gt 17 dX5_isIn_10 (by decide) cmpI_rI (fun c => ?_) (fun c => ?_)
    · have h := ht c
      refine v_iconst dX5_isIn_17 ?_
      exact m_zret K dX5_isIn_18 rfl (by decide) h
    · have h := hf c
      refine v_iconst dX5_isIn_13 ?_
      refine v_goto 18 dX5_isIn_14 (by decide) ?_
      exact m_zret K dX5_isIn_18 rfl (by decide) h
/-! looksAtDrawing -/
theorem wX5_looksAtDrawing_0 (K : KM) (hb : K.G.base ≤ K.m) {F : Nat → Int} {A : Nat → Int → Int} (h : VM K mX5_looksAtDrawing 10 [(0, .ref K.m), (1, vI 0)] [] (upN F 1 (F 3)) A) : VM K mX5_looksAtDrawing 0 [(0, .ref K.m)] [] F A := by
  refine v_aload_n 0 dX5_looksAtDrawing_0 rfl (isR_ref _) ?_
  refine v_aload_n 0 dX5_looksAtDrawing_1 rfl (isR_ref _) ?_
  refine m_get (v := vI (F 3)) K dX5_looksAtDrawing_2 fX5_18 rfl ?_
  refine m_put (F' := upN F 1 (F 3)) K hb dX5_looksAtDrawing_5 fX5_145 (by decide) (by decide) rfl ?_
  refine v_iconst dX5_looksAtDrawing_8 ?_
  refine v_istore_n dX5_looksAtDrawing_9 (by decide) rfl ?_
  refine V.sub [1, 0] rfl ?_
  exact h
theorem wX5_looksAtDrawing_10 (K : KM) (hb : K.G.base ≤ K.m) {x1 : Int} {F : Nat → Int} {A : Nat → Int → Int} (h : (rI x1) ∧ ((13 ≤ x1 → (SV K F A)) ∧ (¬ 13 ≤ x1 → ((0 ≤ x1 ∧ x1 < 13) ∧ (VM K mX5_looksAtDrawing 10 [(0, .ref K.m), (1, vI (x1 + 1))] [] F (upA A 0 x1 (A 1 x1))))))) : VM K mX5_looksAtDrawing 10 [(0, .ref K.m), (1, vI x1)] [] F A := by
  obtain ⟨s0, h⟩ := h
  refine v_iload_n 1 dX5_looksAtDrawing_10 rfl ?_
  refine v_bipush dX5_looksAtDrawing_11 rfl ?_
  obtain ⟨ht, hf⟩ := h
  refine v_icmp_ge 34 dX5_looksAtDrawing_13 (by decide) s0 (by decide) (fun c => ?_) (fun c => ?_)
  · have h := ht c
    exact m_vret K dX5_looksAtDrawing_34 rfl h
  · have h := hf c
    obtain ⟨s1, h⟩ := h
    refine v_aload_n 0 dX5_looksAtDrawing_16 rfl (isR_ref _) ?_
    refine m_get K dX5_looksAtDrawing_17 fX5_11 rfl ?_
    refine v_iload_n 1 dX5_looksAtDrawing_20 rfl ?_
    refine v_aload_n 0 dX5_looksAtDrawing_21 rfl (isR_ref _) ?_
    refine m_get K dX5_looksAtDrawing_22 fX5_15 rfl ?_
    refine v_iload_n 1 dX5_looksAtDrawing_25 rfl ?_
    refine m_iald K 1 dX5_looksAtDrawing_26 rfl s1 (by decide) ?_
    refine m_iast K 0 hb dX5_looksAtDrawing_27 rfl s1 (by decide) ?_
    refine v_iinc 1 dX5_looksAtDrawing_28 rfl (by decide) rfl ?_
    refine v_goto 10 dX5_looksAtDrawing_31 (by decide) ?_
    refine V.sub [1, 0] rfl ?_
    exact h
/-! binds -/
theorem wX5_binds_0 (K : KM) (hb : K.G.base ≤ K.m) {x1 x2 : Int} {F : Nat → Int} {A : Nat → Int → Int} (h : (0 ≤ x1 ∧ x1 < 13) ∧ (0 ≤ x2 ∧ x2 < 13) ∧ (SV K F (upA (upA A 0 x1 (ior (A 0 x1) (ishl 1 x2))) 0 x2 (ior ((upA A 0 x1 (ior (A 0 x1) (ishl 1 x2))) 0 x2) (ishl 1 x1))))) : VM K mX5_binds 0 [(0, .ref K.m), (1, vI x1), (2, vI x2)] [] F A := by
  obtain ⟨s0, s1, h⟩ := h
  refine v_aload_n 0 dX5_binds_0 rfl (isR_ref _) ?_
  refine m_get K dX5_binds_1 fX5_11 rfl ?_
  refine v_iload_n 1 dX5_binds_4 rfl ?_
  refine v_dup2 dX5_binds_5 rfl rfl ?_
  refine m_iald K 0 dX5_binds_6 rfl s0 (by decide) ?_
  refine v_iconst dX5_binds_7 ?_
  refine v_iload_n 2 dX5_binds_8 rfl ?_
  refine v_ishl dX5_binds_9 ?_
  refine v_ior dX5_binds_10 ?_
  refine m_iast K 0 hb dX5_binds_11 rfl s0 (by decide) ?_
  refine v_aload_n 0 dX5_binds_12 rfl (isR_ref _) ?_
  refine m_get K dX5_binds_13 fX5_11 rfl ?_
  refine v_iload_n 2 dX5_binds_16 rfl ?_
  refine v_dup2 dX5_binds_17 rfl rfl ?_
  refine m_iald K 0 dX5_binds_18 rfl s1 (by decide) ?_
  refine v_iconst dX5_binds_19 ?_
  refine v_iload_n 1 dX5_binds_20 rfl ?_
  refine v_ishl dX5_binds_21 ?_
  refine v_ior dX5_binds_22 ?_
  refine m_iast K 0 hb dX5_binds_23 rfl s1 (by decide) ?_
  exact m_vret K dX5_binds_24 rfl h
/-! draws -/
theorem wX5_draws_0 (K : KM) (hb : K.G.base ≤ K.m) {F : Nat → Int} {A : Nat → Int → Int} (h : VM K mX5_draws 10 [(0, .ref K.m), (1, vI 0)] [] (upN F 3 (F 1)) A) : VM K mX5_draws 0 [(0, .ref K.m)] [] F A := by
  refine v_aload_n 0 dX5_draws_0 rfl (isR_ref _) ?_
  refine v_aload_n 0 dX5_draws_1 rfl (isR_ref _) ?_
  refine m_get (v := vI (F 1)) K dX5_draws_2 fX5_145 rfl ?_
  refine m_put (F' := upN F 3 (F 1)) K hb dX5_draws_5 fX5_18 (by decide) (by decide) rfl ?_
  refine v_iconst dX5_draws_8 ?_
  refine v_istore_n dX5_draws_9 (by decide) rfl ?_
  refine V.sub [1, 0] rfl ?_
  exact h
theorem wX5_draws_10 (K : KM) (hb : K.G.base ≤ K.m) {x1 : Int} {F : Nat → Int} {A : Nat → Int → Int} (h : (rI x1) ∧ ((13 ≤ x1 → (SV K F A)) ∧ (¬ 13 ≤ x1 → ((0 ≤ x1 ∧ x1 < 13) ∧ (VM K mX5_draws 10 [(0, .ref K.m), (1, vI (x1 + 1))] [] F (upA A 1 x1 (A 0 x1))))))) : VM K mX5_draws 10 [(0, .ref K.m), (1, vI x1)] [] F A := by
  obtain ⟨s0, h⟩ := h
  refine v_iload_n 1 dX5_draws_10 rfl ?_
  refine v_bipush dX5_draws_11 rfl ?_
  obtain ⟨ht, hf⟩ := h
  refine v_icmp_ge 34 dX5_draws_13 (by decide) s0 (by decide) (fun c => ?_) (fun c => ?_)
  · have h := ht c
    exact m_vret K dX5_draws_34 rfl h
  · have h := hf c
    obtain ⟨s1, h⟩ := h
    refine v_aload_n 0 dX5_draws_16 rfl (isR_ref _) ?_
    refine m_get K dX5_draws_17 fX5_15 rfl ?_
    refine v_iload_n 1 dX5_draws_20 rfl ?_
    refine v_aload_n 0 dX5_draws_21 rfl (isR_ref _) ?_
    refine m_get K dX5_draws_22 fX5_11 rfl ?_
    refine v_iload_n 1 dX5_draws_25 rfl ?_
    refine m_iald K 0 dX5_draws_26 rfl s1 (by decide) ?_
    refine m_iast K 1 hb dX5_draws_27 rfl s1 (by decide) ?_
    refine v_iinc 1 dX5_draws_28 rfl (by decide) rfl ?_
    refine v_goto 10 dX5_draws_31 (by decide) ?_
    refine V.sub [1, 0] rfl ?_
    exact h
/-! cut -/
theorem wX5_cut_0 (K : KM) (hb : K.G.base ≤ K.m) {x1 : Int} {F : Nat → Int} {A : Nat → Int → Int} (h : RI mX5_isAtom K [.ref K.m, vI x1] F A fun r0 F0 A0 => (rI r0) ∧ ((¬ r0 = 0 → ((0 ≤ x1 ∧ x1 < 13) ∧ (RI mJ9_bitCount K [vI (A0 1 x1)] F0 A0 fun r3 F3 A3 => (rI r3) ∧ ((r3 = 1 → (RV mX5_looksAtDrawing K [.ref K.m] F3 A3 fun F5 A5 => RI mJ9_numberOfTrailingZeros K [vI (A5 0 x1)] F5 A5 fun r6 F6 A6 => (0 ≤ r6 ∧ r6 < 13) ∧ (VM K mX5_cut 71 [(0, .ref K.m), (1, vI x1), (3, vI ((F6 1) - 1)), (4, vI 0)] [] F6 (upA (upA A6 0 r6 (iand (A6 0 r6) (ixor (ishl 1 x1) ((-1))))) 0 x1 0)))) ∧ (¬ r3 = 1 → (SI K ((-3)) F3 A3)))))) ∧ (r0 = 0 → (SI K ((-1)) F0 A0)))) : VM K mX5_cut 0 [(0, .ref K.m), (1, vI x1)] [] F A := by
  refine v_aload_n 0 dX5_cut_0 rfl (isR_ref _) ?_
  refine v_iload_n 1 dX5_cut_1 rfl ?_
  refine m_callI K (As := [vI x1]) dX5_cut_2 LX5_244 rfl rfl (Nat.le_of_ble_eq_true rfl) h (fun r0 F0 A0 h => ?_)
  obtain ⟨s1, h⟩ := h
  obtain ⟨ht, hf⟩ := h
  refine v_if_ne 10 dX5_cut_5 (by decide) s1 (fun c => ?_) (fun c => ?_)
  · have h := ht c
    obtain ⟨s2, h⟩ := h
    refine v_aload_n 0 dX5_cut_10 rfl (isR_ref _) ?_
    refine m_get K dX5_cut_11 fX5_15 rfl ?_
    refine v_iload_n 1 dX5_cut_14 rfl ?_
    refine m_iald K 1 dX5_cut_15 rfl s2 (by decide) ?_
    refine m_callSI K (As := [vI (A0 1 x1)]) dX5_cut_16 LX5_160 rfl rfl (Nat.le_of_ble_eq_true rfl) h (fun r3 F3 A3 h => ?_)
    obtain ⟨s4, h⟩ := h
    refine v_iconst dX5_cut_19 ?_
    obtain ⟨ht, hf⟩ := h
    refine v_icmp_eq 26 dX5_cut_20 (by decide) s4 (by decide) (fun c => ?_) (fun c => ?_)
    · have h := ht c
      refine v_aload_n 0 dX5_cut_26 rfl (isR_ref _) ?_
      refine m_callV K (As := []) dX5_cut_27 LX5_241 rfl rfl (Nat.le_of_ble_eq_true rfl) h (fun F5 A5 h => ?_)
      refine v_aload_n 0 dX5_cut_30 rfl (isR_ref _) ?_
      refine m_get K dX5_cut_31 fX5_11 rfl ?_
      refine v_iload_n 1 dX5_cut_34 rfl ?_
      refine m_iald K 0 dX5_cut_35 rfl s2 (by decide) ?_
      refine m_callSI K (As := [vI (A5 0 x1)]) dX5_cut_36 LX5_250 rfl rfl (Nat.le_of_ble_eq_true rfl) h (fun r6 F6 A6 h => ?_)
      obtain ⟨s7, h⟩ := h
      refine v_istore_n dX5_cut_39 (by decide) rfl ?_
      refine v_aload_n 1 dX5_cut_40 rfl (isR_ref _) ?_
      refine m_get K dX5_cut_41 fX5_11 rfl ?_
      refine v_iload_n 0 dX5_cut_44 rfl ?_
      refine v_dup2 dX5_cut_45 rfl rfl ?_
      refine m_iald K 0 dX5_cut_46 rfl s7 (by decide) ?_
      refine v_iconst dX5_cut_47 ?_
      refine v_iload_n 2 dX5_cut_48 rfl ?_
      refine v_ishl dX5_cut_49 ?_
      refine v_iconst dX5_cut_50 ?_
      refine v_ixor dX5_cut_51 ?_
      refine v_iand dX5_cut_52 ?_
      refine m_iast K 0 hb dX5_cut_53 rfl s7 (by decide) ?_
      refine v_aload_n 1 dX5_cut_54 rfl (isR_ref _) ?_
      refine m_get K dX5_cut_55 fX5_11 rfl ?_
      refine v_iload_n 2 dX5_cut_58 rfl ?_
      refine v_iconst dX5_cut_59 ?_
      refine m_iast K 0 hb dX5_cut_60 rfl s2 (by decide) ?_
      refine v_aload_n 1 dX5_cut_61 rfl (isR_ref _) ?_
      refine m_get (v := vI (F6 1)) K dX5_cut_62 fX5_145 rfl ?_
      refine v_iconst dX5_cut_65 ?_
      refine v_isub dX5_cut_66 ?_
      refine v_istore_n dX5_cut_67 (by decide) rfl ?_
      refine v_iconst dX5_cut_68 ?_
      refine v_istore dX5_cut_69 (by decide) rfl ?_
      refine V.sub [3, 4, 1, 0] rfl ?_
      exact h
    · have h := hf c
      refine v_bipush dX5_cut_23 rfl ?_
      exact m_iret K dX5_cut_25 rfl h
  · have h := hf c
    refine v_iconst dX5_cut_8 ?_
    exact m_iret K dX5_cut_9 rfl h
theorem wX5_cut_71 (K : KM) (hb : K.G.base ≤ K.m) {x1 x3 x4 : Int} {F : Nat → Int} {A : Nat → Int → Int} (h : (rI x4) ∧ (rI (F 1)) ∧ (((F 1) ≤ x4 → ((0 ≤ x3 ∧ x3 < 13) ∧ (RV mX5_draws K [.ref K.m] (upN F 1 ((F 1) - 1)) (upA A 0 x3 0) fun F3 A3 => SI K (F3 3) F3 A3))) ∧ (¬ (F 1) ≤ x4 → ((rI x3) ∧ (rI x1) ∧ ((x3 = x1 → ((0 ≤ x3 ∧ x3 < 13) ∧ (RV mX5_draws K [.ref K.m] (upN F 1 ((F 1) - 1)) (upA A 0 x3 0) fun F5 A5 => SI K (F5 3) F5 A5))) ∧ (¬ x3 = x1 → ((0 ≤ x3 ∧ x3 < 13) ∧ (RI mX5_has K [vI (A 0 x3), vI x4] F A fun r5 F5 A5 => (rI r5) ∧ ((r5 = 0 → (VM K mX5_cut 71 [(0, .ref K.m), (1, vI x1), (3, vI x3), (4, vI (x4 + 1))] [] F5 A5)) ∧ (¬ r5 = 0 → ((0 ≤ x4 ∧ x4 < 13) ∧ (0 ≤ x1 ∧ x1 < 13) ∧ (VM K mX5_cut 71 [(0, .ref K.m), (1, vI x1), (3, vI x3), (4, vI (x4 + 1))] [] F5 (upA (upA A5 0 x4 (ior (iand (A5 0 x4) (ixor (ishl 1 x3) ((-1)))) (ishl 1 x1))) 0 x1 (ior ((upA A5 0 x4 (ior (iand (A5 0 x4) (ixor (ishl 1 x3) ((-1)))) (ishl 1 x1))) 0 x1) (ishl 1 x4))))))))))))))) : VM K mX5_cut 71 [(0, .ref K.m), (1, vI x1), (3, vI x3), (4, vI x4)] [] F A := by
  obtain ⟨s0, s1, h⟩ := h
  refine v_iload 3 dX5_cut_71 rfl ?_
  refine v_aload_n 0 dX5_cut_73 rfl (isR_ref _) ?_
  refine m_get (v := vI (F 1)) K dX5_cut_74 fX5_145 rfl ?_
  obtain ⟨ht, hf⟩ := h
  refine v_icmp_ge 142 dX5_cut_77 (by decide) s0 s1 (fun c => ?_) (fun c => ?_)
  · have h := ht c
    obtain ⟨s2, h⟩ := h
    refine v_aload_n 0 dX5_cut_142 rfl (isR_ref _) ?_
    refine m_get K dX5_cut_143 fX5_11 rfl ?_
    refine v_iload_n 2 dX5_cut_146 rfl ?_
    refine v_iconst dX5_cut_147 ?_
    refine m_iast K 0 hb dX5_cut_148 rfl s2 (by decide) ?_
    refine v_aload_n 0 dX5_cut_149 rfl (isR_ref _) ?_
    refine v_dup dX5_cut_150 rfl ?_
    refine m_get (v := vI (F 1)) K dX5_cut_151 fX5_145 rfl ?_
    refine v_iconst dX5_cut_154 ?_
    refine v_isub dX5_cut_155 ?_
    refine m_put (F' := upN F 1 ((F 1) - 1)) K hb dX5_cut_156 fX5_145 (by decide) (by decide) rfl ?_
    refine v_aload_n 0 dX5_cut_159 rfl (isR_ref _) ?_
    refine m_callV K (As := []) dX5_cut_160 LX5_247 rfl rfl (Nat.le_of_ble_eq_true rfl) h (fun F3 A3 h => ?_)
    refine v_aload_n 0 dX5_cut_163 rfl (isR_ref _) ?_
    refine m_get (v := vI (F3 3)) K dX5_cut_164 fX5_18 rfl ?_
    exact m_iret K dX5_cut_167 rfl h
  · have h := hf c
    obtain ⟨s2, s3, h⟩ := h
    refine v_iload_n 2 dX5_cut_80 rfl ?_
    refine v_iload_n 1 dX5_cut_81 rfl ?_
    obtain ⟨ht, hf⟩ := h
    refine v_icmp_eq 142 dX5_cut_82 (by decide) s2 s3 (fun c => ?_) (fun c => ?_)
    · have h := ht c
      obtain ⟨s4, h⟩ := h
      refine v_aload_n 0 dX5_cut_142 rfl (isR_ref _) ?_
      refine m_get K dX5_cut_143 fX5_11 rfl ?_
      refine v_iload_n 2 dX5_cut_146 rfl ?_
      refine v_iconst dX5_cut_147 ?_
      refine m_iast K 0 hb dX5_cut_148 rfl s4 (by decide) ?_
      refine v_aload_n 0 dX5_cut_149 rfl (isR_ref _) ?_
      refine v_dup dX5_cut_150 rfl ?_
      refine m_get (v := vI (F 1)) K dX5_cut_151 fX5_145 rfl ?_
      refine v_iconst dX5_cut_154 ?_
      refine v_isub dX5_cut_155 ?_
      refine m_put (F' := upN F 1 ((F 1) - 1)) K hb dX5_cut_156 fX5_145 (by decide) (by decide) rfl ?_
      refine v_aload_n 0 dX5_cut_159 rfl (isR_ref _) ?_
      refine m_callV K (As := []) dX5_cut_160 LX5_247 rfl rfl (Nat.le_of_ble_eq_true rfl) h (fun F5 A5 h => ?_)
      refine v_aload_n 0 dX5_cut_163 rfl (isR_ref _) ?_
      refine m_get (v := vI (F5 3)) K dX5_cut_164 fX5_18 rfl ?_
      exact m_iret K dX5_cut_167 rfl h
    · have h := hf c
      obtain ⟨s4, h⟩ := h
      refine v_aload_n 0 dX5_cut_85 rfl (isR_ref _) ?_
      refine m_get K dX5_cut_86 fX5_11 rfl ?_
      refine v_iload_n 2 dX5_cut_89 rfl ?_
      refine m_iald K 0 dX5_cut_90 rfl s4 (by decide) ?_
      refine v_iload 3 dX5_cut_91 rfl ?_
      refine m_callSI K (As := [vI (A 0 x3), vI x4]) dX5_cut_93 LX5_152 rfl rfl (Nat.le_of_ble_eq_true rfl) h (fun r5 F5 A5 h => ?_)
      obtain ⟨s6, h⟩ := h
      obtain ⟨ht, hf⟩ := h
      refine v_if_eq 136 dX5_cut_96 (by decide) s6 (fun c => ?_) (fun c => ?_)
      · have h := ht c
        refine v_iinc 3 dX5_cut_136 rfl (by decide) rfl ?_
        refine v_goto 71 dX5_cut_139 (by decide) ?_
        refine V.sub [1, 2, 3, 0] rfl ?_
        exact h
      · have h := hf c
        obtain ⟨s7, s8, h⟩ := h
        refine v_aload_n 0 dX5_cut_99 rfl (isR_ref _) ?_
        refine m_get K dX5_cut_100 fX5_11 rfl ?_
        refine v_iload 3 dX5_cut_103 rfl ?_
        refine v_aload_n 0 dX5_cut_105 rfl (isR_ref _) ?_
        refine m_get K dX5_cut_106 fX5_11 rfl ?_
        refine v_iload 3 dX5_cut_109 rfl ?_
        refine m_iald K 0 dX5_cut_111 rfl s7 (by decide) ?_
        refine v_iconst dX5_cut_112 ?_
        refine v_iload_n 2 dX5_cut_113 rfl ?_
        refine v_ishl dX5_cut_114 ?_
        refine v_iconst dX5_cut_115 ?_
        refine v_ixor dX5_cut_116 ?_
        refine v_iand dX5_cut_117 ?_
        refine v_iconst dX5_cut_118 ?_
        refine v_iload_n 1 dX5_cut_119 rfl ?_
        refine v_ishl dX5_cut_120 ?_
        refine v_ior dX5_cut_121 ?_
        refine m_iast K 0 hb dX5_cut_122 rfl s7 (by decide) ?_
        refine v_aload_n 0 dX5_cut_123 rfl (isR_ref _) ?_
        refine m_get K dX5_cut_124 fX5_11 rfl ?_
        refine v_iload_n 1 dX5_cut_127 rfl ?_
        refine v_dup2 dX5_cut_128 rfl rfl ?_
        refine m_iald K 0 dX5_cut_129 rfl s8 (by decide) ?_
        refine v_iconst dX5_cut_130 ?_
        refine v_iload 3 dX5_cut_131 rfl ?_
        refine v_ishl dX5_cut_133 ?_
        refine v_ior dX5_cut_134 ?_
        refine m_iast K 0 hb dX5_cut_135 rfl s8 (by decide) ?_
        refine v_iinc 3 dX5_cut_136 rfl (by decide) rfl ?_
        refine v_goto 71 dX5_cut_139 (by decide) ?_
        refine V.sub [1, 2, 3, 0] rfl ?_
        exact h
/-! has -/
theorem wX5_has_0 (K : KM) (hb : K.G.base ≤ K.m) {x0 x1 : Int} {F : Nat → Int} {A : Nat → Int → Int} (h : (rI (iand (ishr x0 x1) 1)) ∧ ((¬ (iand (ishr x0 x1) 1) = 1 → (SI K 0 F A)) ∧ ((iand (ishr x0 x1) 1) = 1 → (SI K 1 F A)))) : VM K mX5_has 0 [(0, vI x0), (1, vI x1)] [] F A := by
  obtain ⟨s0, h⟩ := h
  refine v_iload_n 0 dX5_has_0 rfl ?_
  refine v_iload_n 1 dX5_has_1 rfl ?_
  refine v_ishr dX5_has_2 ?_
  refine v_iconst dX5_has_3 ?_
  refine v_iand dX5_has_4 ?_
  refine v_iconst dX5_has_5 ?_
  obtain ⟨ht, hf⟩ := h
  refine v_icmp_ne 13 dX5_has_6 (by decide) s0 (by decide) (fun c => ?_) (fun c => ?_)
  · have h := ht c
    refine v_iconst dX5_has_13 ?_
    exact m_zret K dX5_has_14 rfl (by decide) h
  · have h := hf c
    refine v_iconst dX5_has_9 ?_
    refine v_goto 14 dX5_has_10 (by decide) ?_
    exact m_zret K dX5_has_14 rfl (by decide) h
/-! take -/
theorem wX5_take_0 (K : KM) (hb : K.G.base ≤ K.m) {x1 x2 : Int} {F : Nat → Int} {A : Nat → Int → Int} (h : RI mX5_isListed K [.ref K.m, vI x1, vI x2] F A fun r0 F0 A0 => (rI r0) ∧ ((¬ r0 = 0 → (RV mX5_looksAt K [.ref K.m, vI x1, vI x2] F0 A0 fun F2 A2 => RV mX5_draws K [.ref K.m] F2 A2 fun F3 A3 => RI mX5_keyOf K [.ref K.m, vI x1, vI x2] F3 A3 fun r4 F4 A4 => SI K r4 F4 A4)) ∧ (r0 = 0 → (SI K ((-1)) F0 A0)))) : VM K mX5_take 0 [(0, .ref K.m), (1, vI x1), (2, vI x2)] [] F A := by
  refine v_aload_n 0 dX5_take_0 rfl (isR_ref _) ?_
  refine v_iload_n 1 dX5_take_1 rfl ?_
  refine v_iload_n 2 dX5_take_2 rfl ?_
  refine m_callI K (As := [vI x1, vI x2]) dX5_take_3 LX5_253 rfl rfl (Nat.le_of_ble_eq_true rfl) h (fun r0 F0 A0 h => ?_)
  obtain ⟨s1, h⟩ := h
  obtain ⟨ht, hf⟩ := h
  refine v_if_ne 11 dX5_take_6 (by decide) s1 (fun c => ?_) (fun c => ?_)
  · have h := ht c
    refine v_aload_n 0 dX5_take_11 rfl (isR_ref _) ?_
    refine v_iload_n 1 dX5_take_12 rfl ?_
    refine v_iload_n 2 dX5_take_13 rfl ?_
    refine m_callV K (As := [vI x1, vI x2]) dX5_take_14 LX5_255 rfl rfl (Nat.le_of_ble_eq_true rfl) h (fun F2 A2 h => ?_)
    refine v_aload_n 0 dX5_take_17 rfl (isR_ref _) ?_
    refine m_callV K (As := []) dX5_take_18 LX5_247 rfl rfl (Nat.le_of_ble_eq_true rfl) h (fun F3 A3 h => ?_)
    refine v_aload_n 0 dX5_take_21 rfl (isR_ref _) ?_
    refine v_iload_n 1 dX5_take_22 rfl ?_
    refine v_iload_n 2 dX5_take_23 rfl ?_
    refine m_callI K (As := [vI x1, vI x2]) dX5_take_24 LX5_235 rfl rfl (Nat.le_of_ble_eq_true rfl) h (fun r4 F4 A4 h => ?_)
    exact m_iret K dX5_take_27 rfl h
  · have h := hf c
    refine v_iconst dX5_take_9 ?_
    exact m_iret K dX5_take_10 rfl h
/-! isListed -/
theorem wX5_isListed_0 (K : KM) (hb : K.G.base ≤ K.m) {x1 x2 : Int} {F : Nat → Int} {A : Nat → Int → Int} (h : RI mX5_isListOf K [.ref K.m, vI x1] F A fun r0 F0 A0 => (rI r0) ∧ ((r0 = 0 → (SI K 0 F0 A0)) ∧ (¬ r0 = 0 → ((rI x2) ∧ (0 ≤ x1 ∧ x1 < 11) ∧ (rI ((A0 4 x1) - 1)) ∧ (RI mX5_isIn K [vL x2, vL 0, vL ((A0 4 x1) - 1)] F0 A0 fun r5 F5 A5 => (rI r5) ∧ ((r5 = 0 → (SI K 0 F5 A5)) ∧ (¬ r5 = 0 → (SI K 1 F5 A5)))))))) : VM K mX5_isListed 0 [(0, .ref K.m), (1, vI x1), (2, vI x2)] [] F A := by
  refine v_aload_n 0 dX5_isListed_0 rfl (isR_ref _) ?_
  refine v_iload_n 1 dX5_isListed_1 rfl ?_
  refine m_callI K (As := [vI x1]) dX5_isListed_2 LX5_232 rfl rfl (Nat.le_of_ble_eq_true rfl) h (fun r0 F0 A0 h => ?_)
  obtain ⟨s1, h⟩ := h
  obtain ⟨ht, hf⟩ := h
  refine v_if_eq 30 dX5_isListed_5 (by decide) s1 (fun c => ?_) (fun c => ?_)
  · have h := ht c
    refine v_iconst dX5_isListed_30 ?_
    exact m_zret K dX5_isListed_31 rfl (by decide) h
  · have h := hf c
    obtain ⟨s2, s3, s4, h⟩ := h
    refine v_iload_n 2 dX5_isListed_8 rfl ?_
    refine v_i2l dX5_isListed_9 s2 ?_
    refine v_lconst (z := 0) dX5_isListed_10 rfl ?_
    refine v_aload_n 0 dX5_isListed_11 rfl (isR_ref _) ?_
    refine m_get K dX5_isListed_12 fX5_28 rfl ?_
    refine v_iload_n 1 dX5_isListed_15 rfl ?_
    refine m_iald K 4 dX5_isListed_16 rfl s3 (by decide) ?_
    refine v_iconst dX5_isListed_17 ?_
    refine v_isub dX5_isListed_18 ?_
    refine v_i2l dX5_isListed_19 s4 ?_
    refine m_callSI K (As := [vL x2, vL 0, vL ((A0 4 x1) - 1)]) dX5_isListed_20 LX5_148 rfl rfl (Nat.le_of_ble_eq_true rfl) h (fun r5 F5 A5 h => ?_)
    obtain ⟨s6, h⟩ := h
    obtain ⟨ht, hf⟩ := h
    refine v_if_eq 30 dX5_isListed_23 (by decide) s6 (fun c => ?_) (fun c => ?_)
    · have h := ht c
      refine v_iconst dX5_isListed_30 ?_
      exact m_zret K dX5_isListed_31 rfl (by decide) h
    · have h := hf c
      refine v_iconst dX5_isListed_26 ?_
      refine v_goto 31 dX5_isListed_27 (by decide) ?_
      exact m_zret K dX5_isListed_31 rfl (by decide) h
/-! isListOf -/
theorem wX5_isListOf_0 (K : KM) (hb : K.G.base ≤ K.m) {x1 : Int} {F : Nat → Int} {A : Nat → Int → Int} (h : RV mX5_lists K [.ref K.m] F A fun F0 A0 => (rI x1) ∧ (RI mX5_isIn K [vL x1, vL 1, vL 10] F0 A0 fun r2 F2 A2 => (r2 = 0 ∨ r2 = 1) ∧ (SI K r2 F2 A2))) : VM K mX5_isListOf 0 [(0, .ref K.m), (1, vI x1)] [] F A := by
  refine v_aload_n 0 dX5_isListOf_0 rfl (isR_ref _) ?_
  refine m_callV K (As := []) dX5_isListOf_1 LX5_227 rfl rfl (Nat.le_of_ble_eq_true rfl) h (fun F0 A0 h => ?_)
  obtain ⟨s1, h⟩ := h
  refine v_iload_n 1 dX5_isListOf_4 rfl ?_
  refine v_i2l dX5_isListOf_5 s1 ?_
  refine v_lconst (z := 1) dX5_isListOf_6 rfl ?_
  refine v_ldc2 (z := 10) dX5_isListOf_7 q2042 ?_
  refine m_callSI K (As := [vL x1, vL 1, vL 10]) dX5_isListOf_10 LX5_148 rfl rfl (Nat.le_of_ble_eq_true rfl) h (fun r2 F2 A2 h => ?_)
  obtain ⟨s3, h⟩ := h
  exact m_zret K dX5_isListOf_13 rfl s3 h
/-! lists -/
theorem wX5_lists_0 (K : KM) (hb : K.G.base ≤ K.m) {F : Nat → Int} {A : Nat → Int → Int} (h : (rI (F 9)) ∧ (((F 9) = 0 → (RV mX5_keeps K [.ref K.m, vI 1, vI 0] (upN F 9 1) A fun F1 A1 => VM K mX5_lists 21 [(0, .ref K.m), (1, vI 2)] [] F1 A1)) ∧ (¬ (F 9) = 0 → (SV K F A)))) : VM K mX5_lists 0 [(0, .ref K.m)] [] F A := by
  obtain ⟨s0, h⟩ := h
  refine v_aload_n 0 dX5_lists_0 rfl (isR_ref _) ?_
  refine m_get (v := vI (F 9)) K dX5_lists_1 fX5_214 rfl ?_
  obtain ⟨ht, hf⟩ := h
  refine v_if_eq 8 dX5_lists_4 (by decide) s0 (fun c => ?_) (fun c => ?_)
  · have h := ht c
    refine v_aload_n 0 dX5_lists_8 rfl (isR_ref _) ?_
    refine v_iconst dX5_lists_9 ?_
    refine m_putZ (F' := upN F 9 1) K hb dX5_lists_10 fX5_214 (by decide) (by decide) rfl rfl rfl ?_
    refine v_aload_n 0 dX5_lists_13 rfl (isR_ref _) ?_
    refine v_iconst dX5_lists_14 ?_
    refine v_iconst dX5_lists_15 ?_
    refine m_callV K (As := [vI 1, vI 0]) dX5_lists_16 LX5_218 rfl rfl (Nat.le_of_ble_eq_true rfl) h (fun F1 A1 h => ?_)
    refine v_iconst dX5_lists_19 ?_
    refine v_istore_n dX5_lists_20 (by decide) rfl ?_
    refine V.sub [1, 0] rfl ?_
    exact h
  · have h := hf c
    exact m_vret K dX5_lists_7 rfl h
theorem wX5_lists_21 (K : KM) (hb : K.G.base ≤ K.m) {x1 : Int} {F : Nat → Int} {A : Nat → Int → Int} (h : (rI x1) ∧ ((10 < x1 → (SV K F A)) ∧ (¬ 10 < x1 → (VM K mX5_lists 29 [(0, .ref K.m), (1, vI x1), (2, vI 0)] [] F A)))) : VM K mX5_lists 21 [(0, .ref K.m), (1, vI x1)] [] F A := by
  obtain ⟨s0, h⟩ := h
  refine v_iload_n 1 dX5_lists_21 rfl ?_
  refine v_bipush dX5_lists_22 rfl ?_
  obtain ⟨ht, hf⟩ := h
  refine v_icmp_gt 125 dX5_lists_24 (by decide) s0 (by decide) (fun c => ?_) (fun c => ?_)
  · have h := ht c
    exact m_vret K dX5_lists_125 rfl h
  · have h := hf c
    refine v_iconst dX5_lists_27 ?_
    refine v_istore_n dX5_lists_28 (by decide) rfl ?_
    refine V.sub [1, 2, 0] rfl ?_
    exact h
theorem wX5_lists_29 (K : KM) (hb : K.G.base ≤ K.m) {x1 x2 : Int} {F : Nat → Int} {A : Nat → Int → Int} (h : (0 ≤ (x1 - 1) ∧ (x1 - 1) < 11) ∧ (rI x2) ∧ (rI (A 4 (x1 - 1))) ∧ (((A 4 (x1 - 1)) ≤ x2 → (VM K mX5_lists 21 [(0, .ref K.m), (1, vI (x1 + 1))] [] F A)) ∧ (¬ (A 4 (x1 - 1)) ≤ x2 → (VM K mX5_lists 43 [(0, .ref K.m), (1, vI x1), (2, vI x2), (3, vI 0)] [] F A)))) : VM K mX5_lists 29 [(0, .ref K.m), (1, vI x1), (2, vI x2)] [] F A := by
  obtain ⟨s0, s1, s2, h⟩ := h
  refine v_iload_n 2 dX5_lists_29 rfl ?_
  refine v_aload_n 0 dX5_lists_30 rfl (isR_ref _) ?_
  refine m_get K dX5_lists_31 fX5_28 rfl ?_
  refine v_iload_n 1 dX5_lists_34 rfl ?_
  refine v_iconst dX5_lists_35 ?_
  refine v_isub dX5_lists_36 ?_
  refine m_iald K 4 dX5_lists_37 rfl s0 (by decide) ?_
  obtain ⟨ht, hf⟩ := h
  refine v_icmp_ge 119 dX5_lists_38 (by decide) s1 s2 (fun c => ?_) (fun c => ?_)
  · have h := ht c
    refine v_iinc 1 dX5_lists_119 rfl (by decide) rfl ?_
    refine v_goto 21 dX5_lists_122 (by decide) ?_
    refine V.sub [1, 0] rfl ?_
    exact h
  · have h := hf c
    refine v_iconst dX5_lists_41 ?_
    refine v_istore_n dX5_lists_42 (by decide) rfl ?_
    refine V.sub [1, 2, 3, 0] rfl ?_
    exact h
theorem wX5_lists_43 (K : KM) (hb : K.G.base ≤ K.m) {x1 x2 x3 : Int} {F : Nat → Int} {A : Nat → Int → Int} (h : (rI x3) ∧ (rI (x1 - 1)) ∧ (((x1 - 1) ≤ x3 → (VM K mX5_lists 29 [(0, .ref K.m), (1, vI x1), (2, vI (x2 + 1))] [] F A)) ∧ (¬ (x1 - 1) ≤ x3 → ((0 ≤ ((80 * (x1 - 1)) + x2) ∧ ((80 * (x1 - 1)) + x2) < 880) ∧ (RI mX5_comesFrom K [.ref K.m, vI (x1 - 1), vI (A 3 ((80 * (x1 - 1)) + x2))] F A fun r3 F3 A3 => (0 ≤ x3 ∧ x3 < 13) ∧ (RI mJ9_bitCount K [vI (A3 0 x3)] F3 A3 fun r5 F5 A5 => (rI r5) ∧ ((4 ≤ r5 → (VM K mX5_lists 43 [(0, .ref K.m), (1, vI x1), (2, vI x2), (3, vI (x3 + 1))] [] F5 A5)) ∧ (¬ 4 ≤ r5 → (RV mX5_binds K [.ref K.m, vI x3, vI (x1 - 1)] (upN F5 1 x1) A5 fun F7 A7 => RI mX5_keyNow K [.ref K.m] F7 A7 fun r8 F8 A8 => RV mX5_keeps K [.ref K.m, vI x1, vI r8] F8 A8 fun F9 A9 => VM K mX5_lists 43 [(0, .ref K.m), (1, vI x1), (2, vI x2), (3, vI (x3 + 1))] [] F9 A9))))))))) : VM K mX5_lists 43 [(0, .ref K.m), (1, vI x1), (2, vI x2), (3, vI x3)] [] F A := by
  obtain ⟨s0, s1, h⟩ := h
  refine v_iload_n 3 dX5_lists_43 rfl ?_
  refine v_iload_n 1 dX5_lists_44 rfl ?_
  refine v_iconst dX5_lists_45 ?_
  refine v_isub dX5_lists_46 ?_
  obtain ⟨ht, hf⟩ := h
  refine v_icmp_ge 113 dX5_lists_47 (by decide) s0 s1 (fun c => ?_) (fun c => ?_)
  · have h := ht c
    refine v_iinc 2 dX5_lists_113 rfl (by decide) rfl ?_
    refine v_goto 29 dX5_lists_116 (by decide) ?_
    refine V.sub [1, 2, 0] rfl ?_
    exact h
  · have h := hf c
    obtain ⟨s2, h⟩ := h
    refine v_aload_n 0 dX5_lists_50 rfl (isR_ref _) ?_
    refine v_iload_n 1 dX5_lists_51 rfl ?_
    refine v_iconst dX5_lists_52 ?_
    refine v_isub dX5_lists_53 ?_
    refine v_aload_n 0 dX5_lists_54 rfl (isR_ref _) ?_
    refine m_get K dX5_lists_55 fX5_25 rfl ?_
    refine v_bipush dX5_lists_58 rfl ?_
    refine v_iload_n 1 dX5_lists_60 rfl ?_
    refine v_iconst dX5_lists_61 ?_
    refine v_isub dX5_lists_62 ?_
    refine v_imul dX5_lists_63 ?_
    refine v_iload_n 2 dX5_lists_64 rfl ?_
    refine v_iadd dX5_lists_65 ?_
    refine m_iald K 3 dX5_lists_66 rfl s2 (by decide) ?_
    refine m_callI K (As := [vI (x1 - 1), vI (A 3 ((80 * (x1 - 1)) + x2))]) dX5_lists_67 LX5_221 rfl rfl (Nat.le_of_ble_eq_true rfl) h (fun r3 F3 A3 h => ?_)
    obtain ⟨s4, h⟩ := h
    refine v_istore dX5_lists_70 (by decide) rfl ?_
    refine v_aload_n 1 dX5_lists_72 rfl (isR_ref _) ?_
    refine m_get K dX5_lists_73 fX5_11 rfl ?_
    refine v_iload_n 4 dX5_lists_76 rfl ?_
    refine m_iald K 0 dX5_lists_77 rfl s4 (by decide) ?_
    refine m_callSI K (As := [vI (A3 0 x3)]) dX5_lists_78 LX5_160 rfl rfl (Nat.le_of_ble_eq_true rfl) h (fun r5 F5 A5 h => ?_)
    obtain ⟨s6, h⟩ := h
    refine v_iconst dX5_lists_81 ?_
    obtain ⟨ht, hf⟩ := h
    refine v_icmp_ge 107 dX5_lists_82 (by decide) s6 (by decide) (fun c => ?_) (fun c => ?_)
    · have h := ht c
      refine v_iinc 4 dX5_lists_107 rfl (by decide) rfl ?_
      refine v_goto 43 dX5_lists_110 (by decide) ?_
      refine V.sub [2, 3, 4, 0] rfl ?_
      exact h
    · have h := hf c
      refine v_aload_n 1 dX5_lists_85 rfl (isR_ref _) ?_
      refine v_iload_n 2 dX5_lists_86 rfl ?_
      refine m_put (F' := upN F5 1 x1) K hb dX5_lists_87 fX5_145 (by decide) (by decide) rfl ?_
      refine v_aload_n 1 dX5_lists_90 rfl (isR_ref _) ?_
      refine v_iload_n 4 dX5_lists_91 rfl ?_
      refine v_iload_n 2 dX5_lists_92 rfl ?_
      refine v_iconst dX5_lists_93 ?_
      refine v_isub dX5_lists_94 ?_
      refine m_callV K (As := [vI x3, vI (x1 - 1)]) dX5_lists_95 LX5_206 rfl rfl (Nat.le_of_ble_eq_true rfl) h (fun F7 A7 h => ?_)
      refine v_aload_n 1 dX5_lists_98 rfl (isR_ref _) ?_
      refine v_iload_n 2 dX5_lists_99 rfl ?_
      refine v_aload_n 1 dX5_lists_100 rfl (isR_ref _) ?_
      refine m_callI K (As := []) dX5_lists_101 LX5_224 rfl rfl (Nat.le_of_ble_eq_true rfl) h (fun r8 F8 A8 h => ?_)
      refine m_callV K (As := [vI x1, vI r8]) dX5_lists_104 LX5_218 rfl rfl (Nat.le_of_ble_eq_true rfl) h (fun F9 A9 h => ?_)
      refine v_iinc 4 dX5_lists_107 rfl (by decide) rfl ?_
      refine v_goto 43 dX5_lists_110 (by decide) ?_
      refine V.sub [2, 3, 4, 0] rfl ?_
      exact h
/-! keeps -/
theorem wX5_keeps_0 (K : KM) (hb : K.G.base ≤ K.m) {x1 x2 : Int} {F : Nat → Int} {A : Nat → Int → Int} (h : (0 ≤ x1 ∧ x1 < 11) ∧ (VM K mX5_keeps 16 [(0, .ref K.m), (1, vI x1), (2, vI x2), (3, vI (80 * x1)), (4, vI (A 4 x1)), (5, vI 0)] [] F A)) : VM K mX5_keeps 0 [(0, .ref K.m), (1, vI x1), (2, vI x2)] [] F A := by
  obtain ⟨s0, h⟩ := h
  refine v_bipush dX5_keeps_0 rfl ?_
  refine v_iload_n 1 dX5_keeps_2 rfl ?_
  refine v_imul dX5_keeps_3 ?_
  refine v_istore_n dX5_keeps_4 (by decide) rfl ?_
  refine v_aload_n 1 dX5_keeps_5 rfl (isR_ref _) ?_
  refine m_get K dX5_keeps_6 fX5_28 rfl ?_
  refine v_iload_n 2 dX5_keeps_9 rfl ?_
  refine m_iald K 4 dX5_keeps_10 rfl s0 (by decide) ?_
  refine v_istore dX5_keeps_11 (by decide) rfl ?_
  refine v_iconst dX5_keeps_13 ?_
  refine v_istore dX5_keeps_14 (by decide) rfl ?_
  refine V.sub [3, 4, 5, 2, 1, 0] rfl ?_
  exact h
theorem wX5_keeps_16 (K : KM) (hb : K.G.base ≤ K.m) {x1 x2 x3 x4 x5 : Int} {F : Nat → Int} {A : Nat → Int → Int} (h : (rI x5) ∧ (rI x4) ∧ ((x4 ≤ x5 → (VM K mX5_keeps 43 [(0, .ref K.m), (1, vI x1), (2, vI x2), (3, vI x3), (4, vI x4)] [] F A)) ∧ (¬ x4 ≤ x5 → ((0 ≤ (x3 + x5) ∧ (x3 + x5) < 880) ∧ (rI (A 3 (x3 + x5))) ∧ (rI x2) ∧ ((¬ (A 3 (x3 + x5)) = x2 → (VM K mX5_keeps 16 [(0, .ref K.m), (1, vI x1), (2, vI x2), (3, vI x3), (4, vI x4), (5, vI (x5 + 1))] [] F A)) ∧ ((A 3 (x3 + x5)) = x2 → (SV K F A))))))) : VM K mX5_keeps 16 [(0, .ref K.m), (1, vI x1), (2, vI x2), (3, vI x3), (4, vI x4), (5, vI x5)] [] F A := by
  obtain ⟨s0, s1, h⟩ := h
  refine v_iload 5 dX5_keeps_16 rfl ?_
  refine v_iload 4 dX5_keeps_18 rfl ?_
  obtain ⟨ht, hf⟩ := h
  refine v_icmp_ge 43 dX5_keeps_20 (by decide) s0 s1 (fun c => ?_) (fun c => ?_)
  · have h := ht c
    refine V.sub [0, 1, 2, 3, 4] rfl ?_
    exact h
  · have h := hf c
    obtain ⟨s2, s3, s4, h⟩ := h
    refine v_aload_n 0 dX5_keeps_23 rfl (isR_ref _) ?_
    refine m_get K dX5_keeps_24 fX5_25 rfl ?_
    refine v_iload_n 3 dX5_keeps_27 rfl ?_
    refine v_iload 5 dX5_keeps_28 rfl ?_
    refine v_iadd dX5_keeps_30 ?_
    refine m_iald K 3 dX5_keeps_31 rfl s2 (by decide) ?_
    refine v_iload_n 2 dX5_keeps_32 rfl ?_
    obtain ⟨ht, hf⟩ := h
    refine v_icmp_ne 37 dX5_keeps_33 (by decide) s3 s4 (fun c => ?_) (fun c => ?_)
    · have h := ht c
      refine v_iinc 5 dX5_keeps_37 rfl (by decide) rfl ?_
      refine v_goto 16 dX5_keeps_40 (by decide) ?_
      refine V.sub [1, 2, 3, 4, 5, 0] rfl ?_
      exact h
    · have h := hf c
      exact m_vret K dX5_keeps_36 rfl h
theorem wX5_keeps_43 (K : KM) (hb : K.G.base ≤ K.m) {x1 x2 x3 x4 : Int} {F : Nat → Int} {A : Nat → Int → Int} (h : (rI x4) ∧ ((x4 ≤ 0 → ((0 ≤ (x3 + x4) ∧ (x3 + x4) < 880) ∧ (0 ≤ x1 ∧ x1 < 11) ∧ (SV K F (upA (upA A 3 (x3 + x4) x2) 4 x1 (((upA A 3 (x3 + x4) x2) 4 x1) + 1))))) ∧ (¬ x4 ≤ 0 → ((0 ≤ ((x3 + x4) - 1) ∧ ((x3 + x4) - 1) < 880) ∧ (rI (A 3 ((x3 + x4) - 1))) ∧ (rI x2) ∧ ((x2 ≤ (A 3 ((x3 + x4) - 1)) → ((0 ≤ (x3 + x4) ∧ (x3 + x4) < 880) ∧ (0 ≤ x1 ∧ x1 < 11) ∧ (SV K F (upA (upA A 3 (x3 + x4) x2) 4 x1 (((upA A 3 (x3 + x4) x2) 4 x1) + 1))))) ∧ (¬ x2 ≤ (A 3 ((x3 + x4) - 1)) → ((0 ≤ (x3 + x4) ∧ (x3 + x4) < 880) ∧ (VM K mX5_keeps 43 [(0, .ref K.m), (1, vI x1), (2, vI x2), (3, vI x3), (4, vI (x4 + (-1)))] [] F (upA A 3 (x3 + x4) (A 3 ((x3 + x4) - 1))))))))))) : VM K mX5_keeps 43 [(0, .ref K.m), (1, vI x1), (2, vI x2), (3, vI x3), (4, vI x4)] [] F A := by
  obtain ⟨s0, h⟩ := h
  refine v_iload 4 dX5_keeps_43 rfl ?_
  obtain ⟨ht, hf⟩ := h
  refine v_if_le 89 dX5_keeps_45 (by decide) s0 (fun c => ?_) (fun c => ?_)
  · have h := ht c
    obtain ⟨s1, s2, h⟩ := h
    refine v_aload_n 0 dX5_keeps_89 rfl (isR_ref _) ?_
    refine m_get K dX5_keeps_90 fX5_25 rfl ?_
    refine v_iload_n 3 dX5_keeps_93 rfl ?_
    refine v_iload 4 dX5_keeps_94 rfl ?_
    refine v_iadd dX5_keeps_96 ?_
    refine v_iload_n 2 dX5_keeps_97 rfl ?_
    refine m_iast K 3 hb dX5_keeps_98 rfl s1 (by decide) ?_
    refine v_aload_n 0 dX5_keeps_99 rfl (isR_ref _) ?_
    refine m_get K dX5_keeps_100 fX5_28 rfl ?_
    refine v_iload_n 1 dX5_keeps_103 rfl ?_
    refine v_dup2 dX5_keeps_104 rfl rfl ?_
    refine m_iald K 4 dX5_keeps_105 rfl s2 (by decide) ?_
    refine v_iconst dX5_keeps_106 ?_
    refine v_iadd dX5_keeps_107 ?_
    refine m_iast K 4 hb dX5_keeps_108 rfl s2 (by decide) ?_
    exact m_vret K dX5_keeps_109 rfl h
  · have h := hf c
    obtain ⟨s1, s2, s3, h⟩ := h
    refine v_aload_n 0 dX5_keeps_48 rfl (isR_ref _) ?_
    refine m_get K dX5_keeps_49 fX5_25 rfl ?_
    refine v_iload_n 3 dX5_keeps_52 rfl ?_
    refine v_iload 4 dX5_keeps_53 rfl ?_
    refine v_iadd dX5_keeps_55 ?_
    refine v_iconst dX5_keeps_56 ?_
    refine v_isub dX5_keeps_57 ?_
    refine m_iald K 3 dX5_keeps_58 rfl s1 (by decide) ?_
    refine v_iload_n 2 dX5_keeps_59 rfl ?_
    obtain ⟨ht, hf⟩ := h
    refine v_icmp_ge 89 dX5_keeps_60 (by decide) s2 s3 (fun c => ?_) (fun c => ?_)
    · have h := ht c
      obtain ⟨s4, s5, h⟩ := h
      refine v_aload_n 0 dX5_keeps_89 rfl (isR_ref _) ?_
      refine m_get K dX5_keeps_90 fX5_25 rfl ?_
      refine v_iload_n 3 dX5_keeps_93 rfl ?_
      refine v_iload 4 dX5_keeps_94 rfl ?_
      refine v_iadd dX5_keeps_96 ?_
      refine v_iload_n 2 dX5_keeps_97 rfl ?_
      refine m_iast K 3 hb dX5_keeps_98 rfl s4 (by decide) ?_
      refine v_aload_n 0 dX5_keeps_99 rfl (isR_ref _) ?_
      refine m_get K dX5_keeps_100 fX5_28 rfl ?_
      refine v_iload_n 1 dX5_keeps_103 rfl ?_
      refine v_dup2 dX5_keeps_104 rfl rfl ?_
      refine m_iald K 4 dX5_keeps_105 rfl s5 (by decide) ?_
      refine v_iconst dX5_keeps_106 ?_
      refine v_iadd dX5_keeps_107 ?_
      refine m_iast K 4 hb dX5_keeps_108 rfl s5 (by decide) ?_
      exact m_vret K dX5_keeps_109 rfl h
    · have h := hf c
      obtain ⟨s4, h⟩ := h
      refine v_aload_n 0 dX5_keeps_63 rfl (isR_ref _) ?_
      refine m_get K dX5_keeps_64 fX5_25 rfl ?_
      refine v_iload_n 3 dX5_keeps_67 rfl ?_
      refine v_iload 4 dX5_keeps_68 rfl ?_
      refine v_iadd dX5_keeps_70 ?_
      refine v_aload_n 0 dX5_keeps_71 rfl (isR_ref _) ?_
      refine m_get K dX5_keeps_72 fX5_25 rfl ?_
      refine v_iload_n 3 dX5_keeps_75 rfl ?_
      refine v_iload 4 dX5_keeps_76 rfl ?_
      refine v_iadd dX5_keeps_78 ?_
      refine v_iconst dX5_keeps_79 ?_
      refine v_isub dX5_keeps_80 ?_
      refine m_iald K 3 dX5_keeps_81 rfl s1 (by decide) ?_
      refine m_iast K 3 hb dX5_keeps_82 rfl s4 (by decide) ?_
      refine v_iinc 4 dX5_keeps_83 rfl (by decide) rfl ?_
      refine v_goto 43 dX5_keeps_86 (by decide) ?_
      refine V.sub [1, 2, 3, 4, 0] rfl ?_
      exact h
/-! comesFrom -/
theorem wX5_comesFrom_0 (K : KM) (hb : K.G.base ≤ K.m) {x1 x2 : Int} {F : Nat → Int} {A : Nat → Int → Int} (h : (rI x2) ∧ ((x2 < 0 → (SI K 0 F A)) ∧ (¬ x2 < 0 → (RI mX5_power K [vI x1] F A fun r1 F1 A1 => (rI r1) ∧ ((x2 < r1 → (VM K mX5_comesFrom 16 [(0, .ref K.m), (1, vI x1), (2, vI x2), (3, vI 0)] [] F1 A1)) ∧ (¬ x2 < r1 → (SI K 0 F1 A1))))))) : VM K mX5_comesFrom 0 [(0, .ref K.m), (1, vI x1), (2, vI x2)] [] F A := by
  obtain ⟨s0, h⟩ := h
  refine v_iload_n 2 dX5_comesFrom_0 rfl ?_
  obtain ⟨ht, hf⟩ := h
  refine v_if_lt 12 dX5_comesFrom_1 (by decide) s0 (fun c => ?_) (fun c => ?_)
  · have h := ht c
    refine v_iconst dX5_comesFrom_12 ?_
    exact m_zret K dX5_comesFrom_13 rfl (by decide) h
  · have h := hf c
    refine v_iload_n 2 dX5_comesFrom_4 rfl ?_
    refine v_iload_n 1 dX5_comesFrom_5 rfl ?_
    refine m_callSI K (As := [vI x1]) dX5_comesFrom_6 LX5_177 rfl rfl (Nat.le_of_ble_eq_true rfl) h (fun r1 F1 A1 h => ?_)
    obtain ⟨s2, h⟩ := h
    obtain ⟨ht, hf⟩ := h
    refine v_icmp_lt 14 dX5_comesFrom_9 (by decide) s0 s2 (fun c => ?_) (fun c => ?_)
    · have h := ht c
      refine v_iconst dX5_comesFrom_14 ?_
      refine v_istore_n dX5_comesFrom_15 (by decide) rfl ?_
      refine V.sub [1, 2, 3, 0] rfl ?_
      exact h
    · have h := hf c
      refine v_iconst dX5_comesFrom_12 ?_
      exact m_zret K dX5_comesFrom_13 rfl (by decide) h
theorem wX5_comesFrom_16 (K : KM) (hb : K.G.base ≤ K.m) {x1 x2 x3 : Int} {F : Nat → Int} {A : Nat → Int → Int} (h : (rI x3) ∧ ((13 ≤ x3 → (RI mX5_grows K [.ref K.m, vI ((-1))] (upN (upN (upN (upN F 1 x1) 7 x1) 8 x2) 6 0) A fun r1 F1 A1 => (rI r1) ∧ ((r1 = 0 → (SI K 0 F1 A1)) ∧ (¬ r1 = 0 → ((rI (F1 6)) ∧ (rI x1) ∧ ((¬ (F1 6) = x1 → (SI K 0 F1 A1)) ∧ ((F1 6) = x1 → (RI mX5_codeOf K [.ref K.m, vI 0, vI ((-1))] F1 A1 fun r5 F5 A5 => (rI r5) ∧ (rI x2) ∧ ((¬ r5 = x2 → (SI K 0 F5 A5)) ∧ (r5 = x2 → (SI K 1 F5 A5))))))))))) ∧ (¬ 13 ≤ x3 → ((0 ≤ x3 ∧ x3 < 13) ∧ (VM K mX5_comesFrom 16 [(0, .ref K.m), (1, vI x1), (2, vI x2), (3, vI (x3 + 1))] [] F (upA A 0 x3 0)))))) : VM K mX5_comesFrom 16 [(0, .ref K.m), (1, vI x1), (2, vI x2), (3, vI x3)] [] F A := by
  obtain ⟨s0, h⟩ := h
  refine v_iload_n 3 dX5_comesFrom_16 rfl ?_
  refine v_bipush dX5_comesFrom_17 rfl ?_
  obtain ⟨ht, hf⟩ := h
  refine v_icmp_ge 35 dX5_comesFrom_19 (by decide) s0 (by decide) (fun c => ?_) (fun c => ?_)
  · have h := ht c
    refine v_aload_n 0 dX5_comesFrom_35 rfl (isR_ref _) ?_
    refine v_iload_n 1 dX5_comesFrom_36 rfl ?_
    refine m_put (F' := upN F 1 x1) K hb dX5_comesFrom_37 fX5_145 (by decide) (by decide) rfl ?_
    refine v_aload_n 0 dX5_comesFrom_40 rfl (isR_ref _) ?_
    refine v_iload_n 1 dX5_comesFrom_41 rfl ?_
    refine m_put (F' := upN (upN F 1 x1) 7 x1) K hb dX5_comesFrom_42 fX5_197 (by decide) (by decide) rfl ?_
    refine v_aload_n 0 dX5_comesFrom_45 rfl (isR_ref _) ?_
    refine v_iload_n 2 dX5_comesFrom_46 rfl ?_
    refine m_put (F' := upN (upN (upN F 1 x1) 7 x1) 8 x2) K hb dX5_comesFrom_47 fX5_194 (by decide) (by decide) rfl ?_
    refine v_aload_n 0 dX5_comesFrom_50 rfl (isR_ref _) ?_
    refine v_iconst dX5_comesFrom_51 ?_
    refine m_put (F' := upN (upN (upN (upN F 1 x1) 7 x1) 8 x2) 6 0) K hb dX5_comesFrom_52 fX5_200 (by decide) (by decide) rfl ?_
    refine v_aload_n 0 dX5_comesFrom_55 rfl (isR_ref _) ?_
    refine v_iconst dX5_comesFrom_56 ?_
    refine m_callI K (As := [vI ((-1))]) dX5_comesFrom_57 LX5_210 rfl rfl (Nat.le_of_ble_eq_true rfl) h (fun r1 F1 A1 h => ?_)
    obtain ⟨s2, h⟩ := h
    obtain ⟨ht, hf⟩ := h
    refine v_if_eq 85 dX5_comesFrom_60 (by decide) s2 (fun c => ?_) (fun c => ?_)
    · have h := ht c
      refine v_iconst dX5_comesFrom_85 ?_
      exact m_zret K dX5_comesFrom_86 rfl (by decide) h
    · have h := hf c
      obtain ⟨s3, s4, h⟩ := h
      refine v_aload_n 0 dX5_comesFrom_63 rfl (isR_ref _) ?_
      refine m_get (v := vI (F1 6)) K dX5_comesFrom_64 fX5_200 rfl ?_
      refine v_iload_n 1 dX5_comesFrom_67 rfl ?_
      obtain ⟨ht, hf⟩ := h
      refine v_icmp_ne 85 dX5_comesFrom_68 (by decide) s3 s4 (fun c => ?_) (fun c => ?_)
      · have h := ht c
        refine v_iconst dX5_comesFrom_85 ?_
        exact m_zret K dX5_comesFrom_86 rfl (by decide) h
      · have h := hf c
        refine v_aload_n 0 dX5_comesFrom_71 rfl (isR_ref _) ?_
        refine v_iconst dX5_comesFrom_72 ?_
        refine v_iconst dX5_comesFrom_73 ?_
        refine m_callI K (As := [vI 0, vI ((-1))]) dX5_comesFrom_74 LX5_169 rfl rfl (Nat.le_of_ble_eq_true rfl) h (fun r5 F5 A5 h => ?_)
        obtain ⟨s6, s7, h⟩ := h
        refine v_iload_n 2 dX5_comesFrom_77 rfl ?_
        obtain ⟨ht, hf⟩ := h
        refine v_icmp_ne 85 dX5_comesFrom_78 (by decide) s6 s7 (fun c => ?_) (fun c => ?_)
        · have h := ht c
          refine v_iconst dX5_comesFrom_85 ?_
          exact m_zret K dX5_comesFrom_86 rfl (by decide) h
        · have h := hf c
          refine v_iconst dX5_comesFrom_81 ?_
          refine v_goto 86 dX5_comesFrom_82 (by decide) ?_
          exact m_zret K dX5_comesFrom_86 rfl (by decide) h
  · have h := hf c
    obtain ⟨s1, h⟩ := h
    refine v_aload_n 0 dX5_comesFrom_22 rfl (isR_ref _) ?_
    refine m_get K dX5_comesFrom_23 fX5_11 rfl ?_
    refine v_iload_n 3 dX5_comesFrom_26 rfl ?_
    refine v_iconst dX5_comesFrom_27 ?_
    refine m_iast K 0 hb dX5_comesFrom_28 rfl s1 (by decide) ?_
    refine v_iinc 3 dX5_comesFrom_29 rfl (by decide) rfl ?_
    refine v_goto 16 dX5_comesFrom_32 (by decide) ?_
    refine V.sub [1, 2, 3, 0] rfl ?_
    exact h
/-! power -/
theorem wX5_power_0 (K : KM) (hb : K.G.base ≤ K.m) {x0 : Int} {F : Nat → Int} {A : Nat → Int → Int} (h : VM K mX5_power 4 [(0, vI x0), (1, vI 1), (2, vI 0)] [] F A) : VM K mX5_power 0 [(0, vI x0)] [] F A := by
  refine v_iconst dX5_power_0 ?_
  refine v_istore_n dX5_power_1 (by decide) rfl ?_
  refine v_iconst dX5_power_2 ?_
  refine v_istore_n dX5_power_3 (by decide) rfl ?_
  refine V.sub [2, 1, 0] rfl ?_
  exact h
theorem wX5_power_4 (K : KM) (hb : K.G.base ≤ K.m) {x0 x1 x2 : Int} {F : Nat → Int} {A : Nat → Int → Int} (h : (rI x2) ∧ (rI x0) ∧ ((x0 ≤ x2 → (SI K x1 F A)) ∧ (¬ x0 ≤ x2 → (VM K mX5_power 4 [(0, vI x0), (1, vI (x1 * 5)), (2, vI (x2 + 1))] [] F A)))) : VM K mX5_power 4 [(0, vI x0), (1, vI x1), (2, vI x2)] [] F A := by
  obtain ⟨s0, s1, h⟩ := h
  refine v_iload_n 2 dX5_power_4 rfl ?_
  refine v_iload_n 0 dX5_power_5 rfl ?_
  obtain ⟨ht, hf⟩ := h
  refine v_icmp_ge 19 dX5_power_6 (by decide) s0 s1 (fun c => ?_) (fun c => ?_)
  · have h := ht c
    refine v_iload_n 1 dX5_power_19 rfl ?_
    exact m_iret K dX5_power_20 rfl h
  · have h := hf c
    refine v_iload_n 1 dX5_power_9 rfl ?_
    refine v_iconst dX5_power_10 ?_
    refine v_imul dX5_power_11 ?_
    refine v_istore_n dX5_power_12 (by decide) rfl ?_
    refine v_iinc 2 dX5_power_13 rfl (by decide) rfl ?_
    refine v_goto 4 dX5_power_16 (by decide) ?_
    refine V.sub [2, 1, 0] rfl ?_
    exact h
/-! grows -/
theorem wX5_grows_0 (K : KM) (hb : K.G.base ≤ K.m) {x1 : Int} {F : Nat → Int} {A : Nat → Int → Int} (h : (rI (F 6)) ∧ (rI (F 7)) ∧ (((F 6) < (F 7) → (RI mX5_digitAt K [.ref K.m, vI (F 6)] F A fun r2 F2 A2 => (rI x1) ∧ ((x1 = ((-1)) → ((¬ x1 = ((-1)) → ((rI (r2 + 1)) ∧ ((4 < (r2 + 1) → (VM K mX5_grows 74 [(0, .ref K.m), (2, vI (F 6)), (3, vI r2), (4, vI 0), (5, vI 0)] [] (upN F2 6 ((F2 6) + 1)) A2)) ∧ (¬ 4 < (r2 + 1) → (VM K mX5_grows 74 [(0, .ref K.m), (2, vI (F 6)), (3, vI r2), (4, vI 1), (5, vI 0)] [] (upN F2 6 ((F2 6) + 1)) A2))))) ∧ (x1 = ((-1)) → ((rI (r2 + 0)) ∧ ((4 < (r2 + 0) → (VM K mX5_grows 74 [(0, .ref K.m), (2, vI (F 6)), (3, vI r2), (4, vI 0), (5, vI 0)] [] (upN F2 6 ((F2 6) + 1)) A2)) ∧ (¬ 4 < (r2 + 0) → (VM K mX5_grows 74 [(0, .ref K.m), (2, vI (F 6)), (3, vI r2), (4, vI 1), (5, vI 0)] [] (upN F2 6 ((F2 6) + 1)) A2))))))) ∧ (¬ x1 = ((-1)) → (RV mX5_binds K [.ref K.m, vI x1, vI (F 6)] (upN F2 6 ((F2 6) + 1)) A2 fun F4 A4 => (¬ x1 = ((-1)) → ((rI (r2 + 1)) ∧ ((4 < (r2 + 1) → (VM K mX5_grows 74 [(0, .ref K.m), (2, vI (F 6)), (3, vI r2), (4, vI 0), (5, vI 0)] [] F4 A4)) ∧ (¬ 4 < (r2 + 1) → (VM K mX5_grows 74 [(0, .ref K.m), (2, vI (F 6)), (3, vI r2), (4, vI 1), (5, vI 0)] [] F4 A4))))) ∧ (x1 = ((-1)) → ((rI (r2 + 0)) ∧ ((4 < (r2 + 0) → (VM K mX5_grows 74 [(0, .ref K.m), (2, vI (F 6)), (3, vI r2), (4, vI 0), (5, vI 0)] [] F4 A4)) ∧ (¬ 4 < (r2 + 0) → (VM K mX5_grows 74 [(0, .ref K.m), (2, vI (F 6)), (3, vI r2), (4, vI 1), (5, vI 0)] [] F4 A4)))))))))) ∧ (¬ (F 6) < (F 7) → (SI K 0 F A)))) : VM K mX5_grows 0 [(0, .ref K.m), (1, vI x1)] [] F A := by
  obtain ⟨s0, s1, h⟩ := h
  refine v_aload_n 0 dX5_grows_0 rfl (isR_ref _) ?_
  refine m_get (v := vI (F 6)) K dX5_grows_1 fX5_200 rfl ?_
  refine v_aload_n 0 dX5_grows_4 rfl (isR_ref _) ?_
  refine m_get (v := vI (F 7)) K dX5_grows_5 fX5_197 rfl ?_
  obtain ⟨ht, hf⟩ := h
  refine v_icmp_lt 13 dX5_grows_8 (by decide) s0 s1 (fun c => ?_) (fun c => ?_)
  · have h := ht c
    refine v_aload_n 0 dX5_grows_13 rfl (isR_ref _) ?_
    refine m_get (v := vI (F 6)) K dX5_grows_14 fX5_200 rfl ?_
    refine v_istore_n dX5_grows_17 (by decide) rfl ?_
    refine v_aload_n 1 dX5_grows_18 rfl (isR_ref _) ?_
    refine v_aload_n 1 dX5_grows_19 rfl (isR_ref _) ?_
    refine m_get (v := vI (F 6)) K dX5_grows_20 fX5_200 rfl ?_
    refine m_callI K (As := [vI (F 6)]) dX5_grows_23 LX5_203 rfl rfl (Nat.le_of_ble_eq_true rfl) h (fun r2 F2 A2 h => ?_)
    obtain ⟨s3, h⟩ := h
    refine v_istore_n dX5_grows_26 (by decide) rfl ?_
    refine v_aload_n 2 dX5_grows_27 rfl (isR_ref _) ?_
    refine v_dup dX5_grows_28 rfl ?_
    refine m_get (v := vI (F2 6)) K dX5_grows_29 fX5_200 rfl ?_
    refine v_iconst dX5_grows_32 ?_
    refine v_iadd dX5_grows_33 ?_
    refine m_put (F' := upN F2 6 ((F2 6) + 1)) K hb dX5_grows_34 fX5_200 (by decide) (by decide) rfl ?_
    refine v_iload_n 3 dX5_grows_37 rfl ?_
    refine v_iconst dX5_grows_38 ?_
    obtain ⟨ht, hf⟩ := h
    refine v_icmp_eq 48 dX5_grows_39 (by decide) s3 (by decide) (fun c => ?_) (fun c => ?_)
    · have h := ht c
      refine v_iload_n 0 dX5_grows_48 rfl ?_
      refine v_iload_n 3 dX5_grows_49 rfl ?_
      refine v_iconst dX5_grows_50 ?_
      obtain ⟨ht, hf⟩ := h
      refine v_icmp_ne 58 dX5_grows_51 (by decide) s3 (by decide) (fun c => ?_) (fun c => ?_)
      · have h := ht c
        obtain ⟨s4, h⟩ := h
        refine v_iconst dX5_grows_58 ?_
        refine v_iadd dX5_grows_59 ?_
        refine v_iconst dX5_grows_60 ?_
        obtain ⟨ht, hf⟩ := h
        refine v_icmp_gt 68 dX5_grows_61 (by decide) s4 (by decide) (fun c => ?_) (fun c => ?_)
        · have h := ht c
          refine v_iconst dX5_grows_68 ?_
          refine v_istore dX5_grows_69 (by decide) rfl ?_
          refine v_iconst dX5_grows_71 ?_
          refine v_istore dX5_grows_72 (by decide) rfl ?_
          refine V.sub [4, 3, 2, 1, 0] rfl ?_
          exact h
        · have h := hf c
          refine v_iconst dX5_grows_64 ?_
          refine v_goto 69 dX5_grows_65 (by decide) ?_
          refine v_istore dX5_grows_69 (by decide) rfl ?_
          refine v_iconst dX5_grows_71 ?_
          refine v_istore dX5_grows_72 (by decide) rfl ?_
          refine V.sub [4, 3, 2, 1, 0] rfl ?_
          exact h
      · have h := hf c
        obtain ⟨s4, h⟩ := h
        refine v_iconst dX5_grows_54 ?_
        refine v_goto 59 dX5_grows_55 (by decide) ?_
        refine v_iadd dX5_grows_59 ?_
        refine v_iconst dX5_grows_60 ?_
        obtain ⟨ht, hf⟩ := h
        refine v_icmp_gt 68 dX5_grows_61 (by decide) s4 (by decide) (fun c => ?_) (fun c => ?_)
        · have h := ht c
          refine v_iconst dX5_grows_68 ?_
          refine v_istore dX5_grows_69 (by decide) rfl ?_
          refine v_iconst dX5_grows_71 ?_
          refine v_istore dX5_grows_72 (by decide) rfl ?_
          refine V.sub [4, 3, 2, 1, 0] rfl ?_
          exact h
        · have h := hf c
          refine v_iconst dX5_grows_64 ?_
          refine v_goto 69 dX5_grows_65 (by decide) ?_
          refine v_istore dX5_grows_69 (by decide) rfl ?_
          refine v_iconst dX5_grows_71 ?_
          refine v_istore dX5_grows_72 (by decide) rfl ?_
          refine V.sub [4, 3, 2, 1, 0] rfl ?_
          exact h
    · have h := hf c
      refine v_aload_n 2 dX5_grows_42 rfl (isR_ref _) ?_
      refine v_iload_n 3 dX5_grows_43 rfl ?_
      refine v_iload_n 1 dX5_grows_44 rfl ?_
      refine m_callV K (As := [vI x1, vI (F 6)]) dX5_grows_45 LX5_206 rfl rfl (Nat.le_of_ble_eq_true rfl) h (fun F4 A4 h => ?_)
      refine v_iload_n 0 dX5_grows_48 rfl ?_
      refine v_iload_n 3 dX5_grows_49 rfl ?_
      refine v_iconst dX5_grows_50 ?_
      obtain ⟨ht, hf⟩ := h
      refine v_icmp_ne 58 dX5_grows_51 (by decide) s3 (by decide) (fun c => ?_) (fun c => ?_)
      · have h := ht c
        obtain ⟨s5, h⟩ := h
        refine v_iconst dX5_grows_58 ?_
        refine v_iadd dX5_grows_59 ?_
        refine v_iconst dX5_grows_60 ?_
        obtain ⟨ht, hf⟩ := h
        refine v_icmp_gt 68 dX5_grows_61 (by decide) s5 (by decide) (fun c => ?_) (fun c => ?_)
        · have h := ht c
          refine v_iconst dX5_grows_68 ?_
          refine v_istore dX5_grows_69 (by decide) rfl ?_
          refine v_iconst dX5_grows_71 ?_
          refine v_istore dX5_grows_72 (by decide) rfl ?_
          refine V.sub [4, 3, 2, 1, 0] rfl ?_
          exact h
        · have h := hf c
          refine v_iconst dX5_grows_64 ?_
          refine v_goto 69 dX5_grows_65 (by decide) ?_
          refine v_istore dX5_grows_69 (by decide) rfl ?_
          refine v_iconst dX5_grows_71 ?_
          refine v_istore dX5_grows_72 (by decide) rfl ?_
          refine V.sub [4, 3, 2, 1, 0] rfl ?_
          exact h
      · have h := hf c
        obtain ⟨s5, h⟩ := h
        refine v_iconst dX5_grows_54 ?_
        refine v_goto 59 dX5_grows_55 (by decide) ?_
        refine v_iadd dX5_grows_59 ?_
        refine v_iconst dX5_grows_60 ?_
        obtain ⟨ht, hf⟩ := h
        refine v_icmp_gt 68 dX5_grows_61 (by decide) s5 (by decide) (fun c => ?_) (fun c => ?_)
        · have h := ht c
          refine v_iconst dX5_grows_68 ?_
          refine v_istore dX5_grows_69 (by decide) rfl ?_
          refine v_iconst dX5_grows_71 ?_
          refine v_istore dX5_grows_72 (by decide) rfl ?_
          refine V.sub [4, 3, 2, 1, 0] rfl ?_
          exact h
        · have h := hf c
          refine v_iconst dX5_grows_64 ?_
          refine v_goto 69 dX5_grows_65 (by decide) ?_
          refine v_istore dX5_grows_69 (by decide) rfl ?_
          refine v_iconst dX5_grows_71 ?_
          refine v_istore dX5_grows_72 (by decide) rfl ?_
          refine V.sub [4, 3, 2, 1, 0] rfl ?_
          exact h
  · have h := hf c
    refine v_iconst dX5_grows_11 ?_
    exact m_zret K dX5_grows_12 rfl (by decide) h
theorem wX5_grows_74 (K : KM) (hb : K.G.base ≤ K.m) {x2 x3 x4 x5 : Int} {F : Nat → Int} {A : Nat → Int → Int} (h : (rI x5) ∧ (rI x3) ∧ ((x3 ≤ x5 → ((x4 = 0 ∨ x4 = 1) ∧ (SI K x4 F A))) ∧ (¬ x3 ≤ x5 → ((rI x4) ∧ ((x4 = 0 → ((x4 = 0 ∨ x4 = 1) ∧ (SI K x4 F A))) ∧ (¬ x4 = 0 → (RI mX5_grows K [.ref K.m, vI x2] F A fun r3 F3 A3 => VM K mX5_grows 74 [(0, .ref K.m), (2, vI x2), (3, vI x3), (4, vI r3), (5, vI (x5 + 1))] [] F3 A3))))))) : VM K mX5_grows 74 [(0, .ref K.m), (2, vI x2), (3, vI x3), (4, vI x4), (5, vI x5)] [] F A := by
  obtain ⟨s0, s1, h⟩ := h
  refine v_iload 4 dX5_grows_74 rfl ?_
  refine v_iload_n 2 dX5_grows_76 rfl ?_
  obtain ⟨ht, hf⟩ := h
  refine v_icmp_ge 98 dX5_grows_77 (by decide) s0 s1 (fun c => ?_) (fun c => ?_)
  · have h := ht c
    obtain ⟨s2, h⟩ := h
    refine v_iload 3 dX5_grows_98 rfl ?_
    exact m_zret K dX5_grows_100 rfl s2 h
  · have h := hf c
    obtain ⟨s2, h⟩ := h
    refine v_iload 3 dX5_grows_80 rfl ?_
    obtain ⟨ht, hf⟩ := h
    refine v_if_eq 98 dX5_grows_82 (by decide) s2 (fun c => ?_) (fun c => ?_)
    · have h := ht c
      obtain ⟨s3, h⟩ := h
      refine v_iload 3 dX5_grows_98 rfl ?_
      exact m_zret K dX5_grows_100 rfl s3 h
    · have h := hf c
      refine v_aload_n 0 dX5_grows_85 rfl (isR_ref _) ?_
      refine v_iload_n 1 dX5_grows_86 rfl ?_
      refine m_callI K (As := [vI x2]) dX5_grows_87 LX5_210 rfl rfl (Nat.le_of_ble_eq_true rfl) h (fun r3 F3 A3 h => ?_)
      refine v_istore dX5_grows_90 (by decide) rfl ?_
      refine v_iinc 4 dX5_grows_92 rfl (by decide) rfl ?_
      refine v_goto 74 dX5_grows_95 (by decide) ?_
      refine V.sub [2, 3, 4, 1, 0] rfl ?_
      exact h
/-! digitAt -/
theorem wX5_digitAt_0 (K : KM) (hb : K.G.base ≤ K.m) {x1 : Int} {F : Nat → Int} {A : Nat → Int → Int} (h : RI mX5_power K [vI (((F 7) - 1) - x1)] F A fun r0 F0 A0 => (rI (F 8)) ∧ (rI r0) ∧ (r0 ≠ 0) ∧ (rI (Int.tdiv (F 8) r0)) ∧ (SI K (Int.tmod (Int.tdiv (F 8) r0) 5) F0 A0)) : VM K mX5_digitAt 0 [(0, .ref K.m), (1, vI x1)] [] F A := by
  refine v_aload_n 0 dX5_digitAt_0 rfl (isR_ref _) ?_
  refine m_get (v := vI (F 8)) K dX5_digitAt_1 fX5_194 rfl ?_
  refine v_aload_n 0 dX5_digitAt_4 rfl (isR_ref _) ?_
  refine m_get (v := vI (F 7)) K dX5_digitAt_5 fX5_197 rfl ?_
  refine v_iconst dX5_digitAt_8 ?_
  refine v_isub dX5_digitAt_9 ?_
  refine v_iload_n 1 dX5_digitAt_10 rfl ?_
  refine v_isub dX5_digitAt_11 ?_
  refine m_callSI K (As := [vI (((F 7) - 1) - x1)]) dX5_digitAt_12 LX5_177 rfl rfl (Nat.le_of_ble_eq_true rfl) h (fun r0 F0 A0 h => ?_)
  obtain ⟨s1, s2, s3, s4, h⟩ := h
  refine v_idiv dX5_digitAt_15 s1 s2 s3 ?_
  refine v_iconst dX5_digitAt_16 ?_
  refine v_irem dX5_digitAt_17 s4 (by decide) (by decide) ?_
  exact m_iret K dX5_digitAt_18 rfl h
/-! codeOf -/
theorem wX5_codeOf_0 (K : KM) (hb : K.G.base ≤ K.m) {x1 x2 : Int} {F : Nat → Int} {A : Nat → Int → Int} (h : RI mX5_twigsOf K [.ref K.m, vI x1, vI x2] F A fun r0 F0 A0 => RI mX5_twigsOf K [.ref K.m, vI x1, vI x2] F0 A0 fun r1 F1 A1 => VM K mX5_codeOf 18 [(0, .ref K.m), (1, vI x1), (2, vI x2), (3, vI r0), (4, vI 0), (5, vI r1)] [] F1 A1) : VM K mX5_codeOf 0 [(0, .ref K.m), (1, vI x1), (2, vI x2)] [] F A := by
  refine v_aload_n 0 dX5_codeOf_0 rfl (isR_ref _) ?_
  refine v_iload_n 1 dX5_codeOf_1 rfl ?_
  refine v_iload_n 2 dX5_codeOf_2 rfl ?_
  refine m_callI K (As := [vI x1, vI x2]) dX5_codeOf_3 LX5_166 rfl rfl (Nat.le_of_ble_eq_true rfl) h (fun r0 F0 A0 h => ?_)
  refine v_istore_n dX5_codeOf_6 (by decide) rfl ?_
  refine v_iconst dX5_codeOf_7 ?_
  refine v_istore dX5_codeOf_8 (by decide) rfl ?_
  refine v_aload_n 2 dX5_codeOf_10 rfl (isR_ref _) ?_
  refine v_iload_n 3 dX5_codeOf_11 rfl ?_
  refine v_iload_n 4 dX5_codeOf_12 rfl ?_
  refine m_callI K (As := [vI x1, vI x2]) dX5_codeOf_13 LX5_166 rfl rfl (Nat.le_of_ble_eq_true rfl) h (fun r1 F1 A1 h => ?_)
  refine v_istore dX5_codeOf_16 (by decide) rfl ?_
  refine V.sub [3, 4, 5, 2, 1, 0] rfl ?_
  exact h
theorem wX5_codeOf_18 (K : KM) (hb : K.G.base ≤ K.m) {x1 x2 x3 x4 x5 : Int} {F : Nat → Int} {A : Nat → Int → Int} (h : (rI x5) ∧ ((x5 ≤ 0 → (SI K x3 F A)) ∧ (¬ x5 ≤ 0 → (VM K mX5_codeOf 32 [(0, .ref K.m), (1, vI x1), (2, vI x2), (3, vI x3), (4, vI x4), (5, vI x5), (6, vI ((-1))), (7, vI ((-1))), (8, vI 0)] [] F A)))) : VM K mX5_codeOf 18 [(0, .ref K.m), (1, vI x1), (2, vI x2), (3, vI x3), (4, vI x4), (5, vI x5)] [] F A := by
  obtain ⟨s0, h⟩ := h
  refine v_iload 5 dX5_codeOf_18 rfl ?_
  obtain ⟨ht, hf⟩ := h
  refine v_if_le 142 dX5_codeOf_20 (by decide) s0 (fun c => ?_) (fun c => ?_)
  · have h := ht c
    refine v_iload_n 3 dX5_codeOf_142 rfl ?_
    exact m_iret K dX5_codeOf_143 rfl h
  · have h := hf c
    refine v_iconst dX5_codeOf_23 ?_
    refine v_istore dX5_codeOf_24 (by decide) rfl ?_
    refine v_iconst dX5_codeOf_26 ?_
    refine v_istore dX5_codeOf_27 (by decide) rfl ?_
    refine v_iconst dX5_codeOf_29 ?_
    refine v_istore dX5_codeOf_30 (by decide) rfl ?_
    refine V.sub [3, 4, 5, 6, 7, 8, 2, 1, 0] rfl ?_
    exact h
theorem wX5_codeOf_32 (K : KM) (hb : K.G.base ≤ K.m) {x1 x2 x3 x4 x5 x6 x7 x8 : Int} {F : Nat → Int} {A : Nat → Int → Int} (h : (rI x8) ∧ (rI (F 1)) ∧ (((F 1) ≤ x8 → (RI mX5_sizeOf K [.ref K.m, vI x6, vI x1] F A fun r2 F2 A2 => RI mX5_power K [vI r2] F2 A2 fun r3 F3 A3 => VM K mX5_codeOf 18 [(0, .ref K.m), (1, vI x1), (2, vI x2), (3, vI ((x3 * r3) + x7)), (4, vI (ior x4 (ishl 1 x6))), (5, vI (x5 + (-1)))] [] F3 A3)) ∧ (¬ (F 1) ≤ x8 → ((0 ≤ x1 ∧ x1 < 13) ∧ (RI mX5_has K [vI (A 0 x1), vI x8] F A fun r3 F3 A3 => (rI r3) ∧ ((r3 = 0 → (VM K mX5_codeOf 32 [(0, .ref K.m), (1, vI x1), (2, vI x2), (3, vI x3), (4, vI x4), (5, vI x5), (6, vI x6), (7, vI x7), (8, vI (x8 + 1))] [] F3 A3)) ∧ (¬ r3 = 0 → ((rI x2) ∧ ((x8 = x2 → (VM K mX5_codeOf 32 [(0, .ref K.m), (1, vI x1), (2, vI x2), (3, vI x3), (4, vI x4), (5, vI x5), (6, vI x6), (7, vI x7), (8, vI (x8 + 1))] [] F3 A3)) ∧ (¬ x8 = x2 → (RI mX5_has K [vI x4, vI x8] F3 A3 fun r6 F6 A6 => (rI r6) ∧ ((¬ r6 = 0 → (VM K mX5_codeOf 32 [(0, .ref K.m), (1, vI x1), (2, vI x2), (3, vI x3), (4, vI x4), (5, vI x5), (6, vI x6), (7, vI x7), (8, vI (x8 + 1))] [] F6 A6)) ∧ (r6 = 0 → (RI mX5_codeOf K [.ref K.m, vI x8, vI x1] F6 A6 fun r8 F8 A8 => (rI r8) ∧ (rI x7) ∧ ((r8 ≤ x7 → ((1 ≤ K.d) ∧ (VM K mX5_codeOf 32 [(0, .ref K.m), (1, vI x1), (2, vI x2), (3, vI x3), (4, vI x4), (5, vI x5), (6, vI x6), (7, vI (max x7 r8)), (8, vI (x8 + 1))] [] F8 A8))) ∧ (¬ r8 ≤ x7 → ((1 ≤ K.d) ∧ (VM K mX5_codeOf 32 [(0, .ref K.m), (1, vI x1), (2, vI x2), (3, vI x3), (4, vI x4), (5, vI x5), (6, vI x8), (7, vI (max x7 r8)), (8, vI (x8 + 1))] [] F8 A8)))))))))))))))))) : VM K mX5_codeOf 32 [(0, .ref K.m), (1, vI x1), (2, vI x2), (3, vI x3), (4, vI x4), (5, vI x5), (6, vI x6), (7, vI x7), (8, vI x8)] [] F A := by
  obtain ⟨s0, s1, h⟩ := h
  refine v_iload 8 dX5_codeOf_32 rfl ?_
  refine v_aload_n 0 dX5_codeOf_34 rfl (isR_ref _) ?_
  refine m_get (v := vI (F 1)) K dX5_codeOf_35 fX5_145 rfl ?_
  obtain ⟨ht, hf⟩ := h
  refine v_icmp_ge 111 dX5_codeOf_38 (by decide) s0 s1 (fun c => ?_) (fun c => ?_)
  · have h := ht c
    refine v_iload 4 dX5_codeOf_111 rfl ?_
    refine v_iconst dX5_codeOf_113 ?_
    refine v_iload 6 dX5_codeOf_114 rfl ?_
    refine v_ishl dX5_codeOf_116 ?_
    refine v_ior dX5_codeOf_117 ?_
    refine v_istore dX5_codeOf_118 (by decide) rfl ?_
    refine v_iload_n 4 dX5_codeOf_120 rfl ?_
    refine v_aload_n 1 dX5_codeOf_121 rfl (isR_ref _) ?_
    refine v_iload 6 dX5_codeOf_122 rfl ?_
    refine v_iload_n 2 dX5_codeOf_124 rfl ?_
    refine m_callI K (As := [vI x6, vI x1]) dX5_codeOf_125 LX5_156 rfl rfl (Nat.le_of_ble_eq_true rfl) h (fun r2 F2 A2 h => ?_)
    refine m_callSI K (As := [vI r2]) dX5_codeOf_128 LX5_177 rfl rfl (Nat.le_of_ble_eq_true rfl) h (fun r3 F3 A3 h => ?_)
    refine v_imul dX5_codeOf_131 ?_
    refine v_iload 7 dX5_codeOf_132 rfl ?_
    refine v_iadd dX5_codeOf_134 ?_
    refine v_istore_n dX5_codeOf_135 (by decide) rfl ?_
    refine v_iinc 5 dX5_codeOf_136 rfl (by decide) rfl ?_
    refine v_goto 18 dX5_codeOf_139 (by decide) ?_
    refine V.sub [3, 4, 5, 1, 2, 0] rfl ?_
    exact h
  · have h := hf c
    obtain ⟨s2, h⟩ := h
    refine v_aload_n 0 dX5_codeOf_41 rfl (isR_ref _) ?_
    refine m_get K dX5_codeOf_42 fX5_11 rfl ?_
    refine v_iload_n 1 dX5_codeOf_45 rfl ?_
    refine m_iald K 0 dX5_codeOf_46 rfl s2 (by decide) ?_
    refine v_iload 8 dX5_codeOf_47 rfl ?_
    refine m_callSI K (As := [vI (A 0 x1), vI x8]) dX5_codeOf_49 LX5_152 rfl rfl (Nat.le_of_ble_eq_true rfl) h (fun r3 F3 A3 h => ?_)
    obtain ⟨s4, h⟩ := h
    obtain ⟨ht, hf⟩ := h
    refine v_if_eq 105 dX5_codeOf_52 (by decide) s4 (fun c => ?_) (fun c => ?_)
    · have h := ht c
      refine v_iinc 8 dX5_codeOf_105 rfl (by decide) rfl ?_
      refine v_goto 32 dX5_codeOf_108 (by decide) ?_
      refine V.sub [1, 2, 3, 4, 5, 6, 7, 8, 0] rfl ?_
      exact h
    · have h := hf c
      obtain ⟨s5, h⟩ := h
      refine v_iload 8 dX5_codeOf_55 rfl ?_
      refine v_iload_n 2 dX5_codeOf_57 rfl ?_
      obtain ⟨ht, hf⟩ := h
      refine v_icmp_eq 105 dX5_codeOf_58 (by decide) s0 s5 (fun c => ?_) (fun c => ?_)
      · have h := ht c
        refine v_iinc 8 dX5_codeOf_105 rfl (by decide) rfl ?_
        refine v_goto 32 dX5_codeOf_108 (by decide) ?_
        refine V.sub [1, 2, 3, 4, 5, 6, 7, 8, 0] rfl ?_
        exact h
      · have h := hf c
        refine v_iload 4 dX5_codeOf_61 rfl ?_
        refine v_iload 8 dX5_codeOf_63 rfl ?_
        refine m_callSI K (As := [vI x4, vI x8]) dX5_codeOf_65 LX5_152 rfl rfl (Nat.le_of_ble_eq_true rfl) h (fun r6 F6 A6 h => ?_)
        obtain ⟨s7, h⟩ := h
        obtain ⟨ht, hf⟩ := h
        refine v_if_ne 105 dX5_codeOf_68 (by decide) s7 (fun c => ?_) (fun c => ?_)
        · have h := ht c
          refine v_iinc 8 dX5_codeOf_105 rfl (by decide) rfl ?_
          refine v_goto 32 dX5_codeOf_108 (by decide) ?_
          refine V.sub [1, 2, 3, 4, 5, 6, 7, 8, 0] rfl ?_
          exact h
        · have h := hf c
          refine v_aload_n 0 dX5_codeOf_71 rfl (isR_ref _) ?_
          refine v_iload 8 dX5_codeOf_72 rfl ?_
          refine v_iload_n 1 dX5_codeOf_74 rfl ?_
          refine m_callI K (As := [vI x8, vI x1]) dX5_codeOf_75 LX5_169 rfl rfl (Nat.le_of_ble_eq_true rfl) h (fun r8 F8 A8 h => ?_)
          obtain ⟨s9, s10, h⟩ := h
          refine v_istore dX5_codeOf_78 (by decide) rfl ?_
          refine v_iload 0 dX5_codeOf_80 rfl ?_
          refine v_iload 8 dX5_codeOf_82 rfl ?_
          obtain ⟨ht, hf⟩ := h
          refine v_icmp_le 92 dX5_codeOf_84 (by decide) s9 s10 (fun c => ?_) (fun c => ?_)
          · have h := ht c
            obtain ⟨s11, h⟩ := h
            refine v_iload 7 dX5_codeOf_92 rfl ?_
            refine v_istore dX5_codeOf_94 (by decide) rfl ?_
            refine v_iload 8 dX5_codeOf_96 rfl ?_
            refine v_iload 1 dX5_codeOf_98 rfl ?_
            refine v_mmax dX5_codeOf_100 q2021 s10 s9 s11 (Nat.le_of_ble_eq_true rfl) ?_
            refine v_istore dX5_codeOf_103 (by decide) rfl ?_
            refine v_iinc 9 dX5_codeOf_105 rfl (by decide) rfl ?_
            refine v_goto 32 dX5_codeOf_108 (by decide) ?_
            refine V.sub [4, 5, 6, 7, 8, 9, 2, 1, 0] rfl ?_
            exact h
          · have h := hf c
            obtain ⟨s11, h⟩ := h
            refine v_iload 9 dX5_codeOf_87 rfl ?_
            refine v_goto 94 dX5_codeOf_89 (by decide) ?_
            refine v_istore dX5_codeOf_94 (by decide) rfl ?_
            refine v_iload 8 dX5_codeOf_96 rfl ?_
            refine v_iload 1 dX5_codeOf_98 rfl ?_
            refine v_mmax dX5_codeOf_100 q2021 s10 s9 s11 (Nat.le_of_ble_eq_true rfl) ?_
            refine v_istore dX5_codeOf_103 (by decide) rfl ?_
            refine v_iinc 9 dX5_codeOf_105 rfl (by decide) rfl ?_
            refine v_goto 32 dX5_codeOf_108 (by decide) ?_
            refine V.sub [4, 5, 6, 7, 8, 9, 2, 1, 0] rfl ?_
            exact h
/-! twigsOf -/
theorem wX5_twigsOf_0 (K : KM) (hb : K.G.base ≤ K.m) {x1 x2 : Int} {F : Nat → Int} {A : Nat → Int → Int} (h : (0 ≤ x1 ∧ x1 < 13) ∧ (RI mJ9_bitCount K [vI (A 0 x1)] F A fun r1 F1 A1 => (rI x2) ∧ ((¬ x2 = ((-1)) → (SI K (r1 - 1) F1 A1)) ∧ (x2 = ((-1)) → (SI K (r1 - 0) F1 A1))))) : VM K mX5_twigsOf 0 [(0, .ref K.m), (1, vI x1), (2, vI x2)] [] F A := by
  obtain ⟨s0, h⟩ := h
  refine v_aload_n 0 dX5_twigsOf_0 rfl (isR_ref _) ?_
  refine m_get K dX5_twigsOf_1 fX5_11 rfl ?_
  refine v_iload_n 1 dX5_twigsOf_4 rfl ?_
  refine m_iald K 0 dX5_twigsOf_5 rfl s0 (by decide) ?_
  refine m_callSI K (As := [vI (A 0 x1)]) dX5_twigsOf_6 LX5_160 rfl rfl (Nat.le_of_ble_eq_true rfl) h (fun r1 F1 A1 h => ?_)
  obtain ⟨s2, h⟩ := h
  refine v_iload_n 2 dX5_twigsOf_9 rfl ?_
  refine v_iconst dX5_twigsOf_10 ?_
  obtain ⟨ht, hf⟩ := h
  refine v_icmp_ne 18 dX5_twigsOf_11 (by decide) s2 (by decide) (fun c => ?_) (fun c => ?_)
  · have h := ht c
    refine v_iconst dX5_twigsOf_18 ?_
    refine v_isub dX5_twigsOf_19 ?_
    exact m_iret K dX5_twigsOf_20 rfl h
  · have h := hf c
    refine v_iconst dX5_twigsOf_14 ?_
    refine v_goto 19 dX5_twigsOf_15 (by decide) ?_
    refine v_isub dX5_twigsOf_19 ?_
    exact m_iret K dX5_twigsOf_20 rfl h
/-! sizeOf -/
theorem wX5_sizeOf_0 (K : KM) (hb : K.G.base ≤ K.m) {x1 x2 : Int} {F : Nat → Int} {A : Nat → Int → Int} (h : VM K mX5_sizeOf 5 [(0, .ref K.m), (1, vI x1), (2, vI x2), (3, vI 1), (4, vI 0)] [] F A) : VM K mX5_sizeOf 0 [(0, .ref K.m), (1, vI x1), (2, vI x2)] [] F A := by
  refine v_iconst dX5_sizeOf_0 ?_
  refine v_istore_n dX5_sizeOf_1 (by decide) rfl ?_
  refine v_iconst dX5_sizeOf_2 ?_
  refine v_istore dX5_sizeOf_3 (by decide) rfl ?_
  refine V.sub [2, 3, 4, 1, 0] rfl ?_
  exact h
theorem wX5_sizeOf_5 (K : KM) (hb : K.G.base ≤ K.m) {x1 x2 x3 x4 : Int} {F : Nat → Int} {A : Nat → Int → Int} (h : (rI x4) ∧ (rI (F 1)) ∧ (((F 1) ≤ x4 → (SI K x3 F A)) ∧ (¬ (F 1) ≤ x4 → ((0 ≤ x1 ∧ x1 < 13) ∧ (RI mX5_has K [vI (A 0 x1), vI x4] F A fun r3 F3 A3 => (rI r3) ∧ ((r3 = 0 → (VM K mX5_sizeOf 5 [(0, .ref K.m), (1, vI x1), (2, vI x2), (3, vI (x3 + 0)), (4, vI (x4 + 1))] [] F3 A3)) ∧ (¬ r3 = 0 → ((rI x2) ∧ ((x4 = x2 → (VM K mX5_sizeOf 5 [(0, .ref K.m), (1, vI x1), (2, vI x2), (3, vI (x3 + 0)), (4, vI (x4 + 1))] [] F3 A3)) ∧ (¬ x4 = x2 → (RI mX5_sizeOf K [.ref K.m, vI x4, vI x1] F3 A3 fun r6 F6 A6 => VM K mX5_sizeOf 5 [(0, .ref K.m), (1, vI x1), (2, vI x2), (3, vI (x3 + r6)), (4, vI (x4 + 1))] [] F6 A6))))))))))) : VM K mX5_sizeOf 5 [(0, .ref K.m), (1, vI x1), (2, vI x2), (3, vI x3), (4, vI x4)] [] F A := by
  obtain ⟨s0, s1, h⟩ := h
  refine v_iload 4 dX5_sizeOf_5 rfl ?_
  refine v_aload_n 0 dX5_sizeOf_7 rfl (isR_ref _) ?_
  refine m_get (v := vI (F 1)) K dX5_sizeOf_8 fX5_145 rfl ?_
  obtain ⟨ht, hf⟩ := h
  refine v_icmp_ge 54 dX5_sizeOf_11 (by decide) s0 s1 (fun c => ?_) (fun c => ?_)
  · have h := ht c
    refine v_iload_n 3 dX5_sizeOf_54 rfl ?_
    exact m_iret K dX5_sizeOf_55 rfl h
  · have h := hf c
    obtain ⟨s2, h⟩ := h
    refine v_iload_n 3 dX5_sizeOf_14 rfl ?_
    refine v_aload_n 0 dX5_sizeOf_15 rfl (isR_ref _) ?_
    refine m_get K dX5_sizeOf_16 fX5_11 rfl ?_
    refine v_iload_n 1 dX5_sizeOf_19 rfl ?_
    refine m_iald K 0 dX5_sizeOf_20 rfl s2 (by decide) ?_
    refine v_iload 4 dX5_sizeOf_21 rfl ?_
    refine m_callSI K (As := [vI (A 0 x1), vI x4]) dX5_sizeOf_23 LX5_152 rfl rfl (Nat.le_of_ble_eq_true rfl) h (fun r3 F3 A3 h => ?_)
    obtain ⟨s4, h⟩ := h
    obtain ⟨ht, hf⟩ := h
    refine v_if_eq 45 dX5_sizeOf_26 (by decide) s4 (fun c => ?_) (fun c => ?_)
    · have h := ht c
      refine v_iconst dX5_sizeOf_45 ?_
      refine v_iadd dX5_sizeOf_46 ?_
      refine v_istore_n dX5_sizeOf_47 (by decide) rfl ?_
      refine v_iinc 4 dX5_sizeOf_48 rfl (by decide) rfl ?_
      refine v_goto 5 dX5_sizeOf_51 (by decide) ?_
      refine V.sub [2, 3, 4, 1, 0] rfl ?_
      exact h
    · have h := hf c
      obtain ⟨s5, h⟩ := h
      refine v_iload 4 dX5_sizeOf_29 rfl ?_
      refine v_iload_n 2 dX5_sizeOf_31 rfl ?_
      obtain ⟨ht, hf⟩ := h
      refine v_icmp_eq 45 dX5_sizeOf_32 (by decide) s0 s5 (fun c => ?_) (fun c => ?_)
      · have h := ht c
        refine v_iconst dX5_sizeOf_45 ?_
        refine v_iadd dX5_sizeOf_46 ?_
        refine v_istore_n dX5_sizeOf_47 (by decide) rfl ?_
        refine v_iinc 4 dX5_sizeOf_48 rfl (by decide) rfl ?_
        refine v_goto 5 dX5_sizeOf_51 (by decide) ?_
        refine V.sub [2, 3, 4, 1, 0] rfl ?_
        exact h
      · have h := hf c
        refine v_aload_n 0 dX5_sizeOf_35 rfl (isR_ref _) ?_
        refine v_iload 4 dX5_sizeOf_36 rfl ?_
        refine v_iload_n 1 dX5_sizeOf_38 rfl ?_
        refine m_callI K (As := [vI x4, vI x1]) dX5_sizeOf_39 LX5_156 rfl rfl (Nat.le_of_ble_eq_true rfl) h (fun r6 F6 A6 h => ?_)
        refine v_goto 46 dX5_sizeOf_42 (by decide) ?_
        refine v_iadd dX5_sizeOf_46 ?_
        refine v_istore_n dX5_sizeOf_47 (by decide) rfl ?_
        refine v_iinc 4 dX5_sizeOf_48 rfl (by decide) rfl ?_
        refine v_goto 5 dX5_sizeOf_51 (by decide) ?_
        refine V.sub [2, 3, 4, 1, 0] rfl ?_
        exact h
/-! keyNow -/
theorem wX5_keyNow_0 (K : KM) (hb : K.G.base ≤ K.m) {F : Nat → Int} {A : Nat → Int → Int} (h : RI mX5_otherCentre K [.ref K.m] F A fun r0 F0 A0 => RI mX5_centre K [.ref K.m] F0 A0 fun r1 F1 A1 => RI mX5_codeOf K [.ref K.m, vI r1, vI ((-1))] F1 A1 fun r2 F2 A2 => (rI r0) ∧ ((¬ r0 = ((-1)) → (RI mX5_codeOf K [.ref K.m, vI r0, vI ((-1))] F2 A2 fun r4 F4 A4 => (rI r2) ∧ (rI r4) ∧ (1 ≤ K.d) ∧ (SI K (max r2 r4) F4 A4))) ∧ (r0 = ((-1)) → (SI K r2 F2 A2)))) : VM K mX5_keyNow 0 [(0, .ref K.m)] [] F A := by
  refine v_aload_n 0 dX5_keyNow_0 rfl (isR_ref _) ?_
  refine m_callI K (As := []) dX5_keyNow_1 LX5_191 rfl rfl (Nat.le_of_ble_eq_true rfl) h (fun r0 F0 A0 h => ?_)
  refine v_istore_n dX5_keyNow_4 (by decide) rfl ?_
  refine v_aload_n 1 dX5_keyNow_5 rfl (isR_ref _) ?_
  refine v_aload_n 1 dX5_keyNow_6 rfl (isR_ref _) ?_
  refine m_callI K (As := []) dX5_keyNow_7 LX5_187 rfl rfl (Nat.le_of_ble_eq_true rfl) h (fun r1 F1 A1 h => ?_)
  refine v_iconst dX5_keyNow_10 ?_
  refine m_callI K (As := [vI r1, vI ((-1))]) dX5_keyNow_11 LX5_169 rfl rfl (Nat.le_of_ble_eq_true rfl) h (fun r2 F2 A2 h => ?_)
  obtain ⟨s3, h⟩ := h
  refine v_istore_n dX5_keyNow_14 (by decide) rfl ?_
  refine v_iload_n 1 dX5_keyNow_15 rfl ?_
  refine v_iconst dX5_keyNow_16 ?_
  obtain ⟨ht, hf⟩ := h
  refine v_icmp_ne 24 dX5_keyNow_17 (by decide) s3 (by decide) (fun c => ?_) (fun c => ?_)
  · have h := ht c
    refine v_iload_n 0 dX5_keyNow_24 rfl ?_
    refine v_aload_n 2 dX5_keyNow_25 rfl (isR_ref _) ?_
    refine v_iload_n 1 dX5_keyNow_26 rfl ?_
    refine v_iconst dX5_keyNow_27 ?_
    refine m_callI K (As := [vI r0, vI ((-1))]) dX5_keyNow_28 LX5_169 rfl rfl (Nat.le_of_ble_eq_true rfl) h (fun r4 F4 A4 h => ?_)
    obtain ⟨s5, s6, s7, h⟩ := h
    refine v_mmax dX5_keyNow_31 q2021 s5 s6 s7 (Nat.le_of_ble_eq_true rfl) ?_
    exact m_iret K dX5_keyNow_34 rfl h
  · have h := hf c
    refine v_iload_n 0 dX5_keyNow_20 rfl ?_
    refine v_goto 34 dX5_keyNow_21 (by decide) ?_
    exact m_iret K dX5_keyNow_34 rfl h
/-! otherCentre -/
theorem wX5_otherCentre_0 (K : KM) (hb : K.G.base ≤ K.m) {F : Nat → Int} {A : Nat → Int → Int} (h : RI mX5_centre K [.ref K.m] F A fun r0 F0 A0 => VM K mX5_otherCentre 9 [(0, .ref K.m), (1, vI r0), (2, vI (r0 + 1))] [] F0 A0) : VM K mX5_otherCentre 0 [(0, .ref K.m)] [] F A := by
  refine v_aload_n 0 dX5_otherCentre_0 rfl (isR_ref _) ?_
  refine m_callI K (As := []) dX5_otherCentre_1 LX5_187 rfl rfl (Nat.le_of_ble_eq_true rfl) h (fun r0 F0 A0 h => ?_)
  refine v_istore_n dX5_otherCentre_4 (by decide) rfl ?_
  refine v_iload_n 0 dX5_otherCentre_5 rfl ?_
  refine v_iconst dX5_otherCentre_6 ?_
  refine v_iadd dX5_otherCentre_7 ?_
  refine v_istore_n dX5_otherCentre_8 (by decide) rfl ?_
  refine V.sub [2, 1, 0] rfl ?_
  exact h
theorem wX5_otherCentre_9 (K : KM) (hb : K.G.base ≤ K.m) {x1 x2 : Int} {F : Nat → Int} {A : Nat → Int → Int} (h : (rI x2) ∧ (rI (F 1)) ∧ (((F 1) ≤ x2 → (SI K ((-1)) F A)) ∧ (¬ (F 1) ≤ x2 → (RI mX5_deepOf K [.ref K.m, vI x2, vI ((-1))] F A fun r2 F2 A2 => RI mX5_deepOf K [.ref K.m, vI x1, vI ((-1))] F2 A2 fun r3 F3 A3 => (rI r2) ∧ (rI r3) ∧ ((¬ r2 = r3 → (VM K mX5_otherCentre 9 [(0, .ref K.m), (1, vI x1), (2, vI (x2 + 1))] [] F3 A3)) ∧ (r2 = r3 → (SI K x2 F3 A3))))))) : VM K mX5_otherCentre 9 [(0, .ref K.m), (1, vI x1), (2, vI x2)] [] F A := by
  obtain ⟨s0, s1, h⟩ := h
  refine v_iload_n 2 dX5_otherCentre_9 rfl ?_
  refine v_aload_n 0 dX5_otherCentre_10 rfl (isR_ref _) ?_
  refine m_get (v := vI (F 1)) K dX5_otherCentre_11 fX5_145 rfl ?_
  obtain ⟨ht, hf⟩ := h
  refine v_icmp_ge 40 dX5_otherCentre_14 (by decide) s0 s1 (fun c => ?_) (fun c => ?_)
  · have h := ht c
    refine v_iconst dX5_otherCentre_40 ?_
    exact m_iret K dX5_otherCentre_41 rfl h
  · have h := hf c
    refine v_aload_n 0 dX5_otherCentre_17 rfl (isR_ref _) ?_
    refine v_iload_n 2 dX5_otherCentre_18 rfl ?_
    refine v_iconst dX5_otherCentre_19 ?_
    refine m_callI K (As := [vI x2, vI ((-1))]) dX5_otherCentre_20 LX5_184 rfl rfl (Nat.le_of_ble_eq_true rfl) h (fun r2 F2 A2 h => ?_)
    refine v_aload_n 0 dX5_otherCentre_23 rfl (isR_ref _) ?_
    refine v_iload_n 1 dX5_otherCentre_24 rfl ?_
    refine v_iconst dX5_otherCentre_25 ?_
    refine m_callI K (As := [vI x1, vI ((-1))]) dX5_otherCentre_26 LX5_184 rfl rfl (Nat.le_of_ble_eq_true rfl) h (fun r3 F3 A3 h => ?_)
    obtain ⟨s4, s5, h⟩ := h
    obtain ⟨ht, hf⟩ := h
    refine v_icmp_ne 34 dX5_otherCentre_29 (by decide) s4 s5 (fun c => ?_) (fun c => ?_)
    · have h := ht c
      refine v_iinc 2 dX5_otherCentre_34 rfl (by decide) rfl ?_
      refine v_goto 9 dX5_otherCentre_37 (by decide) ?_
      refine V.sub [1, 2, 0] rfl ?_
      exact h
    · have h := hf c
      refine v_iload_n 2 dX5_otherCentre_32 rfl ?_
      exact m_iret K dX5_otherCentre_33 rfl h
/-! centre -/
theorem wX5_centre_0 (K : KM) (hb : K.G.base ≤ K.m) {F : Nat → Int} {A : Nat → Int → Int} (h : VM K mX5_centre 4 [(0, .ref K.m), (1, vI 0), (2, vI 1)] [] F A) : VM K mX5_centre 0 [(0, .ref K.m)] [] F A := by
  refine v_iconst dX5_centre_0 ?_
  refine v_istore_n dX5_centre_1 (by decide) rfl ?_
  refine v_iconst dX5_centre_2 ?_
  refine v_istore_n dX5_centre_3 (by decide) rfl ?_
  refine V.sub [2, 1, 0] rfl ?_
  exact h
theorem wX5_centre_4 (K : KM) (hb : K.G.base ≤ K.m) {x1 x2 : Int} {F : Nat → Int} {A : Nat → Int → Int} (h : (rI x2) ∧ (rI (F 1)) ∧ (((F 1) ≤ x2 → (SI K x1 F A)) ∧ (¬ (F 1) ≤ x2 → (RI mX5_deepOf K [.ref K.m, vI x2, vI ((-1))] F A fun r2 F2 A2 => RI mX5_deepOf K [.ref K.m, vI x1, vI ((-1))] F2 A2 fun r3 F3 A3 => (rI r2) ∧ (rI r3) ∧ ((r3 ≤ r2 → (VM K mX5_centre 4 [(0, .ref K.m), (1, vI x1), (2, vI (x2 + 1))] [] F3 A3)) ∧ (¬ r3 ≤ r2 → (VM K mX5_centre 4 [(0, .ref K.m), (1, vI x2), (2, vI (x2 + 1))] [] F3 A3))))))) : VM K mX5_centre 4 [(0, .ref K.m), (1, vI x1), (2, vI x2)] [] F A := by
  obtain ⟨s0, s1, h⟩ := h
  refine v_iload_n 2 dX5_centre_4 rfl ?_
  refine v_aload_n 0 dX5_centre_5 rfl (isR_ref _) ?_
  refine m_get (v := vI (F 1)) K dX5_centre_6 fX5_145 rfl ?_
  obtain ⟨ht, hf⟩ := h
  refine v_icmp_ge 39 dX5_centre_9 (by decide) s0 s1 (fun c => ?_) (fun c => ?_)
  · have h := ht c
    refine v_iload_n 1 dX5_centre_39 rfl ?_
    exact m_iret K dX5_centre_40 rfl h
  · have h := hf c
    refine v_aload_n 0 dX5_centre_12 rfl (isR_ref _) ?_
    refine v_iload_n 2 dX5_centre_13 rfl ?_
    refine v_iconst dX5_centre_14 ?_
    refine m_callI K (As := [vI x2, vI ((-1))]) dX5_centre_15 LX5_184 rfl rfl (Nat.le_of_ble_eq_true rfl) h (fun r2 F2 A2 h => ?_)
    refine v_aload_n 0 dX5_centre_18 rfl (isR_ref _) ?_
    refine v_iload_n 1 dX5_centre_19 rfl ?_
    refine v_iconst dX5_centre_20 ?_
    refine m_callI K (As := [vI x1, vI ((-1))]) dX5_centre_21 LX5_184 rfl rfl (Nat.le_of_ble_eq_true rfl) h (fun r3 F3 A3 h => ?_)
    obtain ⟨s4, s5, h⟩ := h
    obtain ⟨ht, hf⟩ := h
    refine v_icmp_ge 31 dX5_centre_24 (by decide) s4 s5 (fun c => ?_) (fun c => ?_)
    · have h := ht c
      refine v_iload_n 1 dX5_centre_31 rfl ?_
      refine v_istore_n dX5_centre_32 (by decide) rfl ?_
      refine v_iinc 2 dX5_centre_33 rfl (by decide) rfl ?_
      refine v_goto 4 dX5_centre_36 (by decide) ?_
      refine V.sub [2, 1, 0] rfl ?_
      exact h
    · have h := hf c
      refine v_iload_n 2 dX5_centre_27 rfl ?_
      refine v_goto 32 dX5_centre_28 (by decide) ?_
      refine v_istore_n dX5_centre_32 (by decide) rfl ?_
      refine v_iinc 2 dX5_centre_33 rfl (by decide) rfl ?_
      refine v_goto 4 dX5_centre_36 (by decide) ?_
      refine V.sub [2, 1, 0] rfl ?_
      exact h
/-! deepOf -/
theorem wX5_deepOf_0 (K : KM) (hb : K.G.base ≤ K.m) {x1 x2 : Int} {F : Nat → Int} {A : Nat → Int → Int} (h : VM K mX5_deepOf 5 [(0, .ref K.m), (1, vI x1), (2, vI x2), (3, vI 0), (4, vI 0)] [] F A) : VM K mX5_deepOf 0 [(0, .ref K.m), (1, vI x1), (2, vI x2)] [] F A := by
  refine v_iconst dX5_deepOf_0 ?_
  refine v_istore_n dX5_deepOf_1 (by decide) rfl ?_
  refine v_iconst dX5_deepOf_2 ?_
  refine v_istore dX5_deepOf_3 (by decide) rfl ?_
  refine V.sub [2, 3, 4, 1, 0] rfl ?_
  exact h
theorem wX5_deepOf_5 (K : KM) (hb : K.G.base ≤ K.m) {x1 x2 x3 x4 : Int} {F : Nat → Int} {A : Nat → Int → Int} (h : (rI x4) ∧ (rI (F 1)) ∧ (((F 1) ≤ x4 → (SI K x3 F A)) ∧ (¬ (F 1) ≤ x4 → ((0 ≤ x1 ∧ x1 < 13) ∧ (RI mX5_has K [vI (A 0 x1), vI x4] F A fun r3 F3 A3 => (rI r3) ∧ ((r3 = 0 → (VM K mX5_deepOf 5 [(0, .ref K.m), (1, vI x1), (2, vI x2), (3, vI x3), (4, vI (x4 + 1))] [] F3 A3)) ∧ (¬ r3 = 0 → ((rI x2) ∧ ((x4 = x2 → (VM K mX5_deepOf 5 [(0, .ref K.m), (1, vI x1), (2, vI x2), (3, vI x3), (4, vI (x4 + 1))] [] F3 A3)) ∧ (¬ x4 = x2 → (RI mX5_deepOf K [.ref K.m, vI x4, vI x1] F3 A3 fun r6 F6 A6 => (rI x3) ∧ (rI (1 + r6)) ∧ (1 ≤ K.d) ∧ (VM K mX5_deepOf 5 [(0, .ref K.m), (1, vI x1), (2, vI x2), (3, vI (max x3 (1 + r6))), (4, vI (x4 + 1))] [] F6 A6)))))))))))) : VM K mX5_deepOf 5 [(0, .ref K.m), (1, vI x1), (2, vI x2), (3, vI x3), (4, vI x4)] [] F A := by
  obtain ⟨s0, s1, h⟩ := h
  refine v_iload 4 dX5_deepOf_5 rfl ?_
  refine v_aload_n 0 dX5_deepOf_7 rfl (isR_ref _) ?_
  refine m_get (v := vI (F 1)) K dX5_deepOf_8 fX5_145 rfl ?_
  obtain ⟨ht, hf⟩ := h
  refine v_icmp_ge 58 dX5_deepOf_11 (by decide) s0 s1 (fun c => ?_) (fun c => ?_)
  · have h := ht c
    refine v_iload_n 3 dX5_deepOf_58 rfl ?_
    exact m_iret K dX5_deepOf_59 rfl h
  · have h := hf c
    obtain ⟨s2, h⟩ := h
    refine v_aload_n 0 dX5_deepOf_14 rfl (isR_ref _) ?_
    refine m_get K dX5_deepOf_15 fX5_11 rfl ?_
    refine v_iload_n 1 dX5_deepOf_18 rfl ?_
    refine m_iald K 0 dX5_deepOf_19 rfl s2 (by decide) ?_
    refine v_iload 4 dX5_deepOf_20 rfl ?_
    refine m_callSI K (As := [vI (A 0 x1), vI x4]) dX5_deepOf_22 LX5_152 rfl rfl (Nat.le_of_ble_eq_true rfl) h (fun r3 F3 A3 h => ?_)
    obtain ⟨s4, h⟩ := h
    obtain ⟨ht, hf⟩ := h
    refine v_if_eq 50 dX5_deepOf_25 (by decide) s4 (fun c => ?_) (fun c => ?_)
    · have h := ht c
      refine v_iload_n 3 dX5_deepOf_50 rfl ?_
      refine v_istore_n dX5_deepOf_51 (by decide) rfl ?_
      refine v_iinc 4 dX5_deepOf_52 rfl (by decide) rfl ?_
      refine v_goto 5 dX5_deepOf_55 (by decide) ?_
      refine V.sub [2, 3, 4, 1, 0] rfl ?_
      exact h
    · have h := hf c
      obtain ⟨s5, h⟩ := h
      refine v_iload 4 dX5_deepOf_28 rfl ?_
      refine v_iload_n 2 dX5_deepOf_30 rfl ?_
      obtain ⟨ht, hf⟩ := h
      refine v_icmp_eq 50 dX5_deepOf_31 (by decide) s0 s5 (fun c => ?_) (fun c => ?_)
      · have h := ht c
        refine v_iload_n 3 dX5_deepOf_50 rfl ?_
        refine v_istore_n dX5_deepOf_51 (by decide) rfl ?_
        refine v_iinc 4 dX5_deepOf_52 rfl (by decide) rfl ?_
        refine v_goto 5 dX5_deepOf_55 (by decide) ?_
        refine V.sub [2, 3, 4, 1, 0] rfl ?_
        exact h
      · have h := hf c
        refine v_iload_n 3 dX5_deepOf_34 rfl ?_
        refine v_iconst dX5_deepOf_35 ?_
        refine v_aload_n 0 dX5_deepOf_36 rfl (isR_ref _) ?_
        refine v_iload 4 dX5_deepOf_37 rfl ?_
        refine v_iload_n 1 dX5_deepOf_39 rfl ?_
        refine m_callI K (As := [vI x4, vI x1]) dX5_deepOf_40 LX5_184 rfl rfl (Nat.le_of_ble_eq_true rfl) h (fun r6 F6 A6 h => ?_)
        obtain ⟨s7, s8, s9, h⟩ := h
        refine v_iadd dX5_deepOf_43 ?_
        refine v_mmax dX5_deepOf_44 q2021 s7 s8 s9 (Nat.le_of_ble_eq_true rfl) ?_
        refine v_goto 51 dX5_deepOf_47 (by decide) ?_
        refine v_istore_n dX5_deepOf_51 (by decide) rfl ?_
        refine v_iinc 4 dX5_deepOf_52 rfl (by decide) rfl ?_
        refine v_goto 5 dX5_deepOf_55 (by decide) ?_
        refine V.sub [2, 3, 4, 1, 0] rfl ?_
        exact h
/-! looksAt -/
theorem wX5_looksAt_0 (K : KM) (hb : K.G.base ≤ K.m) {x1 x2 : Int} {F : Nat → Int} {A : Nat → Int → Int} (h : RI mX5_keyOf K [.ref K.m, vI x1, vI x2] F A fun r0 F0 A0 => RI mX5_comesFrom K [.ref K.m, vI x1, vI r0] F0 A0 fun r1 F1 A1 => SV K F1 A1) : VM K mX5_looksAt 0 [(0, .ref K.m), (1, vI x1), (2, vI x2)] [] F A := by
  refine v_aload_n 0 dX5_looksAt_0 rfl (isR_ref _) ?_
  refine v_iload_n 1 dX5_looksAt_1 rfl ?_
  refine v_aload_n 0 dX5_looksAt_2 rfl (isR_ref _) ?_
  refine v_iload_n 1 dX5_looksAt_3 rfl ?_
  refine v_iload_n 2 dX5_looksAt_4 rfl ?_
  refine m_callI K (As := [vI x1, vI x2]) dX5_looksAt_5 LX5_235 rfl rfl (Nat.le_of_ble_eq_true rfl) h (fun r0 F0 A0 h => ?_)
  refine m_callI K (As := [vI x1, vI r0]) dX5_looksAt_8 LX5_221 rfl rfl (Nat.le_of_ble_eq_true rfl) h (fun r1 F1 A1 h => ?_)
  refine v_istore_n dX5_looksAt_11 (by decide) rfl ?_
  exact m_vret K dX5_looksAt_12 rfl h
/-! keyOf -/
theorem wX5_keyOf_0 (K : KM) (hb : K.G.base ≤ K.m) {x1 x2 : Int} {F : Nat → Int} {A : Nat → Int → Int} (h : (0 ≤ ((80 * x1) + x2) ∧ ((80 * x1) + x2) < 880) ∧ (SI K (A 3 ((80 * x1) + x2)) F A)) : VM K mX5_keyOf 0 [(0, .ref K.m), (1, vI x1), (2, vI x2)] [] F A := by
  obtain ⟨s0, h⟩ := h
  refine v_aload_n 0 dX5_keyOf_0 rfl (isR_ref _) ?_
  refine m_get K dX5_keyOf_1 fX5_25 rfl ?_
  refine v_bipush dX5_keyOf_4 rfl ?_
  refine v_iload_n 1 dX5_keyOf_6 rfl ?_
  refine v_imul dX5_keyOf_7 ?_
  refine v_iload_n 2 dX5_keyOf_8 rfl ?_
  refine v_iadd dX5_keyOf_9 ?_
  refine m_iald K 3 dX5_keyOf_10 rfl s0 (by decide) ?_
  exact m_iret K dX5_keyOf_11 rfl h
/-! code -/
theorem wX5_code_0 (K : KM) (hb : K.G.base ≤ K.m) {x1 x2 : Int} {F : Nat → Int} {A : Nat → Int → Int} (h : (rI x1) ∧ (RI mX5_isIn K [vL x1, vL 1, vL 12] F A fun r1 F1 A1 => (rI r1) ∧ ((r1 = 0 → (SI K ((-2)) F1 A1)) ∧ (¬ r1 = 0 → (RI mX5_comesFrom K [.ref K.m, vI x1, vI x2] F1 A1 fun r3 F3 A3 => (rI r3) ∧ ((¬ r3 = 0 → (RV mX5_draws K [.ref K.m] F3 A3 fun F5 A5 => RI mX5_keyNow K [.ref K.m] F5 A5 fun r6 F6 A6 => (rI r6) ∧ (rI x2) ∧ ((¬ r6 = x2 → (SI K 0 F6 A6)) ∧ (r6 = x2 → (SI K 1 F6 A6))))) ∧ (r3 = 0 → (SI K ((-2)) F3 A3)))))))) : VM K mX5_code 0 [(0, .ref K.m), (1, vI x1), (2, vI x2)] [] F A := by
  obtain ⟨s0, h⟩ := h
  refine v_iload_n 1 dX5_code_0 rfl ?_
  refine v_i2l dX5_code_1 s0 ?_
  refine v_lconst (z := 1) dX5_code_2 rfl ?_
  refine v_ldc2 (z := 12) dX5_code_3 q2055 ?_
  refine m_callSI K (As := [vL x1, vL 1, vL 12]) dX5_code_6 LX5_148 rfl rfl (Nat.le_of_ble_eq_true rfl) h (fun r1 F1 A1 h => ?_)
  obtain ⟨s2, h⟩ := h
  obtain ⟨ht, hf⟩ := h
  refine v_if_eq 21 dX5_code_9 (by decide) s2 (fun c => ?_) (fun c => ?_)
  · have h := ht c
    refine v_bipush dX5_code_21 rfl ?_
    exact m_iret K dX5_code_23 rfl h
  · have h := hf c
    refine v_aload_n 0 dX5_code_12 rfl (isR_ref _) ?_
    refine v_iload_n 1 dX5_code_13 rfl ?_
    refine v_iload_n 2 dX5_code_14 rfl ?_
    refine m_callI K (As := [vI x1, vI x2]) dX5_code_15 LX5_221 rfl rfl (Nat.le_of_ble_eq_true rfl) h (fun r3 F3 A3 h => ?_)
    obtain ⟨s4, h⟩ := h
    obtain ⟨ht, hf⟩ := h
    refine v_if_ne 24 dX5_code_18 (by decide) s4 (fun c => ?_) (fun c => ?_)
    · have h := ht c
      refine v_aload_n 0 dX5_code_24 rfl (isR_ref _) ?_
      refine m_callV K (As := []) dX5_code_25 LX5_247 rfl rfl (Nat.le_of_ble_eq_true rfl) h (fun F5 A5 h => ?_)
      refine v_aload_n 0 dX5_code_28 rfl (isR_ref _) ?_
      refine m_callI K (As := []) dX5_code_29 LX5_224 rfl rfl (Nat.le_of_ble_eq_true rfl) h (fun r6 F6 A6 h => ?_)
      obtain ⟨s7, s8, h⟩ := h
      refine v_iload_n 2 dX5_code_32 rfl ?_
      obtain ⟨ht, hf⟩ := h
      refine v_icmp_ne 40 dX5_code_33 (by decide) s7 s8 (fun c => ?_) (fun c => ?_)
      · have h := ht c
        refine v_iconst dX5_code_40 ?_
        exact m_iret K dX5_code_41 rfl h
      · have h := hf c
        refine v_iconst dX5_code_36 ?_
        refine v_goto 41 dX5_code_37 (by decide) ?_
        exact m_iret K dX5_code_41 rfl h
    · have h := hf c
      refine v_bipush dX5_code_21 rfl ?_
      exact m_iret K dX5_code_23 rfl h
/-! drawn -/
theorem wX5_drawn_0 (K : KM) (hb : K.G.base ≤ K.m) {x1 : Int} {F : Nat → Int} {A : Nat → Int → Int} (h : RV mX5_looksAtDrawing K [.ref K.m] F A fun F0 A0 => (rI x1) ∧ ((x1 = 0 → (SI K (F0 1) F0 A0)) ∧ (x1 = 1 → (RI mX5_keyNow K [.ref K.m] F0 A0 fun r2 F2 A2 => SI K r2 F2 A2)) ∧ (x1 = 2 → (RI mX5_numberNow K [.ref K.m] F0 A0 fun r2 F2 A2 => SI K r2 F2 A2)) ∧ (x1 = 3 → (RI mX5_centre K [.ref K.m] F0 A0 fun r2 F2 A2 => SI K r2 F2 A2)) ∧ (x1 = 4 → (RI mX5_otherCentre K [.ref K.m] F0 A0 fun r2 F2 A2 => SI K r2 F2 A2)) ∧ ((x1 < 0 ∨ 4 < x1) → (SI K ((-1)) F0 A0)))) : VM K mX5_drawn 0 [(0, .ref K.m), (1, vI x1)] [] F A := by
  refine v_aload_n 0 dX5_drawn_0 rfl (isR_ref _) ?_
  refine m_callV K (As := []) dX5_drawn_1 LX5_241 rfl rfl (Nat.le_of_ble_eq_true rfl) h (fun F0 A0 h => ?_)
  obtain ⟨s1, h⟩ := h
  refine v_iload_n 1 dX5_drawn_4 rfl ?_
  obtain ⟨h0, h1, h2, h3, h4, hd⟩ := h
  by_cases c0 : x1 = 0
  · refine v_tableIn 40 dX5_drawn_5 0 c0 (by decide) (by decide) (by decide) rfl (by decide) ?_
    have h := h0 c0
    refine v_aload_n 0 dX5_drawn_40 rfl (isR_ref _) ?_
    refine m_get (v := vI (F0 1)) K dX5_drawn_41 fX5_145 rfl ?_
    exact m_iret K dX5_drawn_44 rfl h
  by_cases c1 : x1 = 1
  · refine v_tableIn 45 dX5_drawn_5 1 c1 (by decide) (by decide) (by decide) rfl (by decide) ?_
    have h := h1 c1
    refine v_aload_n 0 dX5_drawn_45 rfl (isR_ref _) ?_
    refine m_callI K (As := []) dX5_drawn_46 LX5_224 rfl rfl (Nat.le_of_ble_eq_true rfl) h (fun r2 F2 A2 h => ?_)
    exact m_iret K dX5_drawn_49 rfl h
  by_cases c2 : x1 = 2
  · refine v_tableIn 50 dX5_drawn_5 2 c2 (by decide) (by decide) (by decide) rfl (by decide) ?_
    have h := h2 c2
    refine v_aload_n 0 dX5_drawn_50 rfl (isR_ref _) ?_
    refine m_callI K (As := []) dX5_drawn_51 LX5_260 rfl rfl (Nat.le_of_ble_eq_true rfl) h (fun r2 F2 A2 h => ?_)
    exact m_iret K dX5_drawn_54 rfl h
  by_cases c3 : x1 = 3
  · refine v_tableIn 55 dX5_drawn_5 3 c3 (by decide) (by decide) (by decide) rfl (by decide) ?_
    have h := h3 c3
    refine v_aload_n 0 dX5_drawn_55 rfl (isR_ref _) ?_
    refine m_callI K (As := []) dX5_drawn_56 LX5_187 rfl rfl (Nat.le_of_ble_eq_true rfl) h (fun r2 F2 A2 h => ?_)
    exact m_iret K dX5_drawn_59 rfl h
  by_cases c4 : x1 = 4
  · refine v_tableIn 60 dX5_drawn_5 4 c4 (by decide) (by decide) (by decide) rfl (by decide) ?_
    have h := h4 c4
    refine v_aload_n 0 dX5_drawn_60 rfl (isR_ref _) ?_
    refine m_callI K (As := []) dX5_drawn_61 LX5_191 rfl rfl (Nat.le_of_ble_eq_true rfl) h (fun r2 F2 A2 h => ?_)
    exact m_iret K dX5_drawn_64 rfl h
  have cd : x1 < 0 ∨ 4 < x1 := by omega
  refine v_tableOut 65 dX5_drawn_5 s1 cd (by decide) ?_
  have h := hd cd
  refine v_iconst dX5_drawn_65 ?_
  exact m_iret K dX5_drawn_66 rfl h
/-! numberNow -/
theorem wX5_numberNow_0 (K : KM) (hb : K.G.base ≤ K.m) {F : Nat → Int} {A : Nat → Int → Int} (h : RV mX5_lists K [.ref K.m] F A fun F0 A0 => RI mX5_keyOfDrawing K [.ref K.m] F0 A0 fun r1 F1 A1 => VM K mX5_numberNow 11 [(0, .ref K.m), (1, vI r1), (2, vI 0)] [] F1 A1) : VM K mX5_numberNow 0 [(0, .ref K.m)] [] F A := by
  refine v_aload_n 0 dX5_numberNow_0 rfl (isR_ref _) ?_
  refine m_callV K (As := []) dX5_numberNow_1 LX5_227 rfl rfl (Nat.le_of_ble_eq_true rfl) h (fun F0 A0 h => ?_)
  refine v_aload_n 0 dX5_numberNow_4 rfl (isR_ref _) ?_
  refine m_callI K (As := []) dX5_numberNow_5 LX5_238 rfl rfl (Nat.le_of_ble_eq_true rfl) h (fun r1 F1 A1 h => ?_)
  refine v_istore_n dX5_numberNow_8 (by decide) rfl ?_
  refine v_iconst dX5_numberNow_9 ?_
  refine v_istore_n dX5_numberNow_10 (by decide) rfl ?_
  refine V.sub [2, 1, 0] rfl ?_
  exact h
theorem wX5_numberNow_11 (K : KM) (hb : K.G.base ≤ K.m) {x1 x2 : Int} {F : Nat → Int} {A : Nat → Int → Int} (h : (rI (F 3)) ∧ ((10 < (F 3) → (SI K ((-1)) F A)) ∧ (¬ 10 < (F 3) → ((0 ≤ (F 3) ∧ (F 3) < 11) ∧ (rI x2) ∧ (rI (A 4 (F 3))) ∧ (((A 4 (F 3)) ≤ x2 → (SI K ((-1)) F A)) ∧ (¬ (A 4 (F 3)) ≤ x2 → (RI mX5_keyOf K [.ref K.m, vI (F 3), vI x2] F A fun r4 F4 A4 => (rI r4) ∧ (rI x1) ∧ ((¬ r4 = x1 → (VM K mX5_numberNow 11 [(0, .ref K.m), (1, vI x1), (2, vI (x2 + 1))] [] F4 A4)) ∧ (r4 = x1 → (SI K x2 F4 A4)))))))))) : VM K mX5_numberNow 11 [(0, .ref K.m), (1, vI x1), (2, vI x2)] [] F A := by
  obtain ⟨s0, h⟩ := h
  refine v_aload_n 0 dX5_numberNow_11 rfl (isR_ref _) ?_
  refine m_get (v := vI (F 3)) K dX5_numberNow_12 fX5_18 rfl ?_
  refine v_bipush dX5_numberNow_15 rfl ?_
  obtain ⟨ht, hf⟩ := h
  refine v_icmp_gt 54 dX5_numberNow_17 (by decide) s0 (by decide) (fun c => ?_) (fun c => ?_)
  · have h := ht c
    refine v_iconst dX5_numberNow_54 ?_
    exact m_iret K dX5_numberNow_55 rfl h
  · have h := hf c
    obtain ⟨s1, s2, s3, h⟩ := h
    refine v_iload_n 2 dX5_numberNow_20 rfl ?_
    refine v_aload_n 0 dX5_numberNow_21 rfl (isR_ref _) ?_
    refine m_get K dX5_numberNow_22 fX5_28 rfl ?_
    refine v_aload_n 0 dX5_numberNow_25 rfl (isR_ref _) ?_
    refine m_get (v := vI (F 3)) K dX5_numberNow_26 fX5_18 rfl ?_
    refine m_iald K 4 dX5_numberNow_29 rfl s1 (by decide) ?_
    obtain ⟨ht, hf⟩ := h
    refine v_icmp_ge 54 dX5_numberNow_30 (by decide) s2 s3 (fun c => ?_) (fun c => ?_)
    · have h := ht c
      refine v_iconst dX5_numberNow_54 ?_
      exact m_iret K dX5_numberNow_55 rfl h
    · have h := hf c
      refine v_aload_n 0 dX5_numberNow_33 rfl (isR_ref _) ?_
      refine v_aload_n 0 dX5_numberNow_34 rfl (isR_ref _) ?_
      refine m_get (v := vI (F 3)) K dX5_numberNow_35 fX5_18 rfl ?_
      refine v_iload_n 2 dX5_numberNow_38 rfl ?_
      refine m_callI K (As := [vI (F 3), vI x2]) dX5_numberNow_39 LX5_235 rfl rfl (Nat.le_of_ble_eq_true rfl) h (fun r4 F4 A4 h => ?_)
      obtain ⟨s5, s6, h⟩ := h
      refine v_iload_n 1 dX5_numberNow_42 rfl ?_
      obtain ⟨ht, hf⟩ := h
      refine v_icmp_ne 48 dX5_numberNow_43 (by decide) s5 s6 (fun c => ?_) (fun c => ?_)
      · have h := ht c
        refine v_iinc 2 dX5_numberNow_48 rfl (by decide) rfl ?_
        refine v_goto 11 dX5_numberNow_51 (by decide) ?_
        refine V.sub [1, 2, 0] rfl ?_
        exact h
      · have h := hf c
        refine v_iload_n 2 dX5_numberNow_46 rfl ?_
        exact m_iret K dX5_numberNow_47 rfl h
/-! keyOfDrawing -/
theorem wX5_keyOfDrawing_0 (K : KM) (hb : K.G.base ≤ K.m) {F : Nat → Int} {A : Nat → Int → Int} (h : RV mX5_looksAtDrawing K [.ref K.m] F A fun F0 A0 => RI mX5_keyNow K [.ref K.m] F0 A0 fun r1 F1 A1 => SI K r1 F1 A1) : VM K mX5_keyOfDrawing 0 [(0, .ref K.m)] [] F A := by
  refine v_aload_n 0 dX5_keyOfDrawing_0 rfl (isR_ref _) ?_
  refine m_callV K (As := []) dX5_keyOfDrawing_1 LX5_241 rfl rfl (Nat.le_of_ble_eq_true rfl) h (fun F0 A0 h => ?_)
  refine v_aload_n 0 dX5_keyOfDrawing_4 rfl (isR_ref _) ?_
  refine m_callI K (As := []) dX5_keyOfDrawing_5 LX5_224 rfl rfl (Nat.le_of_ble_eq_true rfl) h (fun r1 F1 A1 h => ?_)
  exact m_iret K dX5_keyOfDrawing_8 rfl h
/-! atom -/
theorem wX5_atom_0 (K : KM) (hb : K.G.base ≤ K.m) {x1 x2 : Int} {F : Nat → Int} {A : Nat → Int → Int} (h : RI mX5_isAtom K [.ref K.m, vI x1] F A fun r0 F0 A0 => (rI r0) ∧ ((¬ r0 = 0 → (RV mX5_looksAtDrawing K [.ref K.m] F0 A0 fun F2 A2 => (rI x2) ∧ ((x2 = 0 → ((0 ≤ x1 ∧ x1 < 13) ∧ (RI mJ9_bitCount K [vI (A2 0 x1)] F2 A2 fun r5 F5 A5 => SI K r5 F5 A5))) ∧ (x2 = 1 → (RI mX5_deepOf K [.ref K.m, vI x1, vI ((-1))] F2 A2 fun r4 F4 A4 => SI K r4 F4 A4)) ∧ (x2 = 2 → (RI mX5_codeOf K [.ref K.m, vI x1, vI ((-1))] F2 A2 fun r4 F4 A4 => SI K r4 F4 A4)) ∧ (x2 = 3 → ((¬ x2 = 3 → (RI mX5_alikeTo K [.ref K.m, vI x1, vI 0] F2 A2 fun r4 F4 A4 => SI K r4 F4 A4)) ∧ (x2 = 3 → (RI mX5_alikeTo K [.ref K.m, vI x1, vI 1] F2 A2 fun r4 F4 A4 => SI K r4 F4 A4)))) ∧ (x2 = 4 → ((¬ x2 = 3 → (RI mX5_alikeTo K [.ref K.m, vI x1, vI 0] F2 A2 fun r4 F4 A4 => SI K r4 F4 A4)) ∧ (x2 = 3 → (RI mX5_alikeTo K [.ref K.m, vI x1, vI 1] F2 A2 fun r4 F4 A4 => SI K r4 F4 A4)))) ∧ ((x2 < 0 ∨ 4 < x2) → (SI K ((-1)) F2 A2))))) ∧ (r0 = 0 → (SI K ((-1)) F0 A0)))) : VM K mX5_atom 0 [(0, .ref K.m), (1, vI x1), (2, vI x2)] [] F A := by
  refine v_aload_n 0 dX5_atom_0 rfl (isR_ref _) ?_
  refine v_iload_n 1 dX5_atom_1 rfl ?_
  refine m_callI K (As := [vI x1]) dX5_atom_2 LX5_244 rfl rfl (Nat.le_of_ble_eq_true rfl) h (fun r0 F0 A0 h => ?_)
  obtain ⟨s1, h⟩ := h
  obtain ⟨ht, hf⟩ := h
  refine v_if_ne 10 dX5_atom_5 (by decide) s1 (fun c => ?_) (fun c => ?_)
  · have h := ht c
    refine v_aload_n 0 dX5_atom_10 rfl (isR_ref _) ?_
    refine m_callV K (As := []) dX5_atom_11 LX5_241 rfl rfl (Nat.le_of_ble_eq_true rfl) h (fun F2 A2 h => ?_)
    obtain ⟨s3, h⟩ := h
    refine v_iload_n 2 dX5_atom_14 rfl ?_
    obtain ⟨h0, h1, h2, h3, h4, hd⟩ := h
    by_cases c0 : x2 = 0
    · refine v_tableIn 48 dX5_atom_15 0 c0 (by decide) (by decide) (by decide) rfl (by decide) ?_
      have h := h0 c0
      obtain ⟨s4, h⟩ := h
      refine v_aload_n 0 dX5_atom_48 rfl (isR_ref _) ?_
      refine m_get K dX5_atom_49 fX5_11 rfl ?_
      refine v_iload_n 1 dX5_atom_52 rfl ?_
      refine m_iald K 0 dX5_atom_53 rfl s4 (by decide) ?_
      refine m_callSI K (As := [vI (A2 0 x1)]) dX5_atom_54 LX5_160 rfl rfl (Nat.le_of_ble_eq_true rfl) h (fun r5 F5 A5 h => ?_)
      exact m_iret K dX5_atom_57 rfl h
    by_cases c1 : x2 = 1
    · refine v_tableIn 58 dX5_atom_15 1 c1 (by decide) (by decide) (by decide) rfl (by decide) ?_
      have h := h1 c1
      refine v_aload_n 0 dX5_atom_58 rfl (isR_ref _) ?_
      refine v_iload_n 1 dX5_atom_59 rfl ?_
      refine v_iconst dX5_atom_60 ?_
      refine m_callI K (As := [vI x1, vI ((-1))]) dX5_atom_61 LX5_184 rfl rfl (Nat.le_of_ble_eq_true rfl) h (fun r4 F4 A4 h => ?_)
      exact m_iret K dX5_atom_64 rfl h
    by_cases c2 : x2 = 2
    · refine v_tableIn 65 dX5_atom_15 2 c2 (by decide) (by decide) (by decide) rfl (by decide) ?_
      have h := h2 c2
      refine v_aload_n 0 dX5_atom_65 rfl (isR_ref _) ?_
      refine v_iload_n 1 dX5_atom_66 rfl ?_
      refine v_iconst dX5_atom_67 ?_
      refine m_callI K (As := [vI x1, vI ((-1))]) dX5_atom_68 LX5_169 rfl rfl (Nat.le_of_ble_eq_true rfl) h (fun r4 F4 A4 h => ?_)
      exact m_iret K dX5_atom_71 rfl h
    by_cases c3 : x2 = 3
    · refine v_tableIn 72 dX5_atom_15 3 c3 (by decide) (by decide) (by decide) rfl (by decide) ?_
      have h := h3 c3
      refine v_aload_n 0 dX5_atom_72 rfl (isR_ref _) ?_
      refine v_iload_n 1 dX5_atom_73 rfl ?_
      refine v_iload_n 2 dX5_atom_74 rfl ?_
      refine v_iconst dX5_atom_75 ?_
      obtain ⟨ht, hf⟩ := h
      refine v_icmp_ne 83 dX5_atom_76 (by decide) s3 (by decide) (fun c => ?_) (fun c => ?_)
      · have h := ht c
        refine v_iconst dX5_atom_83 ?_
        refine m_callI K (As := [vI x1, vI 0]) dX5_atom_84 LX5_263 rfl rfl (Nat.le_of_ble_eq_true rfl) h (fun r4 F4 A4 h => ?_)
        exact m_iret K dX5_atom_87 rfl h
      · have h := hf c
        refine v_iconst dX5_atom_79 ?_
        refine v_goto 84 dX5_atom_80 (by decide) ?_
        refine m_callI K (As := [vI x1, vI 1]) dX5_atom_84 LX5_263 rfl rfl (Nat.le_of_ble_eq_true rfl) h (fun r4 F4 A4 h => ?_)
        exact m_iret K dX5_atom_87 rfl h
    by_cases c4 : x2 = 4
    · refine v_tableIn 72 dX5_atom_15 4 c4 (by decide) (by decide) (by decide) rfl (by decide) ?_
      have h := h4 c4
      refine v_aload_n 0 dX5_atom_72 rfl (isR_ref _) ?_
      refine v_iload_n 1 dX5_atom_73 rfl ?_
      refine v_iload_n 2 dX5_atom_74 rfl ?_
      refine v_iconst dX5_atom_75 ?_
      obtain ⟨ht, hf⟩ := h
      refine v_icmp_ne 83 dX5_atom_76 (by decide) s3 (by decide) (fun c => ?_) (fun c => ?_)
      · have h := ht c
        refine v_iconst dX5_atom_83 ?_
        refine m_callI K (As := [vI x1, vI 0]) dX5_atom_84 LX5_263 rfl rfl (Nat.le_of_ble_eq_true rfl) h (fun r4 F4 A4 h => ?_)
        exact m_iret K dX5_atom_87 rfl h
      · have h := hf c
        refine v_iconst dX5_atom_79 ?_
        refine v_goto 84 dX5_atom_80 (by decide) ?_
        refine m_callI K (As := [vI x1, vI 1]) dX5_atom_84 LX5_263 rfl rfl (Nat.le_of_ble_eq_true rfl) h (fun r4 F4 A4 h => ?_)
        exact m_iret K dX5_atom_87 rfl h
    have cd : x2 < 0 ∨ 4 < x2 := by omega
    refine v_tableOut 88 dX5_atom_15 s3 cd (by decide) ?_
    have h := hd cd
    refine v_iconst dX5_atom_88 ?_
    exact m_iret K dX5_atom_89 rfl h
  · have h := hf c
    refine v_iconst dX5_atom_8 ?_
    exact m_iret K dX5_atom_9 rfl h
/-! alikeTo -/
theorem wX5_alikeTo_0 (K : KM) (hb : K.G.base ≤ K.m) {x1 x2 : Int} {F : Nat → Int} {A : Nat → Int → Int} (h : RI mX5_codeOf K [.ref K.m, vI x1, vI ((-1))] F A fun r0 F0 A0 => VM K mX5_alikeTo 21 [(0, .ref K.m), (2, vI x2), (3, vI r0), (4, vI 0), (5, vI ((-1))), (6, vI ((F0 1) - 1))] [] F0 A0) : VM K mX5_alikeTo 0 [(0, .ref K.m), (1, vI x1), (2, vI x2)] [] F A := by
  refine v_aload_n 0 dX5_alikeTo_0 rfl (isR_ref _) ?_
  refine v_iload_n 1 dX5_alikeTo_1 rfl ?_
  refine v_iconst dX5_alikeTo_2 ?_
  refine m_callI K (As := [vI x1, vI ((-1))]) dX5_alikeTo_3 LX5_169 rfl rfl (Nat.le_of_ble_eq_true rfl) h (fun r0 F0 A0 h => ?_)
  refine v_istore_n dX5_alikeTo_6 (by decide) rfl ?_
  refine v_iconst dX5_alikeTo_7 ?_
  refine v_istore dX5_alikeTo_8 (by decide) rfl ?_
  refine v_iconst dX5_alikeTo_10 ?_
  refine v_istore dX5_alikeTo_11 (by decide) rfl ?_
  refine v_aload_n 3 dX5_alikeTo_13 rfl (isR_ref _) ?_
  refine m_get (v := vI (F0 1)) K dX5_alikeTo_14 fX5_145 rfl ?_
  refine v_iconst dX5_alikeTo_17 ?_
  refine v_isub dX5_alikeTo_18 ?_
  refine v_istore dX5_alikeTo_19 (by decide) rfl ?_
  refine V.sub [4, 6, 3, 2, 1, 0] rfl ?_
  exact h
theorem wX5_alikeTo_21 (K : KM) (hb : K.G.base ≤ K.m) {x2 x3 x4 x5 x6 : Int} {F : Nat → Int} {A : Nat → Int → Int} (h : (rI x6) ∧ ((x6 < 0 → ((rI x2) ∧ ((x2 = 0 → (SI K x4 F A)) ∧ (¬ x2 = 0 → (SI K x5 F A))))) ∧ (¬ x6 < 0 → (RI mX5_codeOf K [.ref K.m, vI x6, vI ((-1))] F A fun r1 F1 A1 => (rI r1) ∧ (rI x3) ∧ ((¬ r1 = x3 → (VM K mX5_alikeTo 21 [(0, .ref K.m), (2, vI x2), (3, vI x3), (4, vI x4), (5, vI x5), (6, vI (x6 + (-1)))] [] F1 A1)) ∧ (r1 = x3 → (VM K mX5_alikeTo 21 [(0, .ref K.m), (2, vI x2), (3, vI x3), (4, vI (x4 + 1)), (5, vI x6), (6, vI (x6 + (-1)))] [] F1 A1))))))) : VM K mX5_alikeTo 21 [(0, .ref K.m), (2, vI x2), (3, vI x3), (4, vI x4), (5, vI x5), (6, vI x6)] [] F A := by
  obtain ⟨s0, h⟩ := h
  refine v_iload 5 dX5_alikeTo_21 rfl ?_
  obtain ⟨ht, hf⟩ := h
  refine v_if_lt 50 dX5_alikeTo_23 (by decide) s0 (fun c => ?_) (fun c => ?_)
  · have h := ht c
    obtain ⟨s1, h⟩ := h
    refine v_iload_n 1 dX5_alikeTo_50 rfl ?_
    obtain ⟨ht, hf⟩ := h
    refine v_if_eq 59 dX5_alikeTo_51 (by decide) s1 (fun c => ?_) (fun c => ?_)
    · have h := ht c
      refine v_iload 3 dX5_alikeTo_59 rfl ?_
      exact m_iret K dX5_alikeTo_61 rfl h
    · have h := hf c
      refine v_iload 4 dX5_alikeTo_54 rfl ?_
      refine v_goto 61 dX5_alikeTo_56 (by decide) ?_
      exact m_iret K dX5_alikeTo_61 rfl h
  · have h := hf c
    refine v_aload_n 0 dX5_alikeTo_26 rfl (isR_ref _) ?_
    refine v_iload 5 dX5_alikeTo_27 rfl ?_
    refine v_iconst dX5_alikeTo_29 ?_
    refine m_callI K (As := [vI x6, vI ((-1))]) dX5_alikeTo_30 LX5_169 rfl rfl (Nat.le_of_ble_eq_true rfl) h (fun r1 F1 A1 h => ?_)
    obtain ⟨s2, s3, h⟩ := h
    refine v_iload_n 2 dX5_alikeTo_33 rfl ?_
    obtain ⟨ht, hf⟩ := h
    refine v_icmp_ne 44 dX5_alikeTo_34 (by decide) s2 s3 (fun c => ?_) (fun c => ?_)
    · have h := ht c
      refine v_iinc 5 dX5_alikeTo_44 rfl (by decide) rfl ?_
      refine v_goto 21 dX5_alikeTo_47 (by decide) ?_
      refine V.sub [1, 2, 3, 4, 5, 0] rfl ?_
      exact h
    · have h := hf c
      refine v_iinc 3 dX5_alikeTo_37 rfl (by decide) rfl ?_
      refine v_iload 5 dX5_alikeTo_40 rfl ?_
      refine v_istore dX5_alikeTo_42 (by decide) rfl ?_
      refine v_iinc 5 dX5_alikeTo_44 rfl (by decide) rfl ?_
      refine v_goto 21 dX5_alikeTo_47 (by decide) ?_
      refine V.sub [3, 4, 5, 2, 1, 0] rfl ?_
      exact h
/-! bond -/
theorem wX5_bond_0 (K : KM) (hb : K.G.base ≤ K.m) {x1 x2 : Int} {F : Nat → Int} {A : Nat → Int → Int} (h : RI mX5_isAtom K [.ref K.m, vI x1] F A fun r0 F0 A0 => (rI r0) ∧ ((r0 = 0 → (SI K ((-1)) F0 A0)) ∧ (¬ r0 = 0 → ((rI x2) ∧ ((0 ≤ x2 → (VM K mX5_bond 19 [(0, .ref K.m), (1, vI x1), (3, vI x2), (4, vI 0)] [] F0 A0)) ∧ (¬ 0 ≤ x2 → (SI K ((-1)) F0 A0))))))) : VM K mX5_bond 0 [(0, .ref K.m), (1, vI x1), (2, vI x2)] [] F A := by
  refine v_aload_n 0 dX5_bond_0 rfl (isR_ref _) ?_
  refine v_iload_n 1 dX5_bond_1 rfl ?_
  refine m_callI K (As := [vI x1]) dX5_bond_2 LX5_244 rfl rfl (Nat.le_of_ble_eq_true rfl) h (fun r0 F0 A0 h => ?_)
  obtain ⟨s1, h⟩ := h
  obtain ⟨ht, hf⟩ := h
  refine v_if_eq 12 dX5_bond_5 (by decide) s1 (fun c => ?_) (fun c => ?_)
  · have h := ht c
    refine v_iconst dX5_bond_12 ?_
    exact m_iret K dX5_bond_13 rfl h
  · have h := hf c
    obtain ⟨s2, h⟩ := h
    refine v_iload_n 2 dX5_bond_8 rfl ?_
    obtain ⟨ht, hf⟩ := h
    refine v_if_ge 14 dX5_bond_9 (by decide) s2 (fun c => ?_) (fun c => ?_)
    · have h := ht c
      refine v_iload_n 2 dX5_bond_14 rfl ?_
      refine v_istore_n dX5_bond_15 (by decide) rfl ?_
      refine v_iconst dX5_bond_16 ?_
      refine v_istore dX5_bond_17 (by decide) rfl ?_
      refine V.sub [2, 3, 1, 0] rfl ?_
      exact h
    · have h := hf c
      refine v_iconst dX5_bond_12 ?_
      exact m_iret K dX5_bond_13 rfl h
theorem wX5_bond_19 (K : KM) (hb : K.G.base ≤ K.m) {x1 x3 x4 : Int} {F : Nat → Int} {A : Nat → Int → Int} (h : (rI x4) ∧ (rI (F 3)) ∧ (((F 3) ≤ x4 → (SI K ((-1)) F A)) ∧ (¬ (F 3) ≤ x4 → ((0 ≤ x1 ∧ x1 < 13) ∧ (RI mX5_has K [vI (A 1 x1), vI x4] F A fun r3 F3 A3 => (rI r3) ∧ ((r3 = 0 → (VM K mX5_bond 19 [(0, .ref K.m), (1, vI x1), (3, vI x3), (4, vI (x4 + 1))] [] F3 A3)) ∧ (¬ r3 = 0 → ((rI x3) ∧ ((¬ x3 = 0 → (VM K mX5_bond 19 [(0, .ref K.m), (1, vI x1), (3, vI (x3 + (-1))), (4, vI (x4 + 1))] [] F3 A3)) ∧ (x3 = 0 → (SI K x4 F3 A3))))))))))) : VM K mX5_bond 19 [(0, .ref K.m), (1, vI x1), (3, vI x3), (4, vI x4)] [] F A := by
  obtain ⟨s0, s1, h⟩ := h
  refine v_iload 3 dX5_bond_19 rfl ?_
  refine v_aload_n 0 dX5_bond_21 rfl (isR_ref _) ?_
  refine m_get (v := vI (F 3)) K dX5_bond_22 fX5_18 rfl ?_
  obtain ⟨ht, hf⟩ := h
  refine v_icmp_ge 58 dX5_bond_25 (by decide) s0 s1 (fun c => ?_) (fun c => ?_)
  · have h := ht c
    refine v_iconst dX5_bond_58 ?_
    exact m_iret K dX5_bond_59 rfl h
  · have h := hf c
    obtain ⟨s2, h⟩ := h
    refine v_aload_n 0 dX5_bond_28 rfl (isR_ref _) ?_
    refine m_get K dX5_bond_29 fX5_15 rfl ?_
    refine v_iload_n 1 dX5_bond_32 rfl ?_
    refine m_iald K 1 dX5_bond_33 rfl s2 (by decide) ?_
    refine v_iload 3 dX5_bond_34 rfl ?_
    refine m_callSI K (As := [vI (A 1 x1), vI x4]) dX5_bond_36 LX5_152 rfl rfl (Nat.le_of_ble_eq_true rfl) h (fun r3 F3 A3 h => ?_)
    obtain ⟨s4, h⟩ := h
    obtain ⟨ht, hf⟩ := h
    refine v_if_eq 52 dX5_bond_39 (by decide) s4 (fun c => ?_) (fun c => ?_)
    · have h := ht c
      refine v_iinc 3 dX5_bond_52 rfl (by decide) rfl ?_
      refine v_goto 19 dX5_bond_55 (by decide) ?_
      refine V.sub [1, 2, 3, 0] rfl ?_
      exact h
    · have h := hf c
      obtain ⟨s5, h⟩ := h
      refine v_iload_n 2 dX5_bond_42 rfl ?_
      obtain ⟨ht, hf⟩ := h
      refine v_if_ne 49 dX5_bond_43 (by decide) s5 (fun c => ?_) (fun c => ?_)
      · have h := ht c
        refine v_iinc 2 dX5_bond_49 rfl (by decide) rfl ?_
        refine v_iinc 3 dX5_bond_52 rfl (by decide) rfl ?_
        refine v_goto 19 dX5_bond_55 (by decide) ?_
        refine V.sub [2, 3, 1, 0] rfl ?_
        exact h
      · have h := hf c
        refine v_iload 3 dX5_bond_46 rfl ?_
        exact m_iret K dX5_bond_48 rfl h
/-! far -/
theorem wX5_far_0 (K : KM) (hb : K.G.base ≤ K.m) {x1 x2 : Int} {F : Nat → Int} {A : Nat → Int → Int} (h : RI mX5_isAtom K [.ref K.m, vI x1] F A fun r0 F0 A0 => (rI r0) ∧ ((r0 = 0 → (SI K ((-1)) F0 A0)) ∧ (¬ r0 = 0 → (RI mX5_isAtom K [.ref K.m, vI x2] F0 A0 fun r2 F2 A2 => (rI r2) ∧ ((¬ r2 = 0 → (RV mX5_looksAtDrawing K [.ref K.m] F2 A2 fun F4 A4 => RI mX5_farOf K [.ref K.m, vI x1, vI x2, vI ((-1))] F4 A4 fun r5 F5 A5 => SI K r5 F5 A5)) ∧ (r2 = 0 → (SI K ((-1)) F2 A2))))))) : VM K mX5_far 0 [(0, .ref K.m), (1, vI x1), (2, vI x2)] [] F A := by
  refine v_aload_n 0 dX5_far_0 rfl (isR_ref _) ?_
  refine v_iload_n 1 dX5_far_1 rfl ?_
  refine m_callI K (As := [vI x1]) dX5_far_2 LX5_244 rfl rfl (Nat.le_of_ble_eq_true rfl) h (fun r0 F0 A0 h => ?_)
  obtain ⟨s1, h⟩ := h
  obtain ⟨ht, hf⟩ := h
  refine v_if_eq 16 dX5_far_5 (by decide) s1 (fun c => ?_) (fun c => ?_)
  · have h := ht c
    refine v_iconst dX5_far_16 ?_
    exact m_iret K dX5_far_17 rfl h
  · have h := hf c
    refine v_aload_n 0 dX5_far_8 rfl (isR_ref _) ?_
    refine v_iload_n 2 dX5_far_9 rfl ?_
    refine m_callI K (As := [vI x2]) dX5_far_10 LX5_244 rfl rfl (Nat.le_of_ble_eq_true rfl) h (fun r2 F2 A2 h => ?_)
    obtain ⟨s3, h⟩ := h
    obtain ⟨ht, hf⟩ := h
    refine v_if_ne 18 dX5_far_13 (by decide) s3 (fun c => ?_) (fun c => ?_)
    · have h := ht c
      refine v_aload_n 0 dX5_far_18 rfl (isR_ref _) ?_
      refine m_callV K (As := []) dX5_far_19 LX5_241 rfl rfl (Nat.le_of_ble_eq_true rfl) h (fun F4 A4 h => ?_)
      refine v_aload_n 0 dX5_far_22 rfl (isR_ref _) ?_
      refine v_iload_n 1 dX5_far_23 rfl ?_
      refine v_iload_n 2 dX5_far_24 rfl ?_
      refine v_iconst dX5_far_25 ?_
      refine m_callI K (As := [vI x1, vI x2, vI ((-1))]) dX5_far_26 LX5_180 rfl rfl (Nat.le_of_ble_eq_true rfl) h (fun r5 F5 A5 h => ?_)
      exact m_iret K dX5_far_29 rfl h
    · have h := hf c
      refine v_iconst dX5_far_16 ?_
      exact m_iret K dX5_far_17 rfl h
/-! farOf -/
theorem wX5_farOf_0 (K : KM) (hb : K.G.base ≤ K.m) {x1 x2 x3 : Int} {F : Nat → Int} {A : Nat → Int → Int} (h : (rI x1) ∧ (rI x2) ∧ ((¬ x1 = x2 → (VM K mX5_farOf 10 [(0, .ref K.m), (1, vI x1), (2, vI x2), (3, vI x3), (4, vI 0)] [] F A)) ∧ (x1 = x2 → (SI K 0 F A)))) : VM K mX5_farOf 0 [(0, .ref K.m), (1, vI x1), (2, vI x2), (3, vI x3)] [] F A := by
  obtain ⟨s0, s1, h⟩ := h
  refine v_iload_n 1 dX5_farOf_0 rfl ?_
  refine v_iload_n 2 dX5_farOf_1 rfl ?_
  obtain ⟨ht, hf⟩ := h
  refine v_icmp_ne 7 dX5_farOf_2 (by decide) s0 s1 (fun c => ?_) (fun c => ?_)
  · have h := ht c
    refine v_iconst dX5_farOf_7 ?_
    refine v_istore dX5_farOf_8 (by decide) rfl ?_
    refine V.sub [1, 2, 3, 4, 0] rfl ?_
    exact h
  · have h := hf c
    refine v_iconst dX5_farOf_5 ?_
    exact m_iret K dX5_farOf_6 rfl h
theorem wX5_farOf_10 (K : KM) (hb : K.G.base ≤ K.m) {x1 x2 x3 x4 : Int} {F : Nat → Int} {A : Nat → Int → Int} (h : (rI x4) ∧ (rI (F 1)) ∧ (((F 1) ≤ x4 → (SI K ((-1)) F A)) ∧ (¬ (F 1) ≤ x4 → ((0 ≤ x1 ∧ x1 < 13) ∧ (RI mX5_has K [vI (A 0 x1), vI x4] F A fun r3 F3 A3 => (rI r3) ∧ ((r3 = 0 → (VM K mX5_farOf 10 [(0, .ref K.m), (1, vI x1), (2, vI x2), (3, vI x3), (4, vI (x4 + 1))] [] F3 A3)) ∧ (¬ r3 = 0 → ((rI x3) ∧ ((x4 = x3 → (VM K mX5_farOf 10 [(0, .ref K.m), (1, vI x1), (2, vI x2), (3, vI x3), (4, vI (x4 + 1))] [] F3 A3)) ∧ (¬ x4 = x3 → (RI mX5_farOf K [.ref K.m, vI x4, vI x2, vI x1] F3 A3 fun r6 F6 A6 => (rI r6) ∧ ((r6 < 0 → (VM K mX5_farOf 10 [(0, .ref K.m), (1, vI x1), (2, vI x2), (3, vI x3), (4, vI (x4 + 1))] [] F6 A6)) ∧ (¬ r6 < 0 → (SI K (r6 + 1) F6 A6)))))))))))))) : VM K mX5_farOf 10 [(0, .ref K.m), (1, vI x1), (2, vI x2), (3, vI x3), (4, vI x4)] [] F A := by
  obtain ⟨s0, s1, h⟩ := h
  refine v_iload 4 dX5_farOf_10 rfl ?_
  refine v_aload_n 0 dX5_farOf_12 rfl (isR_ref _) ?_
  refine m_get (v := vI (F 1)) K dX5_farOf_13 fX5_145 rfl ?_
  obtain ⟨ht, hf⟩ := h
  refine v_icmp_ge 65 dX5_farOf_16 (by decide) s0 s1 (fun c => ?_) (fun c => ?_)
  · have h := ht c
    refine v_iconst dX5_farOf_65 ?_
    exact m_iret K dX5_farOf_66 rfl h
  · have h := hf c
    obtain ⟨s2, h⟩ := h
    refine v_aload_n 0 dX5_farOf_19 rfl (isR_ref _) ?_
    refine m_get K dX5_farOf_20 fX5_11 rfl ?_
    refine v_iload_n 1 dX5_farOf_23 rfl ?_
    refine m_iald K 0 dX5_farOf_24 rfl s2 (by decide) ?_
    refine v_iload 4 dX5_farOf_25 rfl ?_
    refine m_callSI K (As := [vI (A 0 x1), vI x4]) dX5_farOf_27 LX5_152 rfl rfl (Nat.le_of_ble_eq_true rfl) h (fun r3 F3 A3 h => ?_)
    obtain ⟨s4, h⟩ := h
    obtain ⟨ht, hf⟩ := h
    refine v_if_eq 59 dX5_farOf_30 (by decide) s4 (fun c => ?_) (fun c => ?_)
    · have h := ht c
      refine v_iinc 4 dX5_farOf_59 rfl (by decide) rfl ?_
      refine v_goto 10 dX5_farOf_62 (by decide) ?_
      refine V.sub [1, 2, 3, 4, 0] rfl ?_
      exact h
    · have h := hf c
      obtain ⟨s5, h⟩ := h
      refine v_iload 4 dX5_farOf_33 rfl ?_
      refine v_iload_n 3 dX5_farOf_35 rfl ?_
      obtain ⟨ht, hf⟩ := h
      refine v_icmp_eq 59 dX5_farOf_36 (by decide) s0 s5 (fun c => ?_) (fun c => ?_)
      · have h := ht c
        refine v_iinc 4 dX5_farOf_59 rfl (by decide) rfl ?_
        refine v_goto 10 dX5_farOf_62 (by decide) ?_
        refine V.sub [1, 2, 3, 4, 0] rfl ?_
        exact h
      · have h := hf c
        refine v_aload_n 0 dX5_farOf_39 rfl (isR_ref _) ?_
        refine v_iload 4 dX5_farOf_40 rfl ?_
        refine v_iload_n 2 dX5_farOf_42 rfl ?_
        refine v_iload_n 1 dX5_farOf_43 rfl ?_
        refine m_callI K (As := [vI x4, vI x2, vI x1]) dX5_farOf_44 LX5_180 rfl rfl (Nat.le_of_ble_eq_true rfl) h (fun r6 F6 A6 h => ?_)
        obtain ⟨s7, h⟩ := h
        refine v_istore dX5_farOf_47 (by decide) rfl ?_
        refine v_iload 0 dX5_farOf_49 rfl ?_
        obtain ⟨ht, hf⟩ := h
        refine v_if_lt 59 dX5_farOf_51 (by decide) s7 (fun c => ?_) (fun c => ?_)
        · have h := ht c
          refine v_iinc 5 dX5_farOf_59 rfl (by decide) rfl ?_
          refine v_goto 10 dX5_farOf_62 (by decide) ?_
          refine V.sub [2, 3, 4, 5, 0] rfl ?_
          exact h
        · have h := hf c
          refine v_iload 0 dX5_farOf_54 rfl ?_
          refine v_iconst dX5_farOf_56 ?_
          refine v_iadd dX5_farOf_57 ?_
          exact m_iret K dX5_farOf_58 rfl h
/-! twig -/
theorem wX5_twig_0 (K : KM) (hb : K.G.base ≤ K.m) {x1 x2 x3 : Int} {F : Nat → Int} {A : Nat → Int → Int} (h : RI mX5_isAtom K [.ref K.m, vI x1] F A fun r0 F0 A0 => (rI r0) ∧ ((r0 = 0 → (SI K ((-1)) F0 A0)) ∧ (¬ r0 = 0 → (RI mX5_isAtom K [.ref K.m, vI x2] F0 A0 fun r2 F2 A2 => (rI r2) ∧ ((r2 = 0 → (SI K ((-1)) F2 A2)) ∧ (¬ r2 = 0 → ((0 ≤ x1 ∧ x1 < 13) ∧ (RI mX5_has K [vI (A2 1 x1), vI x2] F2 A2 fun r5 F5 A5 => (rI r5) ∧ ((¬ r5 = 0 → (RV mX5_looksAtDrawing K [.ref K.m] F5 A5 fun F7 A7 => (rI x3) ∧ (RI mX5_isIn K [vL x3, vL 0, vL 1] F7 A7 fun r9 F9 A9 => (rI r9) ∧ ((r9 = 0 → (RI mX5_names K [.ref K.m, vI x2, vI x1] (upN (upN F9 19 0) 26 0) A9 fun r11 F11 A11 => (¬ x3 = 2 → ((rI (r11 - 1)) ∧ (RI mX5_isIn K [vL (wI (x3 - 10)), vL 0, vL (r11 - 1)] F11 A11 fun r13 F13 A13 => (rI r13) ∧ ((r13 = 0 → (SI K ((-1)) F13 A13)) ∧ (¬ r13 = 0 → ((x3 < 10 → (SI K ((-1)) F13 A13)) ∧ (¬ x3 < 10 → ((0 ≤ (wI (x3 - 10)) ∧ (wI (x3 - 10)) < 16384) ∧ (SI K (A13 10 (wI (x3 - 10))) F13 A13))))))))) ∧ (x3 = 2 → (SI K r11 F11 A11)))) ∧ (¬ r9 = 0 → ((¬ x3 = 0 → (RI mX5_codeOf K [.ref K.m, vI x2, vI x1] F9 A9 fun r11 F11 A11 => SI K r11 F11 A11)) ∧ (x3 = 0 → (RI mX5_sizeOf K [.ref K.m, vI x2, vI x1] F9 A9 fun r11 F11 A11 => SI K r11 F11 A11)))))))) ∧ (r5 = 0 → (SI K ((-1)) F5 A5))))))))))) : VM K mX5_twig 0 [(0, .ref K.m), (1, vI x1), (2, vI x2), (3, vI x3)] [] F A := by
  refine v_aload_n 0 dX5_twig_0 rfl (isR_ref _) ?_
  refine v_iload_n 1 dX5_twig_1 rfl ?_
  refine m_callI K (As := [vI x1]) dX5_twig_2 LX5_244 rfl rfl (Nat.le_of_ble_eq_true rfl) h (fun r0 F0 A0 h => ?_)
  obtain ⟨s1, h⟩ := h
  obtain ⟨ht, hf⟩ := h
  refine v_if_eq 29 dX5_twig_5 (by decide) s1 (fun c => ?_) (fun c => ?_)
  · have h := ht c
    refine v_iconst dX5_twig_29 ?_
    exact m_iret K dX5_twig_30 rfl h
  · have h := hf c
    refine v_aload_n 0 dX5_twig_8 rfl (isR_ref _) ?_
    refine v_iload_n 2 dX5_twig_9 rfl ?_
    refine m_callI K (As := [vI x2]) dX5_twig_10 LX5_244 rfl rfl (Nat.le_of_ble_eq_true rfl) h (fun r2 F2 A2 h => ?_)
    obtain ⟨s3, h⟩ := h
    obtain ⟨ht, hf⟩ := h
    refine v_if_eq 29 dX5_twig_13 (by decide) s3 (fun c => ?_) (fun c => ?_)
    · have h := ht c
      refine v_iconst dX5_twig_29 ?_
      exact m_iret K dX5_twig_30 rfl h
    · have h := hf c
      obtain ⟨s4, h⟩ := h
      refine v_aload_n 0 dX5_twig_16 rfl (isR_ref _) ?_
      refine m_get K dX5_twig_17 fX5_15 rfl ?_
      refine v_iload_n 1 dX5_twig_20 rfl ?_
      refine m_iald K 1 dX5_twig_21 rfl s4 (by decide) ?_
      refine v_iload_n 2 dX5_twig_22 rfl ?_
      refine m_callSI K (As := [vI (A2 1 x1), vI x2]) dX5_twig_23 LX5_152 rfl rfl (Nat.le_of_ble_eq_true rfl) h (fun r5 F5 A5 h => ?_)
      obtain ⟨s6, h⟩ := h
      obtain ⟨ht, hf⟩ := h
      refine v_if_ne 31 dX5_twig_26 (by decide) s6 (fun c => ?_) (fun c => ?_)
      · have h := ht c
        refine v_aload_n 0 dX5_twig_31 rfl (isR_ref _) ?_
        refine m_callV K (As := []) dX5_twig_32 LX5_241 rfl rfl (Nat.le_of_ble_eq_true rfl) h (fun F7 A7 h => ?_)
        obtain ⟨s8, h⟩ := h
        refine v_iload_n 3 dX5_twig_35 rfl ?_
        refine v_i2l dX5_twig_36 s8 ?_
        refine v_lconst (z := 0) dX5_twig_37 rfl ?_
        refine v_lconst (z := 1) dX5_twig_38 rfl ?_
        refine m_callSI K (As := [vL x3, vL 0, vL 1]) dX5_twig_39 LX5_148 rfl rfl (Nat.le_of_ble_eq_true rfl) h (fun r9 F9 A9 h => ?_)
        obtain ⟨s10, h⟩ := h
        obtain ⟨ht, hf⟩ := h
        refine v_if_eq 65 dX5_twig_42 (by decide) s10 (fun c => ?_) (fun c => ?_)
        · have h := ht c
          refine v_aload_n 0 dX5_twig_65 rfl (isR_ref _) ?_
          refine v_iconst dX5_twig_66 ?_
          refine m_put (F' := upN F9 19 0) K hb dX5_twig_67 fX5_267 (by decide) (by decide) rfl ?_
          refine v_aload_n 0 dX5_twig_70 rfl (isR_ref _) ?_
          refine v_iconst dX5_twig_71 ?_
          refine m_put (F' := upN (upN F9 19 0) 26 0) K hb dX5_twig_72 fX5_270 (by decide) (by decide) rfl ?_
          refine v_aload_n 0 dX5_twig_75 rfl (isR_ref _) ?_
          refine v_iload_n 2 dX5_twig_76 rfl ?_
          refine v_iload_n 1 dX5_twig_77 rfl ?_
          refine m_callI K (As := [vI x2, vI x1]) dX5_twig_78 LX5_273 rfl rfl (Nat.le_of_ble_eq_true rfl) h (fun r11 F11 A11 h => ?_)
          refine v_istore dX5_twig_81 (by decide) rfl ?_
          refine v_iload_n 4 dX5_twig_83 rfl ?_
          refine v_iconst dX5_twig_84 ?_
          obtain ⟨ht, hf⟩ := h
          refine v_icmp_ne 93 dX5_twig_85 (by decide) s8 (by decide) (fun c => ?_) (fun c => ?_)
          · have h := ht c
            obtain ⟨s12, h⟩ := h
            refine v_iload_n 4 dX5_twig_93 rfl ?_
            refine v_bipush dX5_twig_94 rfl ?_
            refine v_isub dX5_twig_96 ?_
            refine v_wI ?_
            refine v_i2l dX5_twig_97 (wI_rI _) ?_
            refine v_lconst (z := 0) dX5_twig_98 rfl ?_
            refine v_iload 0 dX5_twig_99 rfl ?_
            refine v_iconst dX5_twig_101 ?_
            refine v_isub dX5_twig_102 ?_
            refine v_i2l dX5_twig_103 s12 ?_
            refine m_callSI K (As := [vL (wI (x3 - 10)), vL 0, vL (r11 - 1)]) dX5_twig_104 LX5_148 rfl rfl (Nat.le_of_ble_eq_true rfl) h (fun r13 F13 A13 h => ?_)
            obtain ⟨s14, h⟩ := h
            obtain ⟨ht, hf⟩ := h
            refine v_if_eq 128 dX5_twig_107 (by decide) s14 (fun c => ?_) (fun c => ?_)
            · have h := ht c
              refine v_iconst dX5_twig_128 ?_
              exact m_iret K dX5_twig_129 rfl h
            · have h := hf c
              refine v_iload_n 4 dX5_twig_110 rfl ?_
              refine v_bipush dX5_twig_111 rfl ?_
              obtain ⟨ht, hf⟩ := h
              refine v_icmp_lt 128 dX5_twig_113 (by decide) s8 (by decide) (fun c => ?_) (fun c => ?_)
              · have h := ht c
                refine v_iconst dX5_twig_128 ?_
                exact m_iret K dX5_twig_129 rfl h
              · have h := hf c
                obtain ⟨s15, h⟩ := h
                refine v_aload_n 1 dX5_twig_116 rfl (isR_ref _) ?_
                refine m_get K dX5_twig_117 fX5_47 rfl ?_
                refine v_iload_n 4 dX5_twig_120 rfl ?_
                refine v_bipush dX5_twig_121 rfl ?_
                refine v_isub dX5_twig_123 ?_
                refine v_wI ?_
                refine m_iald K 10 dX5_twig_124 rfl s15 (by decide) ?_
                refine v_goto 129 dX5_twig_125 (by decide) ?_
                exact m_iret K dX5_twig_129 rfl h
          · have h := hf c
            refine v_iload 0 dX5_twig_88 rfl ?_
            refine v_goto 129 dX5_twig_90 (by decide) ?_
            exact m_iret K dX5_twig_129 rfl h
        · have h := hf c
          refine v_iload_n 3 dX5_twig_45 rfl ?_
          obtain ⟨ht, hf⟩ := h
          refine v_if_ne 58 dX5_twig_46 (by decide) s8 (fun c => ?_) (fun c => ?_)
          · have h := ht c
            refine v_aload_n 0 dX5_twig_58 rfl (isR_ref _) ?_
            refine v_iload_n 2 dX5_twig_59 rfl ?_
            refine v_iload_n 1 dX5_twig_60 rfl ?_
            refine m_callI K (As := [vI x2, vI x1]) dX5_twig_61 LX5_169 rfl rfl (Nat.le_of_ble_eq_true rfl) h (fun r11 F11 A11 h => ?_)
            exact m_iret K dX5_twig_64 rfl h
          · have h := hf c
            refine v_aload_n 0 dX5_twig_49 rfl (isR_ref _) ?_
            refine v_iload_n 2 dX5_twig_50 rfl ?_
            refine v_iload_n 1 dX5_twig_51 rfl ?_
            refine m_callI K (As := [vI x2, vI x1]) dX5_twig_52 LX5_156 rfl rfl (Nat.le_of_ble_eq_true rfl) h (fun r11 F11 A11 h => ?_)
            refine v_goto 64 dX5_twig_55 (by decide) ?_
            exact m_iret K dX5_twig_64 rfl h
      · have h := hf c
        refine v_iconst dX5_twig_29 ?_
        exact m_iret K dX5_twig_30 rfl h
/-! names -/
theorem wX5_names_0 (K : KM) (hb : K.G.base ≤ K.m) {x1 x2 : Int} {F : Nat → Int} {A : Nat → Int → Int} (h : RV mX5_findsBest K [.ref K.m, vI x1, vI x2] F A fun F0 A0 => VM K mX5_names 17 [(0, .ref K.m), (1, vI x1), (2, vI x2), (3, vI (F 19)), (4, vI ((-1))), (5, vI 0)] [] F0 A0) : VM K mX5_names 0 [(0, .ref K.m), (1, vI x1), (2, vI x2)] [] F A := by
  refine v_aload_n 0 dX5_names_0 rfl (isR_ref _) ?_
  refine m_get (v := vI (F 19)) K dX5_names_1 fX5_267 rfl ?_
  refine v_istore_n dX5_names_4 (by decide) rfl ?_
  refine v_iconst dX5_names_5 ?_
  refine v_istore dX5_names_6 (by decide) rfl ?_
  refine v_aload_n 2 dX5_names_8 rfl (isR_ref _) ?_
  refine v_iload_n 3 dX5_names_9 rfl ?_
  refine v_iload_n 4 dX5_names_10 rfl ?_
  refine m_callV K (As := [vI x1, vI x2]) dX5_names_11 LX5_406 rfl rfl (Nat.le_of_ble_eq_true rfl) h (fun F0 A0 h => ?_)
  refine v_iconst dX5_names_14 ?_
  refine v_istore dX5_names_15 (by decide) rfl ?_
  refine V.sub [3, 4, 5, 2, 1, 0] rfl ?_
  exact h
theorem wX5_names_17 (K : KM) (hb : K.G.base ≤ K.m) {x1 x2 x3 x4 x5 : Int} {F : Nat → Int} {A : Nat → Int → Int} (h : (rI x5) ∧ (rI (F 1)) ∧ (((F 1) ≤ x5 → (SI K x4 (upN F 19 (x3 + x4)) A)) ∧ (¬ (F 1) ≤ x5 → (VM K mX5_names 29 [(0, .ref K.m), (1, vI x1), (2, vI x2), (3, vI x3), (4, vI x4), (5, vI x5), (6, vI 0)] [] F A)))) : VM K mX5_names 17 [(0, .ref K.m), (1, vI x1), (2, vI x2), (3, vI x3), (4, vI x4), (5, vI x5)] [] F A := by
  obtain ⟨s0, s1, h⟩ := h
  refine v_iload 5 dX5_names_17 rfl ?_
  refine v_aload_n 0 dX5_names_19 rfl (isR_ref _) ?_
  refine m_get (v := vI (F 1)) K dX5_names_20 fX5_145 rfl ?_
  obtain ⟨ht, hf⟩ := h
  refine v_icmp_ge 179 dX5_names_23 (by decide) s0 s1 (fun c => ?_) (fun c => ?_)
  · have h := ht c
    refine v_aload_n 0 dX5_names_179 rfl (isR_ref _) ?_
    refine v_iload_n 3 dX5_names_180 rfl ?_
    refine v_iload 4 dX5_names_181 rfl ?_
    refine v_iadd dX5_names_183 ?_
    refine m_put (F' := upN F 19 (x3 + x4)) K hb dX5_names_184 fX5_267 (by decide) (by decide) rfl ?_
    refine v_iload 4 dX5_names_187 rfl ?_
    exact m_iret K dX5_names_189 rfl h
  · have h := hf c
    refine v_iconst dX5_names_26 ?_
    refine v_istore dX5_names_27 (by decide) rfl ?_
    refine V.sub [1, 2, 3, 4, 5, 6, 0] rfl ?_
    exact h
theorem wX5_names_29 (K : KM) (hb : K.G.base ≤ K.m) {x1 x2 x3 x4 x5 x6 : Int} {F : Nat → Int} {A : Nat → Int → Int} (h : (rI x6) ∧ (rI (F 1)) ∧ (((F 1) ≤ x6 → (VM K mX5_names 17 [(0, .ref K.m), (1, vI x1), (2, vI x2), (3, vI x3), (4, vI x4), (5, vI (x5 + 1))] [] F A)) ∧ (¬ (F 1) ≤ x6 → (RI mX5_isStart K [.ref K.m, vI x5, vI x1, vI x2] F A fun r2 F2 A2 => (rI r2) ∧ ((r2 = 0 → (VM K mX5_names 17 [(0, .ref K.m), (1, vI x1), (2, vI x2), (3, vI x3), (4, vI x4), (5, vI (x5 + 1))] [] F2 A2)) ∧ (¬ r2 = 0 → (RI mX5_lays K [.ref K.m, vI x5, vI x6, vI x2] F2 A2 fun r4 F4 A4 => (rI r4) ∧ ((r4 = 0 → (VM K mX5_names 29 [(0, .ref K.m), (1, vI x1), (2, vI x2), (3, vI x3), (4, vI x4), (5, vI x5), (6, vI (x6 + 1))] [] F4 A4)) ∧ (¬ r4 = 0 → (RI mX5_isBetter K [.ref K.m, vI x2] F4 A4 fun r6 F6 A6 => (rI r6) ∧ ((¬ r6 = 0 → (VM K mX5_names 29 [(0, .ref K.m), (1, vI x1), (2, vI x2), (3, vI x3), (4, vI x4), (5, vI x5), (6, vI (x6 + 1))] [] F6 A6)) ∧ (r6 = 0 → ((rI x4) ∧ (1 ≤ K.d) ∧ (rI x2) ∧ ((¬ x2 = ((-1)) → (RI mX5_namesBy K [.ref K.m, vI x2, vI 0] (upN F6 19 (x3 + (max 0 x4))) A6 fun r11 F11 A11 => (x4 = ((-1)) → (VM K mX5_names 131 [(0, .ref K.m), (1, vI x1), (2, vI x2), (3, vI x3), (5, vI x5), (6, vI x6), (7, vI r11), (8, vI (x3 + (max 0 x4))), (9, vI 0)] [] F11 A11)) ∧ (¬ x4 = ((-1)) → (RI mX5_compares K [.ref K.m, vI (x3 + (max 0 x4)), vI r11, vI x3, vI x4] F11 A11 fun r12 F12 A12 => (rI r12) ∧ ((0 ≤ r12 → (VM K mX5_names 29 [(0, .ref K.m), (1, vI x1), (2, vI x2), (3, vI x3), (4, vI x4), (5, vI x5), (6, vI (x6 + 1))] [] F12 A12)) ∧ (¬ 0 ≤ r12 → (VM K mX5_names 131 [(0, .ref K.m), (1, vI x1), (2, vI x2), (3, vI x3), (5, vI x5), (6, vI x6), (7, vI r11), (8, vI (x3 + (max 0 x4))), (9, vI 0)] [] F12 A12))))))) ∧ (x2 = ((-1)) → (RI mX5_namesBy K [.ref K.m, vI x2, vI 1] (upN F6 19 (x3 + (max 0 x4))) A6 fun r11 F11 A11 => (x4 = ((-1)) → (VM K mX5_names 131 [(0, .ref K.m), (1, vI x1), (2, vI x2), (3, vI x3), (5, vI x5), (6, vI x6), (7, vI r11), (8, vI (x3 + (max 0 x4))), (9, vI 0)] [] F11 A11)) ∧ (¬ x4 = ((-1)) → (RI mX5_compares K [.ref K.m, vI (x3 + (max 0 x4)), vI r11, vI x3, vI x4] F11 A11 fun r12 F12 A12 => (rI r12) ∧ ((0 ≤ r12 → (VM K mX5_names 29 [(0, .ref K.m), (1, vI x1), (2, vI x2), (3, vI x3), (4, vI x4), (5, vI x5), (6, vI (x6 + 1))] [] F12 A12)) ∧ (¬ 0 ≤ r12 → (VM K mX5_names 131 [(0, .ref K.m), (1, vI x1), (2, vI x2), (3, vI x3), (5, vI x5), (6, vI x6), (7, vI r11), (8, vI (x3 + (max 0 x4))), (9, vI 0)] [] F12 A12))))))))))))))))))))) : VM K mX5_names 29 [(0, .ref K.m), (1, vI x1), (2, vI x2), (3, vI x3), (4, vI x4), (5, vI x5), (6, vI x6)] [] F A := by
  obtain ⟨s0, s1, h⟩ := h
  refine v_iload 6 dX5_names_29 rfl ?_
  refine v_aload_n 0 dX5_names_31 rfl (isR_ref _) ?_
  refine m_get (v := vI (F 1)) K dX5_names_32 fX5_145 rfl ?_
  obtain ⟨ht, hf⟩ := h
  refine v_icmp_ge 173 dX5_names_35 (by decide) s0 s1 (fun c => ?_) (fun c => ?_)
  · have h := ht c
    refine v_iinc 5 dX5_names_173 rfl (by decide) rfl ?_
    refine v_goto 17 dX5_names_176 (by decide) ?_
    refine V.sub [1, 2, 3, 4, 5, 0] rfl ?_
    exact h
  · have h := hf c
    refine v_aload_n 0 dX5_names_38 rfl (isR_ref _) ?_
    refine v_iload 5 dX5_names_39 rfl ?_
    refine v_iload_n 1 dX5_names_41 rfl ?_
    refine v_iload_n 2 dX5_names_42 rfl ?_
    refine m_callI K (As := [vI x5, vI x1, vI x2]) dX5_names_43 LX5_397 rfl rfl (Nat.le_of_ble_eq_true rfl) h (fun r2 F2 A2 h => ?_)
    obtain ⟨s3, h⟩ := h
    obtain ⟨ht, hf⟩ := h
    refine v_if_eq 173 dX5_names_46 (by decide) s3 (fun c => ?_) (fun c => ?_)
    · have h := ht c
      refine v_iinc 5 dX5_names_173 rfl (by decide) rfl ?_
      refine v_goto 17 dX5_names_176 (by decide) ?_
      refine V.sub [1, 2, 3, 4, 5, 0] rfl ?_
      exact h
    · have h := hf c
      refine v_aload_n 0 dX5_names_49 rfl (isR_ref _) ?_
      refine v_iload 5 dX5_names_50 rfl ?_
      refine v_iload 6 dX5_names_52 rfl ?_
      refine v_iload_n 2 dX5_names_54 rfl ?_
      refine m_callI K (As := [vI x5, vI x6, vI x2]) dX5_names_55 LX5_282 rfl rfl (Nat.le_of_ble_eq_true rfl) h (fun r4 F4 A4 h => ?_)
      obtain ⟨s5, h⟩ := h
      obtain ⟨ht, hf⟩ := h
      refine v_if_eq 167 dX5_names_58 (by decide) s5 (fun c => ?_) (fun c => ?_)
      · have h := ht c
        refine v_iinc 6 dX5_names_167 rfl (by decide) rfl ?_
        refine v_goto 29 dX5_names_170 (by decide) ?_
        refine V.sub [1, 2, 3, 4, 5, 6, 0] rfl ?_
        exact h
      · have h := hf c
        refine v_aload_n 0 dX5_names_61 rfl (isR_ref _) ?_
        refine v_iload_n 2 dX5_names_62 rfl ?_
        refine m_callI K (As := [vI x2]) dX5_names_63 LX5_400 rfl rfl (Nat.le_of_ble_eq_true rfl) h (fun r6 F6 A6 h => ?_)
        obtain ⟨s7, h⟩ := h
        obtain ⟨ht, hf⟩ := h
        refine v_if_ne 167 dX5_names_66 (by decide) s7 (fun c => ?_) (fun c => ?_)
        · have h := ht c
          refine v_iinc 6 dX5_names_167 rfl (by decide) rfl ?_
          refine v_goto 29 dX5_names_170 (by decide) ?_
          refine V.sub [1, 2, 3, 4, 5, 6, 0] rfl ?_
          exact h
        · have h := hf c
          obtain ⟨s8, s9, s10, h⟩ := h
          refine v_aload_n 0 dX5_names_69 rfl (isR_ref _) ?_
          refine v_iload_n 3 dX5_names_70 rfl ?_
          refine v_iconst dX5_names_71 ?_
          refine v_iload 4 dX5_names_72 rfl ?_
          refine v_mmax dX5_names_74 q2021 (by decide) s8 s9 (Nat.le_of_ble_eq_true rfl) ?_
          refine v_iadd dX5_names_77 ?_
          refine m_put (F' := upN F6 19 (x3 + (max 0 x4))) K hb dX5_names_78 fX5_267 (by decide) (by decide) rfl ?_
          refine v_aload_n 0 dX5_names_81 rfl (isR_ref _) ?_
          refine v_iload_n 2 dX5_names_82 rfl ?_
          refine v_iload_n 2 dX5_names_83 rfl ?_
          refine v_iconst dX5_names_84 ?_
          obtain ⟨ht, hf⟩ := h
          refine v_icmp_ne 92 dX5_names_85 (by decide) s10 (by decide) (fun c => ?_) (fun c => ?_)
          · have h := ht c
            refine v_iconst dX5_names_92 ?_
            refine m_callI K (As := [vI x2, vI 0]) dX5_names_93 LX5_409 rfl rfl (Nat.le_of_ble_eq_true rfl) h (fun r11 F11 A11 h => ?_)
            refine v_istore dX5_names_96 (by decide) rfl ?_
            refine v_iload_n 4 dX5_names_98 rfl ?_
            refine v_iconst dX5_names_99 ?_
            refine v_iload 5 dX5_names_100 rfl ?_
            refine v_mmax dX5_names_102 q2021 (by decide) s8 s9 (Nat.le_of_ble_eq_true rfl) ?_
            refine v_iadd dX5_names_105 ?_
            refine v_istore dX5_names_106 (by decide) rfl ?_
            refine v_iload 6 dX5_names_108 rfl ?_
            refine v_iconst dX5_names_110 ?_
            obtain ⟨ht, hf⟩ := h
            refine v_icmp_eq 128 dX5_names_111 (by decide) s8 (by decide) (fun c => ?_) (fun c => ?_)
            · have h := ht c
              refine v_iconst dX5_names_128 ?_
              refine v_istore dX5_names_129 (by decide) rfl ?_
              refine V.sub [3, 4, 5, 6, 8, 9, 2, 1, 0] rfl ?_
              exact h
            · have h := hf c
              refine v_aload_n 2 dX5_names_114 rfl (isR_ref _) ?_
              refine v_iload 0 dX5_names_115 rfl ?_
              refine v_iload 1 dX5_names_117 rfl ?_
              refine v_iload_n 5 dX5_names_119 rfl ?_
              refine v_iload 6 dX5_names_120 rfl ?_
              refine m_callI K (As := [vI (x3 + (max 0 x4)), vI r11, vI x3, vI x4]) dX5_names_122 LX5_365 rfl rfl (Nat.le_of_ble_eq_true rfl) h (fun r12 F12 A12 h => ?_)
              obtain ⟨s13, h⟩ := h
              obtain ⟨ht, hf⟩ := h
              refine v_if_ge 167 dX5_names_125 (by decide) s13 (fun c => ?_) (fun c => ?_)
              · have h := ht c
                refine v_iinc 8 dX5_names_167 rfl (by decide) rfl ?_
                refine v_goto 29 dX5_names_170 (by decide) ?_
                refine V.sub [3, 4, 5, 6, 7, 8, 0] rfl ?_
                exact h
              · have h := hf c
                refine v_iconst dX5_names_128 ?_
                refine v_istore dX5_names_129 (by decide) rfl ?_
                refine V.sub [3, 4, 5, 6, 8, 9, 2, 1, 0] rfl ?_
                exact h
          · have h := hf c
            refine v_iconst dX5_names_88 ?_
            refine v_goto 93 dX5_names_89 (by decide) ?_
            refine m_callI K (As := [vI x2, vI 1]) dX5_names_93 LX5_409 rfl rfl (Nat.le_of_ble_eq_true rfl) h (fun r11 F11 A11 h => ?_)
            refine v_istore dX5_names_96 (by decide) rfl ?_
            refine v_iload_n 4 dX5_names_98 rfl ?_
            refine v_iconst dX5_names_99 ?_
            refine v_iload 5 dX5_names_100 rfl ?_
            refine v_mmax dX5_names_102 q2021 (by decide) s8 s9 (Nat.le_of_ble_eq_true rfl) ?_
            refine v_iadd dX5_names_105 ?_
            refine v_istore dX5_names_106 (by decide) rfl ?_
            refine v_iload 6 dX5_names_108 rfl ?_
            refine v_iconst dX5_names_110 ?_
            obtain ⟨ht, hf⟩ := h
            refine v_icmp_eq 128 dX5_names_111 (by decide) s8 (by decide) (fun c => ?_) (fun c => ?_)
            · have h := ht c
              refine v_iconst dX5_names_128 ?_
              refine v_istore dX5_names_129 (by decide) rfl ?_
              refine V.sub [3, 4, 5, 6, 8, 9, 2, 1, 0] rfl ?_
              exact h
            · have h := hf c
              refine v_aload_n 2 dX5_names_114 rfl (isR_ref _) ?_
              refine v_iload 0 dX5_names_115 rfl ?_
              refine v_iload 1 dX5_names_117 rfl ?_
              refine v_iload_n 5 dX5_names_119 rfl ?_
              refine v_iload 6 dX5_names_120 rfl ?_
              refine m_callI K (As := [vI (x3 + (max 0 x4)), vI r11, vI x3, vI x4]) dX5_names_122 LX5_365 rfl rfl (Nat.le_of_ble_eq_true rfl) h (fun r12 F12 A12 h => ?_)
              obtain ⟨s13, h⟩ := h
              obtain ⟨ht, hf⟩ := h
              refine v_if_ge 167 dX5_names_125 (by decide) s13 (fun c => ?_) (fun c => ?_)
              · have h := ht c
                refine v_iinc 8 dX5_names_167 rfl (by decide) rfl ?_
                refine v_goto 29 dX5_names_170 (by decide) ?_
                refine V.sub [3, 4, 5, 6, 7, 8, 0] rfl ?_
                exact h
              · have h := hf c
                refine v_iconst dX5_names_128 ?_
                refine v_istore dX5_names_129 (by decide) rfl ?_
                refine V.sub [3, 4, 5, 6, 8, 9, 2, 1, 0] rfl ?_
                exact h
theorem wX5_names_131 (K : KM) (hb : K.G.base ≤ K.m) {x1 x2 x3 x5 x6 x7 x8 x9 : Int} {F : Nat → Int} {A : Nat → Int → Int} (h : (rI x9) ∧ (rI x7) ∧ ((x7 ≤ x9 → (VM K mX5_names 29 [(0, .ref K.m), (1, vI x1), (2, vI x2), (3, vI x3), (4, vI x7), (5, vI x5), (6, vI (x6 + 1))] [] F A)) ∧ (¬ x7 ≤ x9 → ((0 ≤ (x8 + x9) ∧ (x8 + x9) < 16384) ∧ (0 ≤ (x3 + x9) ∧ (x3 + x9) < 16384) ∧ (VM K mX5_names 131 [(0, .ref K.m), (1, vI x1), (2, vI x2), (3, vI x3), (5, vI x5), (6, vI x6), (7, vI x7), (8, vI x8), (9, vI (x9 + 1))] [] F (upA A 10 (x3 + x9) (A 10 (x8 + x9)))))))) : VM K mX5_names 131 [(0, .ref K.m), (1, vI x1), (2, vI x2), (3, vI x3), (5, vI x5), (6, vI x6), (7, vI x7), (8, vI x8), (9, vI x9)] [] F A := by
  obtain ⟨s0, s1, h⟩ := h
  refine v_iload 8 dX5_names_131 rfl ?_
  refine v_iload 6 dX5_names_133 rfl ?_
  obtain ⟨ht, hf⟩ := h
  refine v_icmp_ge 163 dX5_names_135 (by decide) s0 s1 (fun c => ?_) (fun c => ?_)
  · have h := ht c
    refine v_iload 6 dX5_names_163 rfl ?_
    refine v_istore dX5_names_165 (by decide) rfl ?_
    refine v_iinc 6 dX5_names_167 rfl (by decide) rfl ?_
    refine v_goto 29 dX5_names_170 (by decide) ?_
    refine V.sub [2, 3, 4, 5, 1, 6, 0] rfl ?_
    exact h
  · have h := hf c
    obtain ⟨s2, s3, h⟩ := h
    refine v_aload_n 0 dX5_names_138 rfl (isR_ref _) ?_
    refine m_get K dX5_names_139 fX5_47 rfl ?_
    refine v_iload_n 3 dX5_names_142 rfl ?_
    refine v_iload 8 dX5_names_143 rfl ?_
    refine v_iadd dX5_names_145 ?_
    refine v_aload_n 0 dX5_names_146 rfl (isR_ref _) ?_
    refine m_get K dX5_names_147 fX5_47 rfl ?_
    refine v_iload 7 dX5_names_150 rfl ?_
    refine v_iload 8 dX5_names_152 rfl ?_
    refine v_iadd dX5_names_154 ?_
    refine m_iald K 10 dX5_names_155 rfl s2 (by decide) ?_
    refine m_iast K 10 hb dX5_names_156 rfl s3 (by decide) ?_
    refine v_iinc 8 dX5_names_157 rfl (by decide) rfl ?_
    refine v_goto 131 dX5_names_160 (by decide) ?_
    refine V.sub [1, 2, 3, 4, 5, 6, 7, 8, 0] rfl ?_
    exact h
