set_option maxRecDepth 100000
/-! ends -/
theorem wX5_ends_0 (K : KM) (hb : K.G.base ≤ K.m) {F : Nat → Int} {A : Nat → Int → Int} (h : VM K mX5_ends 4 [(0, .ref K.m), (1, vI 0), (2, vI 0)] [] F A) : VM K mX5_ends 0 [(0, .ref K.m)] [] F A := by
  refine v_iconst dX5_ends_0 ?_
  refine v_istore_n dX5_ends_1 (by decide) rfl ?_
  refine v_iconst dX5_ends_2 ?_
  refine v_istore_n dX5_ends_3 (by decide) rfl ?_
  refine V.sub [2, 1, 0] rfl ?_
  exact h
theorem wX5_ends_4 (K : KM) (hb : K.G.base ≤ K.m) {x1 x2 : Int} {F : Nat → Int} {A : Nat → Int → Int} (h : (rI x2) ∧ (rI (F 1)) ∧ (((F 1) ≤ x2 → (SI K x1 F A)) ∧ (¬ (F 1) ≤ x2 → ((0 ≤ x2 ∧ x2 < 13) ∧ (RI mJ9_bitCount K [vI (A 0 x2)] F A fun r3 F3 A3 => (rI r3) ∧ ((¬ r3 = 1 → (VM K mX5_ends 4 [(0, .ref K.m), (1, vI (x1 + 0)), (2, vI (x2 + 1))] [] F3 A3)) ∧ (r3 = 1 → (VM K mX5_ends 4 [(0, .ref K.m), (1, vI (x1 + 1)), (2, vI (x2 + 1))] [] F3 A3)))))))) : VM K mX5_ends 4 [(0, .ref K.m), (1, vI x1), (2, vI x2)] [] F A := by
  obtain ⟨s0, s1, h⟩ := h
  refine v_iload_n 2 dX5_ends_4 rfl ?_
  refine v_aload_n 0 dX5_ends_5 rfl (isR_ref _) ?_
  refine m_get (v := vI (F 1)) K dX5_ends_6 fX5_145 rfl ?_
  obtain ⟨ht, hf⟩ := h
  refine v_icmp_ge 39 dX5_ends_9 (by decide) s0 s1 (fun c => ?_) (fun c => ?_)
  · have h := ht c
    refine v_iload_n 1 dX5_ends_39 rfl ?_
    exact m_iret K dX5_ends_40 rfl h
  · have h := hf c
    obtain ⟨s2, h⟩ := h
    refine v_iload_n 1 dX5_ends_12 rfl ?_
    refine v_aload_n 0 dX5_ends_13 rfl (isR_ref _) ?_
    refine m_get K dX5_ends_14 fX5_11 rfl ?_
    refine v_iload_n 2 dX5_ends_17 rfl ?_
    refine m_iald K 0 dX5_ends_18 rfl s2 (by decide) ?_
    refine m_callSI K (As := [vI (A 0 x2)]) dX5_ends_19 LX5_160 rfl rfl (Nat.le_of_ble_eq_true rfl) h (fun r3 F3 A3 h => ?_)
    obtain ⟨s4, h⟩ := h
    refine v_iconst dX5_ends_22 ?_
    obtain ⟨ht, hf⟩ := h
    refine v_icmp_ne 30 dX5_ends_23 (by decide) s4 (by decide) (fun c => ?_) (fun c => ?_)
    · have h := ht c
      refine v_iconst dX5_ends_30 ?_
      refine v_iadd dX5_ends_31 ?_
      refine v_istore_n dX5_ends_32 (by decide) rfl ?_
      refine v_iinc 2 dX5_ends_33 rfl (by decide) rfl ?_
      refine v_goto 4 dX5_ends_36 (by decide) ?_
      refine V.sub [2, 1, 0] rfl ?_
      exact h
    · have h := hf c
      refine v_iconst dX5_ends_26 ?_
      refine v_goto 31 dX5_ends_27 (by decide) ?_
      refine v_iadd dX5_ends_31 ?_
      refine v_istore_n dX5_ends_32 (by decide) rfl ?_
      refine v_iinc 2 dX5_ends_33 rfl (by decide) rfl ?_
      refine v_goto 4 dX5_ends_36 (by decide) ?_
      refine V.sub [2, 1, 0] rfl ?_
      exact h
/-! unlike -/
theorem wX5_unlike_0 (K : KM) (hb : K.G.base ≤ K.m) {F : Nat → Int} {A : Nat → Int → Int} (h : VM K mX5_unlike 4 [(0, .ref K.m), (1, vI 0), (2, vI 0)] [] F A) : VM K mX5_unlike 0 [(0, .ref K.m)] [] F A := by
  refine v_iconst dX5_unlike_0 ?_
  refine v_istore_n dX5_unlike_1 (by decide) rfl ?_
  refine v_iconst dX5_unlike_2 ?_
  refine v_istore_n dX5_unlike_3 (by decide) rfl ?_
  refine V.sub [2, 1, 0] rfl ?_
  exact h
theorem wX5_unlike_4 (K : KM) (hb : K.G.base ≤ K.m) {x1 x2 : Int} {F : Nat → Int} {A : Nat → Int → Int} (h : (rI x2) ∧ (rI (F 1)) ∧ (((F 1) ≤ x2 → (SI K x1 F A)) ∧ (¬ (F 1) ≤ x2 → (RI mX5_alikeTo K [.ref K.m, vI x2, vI 1] F A fun r2 F2 A2 => (rI r2) ∧ ((¬ r2 = x2 → (VM K mX5_unlike 4 [(0, .ref K.m), (1, vI (x1 + 0)), (2, vI (x2 + 1))] [] F2 A2)) ∧ (r2 = x2 → (VM K mX5_unlike 4 [(0, .ref K.m), (1, vI (x1 + 1)), (2, vI (x2 + 1))] [] F2 A2))))))) : VM K mX5_unlike 4 [(0, .ref K.m), (1, vI x1), (2, vI x2)] [] F A := by
  obtain ⟨s0, s1, h⟩ := h
  refine v_iload_n 2 dX5_unlike_4 rfl ?_
  refine v_aload_n 0 dX5_unlike_5 rfl (isR_ref _) ?_
  refine m_get (v := vI (F 1)) K dX5_unlike_6 fX5_145 rfl ?_
  obtain ⟨ht, hf⟩ := h
  refine v_icmp_ge 36 dX5_unlike_9 (by decide) s0 s1 (fun c => ?_) (fun c => ?_)
  · have h := ht c
    refine v_iload_n 1 dX5_unlike_36 rfl ?_
    exact m_iret K dX5_unlike_37 rfl h
  · have h := hf c
    refine v_iload_n 1 dX5_unlike_12 rfl ?_
    refine v_aload_n 0 dX5_unlike_13 rfl (isR_ref _) ?_
    refine v_iload_n 2 dX5_unlike_14 rfl ?_
    refine v_iconst dX5_unlike_15 ?_
    refine m_callI K (As := [vI x2, vI 1]) dX5_unlike_16 LX5_263 rfl rfl (Nat.le_of_ble_eq_true rfl) h (fun r2 F2 A2 h => ?_)
    obtain ⟨s3, h⟩ := h
    refine v_iload_n 2 dX5_unlike_19 rfl ?_
    obtain ⟨ht, hf⟩ := h
    refine v_icmp_ne 27 dX5_unlike_20 (by decide) s3 s0 (fun c => ?_) (fun c => ?_)
    · have h := ht c
      refine v_iconst dX5_unlike_27 ?_
      refine v_iadd dX5_unlike_28 ?_
      refine v_istore_n dX5_unlike_29 (by decide) rfl ?_
      refine v_iinc 2 dX5_unlike_30 rfl (by decide) rfl ?_
      refine v_goto 4 dX5_unlike_33 (by decide) ?_
      refine V.sub [2, 1, 0] rfl ?_
      exact h
    · have h := hf c
      refine v_iconst dX5_unlike_23 ?_
      refine v_goto 28 dX5_unlike_24 (by decide) ?_
      refine v_iadd dX5_unlike_28 ?_
      refine v_istore_n dX5_unlike_29 (by decide) rfl ?_
      refine v_iinc 2 dX5_unlike_30 rfl (by decide) rfl ?_
      refine v_goto 4 dX5_unlike_33 (by decide) ?_
      refine V.sub [2, 1, 0] rfl ?_
      exact h
/-! waysOf -/
theorem wX5_waysOf_0 (K : KM) (hb : K.G.base ≤ K.m) {x1 x2 : Int} {F : Nat → Int} {A : Nat → Int → Int} (h : VM K mX5_waysOf 5 [(0, .ref K.m), (1, vI x1), (2, vI x2), (3, vI 1), (4, vI 0)] [] F A) : VM K mX5_waysOf 0 [(0, .ref K.m), (1, vI x1), (2, vI x2)] [] F A := by
  refine v_iconst dX5_waysOf_0 ?_
  refine v_istore_n dX5_waysOf_1 (by decide) rfl ?_
  refine v_iconst dX5_waysOf_2 ?_
  refine v_istore dX5_waysOf_3 (by decide) rfl ?_
  refine V.sub [2, 3, 4, 1, 0] rfl ?_
  exact h
theorem wX5_waysOf_5 (K : KM) (hb : K.G.base ≤ K.m) {x1 x2 x3 x4 : Int} {F : Nat → Int} {A : Nat → Int → Int} (h : (rI x4) ∧ (rI (F 1)) ∧ (((F 1) ≤ x4 → (SI K x3 F A)) ∧ (¬ (F 1) ≤ x4 → ((0 ≤ x1 ∧ x1 < 13) ∧ (RI mX5_has K [vI (A 0 x1), vI x4] F A fun r3 F3 A3 => (rI r3) ∧ ((r3 = 0 → (VM K mX5_waysOf 5 [(0, .ref K.m), (1, vI x1), (2, vI x2), (3, vI x3), (4, vI (x4 + 1))] [] F3 A3)) ∧ (¬ r3 = 0 → ((rI x2) ∧ ((x4 = x2 → (VM K mX5_waysOf 5 [(0, .ref K.m), (1, vI x1), (2, vI x2), (3, vI x3), (4, vI (x4 + 1))] [] F3 A3)) ∧ (¬ x4 = x2 → (VM K mX5_waysOf 40 [(0, .ref K.m), (1, vI x1), (2, vI x2), (3, vI x3), (4, vI x4), (5, vI 1), (6, vI 0)] [] F3 A3))))))))))) : VM K mX5_waysOf 5 [(0, .ref K.m), (1, vI x1), (2, vI x2), (3, vI x3), (4, vI x4)] [] F A := by
  obtain ⟨s0, s1, h⟩ := h
  refine v_iload 4 dX5_waysOf_5 rfl ?_
  refine v_aload_n 0 dX5_waysOf_7 rfl (isR_ref _) ?_
  refine m_get (v := vI (F 1)) K dX5_waysOf_8 fX5_145 rfl ?_
  obtain ⟨ht, hf⟩ := h
  refine v_icmp_ge 119 dX5_waysOf_11 (by decide) s0 s1 (fun c => ?_) (fun c => ?_)
  · have h := ht c
    refine v_iload_n 3 dX5_waysOf_119 rfl ?_
    exact m_iret K dX5_waysOf_120 rfl h
  · have h := hf c
    obtain ⟨s2, h⟩ := h
    refine v_aload_n 0 dX5_waysOf_14 rfl (isR_ref _) ?_
    refine m_get K dX5_waysOf_15 fX5_11 rfl ?_
    refine v_iload_n 1 dX5_waysOf_18 rfl ?_
    refine m_iald K 0 dX5_waysOf_19 rfl s2 (by decide) ?_
    refine v_iload 4 dX5_waysOf_20 rfl ?_
    refine m_callSI K (As := [vI (A 0 x1), vI x4]) dX5_waysOf_22 LX5_152 rfl rfl (Nat.le_of_ble_eq_true rfl) h (fun r3 F3 A3 h => ?_)
    obtain ⟨s4, h⟩ := h
    obtain ⟨ht, hf⟩ := h
    refine v_if_eq 113 dX5_waysOf_25 (by decide) s4 (fun c => ?_) (fun c => ?_)
    · have h := ht c
      refine v_iinc 4 dX5_waysOf_113 rfl (by decide) rfl ?_
      refine v_goto 5 dX5_waysOf_116 (by decide) ?_
      refine V.sub [1, 2, 3, 4, 0] rfl ?_
      exact h
    · have h := hf c
      obtain ⟨s5, h⟩ := h
      refine v_iload 4 dX5_waysOf_28 rfl ?_
      refine v_iload_n 2 dX5_waysOf_30 rfl ?_
      obtain ⟨ht, hf⟩ := h
      refine v_icmp_eq 113 dX5_waysOf_31 (by decide) s0 s5 (fun c => ?_) (fun c => ?_)
      · have h := ht c
        refine v_iinc 4 dX5_waysOf_113 rfl (by decide) rfl ?_
        refine v_goto 5 dX5_waysOf_116 (by decide) ?_
        refine V.sub [1, 2, 3, 4, 0] rfl ?_
        exact h
      · have h := hf c
        refine v_iconst dX5_waysOf_34 ?_
        refine v_istore dX5_waysOf_35 (by decide) rfl ?_
        refine v_iconst dX5_waysOf_37 ?_
        refine v_istore dX5_waysOf_38 (by decide) rfl ?_
        refine V.sub [2, 3, 4, 5, 6, 1, 0] rfl ?_
        exact h
theorem wX5_waysOf_40 (K : KM) (hb : K.G.base ≤ K.m) {x1 x2 x3 x4 x5 x6 : Int} {F : Nat → Int} {A : Nat → Int → Int} (h : (rI x6) ∧ (rI x4) ∧ ((x4 ≤ x6 → (RI mX5_waysOf K [.ref K.m, vI x4, vI x1] F A fun r2 F2 A2 => VM K mX5_waysOf 5 [(0, .ref K.m), (1, vI x1), (2, vI x2), (3, vI (x3 * (x5 * r2))), (4, vI (x4 + 1))] [] F2 A2)) ∧ (¬ x4 ≤ x6 → ((0 ≤ x1 ∧ x1 < 13) ∧ (RI mX5_has K [vI (A 0 x1), vI x6] F A fun r3 F3 A3 => (rI r3) ∧ ((r3 = 0 → (VM K mX5_waysOf 40 [(0, .ref K.m), (1, vI x1), (2, vI x2), (3, vI x3), (4, vI x4), (5, vI (x5 + 0)), (6, vI (x6 + 1))] [] F3 A3)) ∧ (¬ r3 = 0 → ((rI x2) ∧ ((x6 = x2 → (VM K mX5_waysOf 40 [(0, .ref K.m), (1, vI x1), (2, vI x2), (3, vI x3), (4, vI x4), (5, vI (x5 + 0)), (6, vI (x6 + 1))] [] F3 A3)) ∧ (¬ x6 = x2 → (RI mX5_codeOf K [.ref K.m, vI x6, vI x1] F3 A3 fun r6 F6 A6 => RI mX5_codeOf K [.ref K.m, vI x4, vI x1] F6 A6 fun r7 F7 A7 => (rI r6) ∧ (rI r7) ∧ ((¬ r6 = r7 → (VM K mX5_waysOf 40 [(0, .ref K.m), (1, vI x1), (2, vI x2), (3, vI x3), (4, vI x4), (5, vI (x5 + 0)), (6, vI (x6 + 1))] [] F7 A7)) ∧ (r6 = r7 → (VM K mX5_waysOf 40 [(0, .ref K.m), (1, vI x1), (2, vI x2), (3, vI x3), (4, vI x4), (5, vI (x5 + 1)), (6, vI (x6 + 1))] [] F7 A7)))))))))))))) : VM K mX5_waysOf 40 [(0, .ref K.m), (1, vI x1), (2, vI x2), (3, vI x3), (4, vI x4), (5, vI x5), (6, vI x6)] [] F A := by
  obtain ⟨s0, s1, h⟩ := h
  refine v_iload 6 dX5_waysOf_40 rfl ?_
  refine v_iload 4 dX5_waysOf_42 rfl ?_
  obtain ⟨ht, hf⟩ := h
  refine v_icmp_ge 100 dX5_waysOf_44 (by decide) s0 s1 (fun c => ?_) (fun c => ?_)
  · have h := ht c
    refine v_iload_n 3 dX5_waysOf_100 rfl ?_
    refine v_iload 5 dX5_waysOf_101 rfl ?_
    refine v_aload_n 0 dX5_waysOf_103 rfl (isR_ref _) ?_
    refine v_iload 4 dX5_waysOf_104 rfl ?_
    refine v_iload_n 1 dX5_waysOf_106 rfl ?_
    refine m_callI K (As := [vI x4, vI x1]) dX5_waysOf_107 LX5_276 rfl rfl (Nat.le_of_ble_eq_true rfl) h (fun r2 F2 A2 h => ?_)
    refine v_imul dX5_waysOf_110 ?_
    refine v_imul dX5_waysOf_111 ?_
    refine v_istore_n dX5_waysOf_112 (by decide) rfl ?_
    refine v_iinc 4 dX5_waysOf_113 rfl (by decide) rfl ?_
    refine v_goto 5 dX5_waysOf_116 (by decide) ?_
    refine V.sub [2, 3, 4, 1, 0] rfl ?_
    exact h
  · have h := hf c
    obtain ⟨s2, h⟩ := h
    refine v_iload 5 dX5_waysOf_47 rfl ?_
    refine v_aload_n 0 dX5_waysOf_49 rfl (isR_ref _) ?_
    refine m_get K dX5_waysOf_50 fX5_11 rfl ?_
    refine v_iload_n 1 dX5_waysOf_53 rfl ?_
    refine m_iald K 0 dX5_waysOf_54 rfl s2 (by decide) ?_
    refine v_iload 6 dX5_waysOf_55 rfl ?_
    refine m_callSI K (As := [vI (A 0 x1), vI x6]) dX5_waysOf_57 LX5_152 rfl rfl (Nat.le_of_ble_eq_true rfl) h (fun r3 F3 A3 h => ?_)
    obtain ⟨s4, h⟩ := h
    obtain ⟨ht, hf⟩ := h
    refine v_if_eq 90 dX5_waysOf_60 (by decide) s4 (fun c => ?_) (fun c => ?_)
    · have h := ht c
      refine v_iconst dX5_waysOf_90 ?_
      refine v_iadd dX5_waysOf_91 ?_
      refine v_istore dX5_waysOf_92 (by decide) rfl ?_
      refine v_iinc 6 dX5_waysOf_94 rfl (by decide) rfl ?_
      refine v_goto 40 dX5_waysOf_97 (by decide) ?_
      refine V.sub [2, 3, 4, 5, 6, 1, 0] rfl ?_
      exact h
    · have h := hf c
      obtain ⟨s5, h⟩ := h
      refine v_iload 6 dX5_waysOf_63 rfl ?_
      refine v_iload_n 2 dX5_waysOf_65 rfl ?_
      obtain ⟨ht, hf⟩ := h
      refine v_icmp_eq 90 dX5_waysOf_66 (by decide) s0 s5 (fun c => ?_) (fun c => ?_)
      · have h := ht c
        refine v_iconst dX5_waysOf_90 ?_
        refine v_iadd dX5_waysOf_91 ?_
        refine v_istore dX5_waysOf_92 (by decide) rfl ?_
        refine v_iinc 6 dX5_waysOf_94 rfl (by decide) rfl ?_
        refine v_goto 40 dX5_waysOf_97 (by decide) ?_
        refine V.sub [2, 3, 4, 5, 6, 1, 0] rfl ?_
        exact h
      · have h := hf c
        refine v_aload_n 0 dX5_waysOf_69 rfl (isR_ref _) ?_
        refine v_iload 6 dX5_waysOf_70 rfl ?_
        refine v_iload_n 1 dX5_waysOf_72 rfl ?_
        refine m_callI K (As := [vI x6, vI x1]) dX5_waysOf_73 LX5_169 rfl rfl (Nat.le_of_ble_eq_true rfl) h (fun r6 F6 A6 h => ?_)
        refine v_aload_n 0 dX5_waysOf_76 rfl (isR_ref _) ?_
        refine v_iload 4 dX5_waysOf_77 rfl ?_
        refine v_iload_n 1 dX5_waysOf_79 rfl ?_
        refine m_callI K (As := [vI x4, vI x1]) dX5_waysOf_80 LX5_169 rfl rfl (Nat.le_of_ble_eq_true rfl) h (fun r7 F7 A7 h => ?_)
        obtain ⟨s8, s9, h⟩ := h
        obtain ⟨ht, hf⟩ := h
        refine v_icmp_ne 90 dX5_waysOf_83 (by decide) s8 s9 (fun c => ?_) (fun c => ?_)
        · have h := ht c
          refine v_iconst dX5_waysOf_90 ?_
          refine v_iadd dX5_waysOf_91 ?_
          refine v_istore dX5_waysOf_92 (by decide) rfl ?_
          refine v_iinc 6 dX5_waysOf_94 rfl (by decide) rfl ?_
          refine v_goto 40 dX5_waysOf_97 (by decide) ?_
          refine V.sub [2, 3, 4, 5, 6, 1, 0] rfl ?_
          exact h
        · have h := hf c
          refine v_iconst dX5_waysOf_86 ?_
          refine v_goto 91 dX5_waysOf_87 (by decide) ?_
          refine v_iadd dX5_waysOf_91 ?_
          refine v_istore dX5_waysOf_92 (by decide) rfl ?_
          refine v_iinc 6 dX5_waysOf_94 rfl (by decide) rfl ?_
          refine v_goto 40 dX5_waysOf_97 (by decide) ?_
          refine V.sub [2, 3, 4, 5, 6, 1, 0] rfl ?_
          exact h
/-! more -/
theorem wX5_more_0 (K : KM) (hb : K.G.base ≤ K.m) {F : Nat → Int} {A : Nat → Int → Int} (h : VM K mX5_more 9 [(0, .ref K.m), (1, vI 0), (2, vI (F 1)), (3, vI 0)] [] F A) : VM K mX5_more 0 [(0, .ref K.m)] [] F A := by
  refine v_iconst dX5_more_0 ?_
  refine v_istore_n dX5_more_1 (by decide) rfl ?_
  refine v_aload_n 1 dX5_more_2 rfl (isR_ref _) ?_
  refine m_get (v := vI (F 1)) K dX5_more_3 fX5_145 rfl ?_
  refine v_istore_n dX5_more_6 (by decide) rfl ?_
  refine v_iconst dX5_more_7 ?_
  refine v_istore_n dX5_more_8 (by decide) rfl ?_
  refine V.sub [3, 2, 1, 0] rfl ?_
  exact h
theorem wX5_more_9 (K : KM) (hb : K.G.base ≤ K.m) {x1 x2 x3 : Int} {F : Nat → Int} {A : Nat → Int → Int} (h : (rI x3) ∧ (rI x2) ∧ ((x2 ≤ x3 → (SI K x1 F A)) ∧ (¬ x2 ≤ x3 → ((0 ≤ x3 ∧ x3 < 13) ∧ (RI mJ9_bitCount K [vI (A 0 x3)] F A fun r3 F3 A3 => (rI r3) ∧ ((¬ r3 = 4 → ((0 ≤ x2 ∧ x2 < 13) ∧ (RV mX5_binds K [.ref K.m, vI x3, vI x2] (upN F3 1 (x2 + 1)) (upA A3 0 x2 0) fun F6 A6 => RI mX5_keyNow K [.ref K.m] F6 A6 fun r7 F7 A7 => VM K mX5_more 88 [(0, .ref K.m), (1, vI x1), (2, vI x2), (3, vI x3), (4, vI r7), (5, vI 1), (6, vI 0)] [] (upN F7 1 x2) (upA (upA A7 0 x3 (iand (A7 0 x3) (ixor (ishl 1 x2) ((-1))))) 0 x2 0)))) ∧ (r3 = 4 → (VM K mX5_more 9 [(0, .ref K.m), (1, vI x1), (2, vI x2), (3, vI (x3 + 1))] [] F3 A3)))))))) : VM K mX5_more 9 [(0, .ref K.m), (1, vI x1), (2, vI x2), (3, vI x3)] [] F A := by
  obtain ⟨s0, s1, h⟩ := h
  refine v_iload_n 3 dX5_more_9 rfl ?_
  refine v_iload_n 2 dX5_more_10 rfl ?_
  obtain ⟨ht, hf⟩ := h
  refine v_icmp_ge 146 dX5_more_11 (by decide) s0 s1 (fun c => ?_) (fun c => ?_)
  · have h := ht c
    refine v_iload_n 1 dX5_more_146 rfl ?_
    exact m_iret K dX5_more_147 rfl h
  · have h := hf c
    obtain ⟨s2, h⟩ := h
    refine v_aload_n 0 dX5_more_14 rfl (isR_ref _) ?_
    refine m_get K dX5_more_15 fX5_11 rfl ?_
    refine v_iload_n 3 dX5_more_18 rfl ?_
    refine m_iald K 0 dX5_more_19 rfl s2 (by decide) ?_
    refine m_callSI K (As := [vI (A 0 x3)]) dX5_more_20 LX5_160 rfl rfl (Nat.le_of_ble_eq_true rfl) h (fun r3 F3 A3 h => ?_)
    obtain ⟨s4, h⟩ := h
    refine v_iconst dX5_more_23 ?_
    obtain ⟨ht, hf⟩ := h
    refine v_icmp_ne 30 dX5_more_24 (by decide) s4 (by decide) (fun c => ?_) (fun c => ?_)
    · have h := ht c
      obtain ⟨s5, h⟩ := h
      refine v_aload_n 0 dX5_more_30 rfl (isR_ref _) ?_
      refine v_iload_n 2 dX5_more_31 rfl ?_
      refine v_iconst dX5_more_32 ?_
      refine v_iadd dX5_more_33 ?_
      refine m_put (F' := upN F3 1 (x2 + 1)) K hb dX5_more_34 fX5_145 (by decide) (by decide) rfl ?_
      refine v_aload_n 0 dX5_more_37 rfl (isR_ref _) ?_
      refine m_get K dX5_more_38 fX5_11 rfl ?_
      refine v_iload_n 2 dX5_more_41 rfl ?_
      refine v_iconst dX5_more_42 ?_
      refine m_iast K 0 hb dX5_more_43 rfl s5 (by decide) ?_
      refine v_aload_n 0 dX5_more_44 rfl (isR_ref _) ?_
      refine v_iload_n 3 dX5_more_45 rfl ?_
      refine v_iload_n 2 dX5_more_46 rfl ?_
      refine m_callV K (As := [vI x3, vI x2]) dX5_more_47 LX5_206 rfl rfl (Nat.le_of_ble_eq_true rfl) h (fun F6 A6 h => ?_)
      refine v_aload_n 0 dX5_more_50 rfl (isR_ref _) ?_
      refine m_callI K (As := []) dX5_more_51 LX5_224 rfl rfl (Nat.le_of_ble_eq_true rfl) h (fun r7 F7 A7 h => ?_)
      refine v_istore dX5_more_54 (by decide) rfl ?_
      refine v_aload_n 1 dX5_more_56 rfl (isR_ref _) ?_
      refine m_get K dX5_more_57 fX5_11 rfl ?_
      refine v_iload_n 4 dX5_more_60 rfl ?_
      refine v_dup2 dX5_more_61 rfl rfl ?_
      refine m_iald K 0 dX5_more_62 rfl s2 (by decide) ?_
      refine v_iconst dX5_more_63 ?_
      refine v_iload_n 3 dX5_more_64 rfl ?_
      refine v_ishl dX5_more_65 ?_
      refine v_iconst dX5_more_66 ?_
      refine v_ixor dX5_more_67 ?_
      refine v_iand dX5_more_68 ?_
      refine m_iast K 0 hb dX5_more_69 rfl s2 (by decide) ?_
      refine v_aload_n 1 dX5_more_70 rfl (isR_ref _) ?_
      refine m_get K dX5_more_71 fX5_11 rfl ?_
      refine v_iload_n 3 dX5_more_74 rfl ?_
      refine v_iconst dX5_more_75 ?_
      refine m_iast K 0 hb dX5_more_76 rfl s5 (by decide) ?_
      refine v_aload_n 1 dX5_more_77 rfl (isR_ref _) ?_
      refine v_iload_n 3 dX5_more_78 rfl ?_
      refine m_put (F' := upN F7 1 x2) K hb dX5_more_79 fX5_145 (by decide) (by decide) rfl ?_
      refine v_iconst dX5_more_82 ?_
      refine v_istore dX5_more_83 (by decide) rfl ?_
      refine v_iconst dX5_more_85 ?_
      refine v_istore dX5_more_86 (by decide) rfl ?_
      refine V.sub [3, 4, 5, 6, 2, 1, 0] rfl ?_
      exact h
    · have h := hf c
      refine v_goto 140 dX5_more_27 (by decide) ?_
      refine v_iinc 3 dX5_more_140 rfl (by decide) rfl ?_
      refine v_goto 9 dX5_more_143 (by decide) ?_
      refine V.sub [1, 2, 3, 0] rfl ?_
      exact h
theorem wX5_more_88 (K : KM) (hb : K.G.base ≤ K.m) {x1 x2 x3 x4 x5 x6 : Int} {F : Nat → Int} {A : Nat → Int → Int} (h : (rI x6) ∧ (rI x1) ∧ ((x1 ≤ x6 → ((rI x5) ∧ ((x5 = 0 → (VM K mX5_more 9 [(0, .ref K.m), (1, vI x1), (2, vI x2), (3, vI (x3 + 1))] [] F A)) ∧ (¬ x5 = 0 → ((0 ≤ x1 ∧ x1 < 13) ∧ (VM K mX5_more 9 [(0, .ref K.m), (1, vI (x1 + 1)), (2, vI x2), (3, vI (x3 + 1))] [] F (upA A 5 x1 x4))))))) ∧ (¬ x1 ≤ x6 → ((rI x5) ∧ ((x5 = 0 → (VM K mX5_more 88 [(0, .ref K.m), (1, vI x1), (2, vI x2), (3, vI x3), (4, vI x4), (5, vI 0), (6, vI (x6 + 1))] [] F A)) ∧ (¬ x5 = 0 → ((0 ≤ x6 ∧ x6 < 13) ∧ (rI (A 5 x6)) ∧ (rI x4) ∧ (((A 5 x6) = x4 → (VM K mX5_more 88 [(0, .ref K.m), (1, vI x1), (2, vI x2), (3, vI x3), (4, vI x4), (5, vI 0), (6, vI (x6 + 1))] [] F A)) ∧ (¬ (A 5 x6) = x4 → (VM K mX5_more 88 [(0, .ref K.m), (1, vI x1), (2, vI x2), (3, vI x3), (4, vI x4), (5, vI 1), (6, vI (x6 + 1))] [] F A)))))))))) : VM K mX5_more 88 [(0, .ref K.m), (1, vI x1), (2, vI x2), (3, vI x3), (4, vI x4), (5, vI x5), (6, vI x6)] [] F A := by
  obtain ⟨s0, s1, h⟩ := h
  refine v_iload 6 dX5_more_88 rfl ?_
  refine v_iload_n 1 dX5_more_90 rfl ?_
  obtain ⟨ht, hf⟩ := h
  refine v_icmp_ge 124 dX5_more_91 (by decide) s0 s1 (fun c => ?_) (fun c => ?_)
  · have h := ht c
    obtain ⟨s2, h⟩ := h
    refine v_iload 5 dX5_more_124 rfl ?_
    obtain ⟨ht, hf⟩ := h
    refine v_if_eq 140 dX5_more_126 (by decide) s2 (fun c => ?_) (fun c => ?_)
    · have h := ht c
      refine v_iinc 3 dX5_more_140 rfl (by decide) rfl ?_
      refine v_goto 9 dX5_more_143 (by decide) ?_
      refine V.sub [1, 2, 3, 0] rfl ?_
      exact h
    · have h := hf c
      obtain ⟨s3, h⟩ := h
      refine v_aload_n 0 dX5_more_129 rfl (isR_ref _) ?_
      refine m_get K dX5_more_130 fX5_31 rfl ?_
      refine v_iload_n 1 dX5_more_133 rfl ?_
      refine v_iload 4 dX5_more_134 rfl ?_
      refine m_iast K 5 hb dX5_more_136 rfl s3 (by decide) ?_
      refine v_iinc 1 dX5_more_137 rfl (by decide) rfl ?_
      refine v_iinc 3 dX5_more_140 rfl (by decide) rfl ?_
      refine v_goto 9 dX5_more_143 (by decide) ?_
      refine V.sub [2, 1, 3, 0] rfl ?_
      exact h
  · have h := hf c
    obtain ⟨s2, h⟩ := h
    refine v_iload 5 dX5_more_94 rfl ?_
    obtain ⟨ht, hf⟩ := h
    refine v_if_eq 115 dX5_more_96 (by decide) s2 (fun c => ?_) (fun c => ?_)
    · have h := ht c
      refine v_iconst dX5_more_115 ?_
      refine v_istore dX5_more_116 (by decide) rfl ?_
      refine v_iinc 6 dX5_more_118 rfl (by decide) rfl ?_
      refine v_goto 88 dX5_more_121 (by decide) ?_
      refine V.sub [2, 3, 4, 5, 6, 1, 0] rfl ?_
      exact h
    · have h := hf c
      obtain ⟨s3, s4, s5, h⟩ := h
      refine v_aload_n 0 dX5_more_99 rfl (isR_ref _) ?_
      refine m_get K dX5_more_100 fX5_31 rfl ?_
      refine v_iload 6 dX5_more_103 rfl ?_
      refine m_iald K 5 dX5_more_105 rfl s3 (by decide) ?_
      refine v_iload 4 dX5_more_106 rfl ?_
      obtain ⟨ht, hf⟩ := h
      refine v_icmp_eq 115 dX5_more_108 (by decide) s4 s5 (fun c => ?_) (fun c => ?_)
      · have h := ht c
        refine v_iconst dX5_more_115 ?_
        refine v_istore dX5_more_116 (by decide) rfl ?_
        refine v_iinc 6 dX5_more_118 rfl (by decide) rfl ?_
        refine v_goto 88 dX5_more_121 (by decide) ?_
        refine V.sub [2, 3, 4, 5, 6, 1, 0] rfl ?_
        exact h
      · have h := hf c
        refine v_iconst dX5_more_111 ?_
        refine v_goto 116 dX5_more_112 (by decide) ?_
        refine v_istore dX5_more_116 (by decide) rfl ?_
        refine v_iinc 6 dX5_more_118 rfl (by decide) rfl ?_
        refine v_goto 88 dX5_more_121 (by decide) ?_
        refine V.sub [2, 3, 4, 5, 6, 1, 0] rfl ?_
        exact h
/-! longest -/
theorem wX5_longest_0 (K : KM) (hb : K.G.base ≤ K.m) {F : Nat → Int} {A : Nat → Int → Int} (h : VM K mX5_longest 4 [(0, .ref K.m), (1, vI 0), (2, vI 0)] [] F A) : VM K mX5_longest 0 [(0, .ref K.m)] [] F A := by
  refine v_iconst dX5_longest_0 ?_
  refine v_istore_n dX5_longest_1 (by decide) rfl ?_
  refine v_iconst dX5_longest_2 ?_
  refine v_istore_n dX5_longest_3 (by decide) rfl ?_
  refine V.sub [2, 1, 0] rfl ?_
  exact h
theorem wX5_longest_4 (K : KM) (hb : K.G.base ≤ K.m) {x1 x2 : Int} {F : Nat → Int} {A : Nat → Int → Int} (h : (rI x2) ∧ (rI (F 1)) ∧ (((F 1) ≤ x2 → (SI K (x1 + 1) F A)) ∧ (¬ (F 1) ≤ x2 → (RI mX5_deepOf K [.ref K.m, vI x2, vI ((-1))] F A fun r2 F2 A2 => (rI x1) ∧ (rI r2) ∧ (1 ≤ K.d) ∧ (VM K mX5_longest 4 [(0, .ref K.m), (1, vI (max x1 r2)), (2, vI (x2 + 1))] [] F2 A2))))) : VM K mX5_longest 4 [(0, .ref K.m), (1, vI x1), (2, vI x2)] [] F A := by
  obtain ⟨s0, s1, h⟩ := h
  refine v_iload_n 2 dX5_longest_4 rfl ?_
  refine v_aload_n 0 dX5_longest_5 rfl (isR_ref _) ?_
  refine m_get (v := vI (F 1)) K dX5_longest_6 fX5_145 rfl ?_
  obtain ⟨ht, hf⟩ := h
  refine v_icmp_ge 29 dX5_longest_9 (by decide) s0 s1 (fun c => ?_) (fun c => ?_)
  · have h := ht c
    refine v_iload_n 1 dX5_longest_29 rfl ?_
    refine v_iconst dX5_longest_30 ?_
    refine v_iadd dX5_longest_31 ?_
    exact m_iret K dX5_longest_32 rfl h
  · have h := hf c
    refine v_iload_n 1 dX5_longest_12 rfl ?_
    refine v_aload_n 0 dX5_longest_13 rfl (isR_ref _) ?_
    refine v_iload_n 2 dX5_longest_14 rfl ?_
    refine v_iconst dX5_longest_15 ?_
    refine m_callI K (As := [vI x2, vI ((-1))]) dX5_longest_16 LX5_184 rfl rfl (Nat.le_of_ble_eq_true rfl) h (fun r2 F2 A2 h => ?_)
    obtain ⟨s3, s4, s5, h⟩ := h
    refine v_mmax dX5_longest_19 q2021 s3 s4 s5 (Nat.le_of_ble_eq_true rfl) ?_
    refine v_istore_n dX5_longest_22 (by decide) rfl ?_
    refine v_iinc 2 dX5_longest_23 rfl (by decide) rfl ?_
    refine v_goto 4 dX5_longest_26 (by decide) ?_
    refine V.sub [2, 1, 0] rfl ?_
    exact h
/-! mostBranches -/
theorem wX5_mostBranches_0 (K : KM) (hb : K.G.base ≤ K.m) {F : Nat → Int} {A : Nat → Int → Int} (h : RI mX5_longest K [.ref K.m] F A fun r0 F0 A0 => VM K mX5_mostBranches 9 [(0, .ref K.m), (1, vI r0), (2, vI 0), (3, vI 0)] [] F0 A0) : VM K mX5_mostBranches 0 [(0, .ref K.m)] [] F A := by
  refine v_aload_n 0 dX5_mostBranches_0 rfl (isR_ref _) ?_
  refine m_callI K (As := []) dX5_mostBranches_1 LX5_279 rfl rfl (Nat.le_of_ble_eq_true rfl) h (fun r0 F0 A0 h => ?_)
  refine v_istore_n dX5_mostBranches_4 (by decide) rfl ?_
  refine v_iconst dX5_mostBranches_5 ?_
  refine v_istore_n dX5_mostBranches_6 (by decide) rfl ?_
  refine v_iconst dX5_mostBranches_7 ?_
  refine v_istore_n dX5_mostBranches_8 (by decide) rfl ?_
  refine V.sub [3, 2, 1, 0] rfl ?_
  exact h
theorem wX5_mostBranches_9 (K : KM) (hb : K.G.base ≤ K.m) {x1 x2 x3 : Int} {F : Nat → Int} {A : Nat → Int → Int} (h : (rI x3) ∧ (rI (F 1)) ∧ (((F 1) ≤ x3 → (SI K x2 F A)) ∧ (¬ (F 1) ≤ x3 → (VM K mX5_mostBranches 20 [(0, .ref K.m), (1, vI x1), (2, vI x2), (3, vI x3), (4, vI 0)] [] F A)))) : VM K mX5_mostBranches 9 [(0, .ref K.m), (1, vI x1), (2, vI x2), (3, vI x3)] [] F A := by
  obtain ⟨s0, s1, h⟩ := h
  refine v_iload_n 3 dX5_mostBranches_9 rfl ?_
  refine v_aload_n 0 dX5_mostBranches_10 rfl (isR_ref _) ?_
  refine m_get (v := vI (F 1)) K dX5_mostBranches_11 fX5_145 rfl ?_
  obtain ⟨ht, hf⟩ := h
  refine v_icmp_ge 74 dX5_mostBranches_14 (by decide) s0 s1 (fun c => ?_) (fun c => ?_)
  · have h := ht c
    refine v_iload_n 2 dX5_mostBranches_74 rfl ?_
    exact m_iret K dX5_mostBranches_75 rfl h
  · have h := hf c
    refine v_iconst dX5_mostBranches_17 ?_
    refine v_istore dX5_mostBranches_18 (by decide) rfl ?_
    refine V.sub [1, 2, 3, 4, 0] rfl ?_
    exact h
theorem wX5_mostBranches_20 (K : KM) (hb : K.G.base ≤ K.m) {x1 x2 x3 x4 : Int} {F : Nat → Int} {A : Nat → Int → Int} (h : (rI x4) ∧ (rI (F 1)) ∧ (((F 1) ≤ x4 → (VM K mX5_mostBranches 9 [(0, .ref K.m), (1, vI x1), (2, vI x2), (3, vI (x3 + 1))] [] F A)) ∧ (¬ (F 1) ≤ x4 → (RI mX5_farOf K [.ref K.m, vI x3, vI x4, vI ((-1))] F A fun r2 F2 A2 => (rI r2) ∧ (rI (x1 - 1)) ∧ ((¬ r2 = (x1 - 1) → (VM K mX5_mostBranches 20 [(0, .ref K.m), (1, vI x1), (2, vI x2), (3, vI x3), (4, vI (x4 + 1))] [] F2 A2)) ∧ (r2 = (x1 - 1) → (RI mX5_lays K [.ref K.m, vI x3, vI x4, vI ((-1))] F2 A2 fun r5 F5 A5 => RI mX5_branchesOf K [.ref K.m, vI ((-1))] F5 A5 fun r6 F6 A6 => (rI x2) ∧ (rI r6) ∧ (1 ≤ K.d) ∧ (VM K mX5_mostBranches 20 [(0, .ref K.m), (1, vI x1), (2, vI (max x2 r6)), (3, vI x3), (4, vI (x4 + 1))] [] F6 A6)))))))) : VM K mX5_mostBranches 20 [(0, .ref K.m), (1, vI x1), (2, vI x2), (3, vI x3), (4, vI x4)] [] F A := by
  obtain ⟨s0, s1, h⟩ := h
  refine v_iload 4 dX5_mostBranches_20 rfl ?_
  refine v_aload_n 0 dX5_mostBranches_22 rfl (isR_ref _) ?_
  refine m_get (v := vI (F 1)) K dX5_mostBranches_23 fX5_145 rfl ?_
  obtain ⟨ht, hf⟩ := h
  refine v_icmp_ge 68 dX5_mostBranches_26 (by decide) s0 s1 (fun c => ?_) (fun c => ?_)
  · have h := ht c
    refine v_iinc 3 dX5_mostBranches_68 rfl (by decide) rfl ?_
    refine v_goto 9 dX5_mostBranches_71 (by decide) ?_
    refine V.sub [1, 2, 3, 0] rfl ?_
    exact h
  · have h := hf c
    refine v_aload_n 0 dX5_mostBranches_29 rfl (isR_ref _) ?_
    refine v_iload_n 3 dX5_mostBranches_30 rfl ?_
    refine v_iload 4 dX5_mostBranches_31 rfl ?_
    refine v_iconst dX5_mostBranches_33 ?_
    refine m_callI K (As := [vI x3, vI x4, vI ((-1))]) dX5_mostBranches_34 LX5_180 rfl rfl (Nat.le_of_ble_eq_true rfl) h (fun r2 F2 A2 h => ?_)
    obtain ⟨s3, s4, h⟩ := h
    refine v_iload_n 1 dX5_mostBranches_37 rfl ?_
    refine v_iconst dX5_mostBranches_38 ?_
    refine v_isub dX5_mostBranches_39 ?_
    obtain ⟨ht, hf⟩ := h
    refine v_icmp_ne 62 dX5_mostBranches_40 (by decide) s3 s4 (fun c => ?_) (fun c => ?_)
    · have h := ht c
      refine v_iinc 4 dX5_mostBranches_62 rfl (by decide) rfl ?_
      refine v_goto 20 dX5_mostBranches_65 (by decide) ?_
      refine V.sub [1, 2, 3, 4, 0] rfl ?_
      exact h
    · have h := hf c
      refine v_aload_n 0 dX5_mostBranches_43 rfl (isR_ref _) ?_
      refine v_iload_n 3 dX5_mostBranches_44 rfl ?_
      refine v_iload 4 dX5_mostBranches_45 rfl ?_
      refine v_iconst dX5_mostBranches_47 ?_
      refine m_callI K (As := [vI x3, vI x4, vI ((-1))]) dX5_mostBranches_48 LX5_282 rfl rfl (Nat.le_of_ble_eq_true rfl) h (fun r5 F5 A5 h => ?_)
      refine v_pop dX5_mostBranches_51 rfl ?_
      refine v_iload_n 2 dX5_mostBranches_52 rfl ?_
      refine v_aload_n 0 dX5_mostBranches_53 rfl (isR_ref _) ?_
      refine v_iconst dX5_mostBranches_54 ?_
      refine m_callI K (As := [vI ((-1))]) dX5_mostBranches_55 LX5_286 rfl rfl (Nat.le_of_ble_eq_true rfl) h (fun r6 F6 A6 h => ?_)
      obtain ⟨s7, s8, s9, h⟩ := h
      refine v_mmax dX5_mostBranches_58 q2021 s7 s8 s9 (Nat.le_of_ble_eq_true rfl) ?_
      refine v_istore_n dX5_mostBranches_61 (by decide) rfl ?_
      refine v_iinc 4 dX5_mostBranches_62 rfl (by decide) rfl ?_
      refine v_goto 20 dX5_mostBranches_65 (by decide) ?_
      refine V.sub [2, 3, 1, 4, 0] rfl ?_
      exact h
/-! list -/
theorem wX5_list_0 (K : KM) (hb : K.G.base ≤ K.m) {x1 : Int} {F : Nat → Int} {A : Nat → Int → Int} (h : RI mX5_isListOf K [.ref K.m, vI x1] F A fun r0 F0 A0 => (rI r0) ∧ ((r0 = 0 → (SI K ((-1)) F0 A0)) ∧ (¬ r0 = 0 → ((0 ≤ x1 ∧ x1 < 11) ∧ (SI K (A0 4 x1) F0 A0))))) : VM K mX5_list 0 [(0, .ref K.m), (1, vI x1)] [] F A := by
  refine v_aload_n 0 dX5_list_0 rfl (isR_ref _) ?_
  refine v_iload_n 1 dX5_list_1 rfl ?_
  refine m_callI K (As := [vI x1]) dX5_list_2 LX5_232 rfl rfl (Nat.le_of_ble_eq_true rfl) h (fun r0 F0 A0 h => ?_)
  obtain ⟨s1, h⟩ := h
  obtain ⟨ht, hf⟩ := h
  refine v_if_eq 17 dX5_list_5 (by decide) s1 (fun c => ?_) (fun c => ?_)
  · have h := ht c
    refine v_iconst dX5_list_17 ?_
    exact m_iret K dX5_list_18 rfl h
  · have h := hf c
    obtain ⟨s2, h⟩ := h
    refine v_aload_n 0 dX5_list_8 rfl (isR_ref _) ?_
    refine m_get K dX5_list_9 fX5_28 rfl ?_
    refine v_iload_n 1 dX5_list_12 rfl ?_
    refine m_iald K 4 dX5_list_13 rfl s2 (by decide) ?_
    refine v_goto 18 dX5_list_14 (by decide) ?_
    exact m_iret K dX5_list_18 rfl h
/-! key -/
theorem wX5_key_0 (K : KM) (hb : K.G.base ≤ K.m) {x1 x2 : Int} {F : Nat → Int} {A : Nat → Int → Int} (h : RI mX5_isListed K [.ref K.m, vI x1, vI x2] F A fun r0 F0 A0 => (rI r0) ∧ ((r0 = 0 → (SI K ((-1)) F0 A0)) ∧ (¬ r0 = 0 → (RI mX5_keyOf K [.ref K.m, vI x1, vI x2] F0 A0 fun r2 F2 A2 => SI K r2 F2 A2)))) : VM K mX5_key 0 [(0, .ref K.m), (1, vI x1), (2, vI x2)] [] F A := by
  refine v_aload_n 0 dX5_key_0 rfl (isR_ref _) ?_
  refine v_iload_n 1 dX5_key_1 rfl ?_
  refine v_iload_n 2 dX5_key_2 rfl ?_
  refine m_callI K (As := [vI x1, vI x2]) dX5_key_3 LX5_253 rfl rfl (Nat.le_of_ble_eq_true rfl) h (fun r0 F0 A0 h => ?_)
  obtain ⟨s1, h⟩ := h
  obtain ⟨ht, hf⟩ := h
  refine v_if_eq 18 dX5_key_6 (by decide) s1 (fun c => ?_) (fun c => ?_)
  · have h := ht c
    refine v_iconst dX5_key_18 ?_
    exact m_iret K dX5_key_19 rfl h
  · have h := hf c
    refine v_aload_n 0 dX5_key_9 rfl (isR_ref _) ?_
    refine v_iload_n 1 dX5_key_10 rfl ?_
    refine v_iload_n 2 dX5_key_11 rfl ?_
    refine m_callI K (As := [vI x1, vI x2]) dX5_key_12 LX5_235 rfl rfl (Nat.le_of_ble_eq_true rfl) h (fun r2 F2 A2 h => ?_)
    refine v_goto 19 dX5_key_15 (by decide) ?_
    exact m_iret K dX5_key_19 rfl h
/-! ranked -/
theorem wX5_ranked_0 (K : KM) (hb : K.G.base ≤ K.m) {x1 x2 x3 : Int} {F : Nat → Int} {A : Nat → Int → Int} (h : RI mX5_isListed K [.ref K.m, vI x1, vI x3] F A fun r0 F0 A0 => (rI r0) ∧ ((r0 = 0 → (SI K ((-1)) F0 A0)) ∧ (¬ r0 = 0 → ((rI x2) ∧ (RI mX5_isIn K [vL x2, vL 0, vL 10] F0 A0 fun r3 F3 A3 => (rI r3) ∧ ((¬ r3 = 0 → (VM K mX5_ranked 26 [(0, .ref K.m), (1, vI x1), (2, vI x2), (3, vI x3), (4, vI 0)] [] F3 A3)) ∧ (r3 = 0 → (SI K ((-1)) F3 A3)))))))) : VM K mX5_ranked 0 [(0, .ref K.m), (1, vI x1), (2, vI x2), (3, vI x3)] [] F A := by
  refine v_aload_n 0 dX5_ranked_0 rfl (isR_ref _) ?_
  refine v_iload_n 1 dX5_ranked_1 rfl ?_
  refine v_iload_n 3 dX5_ranked_2 rfl ?_
  refine m_callI K (As := [vI x1, vI x3]) dX5_ranked_3 LX5_253 rfl rfl (Nat.le_of_ble_eq_true rfl) h (fun r0 F0 A0 h => ?_)
  obtain ⟨s1, h⟩ := h
  obtain ⟨ht, hf⟩ := h
  refine v_if_eq 21 dX5_ranked_6 (by decide) s1 (fun c => ?_) (fun c => ?_)
  · have h := ht c
    refine v_iconst dX5_ranked_21 ?_
    exact m_iret K dX5_ranked_22 rfl h
  · have h := hf c
    obtain ⟨s2, h⟩ := h
    refine v_iload_n 2 dX5_ranked_9 rfl ?_
    refine v_i2l dX5_ranked_10 s2 ?_
    refine v_lconst (z := 0) dX5_ranked_11 rfl ?_
    refine v_ldc2 (z := 10) dX5_ranked_12 q2042 ?_
    refine m_callSI K (As := [vL x2, vL 0, vL 10]) dX5_ranked_15 LX5_148 rfl rfl (Nat.le_of_ble_eq_true rfl) h (fun r3 F3 A3 h => ?_)
    obtain ⟨s4, h⟩ := h
    obtain ⟨ht, hf⟩ := h
    refine v_if_ne 23 dX5_ranked_18 (by decide) s4 (fun c => ?_) (fun c => ?_)
    · have h := ht c
      refine v_iconst dX5_ranked_23 ?_
      refine v_istore dX5_ranked_24 (by decide) rfl ?_
      refine V.sub [1, 2, 3, 4, 0] rfl ?_
      exact h
    · have h := hf c
      refine v_iconst dX5_ranked_21 ?_
      exact m_iret K dX5_ranked_22 rfl h
theorem wX5_ranked_26 (K : KM) (hb : K.G.base ≤ K.m) {x1 x2 x3 x4 : Int} {F : Nat → Int} {A : Nat → Int → Int} (h : (0 ≤ x1 ∧ x1 < 11) ∧ (rI x4) ∧ (rI (A 4 x1)) ∧ (((A 4 x1) ≤ x4 → (VM K mX5_ranked 65 [(0, .ref K.m), (1, vI x1), (3, vI x3), (4, vI 0)] [] F A)) ∧ (¬ (A 4 x1) ≤ x4 → (RV mX5_looksAt K [.ref K.m, vI x1, vI x4] F A fun F3 A3 => RI mX5_measured K [.ref K.m, vI x2] F3 A3 fun r4 F4 A4 => (0 ≤ x4 ∧ x4 < 80) ∧ (VM K mX5_ranked 26 [(0, .ref K.m), (1, vI x1), (2, vI x2), (3, vI x3), (4, vI (x4 + 1))] [] F4 (upA A4 6 x4 r4)))))) : VM K mX5_ranked 26 [(0, .ref K.m), (1, vI x1), (2, vI x2), (3, vI x3), (4, vI x4)] [] F A := by
  obtain ⟨s0, s1, s2, h⟩ := h
  refine v_iload 4 dX5_ranked_26 rfl ?_
  refine v_aload_n 0 dX5_ranked_28 rfl (isR_ref _) ?_
  refine m_get K dX5_ranked_29 fX5_28 rfl ?_
  refine v_iload_n 1 dX5_ranked_32 rfl ?_
  refine m_iald K 4 dX5_ranked_33 rfl s0 (by decide) ?_
  obtain ⟨ht, hf⟩ := h
  refine v_icmp_ge 62 dX5_ranked_34 (by decide) s1 s2 (fun c => ?_) (fun c => ?_)
  · have h := ht c
    refine v_iconst dX5_ranked_62 ?_
    refine v_istore dX5_ranked_63 (by decide) rfl ?_
    refine V.sub [1, 2, 4, 0] rfl ?_
    exact h
  · have h := hf c
    refine v_aload_n 0 dX5_ranked_37 rfl (isR_ref _) ?_
    refine v_iload_n 1 dX5_ranked_38 rfl ?_
    refine v_iload 4 dX5_ranked_39 rfl ?_
    refine m_callV K (As := [vI x1, vI x4]) dX5_ranked_41 LX5_255 rfl rfl (Nat.le_of_ble_eq_true rfl) h (fun F3 A3 h => ?_)
    refine v_aload_n 0 dX5_ranked_44 rfl (isR_ref _) ?_
    refine m_get K dX5_ranked_45 fX5_34 rfl ?_
    refine v_iload 4 dX5_ranked_48 rfl ?_
    refine v_aload_n 0 dX5_ranked_50 rfl (isR_ref _) ?_
    refine v_iload_n 2 dX5_ranked_51 rfl ?_
    refine m_callI K (As := [vI x2]) dX5_ranked_52 LX5_304 rfl rfl (Nat.le_of_ble_eq_true rfl) h (fun r4 F4 A4 h => ?_)
    obtain ⟨s5, h⟩ := h
    refine m_iast K 6 hb dX5_ranked_55 rfl s5 (by decide) ?_
    refine v_iinc 4 dX5_ranked_56 rfl (by decide) rfl ?_
    refine v_goto 26 dX5_ranked_59 (by decide) ?_
    refine V.sub [1, 2, 3, 4, 0] rfl ?_
    exact h
theorem wX5_ranked_65 (K : KM) (hb : K.G.base ≤ K.m) {x1 x3 x4 : Int} {F : Nat → Int} {A : Nat → Int → Int} (h : (0 ≤ x1 ∧ x1 < 11) ∧ (rI x4) ∧ (rI (A 4 x1)) ∧ (((A 4 x1) ≤ x4 → (SI K ((-1)) F A)) ∧ (¬ (A 4 x1) ≤ x4 → (VM K mX5_ranked 82 [(0, .ref K.m), (1, vI x1), (3, vI x3), (4, vI x4), (5, vI 0), (6, vI 0)] [] F A)))) : VM K mX5_ranked 65 [(0, .ref K.m), (1, vI x1), (3, vI x3), (4, vI x4)] [] F A := by
  obtain ⟨s0, s1, s2, h⟩ := h
  refine v_iload 3 dX5_ranked_65 rfl ?_
  refine v_aload_n 0 dX5_ranked_67 rfl (isR_ref _) ?_
  refine m_get K dX5_ranked_68 fX5_28 rfl ?_
  refine v_iload_n 1 dX5_ranked_71 rfl ?_
  refine m_iald K 4 dX5_ranked_72 rfl s0 (by decide) ?_
  obtain ⟨ht, hf⟩ := h
  refine v_icmp_ge 165 dX5_ranked_73 (by decide) s1 s2 (fun c => ?_) (fun c => ?_)
  · have h := ht c
    refine v_iconst dX5_ranked_165 ?_
    exact m_iret K dX5_ranked_166 rfl h
  · have h := hf c
    refine v_iconst dX5_ranked_76 ?_
    refine v_istore dX5_ranked_77 (by decide) rfl ?_
    refine v_iconst dX5_ranked_79 ?_
    refine v_istore dX5_ranked_80 (by decide) rfl ?_
    refine V.sub [2, 3, 4, 5, 1, 0] rfl ?_
    exact h
theorem wX5_ranked_82 (K : KM) (hb : K.G.base ≤ K.m) {x1 x3 x4 x5 x6 : Int} {F : Nat → Int} {A : Nat → Int → Int} (h : (0 ≤ x1 ∧ x1 < 11) ∧ (rI x6) ∧ (rI (A 4 x1)) ∧ (((A 4 x1) ≤ x6 → ((rI x5) ∧ (rI x3) ∧ ((¬ x5 = x3 → (VM K mX5_ranked 65 [(0, .ref K.m), (1, vI x1), (3, vI x3), (4, vI (x4 + 1))] [] F A)) ∧ (x5 = x3 → (SI K x4 F A))))) ∧ (¬ (A 4 x1) ≤ x6 → ((0 ≤ x6 ∧ x6 < 80) ∧ (0 ≤ x4 ∧ x4 < 80) ∧ (rI (A 6 x6)) ∧ (rI (A 6 x4)) ∧ (((A 6 x4) < (A 6 x6) → (VM K mX5_ranked 82 [(0, .ref K.m), (1, vI x1), (3, vI x3), (4, vI x4), (5, vI (x5 + 1)), (6, vI (x6 + 1))] [] F A)) ∧ (¬ (A 6 x4) < (A 6 x6) → ((¬ (A 6 x6) = (A 6 x4) → (VM K mX5_ranked 82 [(0, .ref K.m), (1, vI x1), (3, vI x3), (4, vI x4), (5, vI (x5 + 0)), (6, vI (x6 + 1))] [] F A)) ∧ ((A 6 x6) = (A 6 x4) → ((rI x4) ∧ ((x4 ≤ x6 → (VM K mX5_ranked 82 [(0, .ref K.m), (1, vI x1), (3, vI x3), (4, vI x4), (5, vI (x5 + 0)), (6, vI (x6 + 1))] [] F A)) ∧ (¬ x4 ≤ x6 → (VM K mX5_ranked 82 [(0, .ref K.m), (1, vI x1), (3, vI x3), (4, vI x4), (5, vI (x5 + 1)), (6, vI (x6 + 1))] [] F A)))))))))))) : VM K mX5_ranked 82 [(0, .ref K.m), (1, vI x1), (3, vI x3), (4, vI x4), (5, vI x5), (6, vI x6)] [] F A := by
  obtain ⟨s0, s1, s2, h⟩ := h
  refine v_iload 5 dX5_ranked_82 rfl ?_
  refine v_aload_n 0 dX5_ranked_84 rfl (isR_ref _) ?_
  refine m_get K dX5_ranked_85 fX5_28 rfl ?_
  refine v_iload_n 1 dX5_ranked_88 rfl ?_
  refine m_iald K 4 dX5_ranked_89 rfl s0 (by decide) ?_
  obtain ⟨ht, hf⟩ := h
  refine v_icmp_ge 150 dX5_ranked_90 (by decide) s1 s2 (fun c => ?_) (fun c => ?_)
  · have h := ht c
    obtain ⟨s3, s4, h⟩ := h
    refine v_iload 4 dX5_ranked_150 rfl ?_
    refine v_iload_n 2 dX5_ranked_152 rfl ?_
    obtain ⟨ht, hf⟩ := h
    refine v_icmp_ne 159 dX5_ranked_153 (by decide) s3 s4 (fun c => ?_) (fun c => ?_)
    · have h := ht c
      refine v_iinc 3 dX5_ranked_159 rfl (by decide) rfl ?_
      refine v_goto 65 dX5_ranked_162 (by decide) ?_
      refine V.sub [1, 2, 3, 0] rfl ?_
      exact h
    · have h := hf c
      refine v_iload 3 dX5_ranked_156 rfl ?_
      exact m_iret K dX5_ranked_158 rfl h
  · have h := hf c
    obtain ⟨s3, s4, s5, s6, h⟩ := h
    refine v_iload 4 dX5_ranked_93 rfl ?_
    refine v_aload_n 0 dX5_ranked_95 rfl (isR_ref _) ?_
    refine m_get K dX5_ranked_96 fX5_34 rfl ?_
    refine v_iload 5 dX5_ranked_99 rfl ?_
    refine m_iald K 6 dX5_ranked_101 rfl s3 (by decide) ?_
    refine v_aload_n 0 dX5_ranked_102 rfl (isR_ref _) ?_
    refine m_get K dX5_ranked_103 fX5_34 rfl ?_
    refine v_iload 3 dX5_ranked_106 rfl ?_
    refine m_iald K 6 dX5_ranked_108 rfl s4 (by decide) ?_
    obtain ⟨ht, hf⟩ := h
    refine v_icmp_gt 136 dX5_ranked_109 (by decide) s5 s6 (fun c => ?_) (fun c => ?_)
    · have h := ht c
      refine v_iconst dX5_ranked_136 ?_
      refine v_goto 141 dX5_ranked_137 (by decide) ?_
      refine v_iadd dX5_ranked_141 ?_
      refine v_istore dX5_ranked_142 (by decide) rfl ?_
      refine v_iinc 5 dX5_ranked_144 rfl (by decide) rfl ?_
      refine v_goto 82 dX5_ranked_147 (by decide) ?_
      refine V.sub [2, 3, 4, 5, 1, 0] rfl ?_
      exact h
    · have h := hf c
      refine v_aload_n 0 dX5_ranked_112 rfl (isR_ref _) ?_
      refine m_get K dX5_ranked_113 fX5_34 rfl ?_
      refine v_iload 5 dX5_ranked_116 rfl ?_
      refine m_iald K 6 dX5_ranked_118 rfl s3 (by decide) ?_
      refine v_aload_n 0 dX5_ranked_119 rfl (isR_ref _) ?_
      refine m_get K dX5_ranked_120 fX5_34 rfl ?_
      refine v_iload 3 dX5_ranked_123 rfl ?_
      refine m_iald K 6 dX5_ranked_125 rfl s4 (by decide) ?_
      obtain ⟨ht, hf⟩ := h
      refine v_icmp_ne 140 dX5_ranked_126 (by decide) s5 s6 (fun c => ?_) (fun c => ?_)
      · have h := ht c
        refine v_iconst dX5_ranked_140 ?_
        refine v_iadd dX5_ranked_141 ?_
        refine v_istore dX5_ranked_142 (by decide) rfl ?_
        refine v_iinc 5 dX5_ranked_144 rfl (by decide) rfl ?_
        refine v_goto 82 dX5_ranked_147 (by decide) ?_
        refine V.sub [2, 3, 4, 5, 1, 0] rfl ?_
        exact h
      · have h := hf c
        obtain ⟨s7, h⟩ := h
        refine v_iload 5 dX5_ranked_129 rfl ?_
        refine v_iload 3 dX5_ranked_131 rfl ?_
        obtain ⟨ht, hf⟩ := h
        refine v_icmp_ge 140 dX5_ranked_133 (by decide) s1 s7 (fun c => ?_) (fun c => ?_)
        · have h := ht c
          refine v_iconst dX5_ranked_140 ?_
          refine v_iadd dX5_ranked_141 ?_
          refine v_istore dX5_ranked_142 (by decide) rfl ?_
          refine v_iinc 5 dX5_ranked_144 rfl (by decide) rfl ?_
          refine v_goto 82 dX5_ranked_147 (by decide) ?_
          refine V.sub [2, 3, 4, 5, 1, 0] rfl ?_
          exact h
        · have h := hf c
          refine v_iconst dX5_ranked_136 ?_
          refine v_goto 141 dX5_ranked_137 (by decide) ?_
          refine v_iadd dX5_ranked_141 ?_
          refine v_istore dX5_ranked_142 (by decide) rfl ?_
          refine v_iinc 5 dX5_ranked_144 rfl (by decide) rfl ?_
          refine v_goto 82 dX5_ranked_147 (by decide) ?_
          refine V.sub [2, 3, 4, 5, 1, 0] rfl ?_
          exact h
/-! counted -/
theorem wX5_counted_0 (K : KM) (hb : K.G.base ≤ K.m) {x1 x2 : Int} {F : Nat → Int} {A : Nat → Int → Int} (h : (rI x1) ∧ (RI mX5_isIn K [vL x1, vL 0, vL 4] F A fun r1 F1 A1 => (rI r1) ∧ ((r1 = 0 → (SL K ((-9223372036854775808)) F1 A1)) ∧ (¬ r1 = 0 → ((rI x2) ∧ (RI mX5_isIn K [vL x2, vL 1, vL 20] F1 A1 fun r4 F4 A4 => (rI r4) ∧ ((¬ r4 = 0 → (RV mX5_countsTwigs K [.ref K.m, vI x2] F4 A4 fun F6 A6 => (rI (Int.tmod x2 2)) ∧ ((¬ (Int.tmod x2 2) = 0 → ((x1 = 0 → ((0 ≤ x2 ∧ x2 < 21) ∧ (SL K (A6 7 x2) F6 A6))) ∧ (x1 = 1 → (RL mX5_rowsOf K [.ref K.m, vI 4, vI 0, vI (x2 - 1)] F6 A6 fun r8 F8 A8 => SL K r8 F8 A8)) ∧ (x1 = 2 → (RL mX5_pairs K [.ref K.m, vI x2] F6 A6 fun r8 F8 A8 => SL K r8 F8 A8)) ∧ (x1 = 3 → (SL K 0 F6 A6)) ∧ ((x1 < 0 ∨ 3 < x1) → (RL mX5_rowsOf K [.ref K.m, vI 4, vI 0, vI (x2 - 1)] F6 A6 fun r8 F8 A8 => RL mX5_pairs K [.ref K.m, vI x2] F8 A8 fun r9 F9 A9 => SL K ((r8 - r9) + 0) F9 A9)))) ∧ ((Int.tmod x2 2) = 0 → ((0 ≤ (Int.tdiv x2 2) ∧ (Int.tdiv x2 2) < 21) ∧ ((x1 = 0 → ((0 ≤ x2 ∧ x2 < 21) ∧ (SL K (A6 7 x2) F6 A6))) ∧ (x1 = 1 → (RL mX5_rowsOf K [.ref K.m, vI 4, vI 0, vI (x2 - 1)] F6 A6 fun r9 F9 A9 => SL K r9 F9 A9)) ∧ (x1 = 2 → (RL mX5_pairs K [.ref K.m, vI x2] F6 A6 fun r9 F9 A9 => SL K r9 F9 A9)) ∧ (x1 = 3 → (SL K (A6 7 (Int.tdiv x2 2)) F6 A6)) ∧ ((x1 < 0 ∨ 3 < x1) → (RL mX5_rowsOf K [.ref K.m, vI 4, vI 0, vI (x2 - 1)] F6 A6 fun r9 F9 A9 => RL mX5_pairs K [.ref K.m, vI x2] F9 A9 fun r10 F10 A10 => SL K ((r9 - r10) + (A6 7 (Int.tdiv x2 2))) F10 A10)))))))) ∧ (r4 = 0 → (SL K ((-9223372036854775808)) F4 A4))))))))) : VM K mX5_counted 0 [(0, .ref K.m), (1, vI x1), (2, vI x2)] [] F A := by
  obtain ⟨s0, h⟩ := h
  refine v_iload_n 1 dX5_counted_0 rfl ?_
  refine v_i2l dX5_counted_1 s0 ?_
  refine v_lconst (z := 0) dX5_counted_2 rfl ?_
  refine v_ldc2 (z := 4) dX5_counted_3 q2239 ?_
  refine m_callSI K (As := [vL x1, vL 0, vL 4]) dX5_counted_6 LX5_148 rfl rfl (Nat.le_of_ble_eq_true rfl) h (fun r1 F1 A1 h => ?_)
  obtain ⟨s2, h⟩ := h
  obtain ⟨ht, hf⟩ := h
  refine v_if_eq 24 dX5_counted_9 (by decide) s2 (fun c => ?_) (fun c => ?_)
  · have h := ht c
    refine v_ldc2 (z := (-9223372036854775808)) dX5_counted_24 (by have h9 := q2241; rwa [show (-9223372036854775808 : Int64) = jL (-9223372036854775808) from by decide] at h9) ?_
    exact m_lret K dX5_counted_27 rfl h
  · have h := hf c
    obtain ⟨s3, h⟩ := h
    refine v_iload_n 2 dX5_counted_12 rfl ?_
    refine v_i2l dX5_counted_13 s3 ?_
    refine v_lconst (z := 1) dX5_counted_14 rfl ?_
    refine v_ldc2 (z := 20) dX5_counted_15 q2240 ?_
    refine m_callSI K (As := [vL x2, vL 1, vL 20]) dX5_counted_18 LX5_148 rfl rfl (Nat.le_of_ble_eq_true rfl) h (fun r4 F4 A4 h => ?_)
    obtain ⟨s5, h⟩ := h
    obtain ⟨ht, hf⟩ := h
    refine v_if_ne 28 dX5_counted_21 (by decide) s5 (fun c => ?_) (fun c => ?_)
    · have h := ht c
      refine v_aload_n 0 dX5_counted_28 rfl (isR_ref _) ?_
      refine v_iload_n 2 dX5_counted_29 rfl ?_
      refine m_callV K (As := [vI x2]) dX5_counted_30 LX5_321 rfl rfl (Nat.le_of_ble_eq_true rfl) h (fun F6 A6 h => ?_)
      obtain ⟨s7, h⟩ := h
      refine v_iload_n 2 dX5_counted_33 rfl ?_
      refine v_iconst dX5_counted_34 ?_
      refine v_irem dX5_counted_35 s3 (by decide) (by decide) ?_
      obtain ⟨ht, hf⟩ := h
      refine v_if_ne 50 dX5_counted_36 (by decide) s7 (fun c => ?_) (fun c => ?_)
      · have h := ht c
        refine v_lconst (z := 0) dX5_counted_50 rfl ?_
        refine v_lstore_n dX5_counted_51 (by decide) rfl ?_
        refine v_iload_n 2 dX5_counted_52 rfl ?_
        obtain ⟨h0, h1, h2, h3, hd⟩ := h
        by_cases c0 : x1 = 0
        · refine v_tableIn 84 dX5_counted_53 0 c0 (by decide) (by decide) (by decide) rfl (by decide) ?_
          have h := h0 c0
          obtain ⟨s8, h⟩ := h
          refine v_aload_n 1 dX5_counted_84 rfl (isR_ref _) ?_
          refine m_get K dX5_counted_85 fX5_37 rfl ?_
          refine v_iload_n 3 dX5_counted_88 rfl ?_
          refine m_lald K 7 dX5_counted_89 rfl s8 (by decide) ?_
          exact m_lret K dX5_counted_90 rfl h
        by_cases c1 : x1 = 1
        · refine v_tableIn 91 dX5_counted_53 1 c1 (by decide) (by decide) (by decide) rfl (by decide) ?_
          have h := h1 c1
          refine v_aload_n 1 dX5_counted_91 rfl (isR_ref _) ?_
          refine v_iconst dX5_counted_92 ?_
          refine v_iconst dX5_counted_93 ?_
          refine v_iload_n 3 dX5_counted_94 rfl ?_
          refine v_iconst dX5_counted_95 ?_
          refine v_isub dX5_counted_96 ?_
          refine m_callL K (As := [vI 4, vI 0, vI (x2 - 1)]) dX5_counted_97 LX5_311 rfl rfl (Nat.le_of_ble_eq_true rfl) h (fun r8 F8 A8 h => ?_)
          exact m_lret K dX5_counted_100 rfl h
        by_cases c2 : x1 = 2
        · refine v_tableIn 101 dX5_counted_53 2 c2 (by decide) (by decide) (by decide) rfl (by decide) ?_
          have h := h2 c2
          refine v_aload_n 1 dX5_counted_101 rfl (isR_ref _) ?_
          refine v_iload_n 3 dX5_counted_102 rfl ?_
          refine m_callL K (As := [vI x2]) dX5_counted_103 LX5_325 rfl rfl (Nat.le_of_ble_eq_true rfl) h (fun r8 F8 A8 h => ?_)
          exact m_lret K dX5_counted_106 rfl h
        by_cases c3 : x1 = 3
        · refine v_tableIn 107 dX5_counted_53 3 c3 (by decide) (by decide) (by decide) rfl (by decide) ?_
          have h := h3 c3
          refine v_lload_n 0 dX5_counted_107 rfl ?_
          exact m_lret K dX5_counted_108 rfl h
        have cd : x1 < 0 ∨ 3 < x1 := by omega
        refine v_tableOut 109 dX5_counted_53 s0 cd (by decide) ?_
        have h := hd cd
        refine v_aload_n 1 dX5_counted_109 rfl (isR_ref _) ?_
        refine v_iconst dX5_counted_110 ?_
        refine v_iconst dX5_counted_111 ?_
        refine v_iload_n 3 dX5_counted_112 rfl ?_
        refine v_iconst dX5_counted_113 ?_
        refine v_isub dX5_counted_114 ?_
        refine m_callL K (As := [vI 4, vI 0, vI (x2 - 1)]) dX5_counted_115 LX5_311 rfl rfl (Nat.le_of_ble_eq_true rfl) h (fun r8 F8 A8 h => ?_)
        refine v_aload_n 1 dX5_counted_118 rfl (isR_ref _) ?_
        refine v_iload_n 3 dX5_counted_119 rfl ?_
        refine m_callL K (As := [vI x2]) dX5_counted_120 LX5_325 rfl rfl (Nat.le_of_ble_eq_true rfl) h (fun r9 F9 A9 h => ?_)
        refine v_lsub dX5_counted_123 ?_
        refine v_lload_n 0 dX5_counted_124 rfl ?_
        refine v_ladd dX5_counted_125 ?_
        exact m_lret K dX5_counted_126 rfl h
      · have h := hf c
        obtain ⟨s8, h⟩ := h
        refine v_aload_n 0 dX5_counted_39 rfl (isR_ref _) ?_
        refine m_get K dX5_counted_40 fX5_37 rfl ?_
        refine v_iload_n 2 dX5_counted_43 rfl ?_
        refine v_iconst dX5_counted_44 ?_
        refine v_idiv dX5_counted_45 s3 (by decide) (by decide) ?_
        refine m_lald K 7 dX5_counted_46 rfl s8 (by decide) ?_
        refine v_goto 51 dX5_counted_47 (by decide) ?_
        refine v_lstore_n dX5_counted_51 (by decide) rfl ?_
        refine v_iload_n 2 dX5_counted_52 rfl ?_
        obtain ⟨h0, h1, h2, h3, hd⟩ := h
        by_cases c0 : x1 = 0
        · refine v_tableIn 84 dX5_counted_53 0 c0 (by decide) (by decide) (by decide) rfl (by decide) ?_
          have h := h0 c0
          obtain ⟨s9, h⟩ := h
          refine v_aload_n 1 dX5_counted_84 rfl (isR_ref _) ?_
          refine m_get K dX5_counted_85 fX5_37 rfl ?_
          refine v_iload_n 3 dX5_counted_88 rfl ?_
          refine m_lald K 7 dX5_counted_89 rfl s9 (by decide) ?_
          exact m_lret K dX5_counted_90 rfl h
        by_cases c1 : x1 = 1
        · refine v_tableIn 91 dX5_counted_53 1 c1 (by decide) (by decide) (by decide) rfl (by decide) ?_
          have h := h1 c1
          refine v_aload_n 1 dX5_counted_91 rfl (isR_ref _) ?_
          refine v_iconst dX5_counted_92 ?_
          refine v_iconst dX5_counted_93 ?_
          refine v_iload_n 3 dX5_counted_94 rfl ?_
          refine v_iconst dX5_counted_95 ?_
          refine v_isub dX5_counted_96 ?_
          refine m_callL K (As := [vI 4, vI 0, vI (x2 - 1)]) dX5_counted_97 LX5_311 rfl rfl (Nat.le_of_ble_eq_true rfl) h (fun r9 F9 A9 h => ?_)
          exact m_lret K dX5_counted_100 rfl h
        by_cases c2 : x1 = 2
        · refine v_tableIn 101 dX5_counted_53 2 c2 (by decide) (by decide) (by decide) rfl (by decide) ?_
          have h := h2 c2
          refine v_aload_n 1 dX5_counted_101 rfl (isR_ref _) ?_
          refine v_iload_n 3 dX5_counted_102 rfl ?_
          refine m_callL K (As := [vI x2]) dX5_counted_103 LX5_325 rfl rfl (Nat.le_of_ble_eq_true rfl) h (fun r9 F9 A9 h => ?_)
          exact m_lret K dX5_counted_106 rfl h
        by_cases c3 : x1 = 3
        · refine v_tableIn 107 dX5_counted_53 3 c3 (by decide) (by decide) (by decide) rfl (by decide) ?_
          have h := h3 c3
          refine v_lload_n 0 dX5_counted_107 rfl ?_
          exact m_lret K dX5_counted_108 rfl h
        have cd : x1 < 0 ∨ 3 < x1 := by omega
        refine v_tableOut 109 dX5_counted_53 s0 cd (by decide) ?_
        have h := hd cd
        refine v_aload_n 1 dX5_counted_109 rfl (isR_ref _) ?_
        refine v_iconst dX5_counted_110 ?_
        refine v_iconst dX5_counted_111 ?_
        refine v_iload_n 3 dX5_counted_112 rfl ?_
        refine v_iconst dX5_counted_113 ?_
        refine v_isub dX5_counted_114 ?_
        refine m_callL K (As := [vI 4, vI 0, vI (x2 - 1)]) dX5_counted_115 LX5_311 rfl rfl (Nat.le_of_ble_eq_true rfl) h (fun r9 F9 A9 h => ?_)
        refine v_aload_n 1 dX5_counted_118 rfl (isR_ref _) ?_
        refine v_iload_n 3 dX5_counted_119 rfl ?_
        refine m_callL K (As := [vI x2]) dX5_counted_120 LX5_325 rfl rfl (Nat.le_of_ble_eq_true rfl) h (fun r10 F10 A10 h => ?_)
        refine v_lsub dX5_counted_123 ?_
        refine v_lload_n 0 dX5_counted_124 rfl ?_
        refine v_ladd dX5_counted_125 ?_
        exact m_lret K dX5_counted_126 rfl h
    · have h := hf c
      refine v_ldc2 (z := (-9223372036854775808)) dX5_counted_24 (by have h9 := q2241; rwa [show (-9223372036854775808 : Int64) = jL (-9223372036854775808) from by decide] at h9) ?_
      exact m_lret K dX5_counted_27 rfl h
/-! countsTwigs -/
theorem wX5_countsTwigs_0 (K : KM) (hb : K.G.base ≤ K.m) {x1 : Int} {F : Nat → Int} {A : Nat → Int → Int} (h : VM K mX5_countsTwigs 9 [(0, .ref K.m), (1, vI x1), (2, vI 1)] [] F (upA A 7 0 1)) : VM K mX5_countsTwigs 0 [(0, .ref K.m), (1, vI x1)] [] F A := by
  refine v_aload_n 0 dX5_countsTwigs_0 rfl (isR_ref _) ?_
  refine m_get K dX5_countsTwigs_1 fX5_37 rfl ?_
  refine v_iconst dX5_countsTwigs_4 ?_
  refine v_lconst (z := 1) dX5_countsTwigs_5 rfl ?_
  refine m_last K 7 hb dX5_countsTwigs_6 rfl (by decide) (by decide) ?_
  refine v_iconst dX5_countsTwigs_7 ?_
  refine v_istore_n dX5_countsTwigs_8 (by decide) rfl ?_
  refine V.sub [1, 2, 0] rfl ?_
  exact h
theorem wX5_countsTwigs_9 (K : KM) (hb : K.G.base ≤ K.m) {x1 x2 : Int} {F : Nat → Int} {A : Nat → Int → Int} (h : (rI x2) ∧ (rI x1) ∧ ((x1 < x2 → (SV K F A)) ∧ (¬ x1 < x2 → (RL mX5_rowsOf K [.ref K.m, vI 3, vI 0, vI (x2 - 1)] F A fun r2 F2 A2 => (0 ≤ x2 ∧ x2 < 21) ∧ (VM K mX5_countsTwigs 9 [(0, .ref K.m), (1, vI x1), (2, vI (x2 + 1))] [] F2 (upA A2 7 x2 r2)))))) : VM K mX5_countsTwigs 9 [(0, .ref K.m), (1, vI x1), (2, vI x2)] [] F A := by
  obtain ⟨s0, s1, h⟩ := h
  refine v_iload_n 2 dX5_countsTwigs_9 rfl ?_
  refine v_iload_n 1 dX5_countsTwigs_10 rfl ?_
  obtain ⟨ht, hf⟩ := h
  refine v_icmp_gt 35 dX5_countsTwigs_11 (by decide) s0 s1 (fun c => ?_) (fun c => ?_)
  · have h := ht c
    exact m_vret K dX5_countsTwigs_35 rfl h
  · have h := hf c
    refine v_aload_n 0 dX5_countsTwigs_14 rfl (isR_ref _) ?_
    refine m_get K dX5_countsTwigs_15 fX5_37 rfl ?_
    refine v_iload_n 2 dX5_countsTwigs_18 rfl ?_
    refine v_aload_n 0 dX5_countsTwigs_19 rfl (isR_ref _) ?_
    refine v_iconst dX5_countsTwigs_20 ?_
    refine v_iconst dX5_countsTwigs_21 ?_
    refine v_iload_n 2 dX5_countsTwigs_22 rfl ?_
    refine v_iconst dX5_countsTwigs_23 ?_
    refine v_isub dX5_countsTwigs_24 ?_
    refine m_callL K (As := [vI 3, vI 0, vI (x2 - 1)]) dX5_countsTwigs_25 LX5_311 rfl rfl (Nat.le_of_ble_eq_true rfl) h (fun r2 F2 A2 h => ?_)
    obtain ⟨s3, h⟩ := h
    refine m_last K 7 hb dX5_countsTwigs_28 rfl s3 (by decide) ?_
    refine v_iinc 2 dX5_countsTwigs_29 rfl (by decide) rfl ?_
    refine v_goto 9 dX5_countsTwigs_32 (by decide) ?_
    refine V.sub [1, 2, 0] rfl ?_
    exact h
/-! rowsOf -/
theorem wX5_rowsOf_0 (K : KM) (hb : K.G.base ≤ K.m) {x1 x2 x3 : Int} {F : Nat → Int} {A : Nat → Int → Int} (h : (rI x1) ∧ ((¬ x1 = 0 → (VM K mX5_rowsOf 20 [(0, .ref K.m), (1, vI x1), (3, vI x3), (4, vL 0), (6, vI x2)] [] F A)) ∧ (x1 = 0 → ((rI x3) ∧ ((¬ x3 = 0 → (SL K 0 F A)) ∧ (x3 = 0 → (SL K 1 F A))))))) : VM K mX5_rowsOf 0 [(0, .ref K.m), (1, vI x1), (2, vI x2), (3, vI x3)] [] F A := by
  obtain ⟨s0, h⟩ := h
  refine v_iload_n 1 dX5_rowsOf_0 rfl ?_
  obtain ⟨ht, hf⟩ := h
  refine v_if_ne 14 dX5_rowsOf_1 (by decide) s0 (fun c => ?_) (fun c => ?_)
  · have h := ht c
    refine v_lconst (z := 0) dX5_rowsOf_14 rfl ?_
    refine v_lstore dX5_rowsOf_15 (by decide) rfl ?_
    refine v_iload_n 3 dX5_rowsOf_17 rfl ?_
    refine v_istore dX5_rowsOf_18 (by decide) rfl ?_
    refine V.sub [2, 3, 5, 1, 0] rfl ?_
    exact h
  · have h := hf c
    obtain ⟨s1, h⟩ := h
    refine v_iload_n 3 dX5_rowsOf_4 rfl ?_
    obtain ⟨ht, hf⟩ := h
    refine v_if_ne 12 dX5_rowsOf_5 (by decide) s1 (fun c => ?_) (fun c => ?_)
    · have h := ht c
      refine v_lconst (z := 0) dX5_rowsOf_12 rfl ?_
      exact m_lret K dX5_rowsOf_13 rfl h
    · have h := hf c
      refine v_lconst (z := 1) dX5_rowsOf_8 rfl ?_
      refine v_goto 13 dX5_rowsOf_9 (by decide) ?_
      exact m_lret K dX5_rowsOf_13 rfl h
theorem wX5_rowsOf_20 (K : KM) (hb : K.G.base ≤ K.m) {x1 x3 x4 x6 : Int} {F : Nat → Int} {A : Nat → Int → Int} (h : (rI (x6 * x1)) ∧ (rI x3) ∧ ((x3 < (x6 * x1) → (SL K x4 F A)) ∧ (¬ x3 < (x6 * x1) → (VM K mX5_rowsOf 31 [(0, .ref K.m), (1, vI x1), (3, vI x3), (4, vL x4), (6, vI x6), (7, vI 1)] [] F A)))) : VM K mX5_rowsOf 20 [(0, .ref K.m), (1, vI x1), (3, vI x3), (4, vL x4), (6, vI x6)] [] F A := by
  obtain ⟨s0, s1, h⟩ := h
  refine v_iload 4 dX5_rowsOf_20 rfl ?_
  refine v_iload_n 1 dX5_rowsOf_22 rfl ?_
  refine v_imul dX5_rowsOf_23 ?_
  refine v_iload_n 2 dX5_rowsOf_24 rfl ?_
  obtain ⟨ht, hf⟩ := h
  refine v_icmp_gt 95 dX5_rowsOf_25 (by decide) s0 s1 (fun c => ?_) (fun c => ?_)
  · have h := ht c
    refine v_lload 3 dX5_rowsOf_95 rfl ?_
    exact m_lret K dX5_rowsOf_97 rfl h
  · have h := hf c
    refine v_iconst dX5_rowsOf_28 ?_
    refine v_istore dX5_rowsOf_29 (by decide) rfl ?_
    refine V.sub [1, 2, 3, 4, 5, 0] rfl ?_
    exact h
theorem wX5_rowsOf_31 (K : KM) (hb : K.G.base ≤ K.m) {x1 x3 x4 x6 x7 : Int} {F : Nat → Int} {A : Nat → Int → Int} (h : (rI x7) ∧ (rI x1) ∧ ((x1 < x7 → (VM K mX5_rowsOf 20 [(0, .ref K.m), (1, vI x1), (3, vI x3), (4, vL x4), (6, vI (x6 + 1))] [] F A)) ∧ (¬ x1 < x7 → ((rI (x6 * x7)) ∧ (rI x3) ∧ ((x3 < (x6 * x7) → (VM K mX5_rowsOf 20 [(0, .ref K.m), (1, vI x1), (3, vI x3), (4, vL x4), (6, vI (x6 + 1))] [] F A)) ∧ (¬ x3 < (x6 * x7) → ((0 ≤ x6 ∧ x6 < 21) ∧ (RL mX5_taken K [vL (A 7 x6), vI x7] F A fun r5 F5 A5 => RL mX5_rowsOf K [.ref K.m, vI (x1 - x7), vI (x6 + 1), vI (x3 - (x6 * x7))] F5 A5 fun r6 F6 A6 => VM K mX5_rowsOf 31 [(0, .ref K.m), (1, vI x1), (3, vI x3), (4, vL (x4 + (r5 * r6))), (6, vI x6), (7, vI (x7 + 1))] [] F6 A6)))))))) : VM K mX5_rowsOf 31 [(0, .ref K.m), (1, vI x1), (3, vI x3), (4, vL x4), (6, vI x6), (7, vI x7)] [] F A := by
  obtain ⟨s0, s1, h⟩ := h
  refine v_iload 5 dX5_rowsOf_31 rfl ?_
  refine v_iload_n 1 dX5_rowsOf_33 rfl ?_
  obtain ⟨ht, hf⟩ := h
  refine v_icmp_gt 89 dX5_rowsOf_34 (by decide) s0 s1 (fun c => ?_) (fun c => ?_)
  · have h := ht c
    refine v_iinc 4 dX5_rowsOf_89 rfl (by decide) rfl ?_
    refine v_goto 20 dX5_rowsOf_92 (by decide) ?_
    refine V.sub [1, 2, 3, 4, 0] rfl ?_
    exact h
  · have h := hf c
    obtain ⟨s2, s3, h⟩ := h
    refine v_iload 4 dX5_rowsOf_37 rfl ?_
    refine v_iload 5 dX5_rowsOf_39 rfl ?_
    refine v_imul dX5_rowsOf_41 ?_
    refine v_iload_n 2 dX5_rowsOf_42 rfl ?_
    obtain ⟨ht, hf⟩ := h
    refine v_icmp_gt 89 dX5_rowsOf_43 (by decide) s2 s3 (fun c => ?_) (fun c => ?_)
    · have h := ht c
      refine v_iinc 4 dX5_rowsOf_89 rfl (by decide) rfl ?_
      refine v_goto 20 dX5_rowsOf_92 (by decide) ?_
      refine V.sub [1, 2, 3, 4, 0] rfl ?_
      exact h
    · have h := hf c
      obtain ⟨s4, h⟩ := h
      refine v_lload 3 dX5_rowsOf_46 rfl ?_
      refine v_aload_n 0 dX5_rowsOf_48 rfl (isR_ref _) ?_
      refine m_get K dX5_rowsOf_49 fX5_37 rfl ?_
      refine v_iload 4 dX5_rowsOf_52 rfl ?_
      refine m_lald K 7 dX5_rowsOf_54 rfl s4 (by decide) ?_
      refine v_iload 5 dX5_rowsOf_55 rfl ?_
      refine m_callSL K (As := [vL (A 7 x6), vI x7]) dX5_rowsOf_57 LX5_307 rfl rfl (Nat.le_of_ble_eq_true rfl) h (fun r5 F5 A5 h => ?_)
      refine v_aload_n 0 dX5_rowsOf_60 rfl (isR_ref _) ?_
      refine v_iload_n 1 dX5_rowsOf_61 rfl ?_
      refine v_iload 5 dX5_rowsOf_62 rfl ?_
      refine v_isub dX5_rowsOf_64 ?_
      refine v_iload 4 dX5_rowsOf_65 rfl ?_
      refine v_iconst dX5_rowsOf_67 ?_
      refine v_iadd dX5_rowsOf_68 ?_
      refine v_iload_n 2 dX5_rowsOf_69 rfl ?_
      refine v_iload 4 dX5_rowsOf_70 rfl ?_
      refine v_iload 5 dX5_rowsOf_72 rfl ?_
      refine v_imul dX5_rowsOf_74 ?_
      refine v_isub dX5_rowsOf_75 ?_
      refine m_callL K (As := [vI (x1 - x7), vI (x6 + 1), vI (x3 - (x6 * x7))]) dX5_rowsOf_76 LX5_311 rfl rfl (Nat.le_of_ble_eq_true rfl) h (fun r6 F6 A6 h => ?_)
      refine v_lmul dX5_rowsOf_79 ?_
      refine v_ladd dX5_rowsOf_80 ?_
      refine v_lstore dX5_rowsOf_81 (by decide) rfl ?_
      refine v_iinc 5 dX5_rowsOf_83 rfl (by decide) rfl ?_
      refine v_goto 31 dX5_rowsOf_86 (by decide) ?_
      refine V.sub [2, 3, 4, 1, 5, 0] rfl ?_
      exact h
/-! taken -/
theorem wX5_taken_0 (K : KM) (hb : K.G.base ≤ K.m) {x0 x2 : Int} {F : Nat → Int} {A : Nat → Int → Int} (h : VM K mX5_taken 5 [(0, vL x0), (2, vI x2), (3, vL 1), (5, vI 0)] [] F A) : VM K mX5_taken 0 [(0, vL x0), (2, vI x2)] [] F A := by
  refine v_lconst (z := 1) dX5_taken_0 rfl ?_
  refine v_lstore_n dX5_taken_1 (by decide) rfl ?_
  refine v_iconst dX5_taken_2 ?_
  refine v_istore dX5_taken_3 (by decide) rfl ?_
  refine V.sub [2, 3, 1, 0] rfl ?_
  exact h
theorem wX5_taken_5 (K : KM) (hb : K.G.base ≤ K.m) {x0 x2 x3 x5 : Int} {F : Nat → Int} {A : Nat → Int → Int} (h : (rI x5) ∧ (rI x2) ∧ ((x2 ≤ x5 → (SL K x3 F A)) ∧ (¬ x2 ≤ x5 → ((rI (x5 + 1)) ∧ (rL (x3 * (x0 + x5))) ∧ (rL (x5 + 1)) ∧ ((x5 + 1) ≠ 0) ∧ (VM K mX5_taken 5 [(0, vL x0), (2, vI x2), (3, vL (Int.tdiv (x3 * (x0 + x5)) (x5 + 1))), (5, vI (x5 + 1))] [] F A))))) : VM K mX5_taken 5 [(0, vL x0), (2, vI x2), (3, vL x3), (5, vI x5)] [] F A := by
  obtain ⟨s0, s1, h⟩ := h
  refine v_iload 3 dX5_taken_5 rfl ?_
  refine v_iload_n 1 dX5_taken_7 rfl ?_
  obtain ⟨ht, hf⟩ := h
  refine v_icmp_ge 31 dX5_taken_8 (by decide) s0 s1 (fun c => ?_) (fun c => ?_)
  · have h := ht c
    refine v_lload_n 2 dX5_taken_31 rfl ?_
    exact m_lret K dX5_taken_32 rfl h
  · have h := hf c
    obtain ⟨s2, s3, s4, s5, h⟩ := h
    refine v_lload_n 2 dX5_taken_11 rfl ?_
    refine v_lload_n 0 dX5_taken_12 rfl ?_
    refine v_iload 3 dX5_taken_13 rfl ?_
    refine v_i2l dX5_taken_15 s0 ?_
    refine v_ladd dX5_taken_16 ?_
    refine v_lmul dX5_taken_17 ?_
    refine v_iload 3 dX5_taken_18 rfl ?_
    refine v_iconst dX5_taken_20 ?_
    refine v_iadd dX5_taken_21 ?_
    refine v_i2l dX5_taken_22 s2 ?_
    refine v_ldiv dX5_taken_23 s3 s4 s5 ?_
    refine v_lstore_n dX5_taken_24 (by decide) rfl ?_
    refine v_iinc 3 dX5_taken_25 rfl (by decide) rfl ?_
    refine v_goto 5 dX5_taken_28 (by decide) ?_
    refine V.sub [2, 3, 1, 0] rfl ?_
    exact h
/-! pairs -/
theorem wX5_pairs_0 (K : KM) (hb : K.G.base ≤ K.m) {x1 : Int} {F : Nat → Int} {A : Nat → Int → Int} (h : VM K mX5_pairs 5 [(0, .ref K.m), (1, vI x1), (2, vL 0), (4, vI 1)] [] F A) : VM K mX5_pairs 0 [(0, .ref K.m), (1, vI x1)] [] F A := by
  refine v_lconst (z := 0) dX5_pairs_0 rfl ?_
  refine v_lstore_n dX5_pairs_1 (by decide) rfl ?_
  refine v_iconst dX5_pairs_2 ?_
  refine v_istore dX5_pairs_3 (by decide) rfl ?_
  refine V.sub [2, 3, 1, 0] rfl ?_
  exact h
theorem wX5_pairs_5 (K : KM) (hb : K.G.base ≤ K.m) {x1 x2 x4 : Int} {F : Nat → Int} {A : Nat → Int → Int} (h : (rI (2 * x4)) ∧ (rI x1) ∧ ((x1 < (2 * x4) → (SL K x2 F A)) ∧ (¬ x1 < (2 * x4) → ((¬ (2 * x4) = x1 → ((0 ≤ x4 ∧ x4 < 21) ∧ (0 ≤ (x1 - x4) ∧ (x1 - x4) < 21) ∧ (VM K mX5_pairs 5 [(0, .ref K.m), (1, vI x1), (2, vL (x2 + ((A 7 x4) * (A 7 (x1 - x4))))), (4, vI (x4 + 1))] [] F A))) ∧ ((2 * x4) = x1 → ((0 ≤ x4 ∧ x4 < 21) ∧ (RL mX5_taken K [vL (A 7 x4), vI 2] F A fun r3 F3 A3 => VM K mX5_pairs 5 [(0, .ref K.m), (1, vI x1), (2, vL (x2 + r3)), (4, vI (x4 + 1))] [] F3 A3))))))) : VM K mX5_pairs 5 [(0, .ref K.m), (1, vI x1), (2, vL x2), (4, vI x4)] [] F A := by
  obtain ⟨s0, s1, h⟩ := h
  refine v_iconst dX5_pairs_5 ?_
  refine v_iload 3 dX5_pairs_6 rfl ?_
  refine v_imul dX5_pairs_8 ?_
  refine v_iload_n 1 dX5_pairs_9 rfl ?_
  obtain ⟨ht, hf⟩ := h
  refine v_icmp_gt 61 dX5_pairs_10 (by decide) s0 s1 (fun c => ?_) (fun c => ?_)
  · have h := ht c
    refine v_lload_n 2 dX5_pairs_61 rfl ?_
    exact m_lret K dX5_pairs_62 rfl h
  · have h := hf c
    refine v_lload_n 2 dX5_pairs_13 rfl ?_
    refine v_iconst dX5_pairs_14 ?_
    refine v_iload 3 dX5_pairs_15 rfl ?_
    refine v_imul dX5_pairs_17 ?_
    refine v_iload_n 1 dX5_pairs_18 rfl ?_
    obtain ⟨ht, hf⟩ := h
    refine v_icmp_ne 36 dX5_pairs_19 (by decide) s0 s1 (fun c => ?_) (fun c => ?_)
    · have h := ht c
      obtain ⟨s2, s3, h⟩ := h
      refine v_aload_n 0 dX5_pairs_36 rfl (isR_ref _) ?_
      refine m_get K dX5_pairs_37 fX5_37 rfl ?_
      refine v_iload 3 dX5_pairs_40 rfl ?_
      refine m_lald K 7 dX5_pairs_42 rfl s2 (by decide) ?_
      refine v_aload_n 0 dX5_pairs_43 rfl (isR_ref _) ?_
      refine m_get K dX5_pairs_44 fX5_37 rfl ?_
      refine v_iload_n 1 dX5_pairs_47 rfl ?_
      refine v_iload 3 dX5_pairs_48 rfl ?_
      refine v_isub dX5_pairs_50 ?_
      refine m_lald K 7 dX5_pairs_51 rfl s3 (by decide) ?_
      refine v_lmul dX5_pairs_52 ?_
      refine v_ladd dX5_pairs_53 ?_
      refine v_lstore_n dX5_pairs_54 (by decide) rfl ?_
      refine v_iinc 3 dX5_pairs_55 rfl (by decide) rfl ?_
      refine v_goto 5 dX5_pairs_58 (by decide) ?_
      refine V.sub [2, 3, 1, 0] rfl ?_
      exact h
    · have h := hf c
      obtain ⟨s2, h⟩ := h
      refine v_aload_n 0 dX5_pairs_22 rfl (isR_ref _) ?_
      refine m_get K dX5_pairs_23 fX5_37 rfl ?_
      refine v_iload 3 dX5_pairs_26 rfl ?_
      refine m_lald K 7 dX5_pairs_28 rfl s2 (by decide) ?_
      refine v_iconst dX5_pairs_29 ?_
      refine m_callSL K (As := [vL (A 7 x4), vI 2]) dX5_pairs_30 LX5_307 rfl rfl (Nat.le_of_ble_eq_true rfl) h (fun r3 F3 A3 h => ?_)
      refine v_goto 53 dX5_pairs_33 (by decide) ?_
      refine v_ladd dX5_pairs_53 ?_
      refine v_lstore_n dX5_pairs_54 (by decide) rfl ?_
      refine v_iinc 3 dX5_pairs_55 rfl (by decide) rfl ?_
      refine v_goto 5 dX5_pairs_58 (by decide) ?_
      refine V.sub [2, 3, 1, 0] rfl ?_
      exact h
/-! name -/
theorem wX5_name_0 (K : KM) (hb : K.G.base ≤ K.m) {x1 : Int} {F : Nat → Int} {A : Nat → Int → Int} (h : RV mX5_looksAtDrawing K [.ref K.m] F A fun F0 A0 => RI mX5_namesTree K [.ref K.m] F0 A0 fun r1 F1 A1 => (rI x1) ∧ ((¬ x1 = ((-1)) → ((rI (r1 - 1)) ∧ (RI mX5_isIn K [vL x1, vL 0, vL (r1 - 1)] F1 A1 fun r4 F4 A4 => (rI r4) ∧ ((r4 = 0 → (SI K ((-1)) F4 A4)) ∧ (¬ r4 = 0 → ((0 ≤ x1 ∧ x1 < 16384) ∧ (SI K (A4 10 x1) F4 A4))))))) ∧ (x1 = ((-1)) → (SI K r1 F1 A1)))) : VM K mX5_name 0 [(0, .ref K.m), (1, vI x1)] [] F A := by
  refine v_aload_n 0 dX5_name_0 rfl (isR_ref _) ?_
  refine m_callV K (As := []) dX5_name_1 LX5_241 rfl rfl (Nat.le_of_ble_eq_true rfl) h (fun F0 A0 h => ?_)
  refine v_aload_n 0 dX5_name_4 rfl (isR_ref _) ?_
  refine m_callI K (As := []) dX5_name_5 LX5_412 rfl rfl (Nat.le_of_ble_eq_true rfl) h (fun r1 F1 A1 h => ?_)
  obtain ⟨s2, h⟩ := h
  refine v_istore_n dX5_name_8 (by decide) rfl ?_
  refine v_iload_n 2 dX5_name_9 rfl ?_
  refine v_iconst dX5_name_10 ?_
  obtain ⟨ht, hf⟩ := h
  refine v_icmp_ne 18 dX5_name_11 (by decide) s2 (by decide) (fun c => ?_) (fun c => ?_)
  · have h := ht c
    obtain ⟨s3, h⟩ := h
    refine v_iload_n 2 dX5_name_18 rfl ?_
    refine v_i2l dX5_name_19 s2 ?_
    refine v_lconst (z := 0) dX5_name_20 rfl ?_
    refine v_iload_n 0 dX5_name_21 rfl ?_
    refine v_iconst dX5_name_22 ?_
    refine v_isub dX5_name_23 ?_
    refine v_i2l dX5_name_24 s3 ?_
    refine m_callSI K (As := [vL x1, vL 0, vL (r1 - 1)]) dX5_name_25 LX5_148 rfl rfl (Nat.le_of_ble_eq_true rfl) h (fun r4 F4 A4 h => ?_)
    obtain ⟨s5, h⟩ := h
    obtain ⟨ht, hf⟩ := h
    refine v_if_eq 40 dX5_name_28 (by decide) s5 (fun c => ?_) (fun c => ?_)
    · have h := ht c
      refine v_iconst dX5_name_40 ?_
      exact m_iret K dX5_name_41 rfl h
    · have h := hf c
      obtain ⟨s6, h⟩ := h
      refine v_aload_n 1 dX5_name_31 rfl (isR_ref _) ?_
      refine m_get K dX5_name_32 fX5_47 rfl ?_
      refine v_iload_n 2 dX5_name_35 rfl ?_
      refine m_iald K 10 dX5_name_36 rfl s6 (by decide) ?_
      refine v_goto 41 dX5_name_37 (by decide) ?_
      exact m_iret K dX5_name_41 rfl h
  · have h := hf c
    refine v_iload_n 0 dX5_name_14 rfl ?_
    refine v_goto 41 dX5_name_15 (by decide) ?_
    exact m_iret K dX5_name_41 rfl h
/-! namesTree -/
theorem wX5_namesTree_0 (K : KM) (hb : K.G.base ≤ K.m) {F : Nat → Int} {A : Nat → Int → Int} (h : RI mX5_names K [.ref K.m, vI 0, vI ((-1))] (upN (upN F 19 0) 26 0) A fun r0 F0 A0 => SI K r0 F0 A0) : VM K mX5_namesTree 0 [(0, .ref K.m)] [] F A := by
  refine v_aload_n 0 dX5_namesTree_0 rfl (isR_ref _) ?_
  refine v_iconst dX5_namesTree_1 ?_
  refine m_put (F' := upN F 19 0) K hb dX5_namesTree_2 fX5_267 (by decide) (by decide) rfl ?_
  refine v_aload_n 0 dX5_namesTree_5 rfl (isR_ref _) ?_
  refine v_iconst dX5_namesTree_6 ?_
  refine m_put (F' := upN (upN F 19 0) 26 0) K hb dX5_namesTree_7 fX5_270 (by decide) (by decide) rfl ?_
  refine v_aload_n 0 dX5_namesTree_10 rfl (isR_ref _) ?_
  refine v_iconst dX5_namesTree_11 ?_
  refine v_iconst dX5_namesTree_12 ?_
  refine m_callI K (As := [vI 0, vI ((-1))]) dX5_namesTree_13 LX5_273 rfl rfl (Nat.le_of_ble_eq_true rfl) h (fun r0 F0 A0 h => ?_)
  exact m_iret K dX5_namesTree_16 rfl h
/-! named -/
theorem wX5_named_0 (K : KM) (hb : K.G.base ≤ K.m) {x1 x2 x3 : Int} {F : Nat → Int} {A : Nat → Int → Int} (h : RI mX5_isListed K [.ref K.m, vI x1, vI x2] F A fun r0 F0 A0 => (rI r0) ∧ ((¬ r0 = 0 → (RV mX5_looksAt K [.ref K.m, vI x1, vI x2] F0 A0 fun F2 A2 => RI mX5_namesTree K [.ref K.m] F2 A2 fun r3 F3 A3 => (rI x3) ∧ ((¬ x3 = ((-1)) → ((rI (r3 - 1)) ∧ (RI mX5_isIn K [vL x3, vL 0, vL (r3 - 1)] F3 A3 fun r6 F6 A6 => (rI r6) ∧ ((r6 = 0 → (SI K ((-1)) F6 A6)) ∧ (¬ r6 = 0 → ((0 ≤ x3 ∧ x3 < 16384) ∧ (SI K (A6 10 x3) F6 A6))))))) ∧ (x3 = ((-1)) → (SI K r3 F3 A3))))) ∧ (r0 = 0 → (SI K ((-1)) F0 A0)))) : VM K mX5_named 0 [(0, .ref K.m), (1, vI x1), (2, vI x2), (3, vI x3)] [] F A := by
  refine v_aload_n 0 dX5_named_0 rfl (isR_ref _) ?_
  refine v_iload_n 1 dX5_named_1 rfl ?_
  refine v_iload_n 2 dX5_named_2 rfl ?_
  refine m_callI K (As := [vI x1, vI x2]) dX5_named_3 LX5_253 rfl rfl (Nat.le_of_ble_eq_true rfl) h (fun r0 F0 A0 h => ?_)
  obtain ⟨s1, h⟩ := h
  obtain ⟨ht, hf⟩ := h
  refine v_if_ne 11 dX5_named_6 (by decide) s1 (fun c => ?_) (fun c => ?_)
  · have h := ht c
    refine v_aload_n 0 dX5_named_11 rfl (isR_ref _) ?_
    refine v_iload_n 1 dX5_named_12 rfl ?_
    refine v_iload_n 2 dX5_named_13 rfl ?_
    refine m_callV K (As := [vI x1, vI x2]) dX5_named_14 LX5_255 rfl rfl (Nat.le_of_ble_eq_true rfl) h (fun F2 A2 h => ?_)
    refine v_aload_n 0 dX5_named_17 rfl (isR_ref _) ?_
    refine m_callI K (As := []) dX5_named_18 LX5_412 rfl rfl (Nat.le_of_ble_eq_true rfl) h (fun r3 F3 A3 h => ?_)
    obtain ⟨s4, h⟩ := h
    refine v_istore dX5_named_21 (by decide) rfl ?_
    refine v_iload_n 4 dX5_named_23 rfl ?_
    refine v_iconst dX5_named_24 ?_
    obtain ⟨ht, hf⟩ := h
    refine v_icmp_ne 33 dX5_named_25 (by decide) s4 (by decide) (fun c => ?_) (fun c => ?_)
    · have h := ht c
      obtain ⟨s5, h⟩ := h
      refine v_iload_n 4 dX5_named_33 rfl ?_
      refine v_i2l dX5_named_34 s4 ?_
      refine v_lconst (z := 0) dX5_named_35 rfl ?_
      refine v_iload 0 dX5_named_36 rfl ?_
      refine v_iconst dX5_named_38 ?_
      refine v_isub dX5_named_39 ?_
      refine v_i2l dX5_named_40 s5 ?_
      refine m_callSI K (As := [vL x3, vL 0, vL (r3 - 1)]) dX5_named_41 LX5_148 rfl rfl (Nat.le_of_ble_eq_true rfl) h (fun r6 F6 A6 h => ?_)
      obtain ⟨s7, h⟩ := h
      obtain ⟨ht, hf⟩ := h
      refine v_if_eq 56 dX5_named_44 (by decide) s7 (fun c => ?_) (fun c => ?_)
      · have h := ht c
        refine v_iconst dX5_named_56 ?_
        exact m_iret K dX5_named_57 rfl h
      · have h := hf c
        obtain ⟨s8, h⟩ := h
        refine v_aload_n 1 dX5_named_47 rfl (isR_ref _) ?_
        refine m_get K dX5_named_48 fX5_47 rfl ?_
        refine v_iload_n 4 dX5_named_51 rfl ?_
        refine m_iald K 10 dX5_named_52 rfl s8 (by decide) ?_
        refine v_goto 57 dX5_named_53 (by decide) ?_
        exact m_iret K dX5_named_57 rfl h
    · have h := hf c
      refine v_iload 0 dX5_named_28 rfl ?_
      refine v_goto 57 dX5_named_30 (by decide) ?_
      exact m_iret K dX5_named_57 rfl h
  · have h := hf c
    refine v_iconst dX5_named_9 ?_
    exact m_iret K dX5_named_10 rfl h
/-! chain -/
theorem wX5_chain_0 (K : KM) (hb : K.G.base ≤ K.m) {x1 : Int} {F : Nat → Int} {A : Nat → Int → Int} (h : RV mX5_looksAtDrawing K [.ref K.m] F A fun F0 A0 => RV mX5_findsBest K [.ref K.m, vI 0, vI ((-1))] (upN F0 26 0) A0 fun F1 A1 => (rI x1) ∧ (RI mX5_isIn K [vL x1, vL 0, vL 1] F1 A1 fun r3 F3 A3 => (rI r3) ∧ ((r3 = 0 → ((x1 < 10 → (SI K ((-1)) F3 A3)) ∧ (¬ x1 < 10 → ((rI (x1 - 10)) ∧ (rI (A3 16 0)) ∧ (((A3 16 0) ≤ (x1 - 10) → (SI K ((-1)) F3 A3)) ∧ (¬ (A3 16 0) ≤ (x1 - 10) → ((0 ≤ (x1 - 10) ∧ (x1 - 10) < 169) ∧ (SI K (A3 17 (x1 - 10)) F3 A3)))))))) ∧ (¬ r3 = 0 → ((¬ x1 = 0 → (SI K (A3 16 0) F3 A3)) ∧ (x1 = 0 → (SI K (A3 15 0) F3 A3))))))) : VM K mX5_chain 0 [(0, .ref K.m), (1, vI x1)] [] F A := by
  refine v_aload_n 0 dX5_chain_0 rfl (isR_ref _) ?_
  refine m_callV K (As := []) dX5_chain_1 LX5_241 rfl rfl (Nat.le_of_ble_eq_true rfl) h (fun F0 A0 h => ?_)
  refine v_aload_n 0 dX5_chain_4 rfl (isR_ref _) ?_
  refine v_iconst dX5_chain_5 ?_
  refine m_put (F' := upN F0 26 0) K hb dX5_chain_6 fX5_270 (by decide) (by decide) rfl ?_
  refine v_aload_n 0 dX5_chain_9 rfl (isR_ref _) ?_
  refine v_iconst dX5_chain_10 ?_
  refine v_iconst dX5_chain_11 ?_
  refine m_callV K (As := [vI 0, vI ((-1))]) dX5_chain_12 LX5_406 rfl rfl (Nat.le_of_ble_eq_true rfl) h (fun F1 A1 h => ?_)
  obtain ⟨s2, h⟩ := h
  refine v_iload_n 1 dX5_chain_15 rfl ?_
  refine v_i2l dX5_chain_16 s2 ?_
  refine v_lconst (z := 0) dX5_chain_17 rfl ?_
  refine v_lconst (z := 1) dX5_chain_18 rfl ?_
  refine m_callSI K (As := [vL x1, vL 0, vL 1]) dX5_chain_19 LX5_148 rfl rfl (Nat.le_of_ble_eq_true rfl) h (fun r3 F3 A3 h => ?_)
  obtain ⟨s4, h⟩ := h
  obtain ⟨ht, hf⟩ := h
  refine v_if_eq 45 dX5_chain_22 (by decide) s4 (fun c => ?_) (fun c => ?_)
  · have h := ht c
    refine v_iload_n 1 dX5_chain_45 rfl ?_
    refine v_bipush dX5_chain_46 rfl ?_
    obtain ⟨ht, hf⟩ := h
    refine v_icmp_lt 76 dX5_chain_48 (by decide) s2 (by decide) (fun c => ?_) (fun c => ?_)
    · have h := ht c
      refine v_iconst dX5_chain_76 ?_
      exact m_iret K dX5_chain_77 rfl h
    · have h := hf c
      obtain ⟨s5, s6, h⟩ := h
      refine v_iload_n 1 dX5_chain_51 rfl ?_
      refine v_bipush dX5_chain_52 rfl ?_
      refine v_isub dX5_chain_54 ?_
      refine v_aload_n 0 dX5_chain_55 rfl (isR_ref _) ?_
      refine m_get K dX5_chain_56 fX5_76 rfl ?_
      refine v_iconst dX5_chain_59 ?_
      refine m_iald K 16 dX5_chain_60 rfl (by decide) (by decide) ?_
      obtain ⟨ht, hf⟩ := h
      refine v_icmp_ge 76 dX5_chain_61 (by decide) s5 s6 (fun c => ?_) (fun c => ?_)
      · have h := ht c
        refine v_iconst dX5_chain_76 ?_
        exact m_iret K dX5_chain_77 rfl h
      · have h := hf c
        obtain ⟨s7, h⟩ := h
        refine v_aload_n 0 dX5_chain_64 rfl (isR_ref _) ?_
        refine m_get K dX5_chain_65 fX5_79 rfl ?_
        refine v_iload_n 1 dX5_chain_68 rfl ?_
        refine v_bipush dX5_chain_69 rfl ?_
        refine v_isub dX5_chain_71 ?_
        refine m_iald K 17 dX5_chain_72 rfl s7 (by decide) ?_
        refine v_goto 77 dX5_chain_73 (by decide) ?_
        exact m_iret K dX5_chain_77 rfl h
  · have h := hf c
    refine v_iload_n 1 dX5_chain_25 rfl ?_
    obtain ⟨ht, hf⟩ := h
    refine v_if_ne 38 dX5_chain_26 (by decide) s2 (fun c => ?_) (fun c => ?_)
    · have h := ht c
      refine v_aload_n 0 dX5_chain_38 rfl (isR_ref _) ?_
      refine m_get K dX5_chain_39 fX5_76 rfl ?_
      refine v_iconst dX5_chain_42 ?_
      refine m_iald K 16 dX5_chain_43 rfl (by decide) (by decide) ?_
      exact m_iret K dX5_chain_44 rfl h
    · have h := hf c
      refine v_aload_n 0 dX5_chain_29 rfl (isR_ref _) ?_
      refine m_get K dX5_chain_30 fX5_73 rfl ?_
      refine v_iconst dX5_chain_33 ?_
      refine m_iald K 15 dX5_chain_34 rfl (by decide) (by decide) ?_
      refine v_goto 44 dX5_chain_35 (by decide) ?_
      exact m_iret K dX5_chain_44 rfl h
/-! feed -/
theorem wX5_feed_0 (K : KM) (hb : K.G.base ≤ K.m) {x1 : Int} {F : Nat → Int} {A : Nat → Int → Int} (h : (rI x1) ∧ (RI mX5_isIn K [vL x1, vL 0, vL 127] F A fun r1 F1 A1 => (rI r1) ∧ ((¬ r1 = 0 → ((rI (F1 31)) ∧ ((¬ (F1 31) = 80 → ((0 ≤ (F1 31) ∧ (F1 31) < 80) ∧ (SI K ((F1 31) + 1) (upN F1 31 ((F1 31) + 1)) (upA A1 18 (F1 31) x1)))) ∧ ((F1 31) = 80 → (SI K ((-4)) F1 A1))))) ∧ (r1 = 0 → (SI K ((-2)) F1 A1))))) : VM K mX5_feed 0 [(0, .ref K.m), (1, vI x1)] [] F A := by
  obtain ⟨s0, h⟩ := h
  refine v_iload_n 1 dX5_feed_0 rfl ?_
  refine v_i2l dX5_feed_1 s0 ?_
  refine v_lconst (z := 0) dX5_feed_2 rfl ?_
  refine v_ldc2 (z := 127) dX5_feed_3 q2277 ?_
  refine m_callSI K (As := [vL x1, vL 0, vL 127]) dX5_feed_6 LX5_148 rfl rfl (Nat.le_of_ble_eq_true rfl) h (fun r1 F1 A1 h => ?_)
  obtain ⟨s2, h⟩ := h
  obtain ⟨ht, hf⟩ := h
  refine v_if_ne 15 dX5_feed_9 (by decide) s2 (fun c => ?_) (fun c => ?_)
  · have h := ht c
    obtain ⟨s3, h⟩ := h
    refine v_aload_n 0 dX5_feed_15 rfl (isR_ref _) ?_
    refine m_get (v := vI (F1 31)) K dX5_feed_16 fX5_417 rfl ?_
    refine v_bipush dX5_feed_19 rfl ?_
    obtain ⟨ht, hf⟩ := h
    refine v_icmp_ne 27 dX5_feed_21 (by decide) s3 (by decide) (fun c => ?_) (fun c => ?_)
    · have h := ht c
      obtain ⟨s4, h⟩ := h
      refine v_aload_n 0 dX5_feed_27 rfl (isR_ref _) ?_
      refine m_get K dX5_feed_28 fX5_82 rfl ?_
      refine v_aload_n 0 dX5_feed_31 rfl (isR_ref _) ?_
      refine m_get (v := vI (F1 31)) K dX5_feed_32 fX5_417 rfl ?_
      refine v_iload_n 1 dX5_feed_35 rfl ?_
      refine m_iast K 18 hb dX5_feed_36 rfl s4 (by decide) ?_
      refine v_aload_n 0 dX5_feed_37 rfl (isR_ref _) ?_
      refine v_dup dX5_feed_38 rfl ?_
      refine m_get (v := vI (F1 31)) K dX5_feed_39 fX5_417 rfl ?_
      refine v_iconst dX5_feed_42 ?_
      refine v_iadd dX5_feed_43 ?_
      refine m_put (F' := upN F1 31 ((F1 31) + 1)) K hb dX5_feed_44 fX5_417 (by decide) (by decide) rfl ?_
      refine v_aload_n 0 dX5_feed_47 rfl (isR_ref _) ?_
      refine m_get (v := vI ((F1 31) + 1)) K dX5_feed_48 fX5_417 rfl ?_
      exact m_iret K dX5_feed_51 rfl h
    · have h := hf c
      refine v_bipush dX5_feed_24 rfl ?_
      exact m_iret K dX5_feed_26 rfl h
  · have h := hf c
    refine v_bipush dX5_feed_12 rfl ?_
    exact m_iret K dX5_feed_14 rfl h
/-! clear -/
theorem wX5_clear_0 (K : KM) (hb : K.G.base ≤ K.m) {F : Nat → Int} {A : Nat → Int → Int} (h : SI K (F 31) (upN F 31 0) A) : VM K mX5_clear 0 [(0, .ref K.m)] [] F A := by
  refine v_aload_n 0 dX5_clear_0 rfl (isR_ref _) ?_
  refine m_get (v := vI (F 31)) K dX5_clear_1 fX5_417 rfl ?_
  refine v_istore_n dX5_clear_4 (by decide) rfl ?_
  refine v_aload_n 1 dX5_clear_5 rfl (isR_ref _) ?_
  refine v_iconst dX5_clear_6 ?_
  refine m_put (F' := upN F 31 0) K hb dX5_clear_7 fX5_417 (by decide) (by decide) rfl ?_
  refine v_iload_n 0 dX5_clear_10 rfl ?_
  exact m_iret K dX5_clear_11 rfl h
/-! read -/
theorem wX5_read_0 (K : KM) (hb : K.G.base ≤ K.m) {F : Nat → Int} {A : Nat → Int → Int} (h : RI mX5_takesName K [.ref K.m] (upN F 32 ((F 32) + 1)) A fun r0 F0 A0 => (rI r0) ∧ ((¬ r0 = 0 → (RI mX5_makes K [.ref K.m, vI 0, vI 0] (upN F0 55 0) A0 fun r2 F2 A2 => (rI r2) ∧ ((¬ r2 = 0 → (RV mX5_drawsMade K [.ref K.m] F2 A2 fun F4 A4 => RI mX5_isItsName K [.ref K.m, vI (F 31)] F4 A4 fun r5 F5 A5 => (rI r5) ∧ ((r5 = 0 → (SI K ((F5 1) + 100) (upN (upN F5 31 0) 33 ((F5 33) + 1)) A5)) ∧ (¬ r5 = 0 → (SI K ((F5 1) + 0) (upN (upN F5 31 0) 33 ((F5 33) + 1)) A5))))) ∧ (r2 = 0 → (VM K mX5_read 64 [(0, .ref K.m), (2, vI 0)] [] (upN (upN F2 31 0) 56 (F2 55)) A2))))) ∧ (r0 = 0 → (SI K (((-100)) - (F0 34)) (upN F0 31 0) A0)))) : VM K mX5_read 0 [(0, .ref K.m)] [] F A := by
  refine v_aload_n 0 dX5_read_0 rfl (isR_ref _) ?_
  refine m_get (v := vI (F 31)) K dX5_read_1 fX5_417 rfl ?_
  refine v_istore_n dX5_read_4 (by decide) rfl ?_
  refine v_aload_n 1 dX5_read_5 rfl (isR_ref _) ?_
  refine v_dup dX5_read_6 rfl ?_
  refine m_get (v := vI (F 32)) K dX5_read_7 fX5_499 rfl ?_
  refine v_iconst dX5_read_10 ?_
  refine v_iadd dX5_read_11 ?_
  refine m_put (F' := upN F 32 ((F 32) + 1)) K hb dX5_read_12 fX5_499 (by decide) (by decide) rfl ?_
  refine v_aload_n 1 dX5_read_15 rfl (isR_ref _) ?_
  refine m_callI K (As := []) dX5_read_16 LX5_502 rfl rfl (Nat.le_of_ble_eq_true rfl) h (fun r0 F0 A0 h => ?_)
  obtain ⟨s1, h⟩ := h
  obtain ⟨ht, hf⟩ := h
  refine v_if_ne 35 dX5_read_19 (by decide) s1 (fun c => ?_) (fun c => ?_)
  · have h := ht c
    refine v_aload_n 1 dX5_read_35 rfl (isR_ref _) ?_
    refine v_iconst dX5_read_36 ?_
    refine m_put (F' := upN F0 55 0) K hb dX5_read_37 fX5_478 (by decide) (by decide) rfl ?_
    refine v_aload_n 1 dX5_read_40 rfl (isR_ref _) ?_
    refine v_iconst dX5_read_41 ?_
    refine v_iconst dX5_read_42 ?_
    refine m_callI K (As := [vI 0, vI 0]) dX5_read_43 LX5_487 rfl rfl (Nat.le_of_ble_eq_true rfl) h (fun r2 F2 A2 h => ?_)
    obtain ⟨s3, h⟩ := h
    obtain ⟨ht, hf⟩ := h
    refine v_if_ne 105 dX5_read_46 (by decide) s3 (fun c => ?_) (fun c => ?_)
    · have h := ht c
      refine v_aload_n 1 dX5_read_105 rfl (isR_ref _) ?_
      refine m_callV K (As := []) dX5_read_106 LX5_508 rfl rfl (Nat.le_of_ble_eq_true rfl) h (fun F4 A4 h => ?_)
      refine v_aload_n 1 dX5_read_109 rfl (isR_ref _) ?_
      refine v_iload_n 0 dX5_read_110 rfl ?_
      refine m_callI K (As := [vI (F 31)]) dX5_read_111 LX5_511 rfl rfl (Nat.le_of_ble_eq_true rfl) h (fun r5 F5 A5 h => ?_)
      obtain ⟨s6, h⟩ := h
      refine v_istore_n dX5_read_114 (by decide) rfl ?_
      refine v_aload_n 2 dX5_read_115 rfl (isR_ref _) ?_
      refine v_iconst dX5_read_116 ?_
      refine m_put (F' := upN F5 31 0) K hb dX5_read_117 fX5_417 (by decide) (by decide) rfl ?_
      refine v_aload_n 2 dX5_read_120 rfl (isR_ref _) ?_
      refine v_dup dX5_read_121 rfl ?_
      refine m_get (v := vI (F5 33)) K dX5_read_122 fX5_514 rfl ?_
      refine v_iconst dX5_read_125 ?_
      refine v_iadd dX5_read_126 ?_
      refine m_put (F' := upN (upN F5 31 0) 33 ((F5 33) + 1)) K hb dX5_read_127 fX5_514 (by decide) (by decide) rfl ?_
      refine v_aload_n 2 dX5_read_130 rfl (isR_ref _) ?_
      refine m_get (v := vI (F5 1)) K dX5_read_131 fX5_145 rfl ?_
      refine v_iload_n 0 dX5_read_134 rfl ?_
      obtain ⟨ht, hf⟩ := h
      refine v_if_eq 142 dX5_read_135 (by decide) s6 (fun c => ?_) (fun c => ?_)
      · have h := ht c
        refine v_bipush dX5_read_142 rfl ?_
        refine v_iadd dX5_read_144 ?_
        exact m_iret K dX5_read_145 rfl h
      · have h := hf c
        refine v_iconst dX5_read_138 ?_
        refine v_goto 144 dX5_read_139 (by decide) ?_
        refine v_iadd dX5_read_144 ?_
        exact m_iret K dX5_read_145 rfl h
    · have h := hf c
      refine v_aload_n 1 dX5_read_49 rfl (isR_ref _) ?_
      refine v_iconst dX5_read_50 ?_
      refine m_put (F' := upN F2 31 0) K hb dX5_read_51 fX5_417 (by decide) (by decide) rfl ?_
      refine v_aload_n 1 dX5_read_54 rfl (isR_ref _) ?_
      refine v_aload_n 1 dX5_read_55 rfl (isR_ref _) ?_
      refine m_get (v := vI (F2 55)) K dX5_read_56 fX5_478 rfl ?_
      refine m_put (F' := upN (upN F2 31 0) 56 (F2 55)) K hb dX5_read_59 fX5_505 (by decide) (by decide) rfl ?_
      refine v_iconst dX5_read_62 ?_
      refine v_istore_n dX5_read_63 (by decide) rfl ?_
      refine V.sub [2, 0] rfl ?_
      exact h
  · have h := hf c
    refine v_aload_n 1 dX5_read_22 rfl (isR_ref _) ?_
    refine v_iconst dX5_read_23 ?_
    refine m_put (F' := upN F0 31 0) K hb dX5_read_24 fX5_417 (by decide) (by decide) rfl ?_
    refine v_bipush dX5_read_27 rfl ?_
    refine v_aload_n 1 dX5_read_29 rfl (isR_ref _) ?_
    refine m_get (v := vI (F0 34)) K dX5_read_30 fX5_426 rfl ?_
    refine v_isub dX5_read_33 ?_
    exact m_iret K dX5_read_34 rfl h
theorem wX5_read_64 (K : KM) (hb : K.G.base ≤ K.m) {x2 : Int} {F : Nat → Int} {A : Nat → Int → Int} (h : (rI x2) ∧ (rI (F 55)) ∧ (((F 55) ≤ x2 → (SI K ((-20)) F A)) ∧ (¬ (F 55) ≤ x2 → ((0 ≤ x2 ∧ x2 < 32) ∧ (VM K mX5_read 64 [(0, .ref K.m), (2, vI (x2 + 1))] [] F (upA (upA A 33 x2 (A 31 x2)) 34 x2 ((upA A 33 x2 (A 31 x2)) 32 x2))))))) : VM K mX5_read 64 [(0, .ref K.m), (2, vI x2)] [] F A := by
  obtain ⟨s0, s1, h⟩ := h
  refine v_iload_n 1 dX5_read_64 rfl ?_
  refine v_aload_n 0 dX5_read_65 rfl (isR_ref _) ?_
  refine m_get (v := vI (F 55)) K dX5_read_66 fX5_478 rfl ?_
  obtain ⟨ht, hf⟩ := h
  refine v_icmp_ge 102 dX5_read_69 (by decide) s0 s1 (fun c => ?_) (fun c => ?_)
  · have h := ht c
    refine v_bipush dX5_read_102 rfl ?_
    exact m_iret K dX5_read_104 rfl h
  · have h := hf c
    obtain ⟨s2, h⟩ := h
    refine v_aload_n 0 dX5_read_72 rfl (isR_ref _) ?_
    refine m_get K dX5_read_73 fX5_127 rfl ?_
    refine v_iload_n 1 dX5_read_76 rfl ?_
    refine v_aload_n 0 dX5_read_77 rfl (isR_ref _) ?_
    refine m_get K dX5_read_78 fX5_121 rfl ?_
    refine v_iload_n 1 dX5_read_81 rfl ?_
    refine m_iald K 31 dX5_read_82 rfl s2 (by decide) ?_
    refine m_iast K 33 hb dX5_read_83 rfl s2 (by decide) ?_
    refine v_aload_n 0 dX5_read_84 rfl (isR_ref _) ?_
    refine m_get K dX5_read_85 fX5_130 rfl ?_
    refine v_iload_n 1 dX5_read_88 rfl ?_
    refine v_aload_n 0 dX5_read_89 rfl (isR_ref _) ?_
    refine m_get K dX5_read_90 fX5_124 rfl ?_
    refine v_iload_n 1 dX5_read_93 rfl ?_
    refine m_iald K 32 dX5_read_94 rfl s2 (by decide) ?_
    refine m_iast K 34 hb dX5_read_95 rfl s2 (by decide) ?_
    refine v_iinc 1 dX5_read_96 rfl (by decide) rfl ?_
    refine v_goto 64 dX5_read_99 (by decide) ?_
    refine V.sub [1, 0] rfl ?_
    exact h
/-! takesName -/
theorem wX5_takesName_0 (K : KM) (hb : K.G.base ≤ K.m) (hX : XS K.G) {F : Nat → Int} {A : Nat → Int → Int} (h : RI mX5_byteAt K [.ref K.m, vI 0] (upN (upN (upN (upN F 34 0) 36 0) 45 0) 46 1) A fun r0 F0 A0 => (rI r0) ∧ (RI mX5_isIn K [vL r0, vL 49, vL 57] F0 A0 fun r2 F2 A2 => (rI r2) ∧ ((r2 = 0 → (RI mX5_takesStem K [.ref K.m, vI 0, .ref (K.G.ad 26)] F2 A2 fun r4 F4 A4 => (rI r4) ∧ ((r4 = 0 → (SI K 0 F4 A4)) ∧ (¬ r4 = 0 → ((rI (F4 34)) ∧ (rI (F4 31)) ∧ ((¬ (F4 34) = (F4 31) → (SI K 0 F4 A4)) ∧ ((F4 34) = (F4 31) → (SI K 1 F4 A4)))))))) ∧ (¬ r2 = 0 → (RI mX5_takesParts K [.ref K.m, vI 0] F2 A2 fun r4 F4 A4 => (rI r4) ∧ ((¬ r4 = 0 → (RI mX5_takesStem K [.ref K.m, vI 0, .ref (K.G.ad 26)] F4 A4 fun r6 F6 A6 => (rI r6) ∧ ((r6 = 0 → (SI K 0 F6 A6)) ∧ (¬ r6 = 0 → ((rI (F6 34)) ∧ (rI (F6 31)) ∧ ((¬ (F6 34) = (F6 31) → (SI K 0 F6 A6)) ∧ ((F6 34) = (F6 31) → (SI K 1 F6 A6)))))))) ∧ (r4 = 0 → (SI K 0 F4 A4)))))))) : VM K mX5_takesName 0 [(0, .ref K.m)] [] F A := by
  refine v_aload_n 0 dX5_takesName_0 rfl (isR_ref _) ?_
  refine v_iconst dX5_takesName_1 ?_
  refine m_put (F' := upN F 34 0) K hb dX5_takesName_2 fX5_426 (by decide) (by decide) rfl ?_
  refine v_aload_n 0 dX5_takesName_5 rfl (isR_ref _) ?_
  refine v_iconst dX5_takesName_6 ?_
  refine m_put (F' := upN (upN F 34 0) 36 0) K hb dX5_takesName_7 fX5_457 (by decide) (by decide) rfl ?_
  refine v_aload_n 0 dX5_takesName_10 rfl (isR_ref _) ?_
  refine v_iconst dX5_takesName_11 ?_
  refine m_put (F' := upN (upN (upN F 34 0) 36 0) 45 0) K hb dX5_takesName_12 fX5_429 (by decide) (by decide) rfl ?_
  refine v_aload_n 0 dX5_takesName_15 rfl (isR_ref _) ?_
  refine v_iconst dX5_takesName_16 ?_
  refine m_put (F' := upN (upN (upN (upN F 34 0) 36 0) 45 0) 46 1) K hb dX5_takesName_17 fX5_445 (by decide) (by decide) rfl ?_
  refine v_aload_n 0 dX5_takesName_20 rfl (isR_ref _) ?_
  refine v_iconst dX5_takesName_21 ?_
  refine m_callI K (As := [vI 0]) dX5_takesName_22 LX5_420 rfl rfl (Nat.le_of_ble_eq_true rfl) h (fun r0 F0 A0 h => ?_)
  obtain ⟨s1, h⟩ := h
  refine v_i2l dX5_takesName_25 s1 ?_
  refine v_ldc2 (z := 49) dX5_takesName_26 q2294 ?_
  refine v_ldc2 (z := 57) dX5_takesName_29 q2295 ?_
  refine m_callSI K (As := [vL r0, vL 49, vL 57]) dX5_takesName_32 LX5_148 rfl rfl (Nat.le_of_ble_eq_true rfl) h (fun r2 F2 A2 h => ?_)
  obtain ⟨s3, h⟩ := h
  obtain ⟨ht, hf⟩ := h
  refine v_if_eq 48 dX5_takesName_35 (by decide) s3 (fun c => ?_) (fun c => ?_)
  · have h := ht c
    refine v_aload_n 0 dX5_takesName_48 rfl (isR_ref _) ?_
    refine v_iconst dX5_takesName_49 ?_
    refine v_ldcSw 26 hX dX5_takesName_50 rfl ?_
    refine m_callI K (As := [vI 0, .ref (K.G.ad 26)]) dX5_takesName_53 LX5_453 rfl rfl (Nat.le_of_ble_eq_true rfl) h (fun r4 F4 A4 h => ?_)
    obtain ⟨s5, h⟩ := h
    obtain ⟨ht, hf⟩ := h
    refine v_if_eq 74 dX5_takesName_56 (by decide) s5 (fun c => ?_) (fun c => ?_)
    · have h := ht c
      refine v_iconst dX5_takesName_74 ?_
      exact m_zret K dX5_takesName_75 rfl (by decide) h
    · have h := hf c
      obtain ⟨s6, s7, h⟩ := h
      refine v_aload_n 0 dX5_takesName_59 rfl (isR_ref _) ?_
      refine m_get (v := vI (F4 34)) K dX5_takesName_60 fX5_426 rfl ?_
      refine v_aload_n 0 dX5_takesName_63 rfl (isR_ref _) ?_
      refine m_get (v := vI (F4 31)) K dX5_takesName_64 fX5_417 rfl ?_
      obtain ⟨ht, hf⟩ := h
      refine v_icmp_ne 74 dX5_takesName_67 (by decide) s6 s7 (fun c => ?_) (fun c => ?_)
      · have h := ht c
        refine v_iconst dX5_takesName_74 ?_
        exact m_zret K dX5_takesName_75 rfl (by decide) h
      · have h := hf c
        refine v_iconst dX5_takesName_70 ?_
        refine v_goto 75 dX5_takesName_71 (by decide) ?_
        exact m_zret K dX5_takesName_75 rfl (by decide) h
  · have h := hf c
    refine v_aload_n 0 dX5_takesName_38 rfl (isR_ref _) ?_
    refine v_iconst dX5_takesName_39 ?_
    refine m_callI K (As := [vI 0]) dX5_takesName_40 LX5_448 rfl rfl (Nat.le_of_ble_eq_true rfl) h (fun r4 F4 A4 h => ?_)
    obtain ⟨s5, h⟩ := h
    obtain ⟨ht, hf⟩ := h
    refine v_if_ne 48 dX5_takesName_43 (by decide) s5 (fun c => ?_) (fun c => ?_)
    · have h := ht c
      refine v_aload_n 0 dX5_takesName_48 rfl (isR_ref _) ?_
      refine v_iconst dX5_takesName_49 ?_
      refine v_ldcSw 26 hX dX5_takesName_50 rfl ?_
      refine m_callI K (As := [vI 0, .ref (K.G.ad 26)]) dX5_takesName_53 LX5_453 rfl rfl (Nat.le_of_ble_eq_true rfl) h (fun r6 F6 A6 h => ?_)
      obtain ⟨s7, h⟩ := h
      obtain ⟨ht, hf⟩ := h
      refine v_if_eq 74 dX5_takesName_56 (by decide) s7 (fun c => ?_) (fun c => ?_)
      · have h := ht c
        refine v_iconst dX5_takesName_74 ?_
        exact m_zret K dX5_takesName_75 rfl (by decide) h
      · have h := hf c
        obtain ⟨s8, s9, h⟩ := h
        refine v_aload_n 0 dX5_takesName_59 rfl (isR_ref _) ?_
        refine m_get (v := vI (F6 34)) K dX5_takesName_60 fX5_426 rfl ?_
        refine v_aload_n 0 dX5_takesName_63 rfl (isR_ref _) ?_
        refine m_get (v := vI (F6 31)) K dX5_takesName_64 fX5_417 rfl ?_
        obtain ⟨ht, hf⟩ := h
        refine v_icmp_ne 74 dX5_takesName_67 (by decide) s8 s9 (fun c => ?_) (fun c => ?_)
        · have h := ht c
          refine v_iconst dX5_takesName_74 ?_
          exact m_zret K dX5_takesName_75 rfl (by decide) h
        · have h := hf c
          refine v_iconst dX5_takesName_70 ?_
          refine v_goto 75 dX5_takesName_71 (by decide) ?_
          exact m_zret K dX5_takesName_75 rfl (by decide) h
    · have h := hf c
      refine v_iconst dX5_takesName_46 ?_
      exact m_zret K dX5_takesName_47 rfl (by decide) h
/-! byteAt -/
theorem wX5_byteAt_0 (K : KM) (hb : K.G.base ≤ K.m) {x1 : Int} {F : Nat → Int} {A : Nat → Int → Int} (h : (rI x1) ∧ (rI (F 31)) ∧ (((F 31) ≤ x1 → (SI K ((-1)) F A)) ∧ (¬ (F 31) ≤ x1 → ((0 ≤ x1 ∧ x1 < 80) ∧ (SI K (A 18 x1) F A))))) : VM K mX5_byteAt 0 [(0, .ref K.m), (1, vI x1)] [] F A := by
  obtain ⟨s0, s1, h⟩ := h
  refine v_iload_n 1 dX5_byteAt_0 rfl ?_
  refine v_aload_n 0 dX5_byteAt_1 rfl (isR_ref _) ?_
  refine m_get (v := vI (F 31)) K dX5_byteAt_2 fX5_417 rfl ?_
  obtain ⟨ht, hf⟩ := h
  refine v_icmp_ge 17 dX5_byteAt_5 (by decide) s0 s1 (fun c => ?_) (fun c => ?_)
  · have h := ht c
    refine v_iconst dX5_byteAt_17 ?_
    exact m_iret K dX5_byteAt_18 rfl h
  · have h := hf c
    obtain ⟨s2, h⟩ := h
    refine v_aload_n 0 dX5_byteAt_8 rfl (isR_ref _) ?_
    refine m_get K dX5_byteAt_9 fX5_82 rfl ?_
    refine v_iload_n 1 dX5_byteAt_12 rfl ?_
    refine m_iald K 18 dX5_byteAt_13 rfl s2 (by decide) ?_
    refine v_goto 18 dX5_byteAt_14 (by decide) ?_
    exact m_iret K dX5_byteAt_18 rfl h
/-! takesParts -/
theorem wX5_takesParts_0 (K : KM) (hb : K.G.base ≤ K.m) {x1 : Int} {F : Nat → Int} {A : Nat → Int → Int} (h : RI mX5_takesPart K [.ref K.m, vI x1] F A fun r0 F0 A0 => (rI r0) ∧ ((¬ r0 = 0 → (VM K mX5_takesParts 10 [(0, .ref K.m), (1, vI x1)] [] F0 A0)) ∧ (r0 = 0 → (SI K 0 F0 A0)))) : VM K mX5_takesParts 0 [(0, .ref K.m), (1, vI x1)] [] F A := by
  refine v_aload_n 0 dX5_takesParts_0 rfl (isR_ref _) ?_
  refine v_iload_n 1 dX5_takesParts_1 rfl ?_
  refine m_callI K (As := [vI x1]) dX5_takesParts_2 LX5_469 rfl rfl (Nat.le_of_ble_eq_true rfl) h (fun r0 F0 A0 h => ?_)
  obtain ⟨s1, h⟩ := h
  obtain ⟨ht, hf⟩ := h
  refine v_if_ne 10 dX5_takesParts_5 (by decide) s1 (fun c => ?_) (fun c => ?_)
  · have h := ht c
    exact h
  · have h := hf c
    refine v_iconst dX5_takesParts_8 ?_
    exact m_zret K dX5_takesParts_9 rfl (by decide) h
theorem wX5_takesParts_10 (K : KM) (hb : K.G.base ≤ K.m) {x1 : Int} {F : Nat → Int} {A : Nat → Int → Int} (h : RI mX5_byteAt K [.ref K.m, vI (F 34)] F A fun r0 F0 A0 => (rI r0) ∧ ((¬ r0 = 45 → (SI K 1 F0 A0)) ∧ (r0 = 45 → (RI mX5_takesPart K [.ref K.m, vI x1] (upN F0 34 ((F0 34) + 1)) A0 fun r2 F2 A2 => (rI r2) ∧ ((¬ r2 = 0 → (VM K mX5_takesParts 10 [(0, .ref K.m), (1, vI x1)] [] F2 A2)) ∧ (r2 = 0 → (SI K 0 F2 A2))))))) : VM K mX5_takesParts 10 [(0, .ref K.m), (1, vI x1)] [] F A := by
  refine v_aload_n 0 dX5_takesParts_10 rfl (isR_ref _) ?_
  refine v_aload_n 0 dX5_takesParts_11 rfl (isR_ref _) ?_
  refine m_get (v := vI (F 34)) K dX5_takesParts_12 fX5_426 rfl ?_
  refine m_callI K (As := [vI (F 34)]) dX5_takesParts_15 LX5_420 rfl rfl (Nat.le_of_ble_eq_true rfl) h (fun r0 F0 A0 h => ?_)
  obtain ⟨s1, h⟩ := h
  refine v_bipush dX5_takesParts_18 rfl ?_
  obtain ⟨ht, hf⟩ := h
  refine v_icmp_ne 43 dX5_takesParts_20 (by decide) s1 (by decide) (fun c => ?_) (fun c => ?_)
  · have h := ht c
    refine v_iconst dX5_takesParts_43 ?_
    exact m_zret K dX5_takesParts_44 rfl (by decide) h
  · have h := hf c
    refine v_aload_n 0 dX5_takesParts_23 rfl (isR_ref _) ?_
    refine v_dup dX5_takesParts_24 rfl ?_
    refine m_get (v := vI (F0 34)) K dX5_takesParts_25 fX5_426 rfl ?_
    refine v_iconst dX5_takesParts_28 ?_
    refine v_iadd dX5_takesParts_29 ?_
    refine m_put (F' := upN F0 34 ((F0 34) + 1)) K hb dX5_takesParts_30 fX5_426 (by decide) (by decide) rfl ?_
    refine v_aload_n 0 dX5_takesParts_33 rfl (isR_ref _) ?_
    refine v_iload_n 1 dX5_takesParts_34 rfl ?_
    refine m_callI K (As := [vI x1]) dX5_takesParts_35 LX5_469 rfl rfl (Nat.le_of_ble_eq_true rfl) h (fun r2 F2 A2 h => ?_)
    obtain ⟨s3, h⟩ := h
    obtain ⟨ht, hf⟩ := h
    refine v_if_ne 10 dX5_takesParts_38 (by decide) s3 (fun c => ?_) (fun c => ?_)
    · have h := ht c
      exact h
    · have h := hf c
      refine v_iconst dX5_takesParts_41 ?_
      exact m_zret K dX5_takesParts_42 rfl (by decide) h
/-! takesPart -/
theorem wX5_takesPart_0 (K : KM) (hb : K.G.base ≤ K.m) {x1 : Int} {F : Nat → Int} {A : Nat → Int → Int} (h : (0 ≤ (F 36) ∧ (F 36) < 32) ∧ (RI mX5_takesNumber K [.ref K.m] (upN F 36 ((F 36) + 1)) (upA (upA (upA A 19 (F 36) x1) 20 (F 36) (F 34)) 24 (F 36) (F 45)) fun r1 F1 A1 => (rI r1) ∧ ((¬ r1 = 0 → (VM K mX5_takesPart 51 [(0, .ref K.m), (2, vI (F 36))] [] F1 A1)) ∧ (r1 = 0 → (SI K 0 F1 A1))))) : VM K mX5_takesPart 0 [(0, .ref K.m), (1, vI x1)] [] F A := by
  obtain ⟨s0, h⟩ := h
  refine v_aload_n 0 dX5_takesPart_0 rfl (isR_ref _) ?_
  refine m_get (v := vI (F 36)) K dX5_takesPart_1 fX5_457 rfl ?_
  refine v_istore_n dX5_takesPart_4 (by decide) rfl ?_
  refine v_aload_n 1 dX5_takesPart_5 rfl (isR_ref _) ?_
  refine v_dup dX5_takesPart_6 rfl ?_
  refine m_get (v := vI (F 36)) K dX5_takesPart_7 fX5_457 rfl ?_
  refine v_iconst dX5_takesPart_10 ?_
  refine v_iadd dX5_takesPart_11 ?_
  refine m_put (F' := upN F 36 ((F 36) + 1)) K hb dX5_takesPart_12 fX5_457 (by decide) (by decide) rfl ?_
  refine v_aload_n 1 dX5_takesPart_15 rfl (isR_ref _) ?_
  refine m_get K dX5_takesPart_16 fX5_85 rfl ?_
  refine v_iload_n 0 dX5_takesPart_19 rfl ?_
  refine v_iload_n 2 dX5_takesPart_20 rfl ?_
  refine m_iast K 19 hb dX5_takesPart_21 rfl s0 (by decide) ?_
  refine v_aload_n 1 dX5_takesPart_22 rfl (isR_ref _) ?_
  refine m_get K dX5_takesPart_23 fX5_88 rfl ?_
  refine v_iload_n 0 dX5_takesPart_26 rfl ?_
  refine v_aload_n 1 dX5_takesPart_27 rfl (isR_ref _) ?_
  refine m_get (v := vI (F 34)) K dX5_takesPart_28 fX5_426 rfl ?_
  refine m_iast K 20 hb dX5_takesPart_31 rfl s0 (by decide) ?_
  refine v_aload_n 1 dX5_takesPart_32 rfl (isR_ref _) ?_
  refine m_get K dX5_takesPart_33 fX5_100 rfl ?_
  refine v_iload_n 0 dX5_takesPart_36 rfl ?_
  refine v_aload_n 1 dX5_takesPart_37 rfl (isR_ref _) ?_
  refine m_get (v := vI (F 45)) K dX5_takesPart_38 fX5_429 rfl ?_
  refine m_iast K 24 hb dX5_takesPart_41 rfl s0 (by decide) ?_
  refine v_aload_n 1 dX5_takesPart_42 rfl (isR_ref _) ?_
  refine m_callI K (As := []) dX5_takesPart_43 LX5_460 rfl rfl (Nat.le_of_ble_eq_true rfl) h (fun r1 F1 A1 h => ?_)
  obtain ⟨s2, h⟩ := h
  obtain ⟨ht, hf⟩ := h
  refine v_if_ne 51 dX5_takesPart_46 (by decide) s2 (fun c => ?_) (fun c => ?_)
  · have h := ht c
    refine V.sub [1, 0] rfl ?_
    exact h
  · have h := hf c
    refine v_iconst dX5_takesPart_49 ?_
    exact m_zret K dX5_takesPart_50 rfl (by decide) h
theorem wX5_takesPart_51 (K : KM) (hb : K.G.base ≤ K.m) {x2 : Int} {F : Nat → Int} {A : Nat → Int → Int} (h : RI mX5_byteAt K [.ref K.m, vI (F 34)] F A fun r0 F0 A0 => (rI r0) ∧ ((¬ r0 = 44 → ((0 ≤ x2 ∧ x2 < 32) ∧ (RI mX5_takes K [.ref K.m, vI 45] F0 (upA A0 25 x2 ((F0 45) - (A0 24 x2))) fun r3 F3 A3 => (rI r3) ∧ ((r3 = 0 → (SI K 0 F3 A3)) ∧ (¬ r3 = 0 → (RI mX5_takesWord K [.ref K.m, vI x2] F3 A3 fun r5 F5 A5 => (rI r5) ∧ ((r5 = 0 → (SI K 0 F5 A5)) ∧ (¬ r5 = 0 → (SI K 1 F5 A5))))))))) ∧ (r0 = 44 → (RI mX5_takesNumber K [.ref K.m] (upN F0 34 ((F0 34) + 1)) A0 fun r2 F2 A2 => (rI r2) ∧ ((¬ r2 = 0 → (VM K mX5_takesPart 51 [(0, .ref K.m), (2, vI x2)] [] F2 A2)) ∧ (r2 = 0 → (SI K 0 F2 A2))))))) : VM K mX5_takesPart 51 [(0, .ref K.m), (2, vI x2)] [] F A := by
  refine v_aload_n 0 dX5_takesPart_51 rfl (isR_ref _) ?_
  refine v_aload_n 0 dX5_takesPart_52 rfl (isR_ref _) ?_
  refine m_get (v := vI (F 34)) K dX5_takesPart_53 fX5_426 rfl ?_
  refine m_callI K (As := [vI (F 34)]) dX5_takesPart_56 LX5_420 rfl rfl (Nat.le_of_ble_eq_true rfl) h (fun r0 F0 A0 h => ?_)
  obtain ⟨s1, h⟩ := h
  refine v_bipush dX5_takesPart_59 rfl ?_
  obtain ⟨ht, hf⟩ := h
  refine v_icmp_ne 83 dX5_takesPart_61 (by decide) s1 (by decide) (fun c => ?_) (fun c => ?_)
  · have h := ht c
    obtain ⟨s2, h⟩ := h
    refine v_aload_n 0 dX5_takesPart_83 rfl (isR_ref _) ?_
    refine m_get K dX5_takesPart_84 fX5_103 rfl ?_
    refine v_iload_n 1 dX5_takesPart_87 rfl ?_
    refine v_aload_n 0 dX5_takesPart_88 rfl (isR_ref _) ?_
    refine m_get (v := vI (F0 45)) K dX5_takesPart_89 fX5_429 rfl ?_
    refine v_aload_n 0 dX5_takesPart_92 rfl (isR_ref _) ?_
    refine m_get K dX5_takesPart_93 fX5_100 rfl ?_
    refine v_iload_n 1 dX5_takesPart_96 rfl ?_
    refine m_iald K 24 dX5_takesPart_97 rfl s2 (by decide) ?_
    refine v_isub dX5_takesPart_98 ?_
    refine m_iast K 25 hb dX5_takesPart_99 rfl s2 (by decide) ?_
    refine v_aload_n 0 dX5_takesPart_100 rfl (isR_ref _) ?_
    refine v_bipush dX5_takesPart_101 rfl ?_
    refine m_callI K (As := [vI 45]) dX5_takesPart_103 LX5_463 rfl rfl (Nat.le_of_ble_eq_true rfl) h (fun r3 F3 A3 h => ?_)
    obtain ⟨s4, h⟩ := h
    obtain ⟨ht, hf⟩ := h
    refine v_if_eq 121 dX5_takesPart_106 (by decide) s4 (fun c => ?_) (fun c => ?_)
    · have h := ht c
      refine v_iconst dX5_takesPart_121 ?_
      exact m_zret K dX5_takesPart_122 rfl (by decide) h
    · have h := hf c
      refine v_aload_n 0 dX5_takesPart_109 rfl (isR_ref _) ?_
      refine v_iload_n 1 dX5_takesPart_110 rfl ?_
      refine m_callI K (As := [vI x2]) dX5_takesPart_111 LX5_466 rfl rfl (Nat.le_of_ble_eq_true rfl) h (fun r5 F5 A5 h => ?_)
      obtain ⟨s6, h⟩ := h
      obtain ⟨ht, hf⟩ := h
      refine v_if_eq 121 dX5_takesPart_114 (by decide) s6 (fun c => ?_) (fun c => ?_)
      · have h := ht c
        refine v_iconst dX5_takesPart_121 ?_
        exact m_zret K dX5_takesPart_122 rfl (by decide) h
      · have h := hf c
        refine v_iconst dX5_takesPart_117 ?_
        refine v_goto 122 dX5_takesPart_118 (by decide) ?_
        exact m_zret K dX5_takesPart_122 rfl (by decide) h
  · have h := hf c
    refine v_aload_n 0 dX5_takesPart_64 rfl (isR_ref _) ?_
    refine v_dup dX5_takesPart_65 rfl ?_
    refine m_get (v := vI (F0 34)) K dX5_takesPart_66 fX5_426 rfl ?_
    refine v_iconst dX5_takesPart_69 ?_
    refine v_iadd dX5_takesPart_70 ?_
    refine m_put (F' := upN F0 34 ((F0 34) + 1)) K hb dX5_takesPart_71 fX5_426 (by decide) (by decide) rfl ?_
    refine v_aload_n 0 dX5_takesPart_74 rfl (isR_ref _) ?_
    refine m_callI K (As := []) dX5_takesPart_75 LX5_460 rfl rfl (Nat.le_of_ble_eq_true rfl) h (fun r2 F2 A2 h => ?_)
    obtain ⟨s3, h⟩ := h
    obtain ⟨ht, hf⟩ := h
    refine v_if_ne 51 dX5_takesPart_78 (by decide) s3 (fun c => ?_) (fun c => ?_)
    · have h := ht c
      exact h
    · have h := hf c
      refine v_iconst dX5_takesPart_81 ?_
      exact m_zret K dX5_takesPart_82 rfl (by decide) h
/-! takesNumber -/
theorem wX5_takesNumber_0 (K : KM) (hb : K.G.base ≤ K.m) {F : Nat → Int} {A : Nat → Int → Int} (h : RI mX5_byteAt K [.ref K.m, vI (F 34)] F A fun r0 F0 A0 => (rI r0) ∧ ((r0 < 49 → (SI K 0 F0 A0)) ∧ (¬ r0 < 49 → ((r0 ≤ 57 → (RI mX5_byteAt K [.ref K.m, vI ((F0 34) + 1)] (upN F0 34 ((F0 34) + 1)) A0 fun r2 F2 A2 => RI mX5_isDigit K [vI r2] F2 A2 fun r3 F3 A3 => (rI r3) ∧ ((r3 = 0 → ((0 ≤ (F3 45) ∧ (F3 45) < 80) ∧ (SI K 1 (upN F3 45 ((F3 45) + 1)) (upA A3 26 (F3 45) (r0 - 48))))) ∧ (¬ r3 = 0 → (RI mX5_byteAt K [.ref K.m, vI (F3 34)] F3 A3 fun r5 F5 A5 => (0 ≤ (F5 45) ∧ (F5 45) < 80) ∧ (SI K 1 (upN (upN F5 34 ((F5 34) + 1)) 45 ((F5 45) + 1)) (upA A5 26 (F5 45) (((10 * (r0 - 48)) + r5) - 48)))))))) ∧ (¬ r0 ≤ 57 → (SI K 0 F0 A0)))))) : VM K mX5_takesNumber 0 [(0, .ref K.m)] [] F A := by
  refine v_aload_n 0 dX5_takesNumber_0 rfl (isR_ref _) ?_
  refine v_aload_n 0 dX5_takesNumber_1 rfl (isR_ref _) ?_
  refine m_get (v := vI (F 34)) K dX5_takesNumber_2 fX5_426 rfl ?_
  refine m_callI K (As := [vI (F 34)]) dX5_takesNumber_5 LX5_420 rfl rfl (Nat.le_of_ble_eq_true rfl) h (fun r0 F0 A0 h => ?_)
  obtain ⟨s1, h⟩ := h
  refine v_istore_n dX5_takesNumber_8 (by decide) rfl ?_
  refine v_iload_n 0 dX5_takesNumber_9 rfl ?_
  refine v_bipush dX5_takesNumber_10 rfl ?_
  obtain ⟨ht, hf⟩ := h
  refine v_icmp_lt 21 dX5_takesNumber_12 (by decide) s1 (by decide) (fun c => ?_) (fun c => ?_)
  · have h := ht c
    refine v_iconst dX5_takesNumber_21 ?_
    exact m_zret K dX5_takesNumber_22 rfl (by decide) h
  · have h := hf c
    refine v_iload_n 0 dX5_takesNumber_15 rfl ?_
    refine v_bipush dX5_takesNumber_16 rfl ?_
    obtain ⟨ht, hf⟩ := h
    refine v_icmp_le 23 dX5_takesNumber_18 (by decide) s1 (by decide) (fun c => ?_) (fun c => ?_)
    · have h := ht c
      refine v_aload_n 1 dX5_takesNumber_23 rfl (isR_ref _) ?_
      refine v_dup dX5_takesNumber_24 rfl ?_
      refine m_get (v := vI (F0 34)) K dX5_takesNumber_25 fX5_426 rfl ?_
      refine v_iconst dX5_takesNumber_28 ?_
      refine v_iadd dX5_takesNumber_29 ?_
      refine m_put (F' := upN F0 34 ((F0 34) + 1)) K hb dX5_takesNumber_30 fX5_426 (by decide) (by decide) rfl ?_
      refine v_iload_n 0 dX5_takesNumber_33 rfl ?_
      refine v_bipush dX5_takesNumber_34 rfl ?_
      refine v_isub dX5_takesNumber_36 ?_
      refine v_istore_n dX5_takesNumber_37 (by decide) rfl ?_
      refine v_aload_n 2 dX5_takesNumber_38 rfl (isR_ref _) ?_
      refine v_aload_n 2 dX5_takesNumber_39 rfl (isR_ref _) ?_
      refine m_get (v := vI ((F0 34) + 1)) K dX5_takesNumber_40 fX5_426 rfl ?_
      refine m_callI K (As := [vI ((F0 34) + 1)]) dX5_takesNumber_43 LX5_420 rfl rfl (Nat.le_of_ble_eq_true rfl) h (fun r2 F2 A2 h => ?_)
      refine m_callSI K (As := [vI r2]) dX5_takesNumber_46 LX5_358 rfl rfl (Nat.le_of_ble_eq_true rfl) h (fun r3 F3 A3 h => ?_)
      obtain ⟨s4, h⟩ := h
      obtain ⟨ht, hf⟩ := h
      refine v_if_eq 79 dX5_takesNumber_49 (by decide) s4 (fun c => ?_) (fun c => ?_)
      · have h := ht c
        obtain ⟨s5, h⟩ := h
        refine v_aload_n 2 dX5_takesNumber_79 rfl (isR_ref _) ?_
        refine m_get K dX5_takesNumber_80 fX5_106 rfl ?_
        refine v_aload_n 2 dX5_takesNumber_83 rfl (isR_ref _) ?_
        refine m_get (v := vI (F3 45)) K dX5_takesNumber_84 fX5_429 rfl ?_
        refine v_iload_n 0 dX5_takesNumber_87 rfl ?_
        refine m_iast K 26 hb dX5_takesNumber_88 rfl s5 (by decide) ?_
        refine v_aload_n 2 dX5_takesNumber_89 rfl (isR_ref _) ?_
        refine v_dup dX5_takesNumber_90 rfl ?_
        refine m_get (v := vI (F3 45)) K dX5_takesNumber_91 fX5_429 rfl ?_
        refine v_iconst dX5_takesNumber_94 ?_
        refine v_iadd dX5_takesNumber_95 ?_
        refine m_put (F' := upN F3 45 ((F3 45) + 1)) K hb dX5_takesNumber_96 fX5_429 (by decide) (by decide) rfl ?_
        refine v_iconst dX5_takesNumber_99 ?_
        exact m_zret K dX5_takesNumber_100 rfl (by decide) h
      · have h := hf c
        refine v_bipush dX5_takesNumber_52 rfl ?_
        refine v_iload_n 0 dX5_takesNumber_54 rfl ?_
        refine v_imul dX5_takesNumber_55 ?_
        refine v_aload_n 2 dX5_takesNumber_56 rfl (isR_ref _) ?_
        refine v_aload_n 2 dX5_takesNumber_57 rfl (isR_ref _) ?_
        refine m_get (v := vI (F3 34)) K dX5_takesNumber_58 fX5_426 rfl ?_
        refine m_callI K (As := [vI (F3 34)]) dX5_takesNumber_61 LX5_420 rfl rfl (Nat.le_of_ble_eq_true rfl) h (fun r5 F5 A5 h => ?_)
        obtain ⟨s6, h⟩ := h
        refine v_iadd dX5_takesNumber_64 ?_
        refine v_bipush dX5_takesNumber_65 rfl ?_
        refine v_isub dX5_takesNumber_67 ?_
        refine v_istore_n dX5_takesNumber_68 (by decide) rfl ?_
        refine v_aload_n 2 dX5_takesNumber_69 rfl (isR_ref _) ?_
        refine v_dup dX5_takesNumber_70 rfl ?_
        refine m_get (v := vI (F5 34)) K dX5_takesNumber_71 fX5_426 rfl ?_
        refine v_iconst dX5_takesNumber_74 ?_
        refine v_iadd dX5_takesNumber_75 ?_
        refine m_put (F' := upN F5 34 ((F5 34) + 1)) K hb dX5_takesNumber_76 fX5_426 (by decide) (by decide) rfl ?_
        refine v_aload_n 2 dX5_takesNumber_79 rfl (isR_ref _) ?_
        refine m_get K dX5_takesNumber_80 fX5_106 rfl ?_
        refine v_aload_n 2 dX5_takesNumber_83 rfl (isR_ref _) ?_
        refine m_get (v := vI (F5 45)) K dX5_takesNumber_84 fX5_429 rfl ?_
        refine v_iload_n 0 dX5_takesNumber_87 rfl ?_
        refine m_iast K 26 hb dX5_takesNumber_88 rfl s6 (by decide) ?_
        refine v_aload_n 2 dX5_takesNumber_89 rfl (isR_ref _) ?_
        refine v_dup dX5_takesNumber_90 rfl ?_
        refine m_get (v := vI (F5 45)) K dX5_takesNumber_91 fX5_429 rfl ?_
        refine v_iconst dX5_takesNumber_94 ?_
        refine v_iadd dX5_takesNumber_95 ?_
        refine m_put (F' := upN (upN F5 34 ((F5 34) + 1)) 45 ((F5 45) + 1)) K hb dX5_takesNumber_96 fX5_429 (by decide) (by decide) rfl ?_
        refine v_iconst dX5_takesNumber_99 ?_
        exact m_zret K dX5_takesNumber_100 rfl (by decide) h
    · have h := hf c
      refine v_iconst dX5_takesNumber_21 ?_
      exact m_zret K dX5_takesNumber_22 rfl (by decide) h
/-! takes -/
theorem wX5_takes_0 (K : KM) (hb : K.G.base ≤ K.m) {x1 : Int} {F : Nat → Int} {A : Nat → Int → Int} (h : RI mX5_byteAt K [.ref K.m, vI (F 34)] F A fun r0 F0 A0 => (rI r0) ∧ (rI x1) ∧ ((r0 = x1 → (SI K 1 (upN F0 34 ((F0 34) + 1)) A0)) ∧ (¬ r0 = x1 → (SI K 0 F0 A0)))) : VM K mX5_takes 0 [(0, .ref K.m), (1, vI x1)] [] F A := by
  refine v_aload_n 0 dX5_takes_0 rfl (isR_ref _) ?_
  refine v_aload_n 0 dX5_takes_1 rfl (isR_ref _) ?_
  refine m_get (v := vI (F 34)) K dX5_takes_2 fX5_426 rfl ?_
  refine m_callI K (As := [vI (F 34)]) dX5_takes_5 LX5_420 rfl rfl (Nat.le_of_ble_eq_true rfl) h (fun r0 F0 A0 h => ?_)
  obtain ⟨s1, s2, h⟩ := h
  refine v_iload_n 1 dX5_takes_8 rfl ?_
  obtain ⟨ht, hf⟩ := h
  refine v_icmp_eq 14 dX5_takes_9 (by decide) s1 s2 (fun c => ?_) (fun c => ?_)
  · have h := ht c
    refine v_aload_n 0 dX5_takes_14 rfl (isR_ref _) ?_
    refine v_dup dX5_takes_15 rfl ?_
    refine m_get (v := vI (F0 34)) K dX5_takes_16 fX5_426 rfl ?_
    refine v_iconst dX5_takes_19 ?_
    refine v_iadd dX5_takes_20 ?_
    refine m_put (F' := upN F0 34 ((F0 34) + 1)) K hb dX5_takes_21 fX5_426 (by decide) (by decide) rfl ?_
    refine v_iconst dX5_takes_24 ?_
    exact m_zret K dX5_takes_25 rfl (by decide) h
  · have h := hf c
    refine v_iconst dX5_takes_12 ?_
    exact m_zret K dX5_takes_13 rfl (by decide) h
/-! takesWord -/
theorem wX5_takesWord_0 (K : KM) (hb : K.G.base ≤ K.m) {x1 : Int} {F : Nat → Int} {A : Nat → Int → Int} (h : VM K mX5_takesWord 15 [(0, .ref K.m), (1, vI x1), (2, vI (F 34)), (3, vI 1)] [] (upN F 35 (F 34)) A) : VM K mX5_takesWord 0 [(0, .ref K.m), (1, vI x1)] [] F A := by
  refine v_aload_n 0 dX5_takesWord_0 rfl (isR_ref _) ?_
  refine v_aload_n 0 dX5_takesWord_1 rfl (isR_ref _) ?_
  refine m_get (v := vI (F 34)) K dX5_takesWord_2 fX5_426 rfl ?_
  refine m_put (F' := upN F 35 (F 34)) K hb dX5_takesWord_5 fX5_423 (by decide) (by decide) rfl ?_
  refine v_aload_n 0 dX5_takesWord_8 rfl (isR_ref _) ?_
  refine m_get (v := vI (F 34)) K dX5_takesWord_9 fX5_426 rfl ?_
  refine v_istore_n dX5_takesWord_12 (by decide) rfl ?_
  refine v_iconst dX5_takesWord_13 ?_
  refine v_istore_n dX5_takesWord_14 (by decide) rfl ?_
  refine V.sub [2, 3, 1, 0] rfl ?_
  exact h
theorem wX5_takesWord_15 (K : KM) (hb : K.G.base ≤ K.m) (hX : XS K.G) {x1 x2 x3 : Int} {F : Nat → Int} {A : Nat → Int → Int} (h : (rI x3) ∧ ((8 < x3 → (RI mX5_fails K [.ref K.m] F A fun r1 F1 A1 => (r1 = 0 ∨ r1 = 1) ∧ (SI K r1 F1 A1))) ∧ (¬ 8 < x3 → ((¬ x3 = 1 → (RI mX5_behind K [.ref K.m, .ref (K.G.ad 23), vI (x3 - 2), vI x2] F A fun r1 F1 A1 => (rI r1) ∧ ((¬ r1 = ((-1)) → (RI mX5_takesBranch K [.ref K.m, vI x1, vI x3, vI r1] F1 A1 fun r3 F3 A3 => (rI r3) ∧ ((r3 = 0 → (RI mX5_byteAt K [.ref K.m, vI r1] F3 A3 fun r5 F5 A5 => (rI r5) ∧ ((¬ r5 = 40 → (VM K mX5_takesWord 15 [(0, .ref K.m), (1, vI x1), (2, vI x2), (3, vI (x3 + 1))] [] F5 A5)) ∧ (r5 = 40 → ((0 ≤ x1 ∧ x1 < 32) ∧ (RI mX5_takesParts K [.ref K.m, vI ((upA (upA (upA A5 21 x1 x3) 22 x1 ((-1))) 23 x1 (F5 46)) 23 x1)] (upN (upN F5 34 (r1 + 1)) 46 ((F5 46) + 1)) (upA (upA (upA A5 21 x1 x3) 22 x1 ((-1))) 23 x1 (F5 46)) fun r8 F8 A8 => (rI r8) ∧ ((r8 = 0 → (SI K 0 F8 A8)) ∧ (¬ r8 = 0 → (RI mX5_takesStem K [.ref K.m, vI (A8 23 x1), .ref (K.G.ad 25)] F8 A8 fun r10 F10 A10 => (rI r10) ∧ ((r10 = 0 → (SI K 0 F10 A10)) ∧ (¬ r10 = 0 → (SI K 1 F10 A10)))))))))))) ∧ (¬ r3 = 0 → (SI K 1 F3 A3))))) ∧ (r1 = ((-1)) → (VM K mX5_takesWord 15 [(0, .ref K.m), (1, vI x1), (2, vI x2), (3, vI (x3 + 1))] [] F1 A1))))) ∧ (x3 = 1 → ((rI x2) ∧ ((¬ x2 = ((-1)) → (RI mX5_takesBranch K [.ref K.m, vI x1, vI x3, vI x2] F A fun r2 F2 A2 => (rI r2) ∧ ((r2 = 0 → (RI mX5_byteAt K [.ref K.m, vI x2] F2 A2 fun r4 F4 A4 => (rI r4) ∧ ((¬ r4 = 40 → (VM K mX5_takesWord 15 [(0, .ref K.m), (1, vI x1), (2, vI x2), (3, vI (x3 + 1))] [] F4 A4)) ∧ (r4 = 40 → ((0 ≤ x1 ∧ x1 < 32) ∧ (RI mX5_takesParts K [.ref K.m, vI ((upA (upA (upA A4 21 x1 x3) 22 x1 ((-1))) 23 x1 (F4 46)) 23 x1)] (upN (upN F4 34 (x2 + 1)) 46 ((F4 46) + 1)) (upA (upA (upA A4 21 x1 x3) 22 x1 ((-1))) 23 x1 (F4 46)) fun r7 F7 A7 => (rI r7) ∧ ((r7 = 0 → (SI K 0 F7 A7)) ∧ (¬ r7 = 0 → (RI mX5_takesStem K [.ref K.m, vI (A7 23 x1), .ref (K.G.ad 25)] F7 A7 fun r9 F9 A9 => (rI r9) ∧ ((r9 = 0 → (SI K 0 F9 A9)) ∧ (¬ r9 = 0 → (SI K 1 F9 A9)))))))))))) ∧ (¬ r2 = 0 → (SI K 1 F2 A2))))) ∧ (x2 = ((-1)) → (VM K mX5_takesWord 15 [(0, .ref K.m), (1, vI x1), (2, vI x2), (3, vI (x3 + 1))] [] F A))))))))) : VM K mX5_takesWord 15 [(0, .ref K.m), (1, vI x1), (2, vI x2), (3, vI x3)] [] F A := by
  obtain ⟨s0, h⟩ := h
  refine v_iload_n 3 dX5_takesWord_15 rfl ?_
  refine v_bipush dX5_takesWord_16 rfl ?_
  obtain ⟨ht, hf⟩ := h
  refine v_icmp_gt 158 dX5_takesWord_18 (by decide) s0 (by decide) (fun c => ?_) (fun c => ?_)
  · have h := ht c
    refine v_aload_n 0 dX5_takesWord_158 rfl (isR_ref _) ?_
    refine m_callI K (As := []) dX5_takesWord_159 LX5_436 rfl rfl (Nat.le_of_ble_eq_true rfl) h (fun r1 F1 A1 h => ?_)
    obtain ⟨s2, h⟩ := h
    exact m_zret K dX5_takesWord_162 rfl s2 h
  · have h := hf c
    refine v_iload_n 3 dX5_takesWord_21 rfl ?_
    refine v_iconst dX5_takesWord_22 ?_
    obtain ⟨ht, hf⟩ := h
    refine v_icmp_ne 30 dX5_takesWord_23 (by decide) s0 (by decide) (fun c => ?_) (fun c => ?_)
    · have h := ht c
      refine v_aload_n 0 dX5_takesWord_30 rfl (isR_ref _) ?_
      refine v_ldcS 23 hX dX5_takesWord_31 rfl ?_
      refine v_iload_n 3 dX5_takesWord_33 rfl ?_
      refine v_iconst dX5_takesWord_34 ?_
      refine v_isub dX5_takesWord_35 ?_
      refine v_iload_n 2 dX5_takesWord_36 rfl ?_
      refine m_callI K (As := [.ref (K.G.ad 23), vI (x3 - 2), vI x2]) dX5_takesWord_37 LX5_432 rfl rfl (Nat.le_of_ble_eq_true rfl) h (fun r1 F1 A1 h => ?_)
      obtain ⟨s2, h⟩ := h
      refine v_istore dX5_takesWord_40 (by decide) rfl ?_
      refine v_iload 0 dX5_takesWord_42 rfl ?_
      refine v_iconst dX5_takesWord_44 ?_
      obtain ⟨ht, hf⟩ := h
      refine v_icmp_ne 51 dX5_takesWord_45 (by decide) s2 (by decide) (fun c => ?_) (fun c => ?_)
      · have h := ht c
        refine v_aload_n 1 dX5_takesWord_51 rfl (isR_ref _) ?_
        refine v_iload_n 2 dX5_takesWord_52 rfl ?_
        refine v_iload_n 4 dX5_takesWord_53 rfl ?_
        refine v_iload 0 dX5_takesWord_54 rfl ?_
        refine m_callI K (As := [vI x1, vI x3, vI r1]) dX5_takesWord_56 LX5_442 rfl rfl (Nat.le_of_ble_eq_true rfl) h (fun r3 F3 A3 h => ?_)
        obtain ⟨s4, h⟩ := h
        obtain ⟨ht, hf⟩ := h
        refine v_if_eq 64 dX5_takesWord_59 (by decide) s4 (fun c => ?_) (fun c => ?_)
        · have h := ht c
          refine v_aload_n 1 dX5_takesWord_64 rfl (isR_ref _) ?_
          refine v_iload 0 dX5_takesWord_65 rfl ?_
          refine m_callI K (As := [vI r1]) dX5_takesWord_67 LX5_420 rfl rfl (Nat.le_of_ble_eq_true rfl) h (fun r5 F5 A5 h => ?_)
          obtain ⟨s6, h⟩ := h
          refine v_bipush dX5_takesWord_70 rfl ?_
          obtain ⟨ht, hf⟩ := h
          refine v_icmp_ne 152 dX5_takesWord_72 (by decide) s6 (by decide) (fun c => ?_) (fun c => ?_)
          · have h := ht c
            refine v_iinc 4 dX5_takesWord_152 rfl (by decide) rfl ?_
            refine v_goto 15 dX5_takesWord_155 (by decide) ?_
            refine V.sub [2, 3, 4, 0] rfl ?_
            exact h
          · have h := hf c
            obtain ⟨s7, h⟩ := h
            refine v_aload_n 1 dX5_takesWord_75 rfl (isR_ref _) ?_
            refine v_iload 0 dX5_takesWord_76 rfl ?_
            refine v_iconst dX5_takesWord_78 ?_
            refine v_iadd dX5_takesWord_79 ?_
            refine m_put (F' := upN F5 34 (r1 + 1)) K hb dX5_takesWord_80 fX5_426 (by decide) (by decide) rfl ?_
            refine v_aload_n 1 dX5_takesWord_83 rfl (isR_ref _) ?_
            refine m_get K dX5_takesWord_84 fX5_91 rfl ?_
            refine v_iload_n 2 dX5_takesWord_87 rfl ?_
            refine v_iload_n 4 dX5_takesWord_88 rfl ?_
            refine m_iast K 21 hb dX5_takesWord_89 rfl s7 (by decide) ?_
            refine v_aload_n 1 dX5_takesWord_90 rfl (isR_ref _) ?_
            refine m_get K dX5_takesWord_91 fX5_94 rfl ?_
            refine v_iload_n 2 dX5_takesWord_94 rfl ?_
            refine v_iconst dX5_takesWord_95 ?_
            refine m_iast K 22 hb dX5_takesWord_96 rfl s7 (by decide) ?_
            refine v_aload_n 1 dX5_takesWord_97 rfl (isR_ref _) ?_
            refine m_get K dX5_takesWord_98 fX5_97 rfl ?_
            refine v_iload_n 2 dX5_takesWord_101 rfl ?_
            refine v_aload_n 1 dX5_takesWord_102 rfl (isR_ref _) ?_
            refine m_get (v := vI (F5 46)) K dX5_takesWord_103 fX5_445 rfl ?_
            refine m_iast K 23 hb dX5_takesWord_106 rfl s7 (by decide) ?_
            refine v_aload_n 1 dX5_takesWord_107 rfl (isR_ref _) ?_
            refine v_dup dX5_takesWord_108 rfl ?_
            refine m_get (v := vI (F5 46)) K dX5_takesWord_109 fX5_445 rfl ?_
            refine v_iconst dX5_takesWord_112 ?_
            refine v_iadd dX5_takesWord_113 ?_
            refine m_put (F' := upN (upN F5 34 (r1 + 1)) 46 ((F5 46) + 1)) K hb dX5_takesWord_114 fX5_445 (by decide) (by decide) rfl ?_
            refine v_aload_n 1 dX5_takesWord_117 rfl (isR_ref _) ?_
            refine v_aload_n 1 dX5_takesWord_118 rfl (isR_ref _) ?_
            refine m_get K dX5_takesWord_119 fX5_97 rfl ?_
            refine v_iload_n 2 dX5_takesWord_122 rfl ?_
            refine m_iald K 23 dX5_takesWord_123 rfl s7 (by decide) ?_
            refine m_callI K (As := [vI ((upA (upA (upA A5 21 x1 x3) 22 x1 ((-1))) 23 x1 (F5 46)) 23 x1)]) dX5_takesWord_124 LX5_448 rfl rfl (Nat.le_of_ble_eq_true rfl) h (fun r8 F8 A8 h => ?_)
            obtain ⟨s9, h⟩ := h
            obtain ⟨ht, hf⟩ := h
            refine v_if_eq 150 dX5_takesWord_127 (by decide) s9 (fun c => ?_) (fun c => ?_)
            · have h := ht c
              refine v_iconst dX5_takesWord_150 ?_
              exact m_zret K dX5_takesWord_151 rfl (by decide) h
            · have h := hf c
              refine v_aload_n 1 dX5_takesWord_130 rfl (isR_ref _) ?_
              refine v_aload_n 1 dX5_takesWord_131 rfl (isR_ref _) ?_
              refine m_get K dX5_takesWord_132 fX5_97 rfl ?_
              refine v_iload_n 2 dX5_takesWord_135 rfl ?_
              refine m_iald K 23 dX5_takesWord_136 rfl s7 (by decide) ?_
              refine v_ldcSw 25 hX dX5_takesWord_137 rfl ?_
              refine m_callI K (As := [vI (A8 23 x1), .ref (K.G.ad 25)]) dX5_takesWord_140 LX5_453 rfl rfl (Nat.le_of_ble_eq_true rfl) h (fun r10 F10 A10 h => ?_)
              obtain ⟨s11, h⟩ := h
              obtain ⟨ht, hf⟩ := h
              refine v_if_eq 150 dX5_takesWord_143 (by decide) s11 (fun c => ?_) (fun c => ?_)
              · have h := ht c
                refine v_iconst dX5_takesWord_150 ?_
                exact m_zret K dX5_takesWord_151 rfl (by decide) h
              · have h := hf c
                refine v_iconst dX5_takesWord_146 ?_
                refine v_goto 151 dX5_takesWord_147 (by decide) ?_
                exact m_zret K dX5_takesWord_151 rfl (by decide) h
        · have h := hf c
          refine v_iconst dX5_takesWord_62 ?_
          exact m_zret K dX5_takesWord_63 rfl (by decide) h
      · have h := hf c
        refine v_goto 152 dX5_takesWord_48 (by decide) ?_
        refine v_iinc 4 dX5_takesWord_152 rfl (by decide) rfl ?_
        refine v_goto 15 dX5_takesWord_155 (by decide) ?_
        refine V.sub [2, 3, 4, 0] rfl ?_
        exact h
    · have h := hf c
      obtain ⟨s1, h⟩ := h
      refine v_iload_n 2 dX5_takesWord_26 rfl ?_
      refine v_goto 40 dX5_takesWord_27 (by decide) ?_
      refine v_istore dX5_takesWord_40 (by decide) rfl ?_
      refine v_iload 0 dX5_takesWord_42 rfl ?_
      refine v_iconst dX5_takesWord_44 ?_
      obtain ⟨ht, hf⟩ := h
      refine v_icmp_ne 51 dX5_takesWord_45 (by decide) s1 (by decide) (fun c => ?_) (fun c => ?_)
      · have h := ht c
        refine v_aload_n 1 dX5_takesWord_51 rfl (isR_ref _) ?_
        refine v_iload_n 2 dX5_takesWord_52 rfl ?_
        refine v_iload_n 4 dX5_takesWord_53 rfl ?_
        refine v_iload 0 dX5_takesWord_54 rfl ?_
        refine m_callI K (As := [vI x1, vI x3, vI x2]) dX5_takesWord_56 LX5_442 rfl rfl (Nat.le_of_ble_eq_true rfl) h (fun r2 F2 A2 h => ?_)
        obtain ⟨s3, h⟩ := h
        obtain ⟨ht, hf⟩ := h
        refine v_if_eq 64 dX5_takesWord_59 (by decide) s3 (fun c => ?_) (fun c => ?_)
        · have h := ht c
          refine v_aload_n 1 dX5_takesWord_64 rfl (isR_ref _) ?_
          refine v_iload 0 dX5_takesWord_65 rfl ?_
          refine m_callI K (As := [vI x2]) dX5_takesWord_67 LX5_420 rfl rfl (Nat.le_of_ble_eq_true rfl) h (fun r4 F4 A4 h => ?_)
          obtain ⟨s5, h⟩ := h
          refine v_bipush dX5_takesWord_70 rfl ?_
          obtain ⟨ht, hf⟩ := h
          refine v_icmp_ne 152 dX5_takesWord_72 (by decide) s5 (by decide) (fun c => ?_) (fun c => ?_)
          · have h := ht c
            refine v_iinc 4 dX5_takesWord_152 rfl (by decide) rfl ?_
            refine v_goto 15 dX5_takesWord_155 (by decide) ?_
            refine V.sub [2, 3, 4, 0] rfl ?_
            exact h
          · have h := hf c
            obtain ⟨s6, h⟩ := h
            refine v_aload_n 1 dX5_takesWord_75 rfl (isR_ref _) ?_
            refine v_iload 0 dX5_takesWord_76 rfl ?_
            refine v_iconst dX5_takesWord_78 ?_
            refine v_iadd dX5_takesWord_79 ?_
            refine m_put (F' := upN F4 34 (x2 + 1)) K hb dX5_takesWord_80 fX5_426 (by decide) (by decide) rfl ?_
            refine v_aload_n 1 dX5_takesWord_83 rfl (isR_ref _) ?_
            refine m_get K dX5_takesWord_84 fX5_91 rfl ?_
            refine v_iload_n 2 dX5_takesWord_87 rfl ?_
            refine v_iload_n 4 dX5_takesWord_88 rfl ?_
            refine m_iast K 21 hb dX5_takesWord_89 rfl s6 (by decide) ?_
            refine v_aload_n 1 dX5_takesWord_90 rfl (isR_ref _) ?_
            refine m_get K dX5_takesWord_91 fX5_94 rfl ?_
            refine v_iload_n 2 dX5_takesWord_94 rfl ?_
            refine v_iconst dX5_takesWord_95 ?_
            refine m_iast K 22 hb dX5_takesWord_96 rfl s6 (by decide) ?_
            refine v_aload_n 1 dX5_takesWord_97 rfl (isR_ref _) ?_
            refine m_get K dX5_takesWord_98 fX5_97 rfl ?_
            refine v_iload_n 2 dX5_takesWord_101 rfl ?_
            refine v_aload_n 1 dX5_takesWord_102 rfl (isR_ref _) ?_
            refine m_get (v := vI (F4 46)) K dX5_takesWord_103 fX5_445 rfl ?_
            refine m_iast K 23 hb dX5_takesWord_106 rfl s6 (by decide) ?_
            refine v_aload_n 1 dX5_takesWord_107 rfl (isR_ref _) ?_
            refine v_dup dX5_takesWord_108 rfl ?_
            refine m_get (v := vI (F4 46)) K dX5_takesWord_109 fX5_445 rfl ?_
            refine v_iconst dX5_takesWord_112 ?_
            refine v_iadd dX5_takesWord_113 ?_
            refine m_put (F' := upN (upN F4 34 (x2 + 1)) 46 ((F4 46) + 1)) K hb dX5_takesWord_114 fX5_445 (by decide) (by decide) rfl ?_
            refine v_aload_n 1 dX5_takesWord_117 rfl (isR_ref _) ?_
            refine v_aload_n 1 dX5_takesWord_118 rfl (isR_ref _) ?_
            refine m_get K dX5_takesWord_119 fX5_97 rfl ?_
            refine v_iload_n 2 dX5_takesWord_122 rfl ?_
            refine m_iald K 23 dX5_takesWord_123 rfl s6 (by decide) ?_
            refine m_callI K (As := [vI ((upA (upA (upA A4 21 x1 x3) 22 x1 ((-1))) 23 x1 (F4 46)) 23 x1)]) dX5_takesWord_124 LX5_448 rfl rfl (Nat.le_of_ble_eq_true rfl) h (fun r7 F7 A7 h => ?_)
            obtain ⟨s8, h⟩ := h
            obtain ⟨ht, hf⟩ := h
            refine v_if_eq 150 dX5_takesWord_127 (by decide) s8 (fun c => ?_) (fun c => ?_)
            · have h := ht c
              refine v_iconst dX5_takesWord_150 ?_
              exact m_zret K dX5_takesWord_151 rfl (by decide) h
            · have h := hf c
              refine v_aload_n 1 dX5_takesWord_130 rfl (isR_ref _) ?_
              refine v_aload_n 1 dX5_takesWord_131 rfl (isR_ref _) ?_
              refine m_get K dX5_takesWord_132 fX5_97 rfl ?_
              refine v_iload_n 2 dX5_takesWord_135 rfl ?_
              refine m_iald K 23 dX5_takesWord_136 rfl s6 (by decide) ?_
              refine v_ldcSw 25 hX dX5_takesWord_137 rfl ?_
              refine m_callI K (As := [vI (A7 23 x1), .ref (K.G.ad 25)]) dX5_takesWord_140 LX5_453 rfl rfl (Nat.le_of_ble_eq_true rfl) h (fun r9 F9 A9 h => ?_)
              obtain ⟨s10, h⟩ := h
              obtain ⟨ht, hf⟩ := h
              refine v_if_eq 150 dX5_takesWord_143 (by decide) s10 (fun c => ?_) (fun c => ?_)
              · have h := ht c
                refine v_iconst dX5_takesWord_150 ?_
                exact m_zret K dX5_takesWord_151 rfl (by decide) h
              · have h := hf c
                refine v_iconst dX5_takesWord_146 ?_
                refine v_goto 151 dX5_takesWord_147 (by decide) ?_
                exact m_zret K dX5_takesWord_151 rfl (by decide) h
        · have h := hf c
          refine v_iconst dX5_takesWord_62 ?_
          exact m_zret K dX5_takesWord_63 rfl (by decide) h
      · have h := hf c
        refine v_goto 152 dX5_takesWord_48 (by decide) ?_
        refine v_iinc 4 dX5_takesWord_152 rfl (by decide) rfl ?_
        refine v_goto 15 dX5_takesWord_155 (by decide) ?_
        refine V.sub [2, 3, 4, 0] rfl ?_
        exact h
