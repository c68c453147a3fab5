set_option maxRecDepth 100000
/-! findsBest -/
theorem wX5_findsBest_0 (K : KM) (hb : K.G.base ≤ K.m) {x1 x2 : Int} {F : Nat → Int} {A : Nat → Int → Int} (h : (0 ≤ (F 26) ∧ (F 26) < 13) ∧ (VM K mX5_findsBest 12 [(0, .ref K.m), (1, vI x1), (2, vI x2), (3, vI 0)] [] F (upA A 15 (F 26) 0))) : VM K mX5_findsBest 0 [(0, .ref K.m), (1, vI x1), (2, vI x2)] [] F A := by
  obtain ⟨s0, h⟩ := h
  refine v_aload_n 0 dX5_findsBest_0 rfl (isR_ref _) ?_
  refine m_get K dX5_findsBest_1 fX5_73 rfl ?_
  refine v_aload_n 0 dX5_findsBest_4 rfl (isR_ref _) ?_
  refine m_get (v := vI (F 26)) K dX5_findsBest_5 fX5_270 rfl ?_
  refine v_iconst dX5_findsBest_8 ?_
  refine m_iast K 15 hb dX5_findsBest_9 rfl s0 (by decide) ?_
  refine v_iconst dX5_findsBest_10 ?_
  refine v_istore_n dX5_findsBest_11 (by decide) rfl ?_
  refine V.sub [1, 2, 3, 0] rfl ?_
  exact h
theorem wX5_findsBest_12 (K : KM) (hb : K.G.base ≤ K.m) {x1 x2 x3 : Int} {F : Nat → Int} {A : Nat → Int → Int} (h : (rI x3) ∧ (rI (F 1)) ∧ (((F 1) ≤ x3 → (SV K F A)) ∧ (¬ (F 1) ≤ x3 → (VM K mX5_findsBest 23 [(0, .ref K.m), (1, vI x1), (2, vI x2), (3, vI x3), (4, vI 0)] [] F A)))) : VM K mX5_findsBest 12 [(0, .ref K.m), (1, vI x1), (2, vI x2), (3, vI x3)] [] F A := by
  obtain ⟨s0, s1, h⟩ := h
  refine v_iload_n 3 dX5_findsBest_12 rfl ?_
  refine v_aload_n 0 dX5_findsBest_13 rfl (isR_ref _) ?_
  refine m_get (v := vI (F 1)) K dX5_findsBest_14 fX5_145 rfl ?_
  obtain ⟨ht, hf⟩ := h
  refine v_icmp_ge 78 dX5_findsBest_17 (by decide) s0 s1 (fun c => ?_) (fun c => ?_)
  · have h := ht c
    exact m_vret K dX5_findsBest_78 rfl h
  · have h := hf c
    refine v_iconst dX5_findsBest_20 ?_
    refine v_istore dX5_findsBest_21 (by decide) rfl ?_
    refine V.sub [1, 2, 3, 4, 0] rfl ?_
    exact h
theorem wX5_findsBest_23 (K : KM) (hb : K.G.base ≤ K.m) {x1 x2 x3 x4 : Int} {F : Nat → Int} {A : Nat → Int → Int} (h : (rI x4) ∧ (rI (F 1)) ∧ (((F 1) ≤ x4 → (VM K mX5_findsBest 12 [(0, .ref K.m), (1, vI x1), (2, vI x2), (3, vI (x3 + 1))] [] F A)) ∧ (¬ (F 1) ≤ x4 → (RI mX5_isStart K [.ref K.m, vI x3, vI x1, vI x2] F A fun r2 F2 A2 => (rI r2) ∧ ((r2 = 0 → (VM K mX5_findsBest 12 [(0, .ref K.m), (1, vI x1), (2, vI x2), (3, vI (x3 + 1))] [] F2 A2)) ∧ (¬ r2 = 0 → (RI mX5_lays K [.ref K.m, vI x3, vI x4, vI x2] F2 A2 fun r4 F4 A4 => (rI r4) ∧ ((r4 = 0 → (VM K mX5_findsBest 23 [(0, .ref K.m), (1, vI x1), (2, vI x2), (3, vI x3), (4, vI (x4 + 1))] [] F4 A4)) ∧ (¬ r4 = 0 → (RI mX5_isBetter K [.ref K.m, vI x2] F4 A4 fun r6 F6 A6 => (rI r6) ∧ ((r6 ≤ 0 → (VM K mX5_findsBest 23 [(0, .ref K.m), (1, vI x1), (2, vI x2), (3, vI x3), (4, vI (x4 + 1))] [] F6 A6)) ∧ (¬ r6 ≤ 0 → (RV mX5_isBest K [.ref K.m, vI x2] F6 A6 fun F8 A8 => VM K mX5_findsBest 23 [(0, .ref K.m), (1, vI x1), (2, vI x2), (3, vI x3), (4, vI (x4 + 1))] [] F8 A8))))))))))))) : VM K mX5_findsBest 23 [(0, .ref K.m), (1, vI x1), (2, vI x2), (3, vI x3), (4, vI x4)] [] F A := by
  obtain ⟨s0, s1, h⟩ := h
  refine v_iload 4 dX5_findsBest_23 rfl ?_
  refine v_aload_n 0 dX5_findsBest_25 rfl (isR_ref _) ?_
  refine m_get (v := vI (F 1)) K dX5_findsBest_26 fX5_145 rfl ?_
  obtain ⟨ht, hf⟩ := h
  refine v_icmp_ge 72 dX5_findsBest_29 (by decide) s0 s1 (fun c => ?_) (fun c => ?_)
  · have h := ht c
    refine v_iinc 3 dX5_findsBest_72 rfl (by decide) rfl ?_
    refine v_goto 12 dX5_findsBest_75 (by decide) ?_
    refine V.sub [1, 2, 3, 0] rfl ?_
    exact h
  · have h := hf c
    refine v_aload_n 0 dX5_findsBest_32 rfl (isR_ref _) ?_
    refine v_iload_n 3 dX5_findsBest_33 rfl ?_
    refine v_iload_n 1 dX5_findsBest_34 rfl ?_
    refine v_iload_n 2 dX5_findsBest_35 rfl ?_
    refine m_callI K (As := [vI x3, vI x1, vI x2]) dX5_findsBest_36 LX5_397 rfl rfl (Nat.le_of_ble_eq_true rfl) h (fun r2 F2 A2 h => ?_)
    obtain ⟨s3, h⟩ := h
    obtain ⟨ht, hf⟩ := h
    refine v_if_eq 72 dX5_findsBest_39 (by decide) s3 (fun c => ?_) (fun c => ?_)
    · have h := ht c
      refine v_iinc 3 dX5_findsBest_72 rfl (by decide) rfl ?_
      refine v_goto 12 dX5_findsBest_75 (by decide) ?_
      refine V.sub [1, 2, 3, 0] rfl ?_
      exact h
    · have h := hf c
      refine v_aload_n 0 dX5_findsBest_42 rfl (isR_ref _) ?_
      refine v_iload_n 3 dX5_findsBest_43 rfl ?_
      refine v_iload 4 dX5_findsBest_44 rfl ?_
      refine v_iload_n 2 dX5_findsBest_46 rfl ?_
      refine m_callI K (As := [vI x3, vI x4, vI x2]) dX5_findsBest_47 LX5_282 rfl rfl (Nat.le_of_ble_eq_true rfl) h (fun r4 F4 A4 h => ?_)
      obtain ⟨s5, h⟩ := h
      obtain ⟨ht, hf⟩ := h
      refine v_if_eq 66 dX5_findsBest_50 (by decide) s5 (fun c => ?_) (fun c => ?_)
      · have h := ht c
        refine v_iinc 4 dX5_findsBest_66 rfl (by decide) rfl ?_
        refine v_goto 23 dX5_findsBest_69 (by decide) ?_
        refine V.sub [1, 2, 3, 4, 0] rfl ?_
        exact h
      · have h := hf c
        refine v_aload_n 0 dX5_findsBest_53 rfl (isR_ref _) ?_
        refine v_iload_n 2 dX5_findsBest_54 rfl ?_
        refine m_callI K (As := [vI x2]) dX5_findsBest_55 LX5_400 rfl rfl (Nat.le_of_ble_eq_true rfl) h (fun r6 F6 A6 h => ?_)
        obtain ⟨s7, h⟩ := h
        obtain ⟨ht, hf⟩ := h
        refine v_if_le 66 dX5_findsBest_58 (by decide) s7 (fun c => ?_) (fun c => ?_)
        · have h := ht c
          refine v_iinc 4 dX5_findsBest_66 rfl (by decide) rfl ?_
          refine v_goto 23 dX5_findsBest_69 (by decide) ?_
          refine V.sub [1, 2, 3, 4, 0] rfl ?_
          exact h
        · have h := hf c
          refine v_aload_n 0 dX5_findsBest_61 rfl (isR_ref _) ?_
          refine v_iload_n 2 dX5_findsBest_62 rfl ?_
          refine m_callV K (As := [vI x2]) dX5_findsBest_63 LX5_403 rfl rfl (Nat.le_of_ble_eq_true rfl) h (fun F8 A8 h => ?_)
          refine v_iinc 4 dX5_findsBest_66 rfl (by decide) rfl ?_
          refine v_goto 23 dX5_findsBest_69 (by decide) ?_
          refine V.sub [1, 2, 3, 4, 0] rfl ?_
          exact h
/-! isStart -/
theorem wX5_isStart_0 (K : KM) (hb : K.G.base ≤ K.m) {x1 x2 x3 : Int} {F : Nat → Int} {A : Nat → Int → Int} (h : (rI x3) ∧ ((x3 = ((-1)) → (SI K 1 F A)) ∧ (¬ x3 = ((-1)) → ((rI x1) ∧ (rI x2) ∧ ((¬ x1 = x2 → (SI K 0 F A)) ∧ (x1 = x2 → (SI K 1 F A))))))) : VM K mX5_isStart 0 [(0, .ref K.m), (1, vI x1), (2, vI x2), (3, vI x3)] [] F A := by
  obtain ⟨s0, h⟩ := h
  refine v_iload_n 3 dX5_isStart_0 rfl ?_
  refine v_iconst dX5_isStart_1 ?_
  obtain ⟨ht, hf⟩ := h
  refine v_icmp_eq 10 dX5_isStart_2 (by decide) s0 (by decide) (fun c => ?_) (fun c => ?_)
  · have h := ht c
    refine v_iconst dX5_isStart_10 ?_
    refine v_goto 15 dX5_isStart_11 (by decide) ?_
    exact m_zret K dX5_isStart_15 rfl (by decide) h
  · have h := hf c
    obtain ⟨s1, s2, h⟩ := h
    refine v_iload_n 1 dX5_isStart_5 rfl ?_
    refine v_iload_n 2 dX5_isStart_6 rfl ?_
    obtain ⟨ht, hf⟩ := h
    refine v_icmp_ne 14 dX5_isStart_7 (by decide) s1 s2 (fun c => ?_) (fun c => ?_)
    · have h := ht c
      refine v_iconst dX5_isStart_14 ?_
      exact m_zret K dX5_isStart_15 rfl (by decide) h
    · have h := hf c
      refine v_iconst dX5_isStart_10 ?_
      refine v_goto 15 dX5_isStart_11 (by decide) ?_
      exact m_zret K dX5_isStart_15 rfl (by decide) h
/-! lays -/
theorem wX5_lays_0 (K : KM) (hb : K.G.base ≤ K.m) {x1 x2 x3 : Int} {F : Nat → Int} {A : Nat → Int → Int} (h : RI mX5_walks K [.ref K.m, vI x1, vI x2, vI x3, vI 0] F A fun r0 F0 A0 => (r0 = 0 ∨ r0 = 1) ∧ (SI K r0 F0 A0)) : VM K mX5_lays 0 [(0, .ref K.m), (1, vI x1), (2, vI x2), (3, vI x3)] [] F A := by
  refine v_aload_n 0 dX5_lays_0 rfl (isR_ref _) ?_
  refine v_iload_n 1 dX5_lays_1 rfl ?_
  refine v_iload_n 2 dX5_lays_2 rfl ?_
  refine v_iload_n 3 dX5_lays_3 rfl ?_
  refine v_iconst dX5_lays_4 ?_
  refine m_callI K (As := [vI x1, vI x2, vI x3, vI 0]) dX5_lays_5 LX5_332 rfl rfl (Nat.le_of_ble_eq_true rfl) h (fun r0 F0 A0 h => ?_)
  obtain ⟨s1, h⟩ := h
  exact m_zret K dX5_lays_8 rfl s1 h
/-! walks -/
theorem wX5_walks_0 (K : KM) (hb : K.G.base ≤ K.m) {x1 x2 x3 x4 : Int} {F : Nat → Int} {A : Nat → Int → Int} (h : (0 ≤ x4 ∧ x4 < 13) ∧ (rI x1) ∧ (rI x2) ∧ ((¬ x1 = x2 → (VM K mX5_walks 26 [(0, .ref K.m), (1, vI x1), (2, vI x2), (3, vI x3), (4, vI x4), (5, vI 0)] [] F (upA A 8 x4 x1))) ∧ (x1 = x2 → (SI K 1 (upN F 16 (x4 + 1)) (upA A 8 x4 x1))))) : VM K mX5_walks 0 [(0, .ref K.m), (1, vI x1), (2, vI x2), (3, vI x3), (4, vI x4)] [] F A := by
  obtain ⟨s0, s1, s2, h⟩ := h
  refine v_aload_n 0 dX5_walks_0 rfl (isR_ref _) ?_
  refine m_get K dX5_walks_1 fX5_41 rfl ?_
  refine v_iload 4 dX5_walks_4 rfl ?_
  refine v_iload_n 1 dX5_walks_6 rfl ?_
  refine m_iast K 8 hb dX5_walks_7 rfl s0 (by decide) ?_
  refine v_iload_n 1 dX5_walks_8 rfl ?_
  refine v_iload_n 2 dX5_walks_9 rfl ?_
  obtain ⟨ht, hf⟩ := h
  refine v_icmp_ne 23 dX5_walks_10 (by decide) s1 s2 (fun c => ?_) (fun c => ?_)
  · have h := ht c
    refine v_iconst dX5_walks_23 ?_
    refine v_istore dX5_walks_24 (by decide) rfl ?_
    refine V.sub [1, 2, 3, 4, 5, 0] rfl ?_
    exact h
  · have h := hf c
    refine v_aload_n 0 dX5_walks_13 rfl (isR_ref _) ?_
    refine v_iload 4 dX5_walks_14 rfl ?_
    refine v_iconst dX5_walks_16 ?_
    refine v_iadd dX5_walks_17 ?_
    refine m_put (F' := upN F 16 (x4 + 1)) K hb dX5_walks_18 fX5_329 (by decide) (by decide) rfl ?_
    refine v_iconst dX5_walks_21 ?_
    exact m_zret K dX5_walks_22 rfl (by decide) h
theorem wX5_walks_26 (K : KM) (hb : K.G.base ≤ K.m) {x1 x2 x3 x4 x5 : Int} {F : Nat → Int} {A : Nat → Int → Int} (h : (rI x5) ∧ (rI (F 1)) ∧ (((F 1) ≤ x5 → (SI K 0 F A)) ∧ (¬ (F 1) ≤ x5 → ((0 ≤ x1 ∧ x1 < 13) ∧ (RI mX5_has K [vI (A 0 x1), vI x5] F A fun r3 F3 A3 => (rI r3) ∧ ((r3 = 0 → (VM K mX5_walks 26 [(0, .ref K.m), (1, vI x1), (2, vI x2), (3, vI x3), (4, vI x4), (5, vI (x5 + 1))] [] F3 A3)) ∧ (¬ r3 = 0 → ((rI x3) ∧ ((x5 = x3 → (VM K mX5_walks 26 [(0, .ref K.m), (1, vI x1), (2, vI x2), (3, vI x3), (4, vI x4), (5, vI (x5 + 1))] [] F3 A3)) ∧ (¬ x5 = x3 → (RI mX5_walks K [.ref K.m, vI x5, vI x2, vI x1, vI (x4 + 1)] F3 A3 fun r6 F6 A6 => (rI r6) ∧ ((r6 = 0 → (VM K mX5_walks 26 [(0, .ref K.m), (1, vI x1), (2, vI x2), (3, vI x3), (4, vI x4), (5, vI (x5 + 1))] [] F6 A6)) ∧ (¬ r6 = 0 → (SI K 1 F6 A6)))))))))))))) : VM K mX5_walks 26 [(0, .ref K.m), (1, vI x1), (2, vI x2), (3, vI x3), (4, vI x4), (5, vI x5)] [] F A := by
  obtain ⟨s0, s1, h⟩ := h
  refine v_iload 5 dX5_walks_26 rfl ?_
  refine v_aload_n 0 dX5_walks_28 rfl (isR_ref _) ?_
  refine m_get (v := vI (F 1)) K dX5_walks_29 fX5_145 rfl ?_
  obtain ⟨ht, hf⟩ := h
  refine v_icmp_ge 78 dX5_walks_32 (by decide) s0 s1 (fun c => ?_) (fun c => ?_)
  · have h := ht c
    refine v_iconst dX5_walks_78 ?_
    exact m_zret K dX5_walks_79 rfl (by decide) h
  · have h := hf c
    obtain ⟨s2, h⟩ := h
    refine v_aload_n 0 dX5_walks_35 rfl (isR_ref _) ?_
    refine m_get K dX5_walks_36 fX5_11 rfl ?_
    refine v_iload_n 1 dX5_walks_39 rfl ?_
    refine m_iald K 0 dX5_walks_40 rfl s2 (by decide) ?_
    refine v_iload 5 dX5_walks_41 rfl ?_
    refine m_callSI K (As := [vI (A 0 x1), vI x5]) dX5_walks_43 LX5_152 rfl rfl (Nat.le_of_ble_eq_true rfl) h (fun r3 F3 A3 h => ?_)
    obtain ⟨s4, h⟩ := h
    obtain ⟨ht, hf⟩ := h
    refine v_if_eq 72 dX5_walks_46 (by decide) s4 (fun c => ?_) (fun c => ?_)
    · have h := ht c
      refine v_iinc 5 dX5_walks_72 rfl (by decide) rfl ?_
      refine v_goto 26 dX5_walks_75 (by decide) ?_
      refine V.sub [1, 2, 3, 4, 5, 0] rfl ?_
      exact h
    · have h := hf c
      obtain ⟨s5, h⟩ := h
      refine v_iload 5 dX5_walks_49 rfl ?_
      refine v_iload_n 3 dX5_walks_51 rfl ?_
      obtain ⟨ht, hf⟩ := h
      refine v_icmp_eq 72 dX5_walks_52 (by decide) s0 s5 (fun c => ?_) (fun c => ?_)
      · have h := ht c
        refine v_iinc 5 dX5_walks_72 rfl (by decide) rfl ?_
        refine v_goto 26 dX5_walks_75 (by decide) ?_
        refine V.sub [1, 2, 3, 4, 5, 0] rfl ?_
        exact h
      · have h := hf c
        refine v_aload_n 0 dX5_walks_55 rfl (isR_ref _) ?_
        refine v_iload 5 dX5_walks_56 rfl ?_
        refine v_iload_n 2 dX5_walks_58 rfl ?_
        refine v_iload_n 1 dX5_walks_59 rfl ?_
        refine v_iload 4 dX5_walks_60 rfl ?_
        refine v_iconst dX5_walks_62 ?_
        refine v_iadd dX5_walks_63 ?_
        refine m_callI K (As := [vI x5, vI x2, vI x1, vI (x4 + 1)]) dX5_walks_64 LX5_332 rfl rfl (Nat.le_of_ble_eq_true rfl) h (fun r6 F6 A6 h => ?_)
        obtain ⟨s7, h⟩ := h
        obtain ⟨ht, hf⟩ := h
        refine v_if_eq 72 dX5_walks_67 (by decide) s7 (fun c => ?_) (fun c => ?_)
        · have h := ht c
          refine v_iinc 5 dX5_walks_72 rfl (by decide) rfl ?_
          refine v_goto 26 dX5_walks_75 (by decide) ?_
          refine V.sub [1, 2, 3, 4, 5, 0] rfl ?_
          exact h
        · have h := hf c
          refine v_iconst dX5_walks_70 ?_
          exact m_zret K dX5_walks_71 rfl (by decide) h
/-! isBetter -/
theorem wX5_isBetter_0 (K : KM) (hb : K.G.base ≤ K.m) {x1 : Int} {F : Nat → Int} {A : Nat → Int → Int} (h : RI mX5_branchesOf K [.ref K.m, vI x1] F A fun r0 F0 A0 => (0 ≤ (F0 26) ∧ (F0 26) < 13) ∧ (rI (F0 16)) ∧ (rI (A0 15 (F0 26))) ∧ (((F0 16) = (A0 15 (F0 26)) → ((rI r0) ∧ (rI (A0 16 (F0 26))) ∧ ((r0 = (A0 16 (F0 26)) → (VM K mX5_isBetter 64 [(0, .ref K.m), (2, vI r0), (3, vI 0)] [] F0 A0)) ∧ (¬ r0 = (A0 16 (F0 26)) → (SI K (r0 - (A0 16 (F0 26))) F0 A0))))) ∧ (¬ (F0 16) = (A0 15 (F0 26)) → (SI K ((F0 16) - (A0 15 (F0 26))) F0 A0)))) : VM K mX5_isBetter 0 [(0, .ref K.m), (1, vI x1)] [] F A := by
  refine v_aload_n 0 dX5_isBetter_0 rfl (isR_ref _) ?_
  refine v_iload_n 1 dX5_isBetter_1 rfl ?_
  refine m_callI K (As := [vI x1]) dX5_isBetter_2 LX5_286 rfl rfl (Nat.le_of_ble_eq_true rfl) h (fun r0 F0 A0 h => ?_)
  obtain ⟨s1, s2, s3, h⟩ := h
  refine v_istore_n dX5_isBetter_5 (by decide) rfl ?_
  refine v_aload_n 1 dX5_isBetter_6 rfl (isR_ref _) ?_
  refine m_get (v := vI (F0 16)) K dX5_isBetter_7 fX5_329 rfl ?_
  refine v_aload_n 1 dX5_isBetter_10 rfl (isR_ref _) ?_
  refine m_get K dX5_isBetter_11 fX5_73 rfl ?_
  refine v_aload_n 1 dX5_isBetter_14 rfl (isR_ref _) ?_
  refine m_get (v := vI (F0 26)) K dX5_isBetter_15 fX5_270 rfl ?_
  refine m_iald K 15 dX5_isBetter_18 rfl s1 (by decide) ?_
  obtain ⟨ht, hf⟩ := h
  refine v_icmp_eq 37 dX5_isBetter_19 (by decide) s2 s3 (fun c => ?_) (fun c => ?_)
  · have h := ht c
    obtain ⟨s4, s5, h⟩ := h
    refine v_iload_n 0 dX5_isBetter_37 rfl ?_
    refine v_aload_n 1 dX5_isBetter_38 rfl (isR_ref _) ?_
    refine m_get K dX5_isBetter_39 fX5_76 rfl ?_
    refine v_aload_n 1 dX5_isBetter_42 rfl (isR_ref _) ?_
    refine m_get (v := vI (F0 26)) K dX5_isBetter_43 fX5_270 rfl ?_
    refine m_iald K 16 dX5_isBetter_46 rfl s1 (by decide) ?_
    obtain ⟨ht, hf⟩ := h
    refine v_icmp_eq 62 dX5_isBetter_47 (by decide) s4 s5 (fun c => ?_) (fun c => ?_)
    · have h := ht c
      refine v_iconst dX5_isBetter_62 ?_
      refine v_istore_n dX5_isBetter_63 (by decide) rfl ?_
      refine V.sub [2, 1, 0] rfl ?_
      exact h
    · have h := hf c
      refine v_iload_n 0 dX5_isBetter_50 rfl ?_
      refine v_aload_n 1 dX5_isBetter_51 rfl (isR_ref _) ?_
      refine m_get K dX5_isBetter_52 fX5_76 rfl ?_
      refine v_aload_n 1 dX5_isBetter_55 rfl (isR_ref _) ?_
      refine m_get (v := vI (F0 26)) K dX5_isBetter_56 fX5_270 rfl ?_
      refine m_iald K 16 dX5_isBetter_59 rfl s1 (by decide) ?_
      refine v_isub dX5_isBetter_60 ?_
      exact m_iret K dX5_isBetter_61 rfl h
  · have h := hf c
    refine v_aload_n 1 dX5_isBetter_22 rfl (isR_ref _) ?_
    refine m_get (v := vI (F0 16)) K dX5_isBetter_23 fX5_329 rfl ?_
    refine v_aload_n 1 dX5_isBetter_26 rfl (isR_ref _) ?_
    refine m_get K dX5_isBetter_27 fX5_73 rfl ?_
    refine v_aload_n 1 dX5_isBetter_30 rfl (isR_ref _) ?_
    refine m_get (v := vI (F0 26)) K dX5_isBetter_31 fX5_270 rfl ?_
    refine m_iald K 15 dX5_isBetter_34 rfl s1 (by decide) ?_
    refine v_isub dX5_isBetter_35 ?_
    exact m_iret K dX5_isBetter_36 rfl h
theorem wX5_isBetter_64 (K : KM) (hb : K.G.base ≤ K.m) {x2 x3 : Int} {F : Nat → Int} {A : Nat → Int → Int} (h : (rI x3) ∧ (rI x2) ∧ ((x2 ≤ x3 → (SI K 0 F A)) ∧ (¬ x2 ≤ x3 → ((0 ≤ x3 ∧ x3 < 13) ∧ (0 ≤ ((13 * (F 26)) + x3) ∧ ((13 * (F 26)) + x3) < 169) ∧ (rI (A 9 x3)) ∧ (rI (A 17 ((13 * (F 26)) + x3))) ∧ (((A 9 x3) = (A 17 ((13 * (F 26)) + x3)) → (VM K mX5_isBetter 64 [(0, .ref K.m), (2, vI x2), (3, vI (x3 + 1))] [] F A)) ∧ (¬ (A 9 x3) = (A 17 ((13 * (F 26)) + x3)) → (SI K ((A 17 ((13 * (F 26)) + x3)) - (A 9 x3)) F A))))))) : VM K mX5_isBetter 64 [(0, .ref K.m), (2, vI x2), (3, vI x3)] [] F A := by
  obtain ⟨s0, s1, h⟩ := h
  refine v_iload_n 2 dX5_isBetter_64 rfl ?_
  refine v_iload_n 1 dX5_isBetter_65 rfl ?_
  obtain ⟨ht, hf⟩ := h
  refine v_icmp_ge 120 dX5_isBetter_66 (by decide) s0 s1 (fun c => ?_) (fun c => ?_)
  · have h := ht c
    refine v_iconst dX5_isBetter_120 ?_
    exact m_iret K dX5_isBetter_121 rfl h
  · have h := hf c
    obtain ⟨s2, s3, s4, s5, h⟩ := h
    refine v_aload_n 0 dX5_isBetter_69 rfl (isR_ref _) ?_
    refine m_get K dX5_isBetter_70 fX5_44 rfl ?_
    refine v_iload_n 2 dX5_isBetter_73 rfl ?_
    refine m_iald K 9 dX5_isBetter_74 rfl s2 (by decide) ?_
    refine v_aload_n 0 dX5_isBetter_75 rfl (isR_ref _) ?_
    refine m_get K dX5_isBetter_76 fX5_79 rfl ?_
    refine v_bipush dX5_isBetter_79 rfl ?_
    refine v_aload_n 0 dX5_isBetter_81 rfl (isR_ref _) ?_
    refine m_get (v := vI (F 26)) K dX5_isBetter_82 fX5_270 rfl ?_
    refine v_imul dX5_isBetter_85 ?_
    refine v_iload_n 2 dX5_isBetter_86 rfl ?_
    refine v_iadd dX5_isBetter_87 ?_
    refine m_iald K 17 dX5_isBetter_88 rfl s3 (by decide) ?_
    obtain ⟨ht, hf⟩ := h
    refine v_icmp_eq 114 dX5_isBetter_89 (by decide) s4 s5 (fun c => ?_) (fun c => ?_)
    · have h := ht c
      refine v_iinc 2 dX5_isBetter_114 rfl (by decide) rfl ?_
      refine v_goto 64 dX5_isBetter_117 (by decide) ?_
      refine V.sub [1, 2, 0] rfl ?_
      exact h
    · have h := hf c
      refine v_aload_n 0 dX5_isBetter_92 rfl (isR_ref _) ?_
      refine m_get K dX5_isBetter_93 fX5_79 rfl ?_
      refine v_bipush dX5_isBetter_96 rfl ?_
      refine v_aload_n 0 dX5_isBetter_98 rfl (isR_ref _) ?_
      refine m_get (v := vI (F 26)) K dX5_isBetter_99 fX5_270 rfl ?_
      refine v_imul dX5_isBetter_102 ?_
      refine v_iload_n 2 dX5_isBetter_103 rfl ?_
      refine v_iadd dX5_isBetter_104 ?_
      refine m_iald K 17 dX5_isBetter_105 rfl s3 (by decide) ?_
      refine v_aload_n 0 dX5_isBetter_106 rfl (isR_ref _) ?_
      refine m_get K dX5_isBetter_107 fX5_44 rfl ?_
      refine v_iload_n 2 dX5_isBetter_110 rfl ?_
      refine m_iald K 9 dX5_isBetter_111 rfl s2 (by decide) ?_
      refine v_isub dX5_isBetter_112 ?_
      exact m_iret K dX5_isBetter_113 rfl h
/-! branchesOf -/
theorem wX5_branchesOf_0 (K : KM) (hb : K.G.base ≤ K.m) {x1 : Int} {F : Nat → Int} {A : Nat → Int → Int} (h : VM K mX5_branchesOf 4 [(0, .ref K.m), (1, vI x1), (2, vI 0), (3, vI 0)] [] F A) : VM K mX5_branchesOf 0 [(0, .ref K.m), (1, vI x1)] [] F A := by
  refine v_iconst dX5_branchesOf_0 ?_
  refine v_istore_n dX5_branchesOf_1 (by decide) rfl ?_
  refine v_iconst dX5_branchesOf_2 ?_
  refine v_istore_n dX5_branchesOf_3 (by decide) rfl ?_
  refine V.sub [2, 3, 1, 0] rfl ?_
  exact h
theorem wX5_branchesOf_4 (K : KM) (hb : K.G.base ≤ K.m) {x1 x2 x3 : Int} {F : Nat → Int} {A : Nat → Int → Int} (h : (rI x3) ∧ (rI (F 16)) ∧ (((F 16) ≤ x3 → (SI K x2 F A)) ∧ (¬ (F 16) ≤ x3 → (VM K mX5_branchesOf 15 [(0, .ref K.m), (1, vI x1), (2, vI x2), (3, vI x3), (4, vI 0)] [] F A)))) : VM K mX5_branchesOf 4 [(0, .ref K.m), (1, vI x1), (2, vI x2), (3, vI x3)] [] F A := by
  obtain ⟨s0, s1, h⟩ := h
  refine v_iload_n 3 dX5_branchesOf_4 rfl ?_
  refine v_aload_n 0 dX5_branchesOf_5 rfl (isR_ref _) ?_
  refine m_get (v := vI (F 16)) K dX5_branchesOf_6 fX5_329 rfl ?_
  obtain ⟨ht, hf⟩ := h
  refine v_icmp_ge 59 dX5_branchesOf_9 (by decide) s0 s1 (fun c => ?_) (fun c => ?_)
  · have h := ht c
    refine v_iload_n 2 dX5_branchesOf_59 rfl ?_
    exact m_iret K dX5_branchesOf_60 rfl h
  · have h := hf c
    refine v_iconst dX5_branchesOf_12 ?_
    refine v_istore dX5_branchesOf_13 (by decide) rfl ?_
    refine V.sub [1, 2, 3, 4, 0] rfl ?_
    exact h
theorem wX5_branchesOf_15 (K : KM) (hb : K.G.base ≤ K.m) {x1 x2 x3 x4 : Int} {F : Nat → Int} {A : Nat → Int → Int} (h : (rI x4) ∧ (rI (F 1)) ∧ (((F 1) ≤ x4 → (VM K mX5_branchesOf 4 [(0, .ref K.m), (1, vI x1), (2, vI x2), (3, vI (x3 + 1))] [] F A)) ∧ (¬ (F 1) ≤ x4 → (RI mX5_isBranch K [.ref K.m, vI x3, vI x4, vI x1] F A fun r2 F2 A2 => (rI r2) ∧ ((r2 = 0 → (VM K mX5_branchesOf 15 [(0, .ref K.m), (1, vI x1), (2, vI x2), (3, vI x3), (4, vI (x4 + 1))] [] F2 A2)) ∧ (¬ r2 = 0 → ((0 ≤ x2 ∧ x2 < 13) ∧ (VM K mX5_branchesOf 15 [(0, .ref K.m), (1, vI x1), (2, vI (x2 + 1)), (3, vI x3), (4, vI (x4 + 1))] [] F2 (upA A2 9 x2 (x3 + 1)))))))))) : VM K mX5_branchesOf 15 [(0, .ref K.m), (1, vI x1), (2, vI x2), (3, vI x3), (4, vI x4)] [] F A := by
  obtain ⟨s0, s1, h⟩ := h
  refine v_iload 4 dX5_branchesOf_15 rfl ?_
  refine v_aload_n 0 dX5_branchesOf_17 rfl (isR_ref _) ?_
  refine m_get (v := vI (F 1)) K dX5_branchesOf_18 fX5_145 rfl ?_
  obtain ⟨ht, hf⟩ := h
  refine v_icmp_ge 53 dX5_branchesOf_21 (by decide) s0 s1 (fun c => ?_) (fun c => ?_)
  · have h := ht c
    refine v_iinc 3 dX5_branchesOf_53 rfl (by decide) rfl ?_
    refine v_goto 4 dX5_branchesOf_56 (by decide) ?_
    refine V.sub [1, 2, 3, 0] rfl ?_
    exact h
  · have h := hf c
    refine v_aload_n 0 dX5_branchesOf_24 rfl (isR_ref _) ?_
    refine v_iload_n 3 dX5_branchesOf_25 rfl ?_
    refine v_iload 4 dX5_branchesOf_26 rfl ?_
    refine v_iload_n 1 dX5_branchesOf_28 rfl ?_
    refine m_callI K (As := [vI x3, vI x4, vI x1]) dX5_branchesOf_29 LX5_339 rfl rfl (Nat.le_of_ble_eq_true rfl) h (fun r2 F2 A2 h => ?_)
    obtain ⟨s3, h⟩ := h
    obtain ⟨ht, hf⟩ := h
    refine v_if_eq 47 dX5_branchesOf_32 (by decide) s3 (fun c => ?_) (fun c => ?_)
    · have h := ht c
      refine v_iinc 4 dX5_branchesOf_47 rfl (by decide) rfl ?_
      refine v_goto 15 dX5_branchesOf_50 (by decide) ?_
      refine V.sub [1, 2, 3, 4, 0] rfl ?_
      exact h
    · have h := hf c
      obtain ⟨s4, h⟩ := h
      refine v_aload_n 0 dX5_branchesOf_35 rfl (isR_ref _) ?_
      refine m_get K dX5_branchesOf_36 fX5_44 rfl ?_
      refine v_iload_n 2 dX5_branchesOf_39 rfl ?_
      refine v_iload_n 3 dX5_branchesOf_40 rfl ?_
      refine v_iconst dX5_branchesOf_41 ?_
      refine v_iadd dX5_branchesOf_42 ?_
      refine m_iast K 9 hb dX5_branchesOf_43 rfl s4 (by decide) ?_
      refine v_iinc 2 dX5_branchesOf_44 rfl (by decide) rfl ?_
      refine v_iinc 4 dX5_branchesOf_47 rfl (by decide) rfl ?_
      refine v_goto 15 dX5_branchesOf_50 (by decide) ?_
      refine V.sub [2, 3, 1, 4, 0] rfl ?_
      exact h
/-! isBranch -/
theorem wX5_isBranch_0 (K : KM) (hb : K.G.base ≤ K.m) {x1 x2 x3 : Int} {F : Nat → Int} {A : Nat → Int → Int} (h : (0 ≤ x1 ∧ x1 < 13) ∧ (0 ≤ (A 8 x1) ∧ (A 8 x1) < 13) ∧ (RI mX5_has K [vI (A 0 (A 8 x1)), vI x2] F A fun r2 F2 A2 => (rI r2) ∧ ((r2 = 0 → (SI K 0 F2 A2)) ∧ (¬ r2 = 0 → ((rI x2) ∧ (rI x3) ∧ ((x2 = x3 → (SI K 0 F2 A2)) ∧ (¬ x2 = x3 → (RI mX5_isInChain K [.ref K.m, vI x2] F2 A2 fun r6 F6 A6 => (rI r6) ∧ ((¬ r6 = 0 → (SI K 0 F6 A6)) ∧ (r6 = 0 → (SI K 1 F6 A6))))))))))) : VM K mX5_isBranch 0 [(0, .ref K.m), (1, vI x1), (2, vI x2), (3, vI x3)] [] F A := by
  obtain ⟨s0, s1, h⟩ := h
  refine v_aload_n 0 dX5_isBranch_0 rfl (isR_ref _) ?_
  refine m_get K dX5_isBranch_1 fX5_11 rfl ?_
  refine v_aload_n 0 dX5_isBranch_4 rfl (isR_ref _) ?_
  refine m_get K dX5_isBranch_5 fX5_41 rfl ?_
  refine v_iload_n 1 dX5_isBranch_8 rfl ?_
  refine m_iald K 8 dX5_isBranch_9 rfl s0 (by decide) ?_
  refine m_iald K 0 dX5_isBranch_10 rfl s1 (by decide) ?_
  refine v_iload_n 2 dX5_isBranch_11 rfl ?_
  refine m_callSI K (As := [vI (A 0 (A 8 x1)), vI x2]) dX5_isBranch_12 LX5_152 rfl rfl (Nat.le_of_ble_eq_true rfl) h (fun r2 F2 A2 h => ?_)
  obtain ⟨s3, h⟩ := h
  obtain ⟨ht, hf⟩ := h
  refine v_if_eq 35 dX5_isBranch_15 (by decide) s3 (fun c => ?_) (fun c => ?_)
  · have h := ht c
    refine v_iconst dX5_isBranch_35 ?_
    exact m_zret K dX5_isBranch_36 rfl (by decide) h
  · have h := hf c
    obtain ⟨s4, s5, h⟩ := h
    refine v_iload_n 2 dX5_isBranch_18 rfl ?_
    refine v_iload_n 3 dX5_isBranch_19 rfl ?_
    obtain ⟨ht, hf⟩ := h
    refine v_icmp_eq 35 dX5_isBranch_20 (by decide) s4 s5 (fun c => ?_) (fun c => ?_)
    · have h := ht c
      refine v_iconst dX5_isBranch_35 ?_
      exact m_zret K dX5_isBranch_36 rfl (by decide) h
    · have h := hf c
      refine v_aload_n 0 dX5_isBranch_23 rfl (isR_ref _) ?_
      refine v_iload_n 2 dX5_isBranch_24 rfl ?_
      refine m_callI K (As := [vI x2]) dX5_isBranch_25 LX5_336 rfl rfl (Nat.le_of_ble_eq_true rfl) h (fun r6 F6 A6 h => ?_)
      obtain ⟨s7, h⟩ := h
      obtain ⟨ht, hf⟩ := h
      refine v_if_ne 35 dX5_isBranch_28 (by decide) s7 (fun c => ?_) (fun c => ?_)
      · have h := ht c
        refine v_iconst dX5_isBranch_35 ?_
        exact m_zret K dX5_isBranch_36 rfl (by decide) h
      · have h := hf c
        refine v_iconst dX5_isBranch_31 ?_
        refine v_goto 36 dX5_isBranch_32 (by decide) ?_
        exact m_zret K dX5_isBranch_36 rfl (by decide) h
/-! isInChain -/
theorem wX5_isInChain_0 (K : KM) (hb : K.G.base ≤ K.m) {x1 : Int} {F : Nat → Int} {A : Nat → Int → Int} (h : VM K mX5_isInChain 2 [(0, .ref K.m), (1, vI x1), (2, vI 0)] [] F A) : VM K mX5_isInChain 0 [(0, .ref K.m), (1, vI x1)] [] F A := by
  refine v_iconst dX5_isInChain_0 ?_
  refine v_istore_n dX5_isInChain_1 (by decide) rfl ?_
  refine V.sub [1, 2, 0] rfl ?_
  exact h
theorem wX5_isInChain_2 (K : KM) (hb : K.G.base ≤ K.m) {x1 x2 : Int} {F : Nat → Int} {A : Nat → Int → Int} (h : (rI x2) ∧ (rI (F 16)) ∧ (((F 16) ≤ x2 → (SI K 0 F A)) ∧ (¬ (F 16) ≤ x2 → ((0 ≤ x2 ∧ x2 < 13) ∧ (rI (A 8 x2)) ∧ (rI x1) ∧ ((¬ (A 8 x2) = x1 → (VM K mX5_isInChain 2 [(0, .ref K.m), (1, vI x1), (2, vI (x2 + 1))] [] F A)) ∧ ((A 8 x2) = x1 → (SI K 1 F A))))))) : VM K mX5_isInChain 2 [(0, .ref K.m), (1, vI x1), (2, vI x2)] [] F A := by
  obtain ⟨s0, s1, h⟩ := h
  refine v_iload_n 2 dX5_isInChain_2 rfl ?_
  refine v_aload_n 0 dX5_isInChain_3 rfl (isR_ref _) ?_
  refine m_get (v := vI (F 16)) K dX5_isInChain_4 fX5_329 rfl ?_
  obtain ⟨ht, hf⟩ := h
  refine v_icmp_ge 28 dX5_isInChain_7 (by decide) s0 s1 (fun c => ?_) (fun c => ?_)
  · have h := ht c
    refine v_iconst dX5_isInChain_28 ?_
    exact m_zret K dX5_isInChain_29 rfl (by decide) h
  · have h := hf c
    obtain ⟨s2, s3, s4, h⟩ := h
    refine v_aload_n 0 dX5_isInChain_10 rfl (isR_ref _) ?_
    refine m_get K dX5_isInChain_11 fX5_41 rfl ?_
    refine v_iload_n 2 dX5_isInChain_14 rfl ?_
    refine m_iald K 8 dX5_isInChain_15 rfl s2 (by decide) ?_
    refine v_iload_n 1 dX5_isInChain_16 rfl ?_
    obtain ⟨ht, hf⟩ := h
    refine v_icmp_ne 22 dX5_isInChain_17 (by decide) s3 s4 (fun c => ?_) (fun c => ?_)
    · have h := ht c
      refine v_iinc 2 dX5_isInChain_22 rfl (by decide) rfl ?_
      refine v_goto 2 dX5_isInChain_25 (by decide) ?_
      refine V.sub [1, 2, 0] rfl ?_
      exact h
    · have h := hf c
      refine v_iconst dX5_isInChain_20 ?_
      exact m_zret K dX5_isInChain_21 rfl (by decide) h
/-! isBest -/
theorem wX5_isBest_0 (K : KM) (hb : K.G.base ≤ K.m) {x1 : Int} {F : Nat → Int} {A : Nat → Int → Int} (h : RI mX5_branchesOf K [.ref K.m, vI x1] F A fun r0 F0 A0 => (0 ≤ (F 26) ∧ (F 26) < 13) ∧ (0 ≤ (F0 26) ∧ (F0 26) < 13) ∧ (VM K mX5_isBest 29 [(0, .ref K.m), (2, vI 0)] [] F0 (upA (upA A0 16 (F 26) r0) 15 (F0 26) (F0 16)))) : VM K mX5_isBest 0 [(0, .ref K.m), (1, vI x1)] [] F A := by
  refine v_aload_n 0 dX5_isBest_0 rfl (isR_ref _) ?_
  refine m_get K dX5_isBest_1 fX5_76 rfl ?_
  refine v_aload_n 0 dX5_isBest_4 rfl (isR_ref _) ?_
  refine m_get (v := vI (F 26)) K dX5_isBest_5 fX5_270 rfl ?_
  refine v_aload_n 0 dX5_isBest_8 rfl (isR_ref _) ?_
  refine v_iload_n 1 dX5_isBest_9 rfl ?_
  refine m_callI K (As := [vI x1]) dX5_isBest_10 LX5_286 rfl rfl (Nat.le_of_ble_eq_true rfl) h (fun r0 F0 A0 h => ?_)
  obtain ⟨s1, s2, h⟩ := h
  refine m_iast K 16 hb dX5_isBest_13 rfl s1 (by decide) ?_
  refine v_aload_n 0 dX5_isBest_14 rfl (isR_ref _) ?_
  refine m_get K dX5_isBest_15 fX5_73 rfl ?_
  refine v_aload_n 0 dX5_isBest_18 rfl (isR_ref _) ?_
  refine m_get (v := vI (F0 26)) K dX5_isBest_19 fX5_270 rfl ?_
  refine v_aload_n 0 dX5_isBest_22 rfl (isR_ref _) ?_
  refine m_get (v := vI (F0 16)) K dX5_isBest_23 fX5_329 rfl ?_
  refine m_iast K 15 hb dX5_isBest_26 rfl s2 (by decide) ?_
  refine v_iconst dX5_isBest_27 ?_
  refine v_istore_n dX5_isBest_28 (by decide) rfl ?_
  refine V.sub [1, 0] rfl ?_
  exact h
theorem wX5_isBest_29 (K : KM) (hb : K.G.base ≤ K.m) {x2 : Int} {F : Nat → Int} {A : Nat → Int → Int} (h : (0 ≤ (F 26) ∧ (F 26) < 13) ∧ (rI x2) ∧ (rI (A 16 (F 26))) ∧ (((A 16 (F 26)) ≤ x2 → (SV K F A)) ∧ (¬ (A 16 (F 26)) ≤ x2 → ((0 ≤ x2 ∧ x2 < 13) ∧ (0 ≤ ((13 * (F 26)) + x2) ∧ ((13 * (F 26)) + x2) < 169) ∧ (VM K mX5_isBest 29 [(0, .ref K.m), (2, vI (x2 + 1))] [] F (upA A 17 ((13 * (F 26)) + x2) (A 9 x2))))))) : VM K mX5_isBest 29 [(0, .ref K.m), (2, vI x2)] [] F A := by
  obtain ⟨s0, s1, s2, h⟩ := h
  refine v_iload_n 1 dX5_isBest_29 rfl ?_
  refine v_aload_n 0 dX5_isBest_30 rfl (isR_ref _) ?_
  refine m_get K dX5_isBest_31 fX5_76 rfl ?_
  refine v_aload_n 0 dX5_isBest_34 rfl (isR_ref _) ?_
  refine m_get (v := vI (F 26)) K dX5_isBest_35 fX5_270 rfl ?_
  refine m_iald K 16 dX5_isBest_38 rfl s0 (by decide) ?_
  obtain ⟨ht, hf⟩ := h
  refine v_icmp_ge 68 dX5_isBest_39 (by decide) s1 s2 (fun c => ?_) (fun c => ?_)
  · have h := ht c
    exact m_vret K dX5_isBest_68 rfl h
  · have h := hf c
    obtain ⟨s3, s4, h⟩ := h
    refine v_aload_n 0 dX5_isBest_42 rfl (isR_ref _) ?_
    refine m_get K dX5_isBest_43 fX5_79 rfl ?_
    refine v_bipush dX5_isBest_46 rfl ?_
    refine v_aload_n 0 dX5_isBest_48 rfl (isR_ref _) ?_
    refine m_get (v := vI (F 26)) K dX5_isBest_49 fX5_270 rfl ?_
    refine v_imul dX5_isBest_52 ?_
    refine v_iload_n 1 dX5_isBest_53 rfl ?_
    refine v_iadd dX5_isBest_54 ?_
    refine v_aload_n 0 dX5_isBest_55 rfl (isR_ref _) ?_
    refine m_get K dX5_isBest_56 fX5_44 rfl ?_
    refine v_iload_n 1 dX5_isBest_59 rfl ?_
    refine m_iald K 9 dX5_isBest_60 rfl s3 (by decide) ?_
    refine m_iast K 17 hb dX5_isBest_61 rfl s4 (by decide) ?_
    refine v_iinc 1 dX5_isBest_62 rfl (by decide) rfl ?_
    refine v_goto 29 dX5_isBest_65 (by decide) ?_
    refine V.sub [1, 0] rfl ?_
    exact h
/-! namesBy -/
theorem wX5_namesBy_0 (K : KM) (hb : K.G.base ≤ K.m) {x1 x2 : Int} {F : Nat → Int} {A : Nat → Int → Int} (h : RI mX5_namesBranches K [.ref K.m, vI x1] F A fun r0 F0 A0 => RI mX5_nextPart K [.ref K.m, vI (12 * (F0 26)), vI r0, vI ((-1))] F0 A0 fun r1 F1 A1 => VM K mX5_namesBy 44 [(0, .ref K.m), (2, vI x2), (3, vI (F 19)), (4, vI (F 16)), (5, vI r0), (6, vI (12 * (F0 26))), (7, vI (F0 19)), (8, vI r1)] [] F1 A1) : VM K mX5_namesBy 0 [(0, .ref K.m), (1, vI x1), (2, vI x2)] [] F A := by
  refine v_aload_n 0 dX5_namesBy_0 rfl (isR_ref _) ?_
  refine m_get (v := vI (F 19)) K dX5_namesBy_1 fX5_267 rfl ?_
  refine v_istore_n dX5_namesBy_4 (by decide) rfl ?_
  refine v_aload_n 1 dX5_namesBy_5 rfl (isR_ref _) ?_
  refine m_get (v := vI (F 16)) K dX5_namesBy_6 fX5_329 rfl ?_
  refine v_istore dX5_namesBy_9 (by decide) rfl ?_
  refine v_aload_n 2 dX5_namesBy_11 rfl (isR_ref _) ?_
  refine v_iload_n 3 dX5_namesBy_12 rfl ?_
  refine m_callI K (As := [vI x1]) dX5_namesBy_13 LX5_387 rfl rfl (Nat.le_of_ble_eq_true rfl) h (fun r0 F0 A0 h => ?_)
  refine v_istore dX5_namesBy_16 (by decide) rfl ?_
  refine v_bipush dX5_namesBy_18 rfl ?_
  refine v_aload_n 3 dX5_namesBy_20 rfl (isR_ref _) ?_
  refine m_get (v := vI (F0 26)) K dX5_namesBy_21 fX5_270 rfl ?_
  refine v_imul dX5_namesBy_24 ?_
  refine v_istore dX5_namesBy_25 (by decide) rfl ?_
  refine v_aload_n 4 dX5_namesBy_27 rfl (isR_ref _) ?_
  refine m_get (v := vI (F0 19)) K dX5_namesBy_28 fX5_267 rfl ?_
  refine v_istore dX5_namesBy_31 (by decide) rfl ?_
  refine v_aload_n 5 dX5_namesBy_33 rfl (isR_ref _) ?_
  refine v_iload 1 dX5_namesBy_34 rfl ?_
  refine v_iload 2 dX5_namesBy_36 rfl ?_
  refine v_iconst dX5_namesBy_38 ?_
  refine m_callI K (As := [vI (12 * (F0 26)), vI r0, vI ((-1))]) dX5_namesBy_39 LX5_390 rfl rfl (Nat.le_of_ble_eq_true rfl) h (fun r1 F1 A1 h => ?_)
  refine v_istore dX5_namesBy_42 (by decide) rfl ?_
  refine V.sub [6, 8, 5, 4, 3, 2, 1, 0] rfl ?_
  exact h
theorem wX5_namesBy_44 (K : KM) (hb : K.G.base ≤ K.m) (hX : XS K.G) {x2 x3 x4 x5 x6 x7 x8 : Int} {F : Nat → Int} {A : Nat → Int → Int} (h : (rI x8) ∧ ((x8 = ((-1)) → (RV mX5_putsWord K [.ref K.m, .ref (K.G.ad 22), vI (x4 - 1)] F A fun F1 A1 => (rI x2) ∧ ((x2 = 0 → (RV mX5_puts K [.ref K.m, vI 121] F1 A1 fun F3 A3 => RV mX5_puts K [.ref K.m, vI 108] F3 A3 fun F4 A4 => VM K mX5_namesBy 146 [(0, .ref K.m), (3, vI x3), (7, vI x7), (9, vI ((F4 19) - x7)), (10, vI 0)] [] F4 A4)) ∧ (¬ x2 = 0 → (RV mX5_puts K [.ref K.m, vI 97] F1 A1 fun F3 A3 => RV mX5_puts K [.ref K.m, vI 110] F3 A3 fun F4 A4 => RV mX5_puts K [.ref K.m, vI 101] F4 A4 fun F5 A5 => VM K mX5_namesBy 146 [(0, .ref K.m), (3, vI x3), (7, vI x7), (9, vI ((F5 19) - x7)), (10, vI 0)] [] F5 A5))))) ∧ (¬ x8 = ((-1)) → (RV mX5_putsPart K [.ref K.m, vI x6, vI x5, vI x8] F A fun F1 A1 => RI mX5_nextPart K [.ref K.m, vI x6, vI x5, vI x8] F1 A1 fun r2 F2 A2 => (rI r2) ∧ ((r2 = ((-1)) → (VM K mX5_namesBy 44 [(0, .ref K.m), (2, vI x2), (3, vI x3), (4, vI x4), (5, vI x5), (6, vI x6), (7, vI x7), (8, vI r2)] [] F2 A2)) ∧ (¬ r2 = ((-1)) → (RV mX5_puts K [.ref K.m, vI 45] F2 A2 fun F4 A4 => VM K mX5_namesBy 44 [(0, .ref K.m), (2, vI x2), (3, vI x3), (4, vI x4), (5, vI x5), (6, vI x6), (7, vI x7), (8, vI r2)] [] F4 A4))))))) : VM K mX5_namesBy 44 [(0, .ref K.m), (2, vI x2), (3, vI x3), (4, vI x4), (5, vI x5), (6, vI x6), (7, vI x7), (8, vI x8)] [] F A := by
  obtain ⟨s0, h⟩ := h
  refine v_iload 7 dX5_namesBy_44 rfl ?_
  refine v_iconst dX5_namesBy_46 ?_
  obtain ⟨ht, hf⟩ := h
  refine v_icmp_eq 87 dX5_namesBy_47 (by decide) s0 (by decide) (fun c => ?_) (fun c => ?_)
  · have h := ht c
    refine v_aload_n 0 dX5_namesBy_87 rfl (isR_ref _) ?_
    refine v_ldcS 22 hX dX5_namesBy_88 rfl ?_
    refine v_iload 3 dX5_namesBy_90 rfl ?_
    refine v_iconst dX5_namesBy_92 ?_
    refine v_isub dX5_namesBy_93 ?_
    refine m_callV K (As := [.ref (K.G.ad 22), vI (x4 - 1)]) dX5_namesBy_94 LX5_380 rfl rfl (Nat.le_of_ble_eq_true rfl) h (fun F1 A1 h => ?_)
    obtain ⟨s2, h⟩ := h
    refine v_iload_n 1 dX5_namesBy_97 rfl ?_
    obtain ⟨ht, hf⟩ := h
    refine v_if_eq 122 dX5_namesBy_98 (by decide) s2 (fun c => ?_) (fun c => ?_)
    · have h := ht c
      refine v_aload_n 0 dX5_namesBy_122 rfl (isR_ref _) ?_
      refine v_bipush dX5_namesBy_123 rfl ?_
      refine m_callV K (As := [vI 121]) dX5_namesBy_125 LX5_352 rfl rfl (Nat.le_of_ble_eq_true rfl) h (fun F3 A3 h => ?_)
      refine v_aload_n 0 dX5_namesBy_128 rfl (isR_ref _) ?_
      refine v_bipush dX5_namesBy_129 rfl ?_
      refine m_callV K (As := [vI 108]) dX5_namesBy_131 LX5_352 rfl rfl (Nat.le_of_ble_eq_true rfl) h (fun F4 A4 h => ?_)
      refine v_aload_n 0 dX5_namesBy_134 rfl (isR_ref _) ?_
      refine m_get (v := vI (F4 19)) K dX5_namesBy_135 fX5_267 rfl ?_
      refine v_iload 6 dX5_namesBy_138 rfl ?_
      refine v_isub dX5_namesBy_140 ?_
      refine v_istore dX5_namesBy_141 (by decide) rfl ?_
      refine v_iconst dX5_namesBy_143 ?_
      refine v_istore dX5_namesBy_144 (by decide) rfl ?_
      refine V.sub [2, 4, 8, 1, 0] rfl ?_
      exact h
    · have h := hf c
      refine v_aload_n 0 dX5_namesBy_101 rfl (isR_ref _) ?_
      refine v_bipush dX5_namesBy_102 rfl ?_
      refine m_callV K (As := [vI 97]) dX5_namesBy_104 LX5_352 rfl rfl (Nat.le_of_ble_eq_true rfl) h (fun F3 A3 h => ?_)
      refine v_aload_n 0 dX5_namesBy_107 rfl (isR_ref _) ?_
      refine v_bipush dX5_namesBy_108 rfl ?_
      refine m_callV K (As := [vI 110]) dX5_namesBy_110 LX5_352 rfl rfl (Nat.le_of_ble_eq_true rfl) h (fun F4 A4 h => ?_)
      refine v_aload_n 0 dX5_namesBy_113 rfl (isR_ref _) ?_
      refine v_bipush dX5_namesBy_114 rfl ?_
      refine m_callV K (As := [vI 101]) dX5_namesBy_116 LX5_352 rfl rfl (Nat.le_of_ble_eq_true rfl) h (fun F5 A5 h => ?_)
      refine v_goto 134 dX5_namesBy_119 (by decide) ?_
      refine v_aload_n 0 dX5_namesBy_134 rfl (isR_ref _) ?_
      refine m_get (v := vI (F5 19)) K dX5_namesBy_135 fX5_267 rfl ?_
      refine v_iload 6 dX5_namesBy_138 rfl ?_
      refine v_isub dX5_namesBy_140 ?_
      refine v_istore dX5_namesBy_141 (by decide) rfl ?_
      refine v_iconst dX5_namesBy_143 ?_
      refine v_istore dX5_namesBy_144 (by decide) rfl ?_
      refine V.sub [2, 4, 8, 1, 0] rfl ?_
      exact h
  · have h := hf c
    refine v_aload_n 0 dX5_namesBy_50 rfl (isR_ref _) ?_
    refine v_iload 5 dX5_namesBy_51 rfl ?_
    refine v_iload 4 dX5_namesBy_53 rfl ?_
    refine v_iload 7 dX5_namesBy_55 rfl ?_
    refine m_callV K (As := [vI x6, vI x5, vI x8]) dX5_namesBy_57 LX5_393 rfl rfl (Nat.le_of_ble_eq_true rfl) h (fun F1 A1 h => ?_)
    refine v_aload_n 0 dX5_namesBy_60 rfl (isR_ref _) ?_
    refine v_iload 5 dX5_namesBy_61 rfl ?_
    refine v_iload 4 dX5_namesBy_63 rfl ?_
    refine v_iload 7 dX5_namesBy_65 rfl ?_
    refine m_callI K (As := [vI x6, vI x5, vI x8]) dX5_namesBy_67 LX5_390 rfl rfl (Nat.le_of_ble_eq_true rfl) h (fun r2 F2 A2 h => ?_)
    obtain ⟨s3, h⟩ := h
    refine v_istore dX5_namesBy_70 (by decide) rfl ?_
    refine v_iload 0 dX5_namesBy_72 rfl ?_
    refine v_iconst dX5_namesBy_74 ?_
    obtain ⟨ht, hf⟩ := h
    refine v_icmp_eq 44 dX5_namesBy_75 (by decide) s3 (by decide) (fun c => ?_) (fun c => ?_)
    · have h := ht c
      refine V.sub [1, 2, 3, 4, 5, 6, 7, 0] rfl ?_
      exact h
    · have h := hf c
      refine v_aload_n 1 dX5_namesBy_78 rfl (isR_ref _) ?_
      refine v_bipush dX5_namesBy_79 rfl ?_
      refine m_callV K (As := [vI 45]) dX5_namesBy_81 LX5_352 rfl rfl (Nat.le_of_ble_eq_true rfl) h (fun F4 A4 h => ?_)
      refine v_goto 44 dX5_namesBy_84 (by decide) ?_
      refine V.sub [1, 2, 3, 4, 5, 6, 7, 0] rfl ?_
      exact h
theorem wX5_namesBy_146 (K : KM) (hb : K.G.base ≤ K.m) {x3 x7 x9 x10 : Int} {F : Nat → Int} {A : Nat → Int → Int} (h : (rI x10) ∧ (rI x9) ∧ ((x9 ≤ x10 → (SI K x9 (upN F 19 (x3 + x9)) A)) ∧ (¬ x9 ≤ x10 → ((0 ≤ (x7 + x10) ∧ (x7 + x10) < 16384) ∧ (0 ≤ (x3 + x10) ∧ (x3 + x10) < 16384) ∧ (VM K mX5_namesBy 146 [(0, .ref K.m), (3, vI x3), (7, vI x7), (9, vI x9), (10, vI (x10 + 1))] [] F (upA A 10 (x3 + x10) (A 10 (x7 + x10)))))))) : VM K mX5_namesBy 146 [(0, .ref K.m), (3, vI x3), (7, vI x7), (9, vI x9), (10, vI x10)] [] F A := by
  obtain ⟨s0, s1, h⟩ := h
  refine v_iload 4 dX5_namesBy_146 rfl ?_
  refine v_iload 3 dX5_namesBy_148 rfl ?_
  obtain ⟨ht, hf⟩ := h
  refine v_icmp_ge 178 dX5_namesBy_150 (by decide) s0 s1 (fun c => ?_) (fun c => ?_)
  · have h := ht c
    refine v_aload_n 0 dX5_namesBy_178 rfl (isR_ref _) ?_
    refine v_iload_n 1 dX5_namesBy_179 rfl ?_
    refine v_iload 3 dX5_namesBy_180 rfl ?_
    refine v_iadd dX5_namesBy_182 ?_
    refine m_put (F' := upN F 19 (x3 + x9)) K hb dX5_namesBy_183 fX5_267 (by decide) (by decide) rfl ?_
    refine v_iload 3 dX5_namesBy_186 rfl ?_
    exact m_iret K dX5_namesBy_188 rfl h
  · have h := hf c
    obtain ⟨s2, s3, h⟩ := h
    refine v_aload_n 0 dX5_namesBy_153 rfl (isR_ref _) ?_
    refine m_get K dX5_namesBy_154 fX5_47 rfl ?_
    refine v_iload_n 1 dX5_namesBy_157 rfl ?_
    refine v_iload 4 dX5_namesBy_158 rfl ?_
    refine v_iadd dX5_namesBy_160 ?_
    refine v_aload_n 0 dX5_namesBy_161 rfl (isR_ref _) ?_
    refine m_get K dX5_namesBy_162 fX5_47 rfl ?_
    refine v_iload 2 dX5_namesBy_165 rfl ?_
    refine v_iload 4 dX5_namesBy_167 rfl ?_
    refine v_iadd dX5_namesBy_169 ?_
    refine m_iald K 10 dX5_namesBy_170 rfl s2 (by decide) ?_
    refine m_iast K 10 hb dX5_namesBy_171 rfl s3 (by decide) ?_
    refine v_iinc 4 dX5_namesBy_172 rfl (by decide) rfl ?_
    refine v_goto 146 dX5_namesBy_175 (by decide) ?_
    refine V.sub [1, 2, 3, 4, 0] rfl ?_
    exact h
/-! namesBranches -/
theorem wX5_namesBranches_0 (K : KM) (hb : K.G.base ≤ K.m) {x1 : Int} {F : Nat → Int} {A : Nat → Int → Int} (h : ((0 : Int) ≤ (13 * (F 26)) ∧ (13 * (F 26)) + 13 ≤ 169) ∧ (1 ≤ K.d) ∧ (VM K mX5_namesBranches 44 [(0, .ref K.m), (1, vI x1), (2, vI (12 * (F 26))), (3, vI 0), (4, vI (F 16)), (5, vI (13 * (F 26))), (6, vI 0)] [] F (cpA A 8 14 0 (13 * (F 26)) 13))) : VM K mX5_namesBranches 0 [(0, .ref K.m), (1, vI x1)] [] F A := by
  obtain ⟨s0, s1, h⟩ := h
  refine v_bipush dX5_namesBranches_0 rfl ?_
  refine v_aload_n 0 dX5_namesBranches_2 rfl (isR_ref _) ?_
  refine m_get (v := vI (F 26)) K dX5_namesBranches_3 fX5_270 rfl ?_
  refine v_imul dX5_namesBranches_6 ?_
  refine v_istore_n dX5_namesBranches_7 (by decide) rfl ?_
  refine v_iconst dX5_namesBranches_8 ?_
  refine v_istore_n dX5_namesBranches_9 (by decide) rfl ?_
  refine v_aload_n 2 dX5_namesBranches_10 rfl (isR_ref _) ?_
  refine m_get (v := vI (F 16)) K dX5_namesBranches_11 fX5_329 rfl ?_
  refine v_istore dX5_namesBranches_14 (by decide) rfl ?_
  refine v_bipush dX5_namesBranches_16 rfl ?_
  refine v_aload_n 3 dX5_namesBranches_18 rfl (isR_ref _) ?_
  refine m_get (v := vI (F 26)) K dX5_namesBranches_19 fX5_270 rfl ?_
  refine v_imul dX5_namesBranches_22 ?_
  refine v_istore dX5_namesBranches_23 (by decide) rfl ?_
  refine v_aload_n 4 dX5_namesBranches_25 rfl (isR_ref _) ?_
  refine m_get K dX5_namesBranches_26 fX5_41 rfl ?_
  refine v_iconst dX5_namesBranches_29 ?_
  refine v_aload_n 4 dX5_namesBranches_30 rfl (isR_ref _) ?_
  refine m_get K dX5_namesBranches_31 fX5_70 rfl ?_
  refine v_iload 0 dX5_namesBranches_34 rfl ?_
  refine v_bipush dX5_namesBranches_36 rfl ?_
  refine m_copyI K 8 14 hb dX5_namesBranches_38 q2140 rfl rfl (by decide) s0 (by decide) (by decide) (by decide) s1 (Nat.le_of_ble_eq_true rfl) ?_
  refine v_iconst dX5_namesBranches_41 ?_
  refine v_istore dX5_namesBranches_42 (by decide) rfl ?_
  refine V.sub [5, 6, 4, 3, 2, 1, 0] rfl ?_
  exact h
theorem wX5_namesBranches_44 (K : KM) (hb : K.G.base ≤ K.m) {x1 x2 x3 x4 x5 x6 : Int} {F : Nat → Int} {A : Nat → Int → Int} (h : (rI x6) ∧ (rI x4) ∧ ((x4 ≤ x6 → (SI K x3 (upN F 16 x4) A)) ∧ (¬ x4 ≤ x6 → (VM K mX5_namesBranches 54 [(0, .ref K.m), (1, vI x1), (2, vI x2), (3, vI x3), (4, vI x4), (5, vI x5), (6, vI x6), (7, vI 0)] [] F A)))) : VM K mX5_namesBranches 44 [(0, .ref K.m), (1, vI x1), (2, vI x2), (3, vI x3), (4, vI x4), (5, vI x5), (6, vI x6)] [] F A := by
  obtain ⟨s0, s1, h⟩ := h
  refine v_iload 6 dX5_namesBranches_44 rfl ?_
  refine v_iload 4 dX5_namesBranches_46 rfl ?_
  obtain ⟨ht, hf⟩ := h
  refine v_icmp_ge 184 dX5_namesBranches_48 (by decide) s0 s1 (fun c => ?_) (fun c => ?_)
  · have h := ht c
    refine v_aload_n 0 dX5_namesBranches_184 rfl (isR_ref _) ?_
    refine v_iload 4 dX5_namesBranches_185 rfl ?_
    refine m_put (F' := upN F 16 x4) K hb dX5_namesBranches_187 fX5_329 (by decide) (by decide) rfl ?_
    refine v_iload_n 3 dX5_namesBranches_190 rfl ?_
    exact m_iret K dX5_namesBranches_191 rfl h
  · have h := hf c
    refine v_iconst dX5_namesBranches_51 ?_
    refine v_istore dX5_namesBranches_52 (by decide) rfl ?_
    refine V.sub [1, 2, 3, 4, 5, 6, 7, 0] rfl ?_
    exact h
theorem wX5_namesBranches_54 (K : KM) (hb : K.G.base ≤ K.m) {x1 x2 x3 x4 x5 x6 x7 : Int} {F : Nat → Int} {A : Nat → Int → Int} (h : (rI x7) ∧ (rI (F 1)) ∧ (((F 1) ≤ x7 → (VM K mX5_namesBranches 44 [(0, .ref K.m), (1, vI x1), (2, vI x2), (3, vI x3), (4, vI x4), (5, vI x5), (6, vI (x6 + 1))] [] F A)) ∧ (¬ (F 1) ≤ x7 → (((0 : Int) ≤ x5 ∧ x5 + 13 ≤ 169) ∧ (1 ≤ K.d) ∧ (RI mX5_isBranch K [.ref K.m, vI x6, vI x7, vI x1] (upN F 16 x4) (cpA A 14 8 x5 0 13) fun r4 F4 A4 => (rI r4) ∧ ((r4 = 0 → (VM K mX5_namesBranches 54 [(0, .ref K.m), (1, vI x1), (2, vI x2), (3, vI x3), (4, vI x4), (5, vI x5), (6, vI x6), (7, vI (x7 + 1))] [] F4 A4)) ∧ (¬ r4 = 0 → ((0 ≤ (x2 + x3) ∧ (x2 + x3) < 156) ∧ (0 ≤ (x5 + x6) ∧ (x5 + x6) < 169) ∧ (RI mX5_names K [.ref K.m, vI x7, vI ((upA (upA A4 11 (x2 + x3) (x6 + 1)) 12 (x2 + x3) (F4 19)) 14 (x5 + x6))] (upN F4 26 ((F4 26) + 1)) (upA (upA A4 11 (x2 + x3) (x6 + 1)) 12 (x2 + x3) (F4 19)) fun r8 F8 A8 => VM K mX5_namesBranches 54 [(0, .ref K.m), (1, vI x1), (2, vI x2), (3, vI (x3 + 1)), (4, vI x4), (5, vI x5), (6, vI x6), (7, vI (x7 + 1))] [] (upN F8 26 ((F8 26) - 1)) (upA A8 13 (x2 + x3) r8)))))))))) : VM K mX5_namesBranches 54 [(0, .ref K.m), (1, vI x1), (2, vI x2), (3, vI x3), (4, vI x4), (5, vI x5), (6, vI x6), (7, vI x7)] [] F A := by
  obtain ⟨s0, s1, h⟩ := h
  refine v_iload 7 dX5_namesBranches_54 rfl ?_
  refine v_aload_n 0 dX5_namesBranches_56 rfl (isR_ref _) ?_
  refine m_get (v := vI (F 1)) K dX5_namesBranches_57 fX5_145 rfl ?_
  obtain ⟨ht, hf⟩ := h
  refine v_icmp_ge 178 dX5_namesBranches_60 (by decide) s0 s1 (fun c => ?_) (fun c => ?_)
  · have h := ht c
    refine v_iinc 6 dX5_namesBranches_178 rfl (by decide) rfl ?_
    refine v_goto 44 dX5_namesBranches_181 (by decide) ?_
    refine V.sub [1, 2, 3, 4, 5, 6, 0] rfl ?_
    exact h
  · have h := hf c
    obtain ⟨s2, s3, h⟩ := h
    refine v_aload_n 0 dX5_namesBranches_63 rfl (isR_ref _) ?_
    refine m_get K dX5_namesBranches_64 fX5_70 rfl ?_
    refine v_iload 5 dX5_namesBranches_67 rfl ?_
    refine v_aload_n 0 dX5_namesBranches_69 rfl (isR_ref _) ?_
    refine m_get K dX5_namesBranches_70 fX5_41 rfl ?_
    refine v_iconst dX5_namesBranches_73 ?_
    refine v_bipush dX5_namesBranches_74 rfl ?_
    refine m_copyI K 14 8 hb dX5_namesBranches_76 q2140 rfl rfl s2 (by decide) (by decide) (by decide) (by decide) s3 (Nat.le_of_ble_eq_true rfl) ?_
    refine v_aload_n 0 dX5_namesBranches_79 rfl (isR_ref _) ?_
    refine v_iload 4 dX5_namesBranches_80 rfl ?_
    refine m_put (F' := upN F 16 x4) K hb dX5_namesBranches_82 fX5_329 (by decide) (by decide) rfl ?_
    refine v_aload_n 0 dX5_namesBranches_85 rfl (isR_ref _) ?_
    refine v_iload 6 dX5_namesBranches_86 rfl ?_
    refine v_iload 7 dX5_namesBranches_88 rfl ?_
    refine v_iload_n 1 dX5_namesBranches_90 rfl ?_
    refine m_callI K (As := [vI x6, vI x7, vI x1]) dX5_namesBranches_91 LX5_339 rfl rfl (Nat.le_of_ble_eq_true rfl) h (fun r4 F4 A4 h => ?_)
    obtain ⟨s5, h⟩ := h
    obtain ⟨ht, hf⟩ := h
    refine v_if_eq 172 dX5_namesBranches_94 (by decide) s5 (fun c => ?_) (fun c => ?_)
    · have h := ht c
      refine v_iinc 7 dX5_namesBranches_172 rfl (by decide) rfl ?_
      refine v_goto 54 dX5_namesBranches_175 (by decide) ?_
      refine V.sub [1, 2, 3, 4, 5, 6, 7, 0] rfl ?_
      exact h
    · have h := hf c
      obtain ⟨s6, s7, h⟩ := h
      refine v_aload_n 0 dX5_namesBranches_97 rfl (isR_ref _) ?_
      refine m_get K dX5_namesBranches_98 fX5_61 rfl ?_
      refine v_iload_n 2 dX5_namesBranches_101 rfl ?_
      refine v_iload_n 3 dX5_namesBranches_102 rfl ?_
      refine v_iadd dX5_namesBranches_103 ?_
      refine v_iload 6 dX5_namesBranches_104 rfl ?_
      refine v_iconst dX5_namesBranches_106 ?_
      refine v_iadd dX5_namesBranches_107 ?_
      refine m_iast K 11 hb dX5_namesBranches_108 rfl s6 (by decide) ?_
      refine v_aload_n 0 dX5_namesBranches_109 rfl (isR_ref _) ?_
      refine m_get K dX5_namesBranches_110 fX5_64 rfl ?_
      refine v_iload_n 2 dX5_namesBranches_113 rfl ?_
      refine v_iload_n 3 dX5_namesBranches_114 rfl ?_
      refine v_iadd dX5_namesBranches_115 ?_
      refine v_aload_n 0 dX5_namesBranches_116 rfl (isR_ref _) ?_
      refine m_get (v := vI (F4 19)) K dX5_namesBranches_117 fX5_267 rfl ?_
      refine m_iast K 12 hb dX5_namesBranches_120 rfl s6 (by decide) ?_
      refine v_aload_n 0 dX5_namesBranches_121 rfl (isR_ref _) ?_
      refine v_dup dX5_namesBranches_122 rfl ?_
      refine m_get (v := vI (F4 26)) K dX5_namesBranches_123 fX5_270 rfl ?_
      refine v_iconst dX5_namesBranches_126 ?_
      refine v_iadd dX5_namesBranches_127 ?_
      refine m_put (F' := upN F4 26 ((F4 26) + 1)) K hb dX5_namesBranches_128 fX5_270 (by decide) (by decide) rfl ?_
      refine v_aload_n 0 dX5_namesBranches_131 rfl (isR_ref _) ?_
      refine v_iload 7 dX5_namesBranches_132 rfl ?_
      refine v_aload_n 0 dX5_namesBranches_134 rfl (isR_ref _) ?_
      refine m_get K dX5_namesBranches_135 fX5_70 rfl ?_
      refine v_iload 5 dX5_namesBranches_138 rfl ?_
      refine v_iload 6 dX5_namesBranches_140 rfl ?_
      refine v_iadd dX5_namesBranches_142 ?_
      refine m_iald K 14 dX5_namesBranches_143 rfl s7 (by decide) ?_
      refine m_callI K (As := [vI x7, vI ((upA (upA A4 11 (x2 + x3) (x6 + 1)) 12 (x2 + x3) (F4 19)) 14 (x5 + x6))]) dX5_namesBranches_144 LX5_273 rfl rfl (Nat.le_of_ble_eq_true rfl) h (fun r8 F8 A8 h => ?_)
      refine v_istore dX5_namesBranches_147 (by decide) rfl ?_
      refine v_aload_n 1 dX5_namesBranches_149 rfl (isR_ref _) ?_
      refine v_dup dX5_namesBranches_150 rfl ?_
      refine m_get (v := vI (F8 26)) K dX5_namesBranches_151 fX5_270 rfl ?_
      refine v_iconst dX5_namesBranches_154 ?_
      refine v_isub dX5_namesBranches_155 ?_
      refine m_put (F' := upN F8 26 ((F8 26) - 1)) K hb dX5_namesBranches_156 fX5_270 (by decide) (by decide) rfl ?_
      refine v_aload_n 1 dX5_namesBranches_159 rfl (isR_ref _) ?_
      refine m_get K dX5_namesBranches_160 fX5_67 rfl ?_
      refine v_iload_n 3 dX5_namesBranches_163 rfl ?_
      refine v_iload_n 4 dX5_namesBranches_164 rfl ?_
      refine v_iadd dX5_namesBranches_165 ?_
      refine v_iload 0 dX5_namesBranches_166 rfl ?_
      refine m_iast K 13 hb dX5_namesBranches_168 rfl s6 (by decide) ?_
      refine v_iinc 4 dX5_namesBranches_169 rfl (by decide) rfl ?_
      refine v_iinc 8 dX5_namesBranches_172 rfl (by decide) rfl ?_
      refine v_goto 54 dX5_namesBranches_175 (by decide) ?_
      refine V.sub [3, 4, 5, 1, 6, 7, 8, 0] rfl ?_
      exact h
/-! nextPart -/
theorem wX5_nextPart_0 (K : KM) (hb : K.G.base ≤ K.m) {x1 x2 x3 : Int} {F : Nat → Int} {A : Nat → Int → Int} (h : VM K mX5_nextPart 6 [(0, .ref K.m), (1, vI x1), (2, vI x2), (3, vI x3), (4, vI ((-1))), (5, vI 0)] [] F A) : VM K mX5_nextPart 0 [(0, .ref K.m), (1, vI x1), (2, vI x2), (3, vI x3)] [] F A := by
  refine v_iconst dX5_nextPart_0 ?_
  refine v_istore dX5_nextPart_1 (by decide) rfl ?_
  refine v_iconst dX5_nextPart_3 ?_
  refine v_istore dX5_nextPart_4 (by decide) rfl ?_
  refine V.sub [2, 3, 4, 5, 1, 0] rfl ?_
  exact h
theorem wX5_nextPart_6 (K : KM) (hb : K.G.base ≤ K.m) {x1 x2 x3 x4 x5 : Int} {F : Nat → Int} {A : Nat → Int → Int} (h : (rI x5) ∧ (rI x2) ∧ ((x2 ≤ x5 → (SI K x4 F A)) ∧ (¬ x2 ≤ x5 → ((rI x3) ∧ ((x3 = ((-1)) → ((rI x4) ∧ ((x4 = ((-1)) → (VM K mX5_nextPart 6 [(0, .ref K.m), (1, vI x1), (2, vI x2), (3, vI x3), (4, vI x5), (5, vI (x5 + 1))] [] F A)) ∧ (¬ x4 = ((-1)) → (RI mX5_comparesNames K [.ref K.m, vI (x1 + x5), vI (x1 + x4)] F A fun r4 F4 A4 => (rI r4) ∧ ((0 ≤ r4 → (VM K mX5_nextPart 6 [(0, .ref K.m), (1, vI x1), (2, vI x2), (3, vI x3), (4, vI x4), (5, vI (x5 + 1))] [] F4 A4)) ∧ (¬ 0 ≤ r4 → (VM K mX5_nextPart 6 [(0, .ref K.m), (1, vI x1), (2, vI x2), (3, vI x3), (4, vI x5), (5, vI (x5 + 1))] [] F4 A4)))))))) ∧ (¬ x3 = ((-1)) → (RI mX5_comparesNames K [.ref K.m, vI (x1 + x5), vI (x1 + x3)] F A fun r3 F3 A3 => (rI r3) ∧ ((r3 ≤ 0 → (VM K mX5_nextPart 6 [(0, .ref K.m), (1, vI x1), (2, vI x2), (3, vI x3), (4, vI x4), (5, vI (x5 + 1))] [] F3 A3)) ∧ (¬ r3 ≤ 0 → ((rI x4) ∧ ((x4 = ((-1)) → (VM K mX5_nextPart 6 [(0, .ref K.m), (1, vI x1), (2, vI x2), (3, vI x3), (4, vI x5), (5, vI (x5 + 1))] [] F3 A3)) ∧ (¬ x4 = ((-1)) → (RI mX5_comparesNames K [.ref K.m, vI (x1 + x5), vI (x1 + x4)] F3 A3 fun r6 F6 A6 => (rI r6) ∧ ((0 ≤ r6 → (VM K mX5_nextPart 6 [(0, .ref K.m), (1, vI x1), (2, vI x2), (3, vI x3), (4, vI x4), (5, vI (x5 + 1))] [] F6 A6)) ∧ (¬ 0 ≤ r6 → (VM K mX5_nextPart 6 [(0, .ref K.m), (1, vI x1), (2, vI x2), (3, vI x3), (4, vI x5), (5, vI (x5 + 1))] [] F6 A6)))))))))))))))) : VM K mX5_nextPart 6 [(0, .ref K.m), (1, vI x1), (2, vI x2), (3, vI x3), (4, vI x4), (5, vI x5)] [] F A := by
  obtain ⟨s0, s1, h⟩ := h
  refine v_iload 5 dX5_nextPart_6 rfl ?_
  refine v_iload_n 2 dX5_nextPart_8 rfl ?_
  obtain ⟨ht, hf⟩ := h
  refine v_icmp_ge 79 dX5_nextPart_9 (by decide) s0 s1 (fun c => ?_) (fun c => ?_)
  · have h := ht c
    refine v_iload 4 dX5_nextPart_79 rfl ?_
    exact m_iret K dX5_nextPart_81 rfl h
  · have h := hf c
    obtain ⟨s2, h⟩ := h
    refine v_iload_n 3 dX5_nextPart_12 rfl ?_
    refine v_iconst dX5_nextPart_13 ?_
    obtain ⟨ht, hf⟩ := h
    refine v_icmp_eq 31 dX5_nextPart_14 (by decide) s2 (by decide) (fun c => ?_) (fun c => ?_)
    · have h := ht c
      obtain ⟨s3, h⟩ := h
      refine v_iconst dX5_nextPart_31 ?_
      refine v_goto 36 dX5_nextPart_32 (by decide) ?_
      refine v_istore dX5_nextPart_36 (by decide) rfl ?_
      refine v_iload 0 dX5_nextPart_38 rfl ?_
      refine v_if_eq 69 dX5_nextPart_40 (by decide) (by decide) (fun c => absurd c (by decide)) (fun _ => ?_)
      refine v_iload 5 dX5_nextPart_43 rfl ?_
      refine v_iconst dX5_nextPart_45 ?_
      obtain ⟨ht, hf⟩ := h
      refine v_icmp_eq 64 dX5_nextPart_46 (by decide) s3 (by decide) (fun c => ?_) (fun c => ?_)
      · have h := ht c
        refine v_iload 6 dX5_nextPart_64 rfl ?_
        refine v_goto 71 dX5_nextPart_66 (by decide) ?_
        refine v_istore dX5_nextPart_71 (by decide) rfl ?_
        refine v_iinc 6 dX5_nextPart_73 rfl (by decide) rfl ?_
        refine v_goto 6 dX5_nextPart_76 (by decide) ?_
        refine V.sub [3, 4, 5, 6, 1, 0] rfl ?_
        exact h
      · have h := hf c
        refine v_aload_n 1 dX5_nextPart_49 rfl (isR_ref _) ?_
        refine v_iload_n 2 dX5_nextPart_50 rfl ?_
        refine v_iload 6 dX5_nextPart_51 rfl ?_
        refine v_iadd dX5_nextPart_53 ?_
        refine v_iload_n 2 dX5_nextPart_54 rfl ?_
        refine v_iload 5 dX5_nextPart_55 rfl ?_
        refine v_iadd dX5_nextPart_57 ?_
        refine m_callI K (As := [vI (x1 + x5), vI (x1 + x4)]) dX5_nextPart_58 LX5_374 rfl rfl (Nat.le_of_ble_eq_true rfl) h (fun r4 F4 A4 h => ?_)
        obtain ⟨s5, h⟩ := h
        obtain ⟨ht, hf⟩ := h
        refine v_if_ge 69 dX5_nextPart_61 (by decide) s5 (fun c => ?_) (fun c => ?_)
        · have h := ht c
          refine v_iload 5 dX5_nextPart_69 rfl ?_
          refine v_istore dX5_nextPart_71 (by decide) rfl ?_
          refine v_iinc 6 dX5_nextPart_73 rfl (by decide) rfl ?_
          refine v_goto 6 dX5_nextPart_76 (by decide) ?_
          refine V.sub [3, 4, 5, 6, 1, 0] rfl ?_
          exact h
        · have h := hf c
          refine v_iload 6 dX5_nextPart_64 rfl ?_
          refine v_goto 71 dX5_nextPart_66 (by decide) ?_
          refine v_istore dX5_nextPart_71 (by decide) rfl ?_
          refine v_iinc 6 dX5_nextPart_73 rfl (by decide) rfl ?_
          refine v_goto 6 dX5_nextPart_76 (by decide) ?_
          refine V.sub [3, 4, 5, 6, 1, 0] rfl ?_
          exact h
    · have h := hf c
      refine v_aload_n 0 dX5_nextPart_17 rfl (isR_ref _) ?_
      refine v_iload_n 1 dX5_nextPart_18 rfl ?_
      refine v_iload 5 dX5_nextPart_19 rfl ?_
      refine v_iadd dX5_nextPart_21 ?_
      refine v_iload_n 1 dX5_nextPart_22 rfl ?_
      refine v_iload_n 3 dX5_nextPart_23 rfl ?_
      refine v_iadd dX5_nextPart_24 ?_
      refine m_callI K (As := [vI (x1 + x5), vI (x1 + x3)]) dX5_nextPart_25 LX5_374 rfl rfl (Nat.le_of_ble_eq_true rfl) h (fun r3 F3 A3 h => ?_)
      obtain ⟨s4, h⟩ := h
      obtain ⟨ht, hf⟩ := h
      refine v_if_le 35 dX5_nextPart_28 (by decide) s4 (fun c => ?_) (fun c => ?_)
      · have h := ht c
        refine v_iconst dX5_nextPart_35 ?_
        refine v_istore dX5_nextPart_36 (by decide) rfl ?_
        refine v_iload 0 dX5_nextPart_38 rfl ?_
        refine v_if_eq 69 dX5_nextPart_40 (by decide) (by decide) (fun _ => ?_) (fun c => absurd (by decide) c)
        refine v_iload 5 dX5_nextPart_69 rfl ?_
        refine v_istore dX5_nextPart_71 (by decide) rfl ?_
        refine v_iinc 6 dX5_nextPart_73 rfl (by decide) rfl ?_
        refine v_goto 6 dX5_nextPart_76 (by decide) ?_
        refine V.sub [3, 4, 5, 6, 1, 0] rfl ?_
        exact h
      · have h := hf c
        obtain ⟨s5, h⟩ := h
        refine v_iconst dX5_nextPart_31 ?_
        refine v_goto 36 dX5_nextPart_32 (by decide) ?_
        refine v_istore dX5_nextPart_36 (by decide) rfl ?_
        refine v_iload 0 dX5_nextPart_38 rfl ?_
        refine v_if_eq 69 dX5_nextPart_40 (by decide) (by decide) (fun c => absurd c (by decide)) (fun _ => ?_)
        refine v_iload 5 dX5_nextPart_43 rfl ?_
        refine v_iconst dX5_nextPart_45 ?_
        obtain ⟨ht, hf⟩ := h
        refine v_icmp_eq 64 dX5_nextPart_46 (by decide) s5 (by decide) (fun c => ?_) (fun c => ?_)
        · have h := ht c
          refine v_iload 6 dX5_nextPart_64 rfl ?_
          refine v_goto 71 dX5_nextPart_66 (by decide) ?_
          refine v_istore dX5_nextPart_71 (by decide) rfl ?_
          refine v_iinc 6 dX5_nextPart_73 rfl (by decide) rfl ?_
          refine v_goto 6 dX5_nextPart_76 (by decide) ?_
          refine V.sub [3, 4, 5, 6, 1, 0] rfl ?_
          exact h
        · have h := hf c
          refine v_aload_n 1 dX5_nextPart_49 rfl (isR_ref _) ?_
          refine v_iload_n 2 dX5_nextPart_50 rfl ?_
          refine v_iload 6 dX5_nextPart_51 rfl ?_
          refine v_iadd dX5_nextPart_53 ?_
          refine v_iload_n 2 dX5_nextPart_54 rfl ?_
          refine v_iload 5 dX5_nextPart_55 rfl ?_
          refine v_iadd dX5_nextPart_57 ?_
          refine m_callI K (As := [vI (x1 + x5), vI (x1 + x4)]) dX5_nextPart_58 LX5_374 rfl rfl (Nat.le_of_ble_eq_true rfl) h (fun r6 F6 A6 h => ?_)
          obtain ⟨s7, h⟩ := h
          obtain ⟨ht, hf⟩ := h
          refine v_if_ge 69 dX5_nextPart_61 (by decide) s7 (fun c => ?_) (fun c => ?_)
          · have h := ht c
            refine v_iload 5 dX5_nextPart_69 rfl ?_
            refine v_istore dX5_nextPart_71 (by decide) rfl ?_
            refine v_iinc 6 dX5_nextPart_73 rfl (by decide) rfl ?_
            refine v_goto 6 dX5_nextPart_76 (by decide) ?_
            refine V.sub [3, 4, 5, 6, 1, 0] rfl ?_
            exact h
          · have h := hf c
            refine v_iload 6 dX5_nextPart_64 rfl ?_
            refine v_goto 71 dX5_nextPart_66 (by decide) ?_
            refine v_istore dX5_nextPart_71 (by decide) rfl ?_
            refine v_iinc 6 dX5_nextPart_73 rfl (by decide) rfl ?_
            refine v_goto 6 dX5_nextPart_76 (by decide) ?_
            refine V.sub [3, 4, 5, 6, 1, 0] rfl ?_
            exact h
/-! comparesNames -/
theorem wX5_comparesNames_0 (K : KM) (hb : K.G.base ≤ K.m) {x1 x2 : Int} {F : Nat → Int} {A : Nat → Int → Int} (h : (0 ≤ x1 ∧ x1 < 156) ∧ (0 ≤ x2 ∧ x2 < 156) ∧ (RI mX5_comparesLetters K [.ref K.m, vI (A 12 x1), vI (A 13 x1), vI (A 12 x2), vI (A 13 x2)] F A fun r2 F2 A2 => (rI r2) ∧ ((r2 = 0 → (RI mX5_compares K [.ref K.m, vI (A2 12 x1), vI (A2 13 x1), vI (A2 12 x2), vI (A2 13 x2)] F2 A2 fun r4 F4 A4 => SI K r4 F4 A4)) ∧ (¬ r2 = 0 → (SI K r2 F2 A2))))) : VM K mX5_comparesNames 0 [(0, .ref K.m), (1, vI x1), (2, vI x2)] [] F A := by
  obtain ⟨s0, s1, h⟩ := h
  refine v_aload_n 0 dX5_comparesNames_0 rfl (isR_ref _) ?_
  refine v_aload_n 0 dX5_comparesNames_1 rfl (isR_ref _) ?_
  refine m_get K dX5_comparesNames_2 fX5_64 rfl ?_
  refine v_iload_n 1 dX5_comparesNames_5 rfl ?_
  refine m_iald K 12 dX5_comparesNames_6 rfl s0 (by decide) ?_
  refine v_aload_n 0 dX5_comparesNames_7 rfl (isR_ref _) ?_
  refine m_get K dX5_comparesNames_8 fX5_67 rfl ?_
  refine v_iload_n 1 dX5_comparesNames_11 rfl ?_
  refine m_iald K 13 dX5_comparesNames_12 rfl s0 (by decide) ?_
  refine v_aload_n 0 dX5_comparesNames_13 rfl (isR_ref _) ?_
  refine m_get K dX5_comparesNames_14 fX5_64 rfl ?_
  refine v_iload_n 2 dX5_comparesNames_17 rfl ?_
  refine m_iald K 12 dX5_comparesNames_18 rfl s1 (by decide) ?_
  refine v_aload_n 0 dX5_comparesNames_19 rfl (isR_ref _) ?_
  refine m_get K dX5_comparesNames_20 fX5_67 rfl ?_
  refine v_iload_n 2 dX5_comparesNames_23 rfl ?_
  refine m_iald K 13 dX5_comparesNames_24 rfl s1 (by decide) ?_
  refine m_callI K (As := [vI (A 12 x1), vI (A 13 x1), vI (A 12 x2), vI (A 13 x2)]) dX5_comparesNames_25 LX5_361 rfl rfl (Nat.le_of_ble_eq_true rfl) h (fun r2 F2 A2 h => ?_)
  obtain ⟨s3, h⟩ := h
  refine v_istore_n dX5_comparesNames_28 (by decide) rfl ?_
  refine v_iload_n 0 dX5_comparesNames_29 rfl ?_
  obtain ⟨ht, hf⟩ := h
  refine v_if_eq 37 dX5_comparesNames_30 (by decide) s3 (fun c => ?_) (fun c => ?_)
  · have h := ht c
    refine v_aload_n 1 dX5_comparesNames_37 rfl (isR_ref _) ?_
    refine v_aload_n 1 dX5_comparesNames_38 rfl (isR_ref _) ?_
    refine m_get K dX5_comparesNames_39 fX5_64 rfl ?_
    refine v_iload_n 2 dX5_comparesNames_42 rfl ?_
    refine m_iald K 12 dX5_comparesNames_43 rfl s0 (by decide) ?_
    refine v_aload_n 1 dX5_comparesNames_44 rfl (isR_ref _) ?_
    refine m_get K dX5_comparesNames_45 fX5_67 rfl ?_
    refine v_iload_n 2 dX5_comparesNames_48 rfl ?_
    refine m_iald K 13 dX5_comparesNames_49 rfl s0 (by decide) ?_
    refine v_aload_n 1 dX5_comparesNames_50 rfl (isR_ref _) ?_
    refine m_get K dX5_comparesNames_51 fX5_64 rfl ?_
    refine v_iload_n 3 dX5_comparesNames_54 rfl ?_
    refine m_iald K 12 dX5_comparesNames_55 rfl s1 (by decide) ?_
    refine v_aload_n 1 dX5_comparesNames_56 rfl (isR_ref _) ?_
    refine m_get K dX5_comparesNames_57 fX5_67 rfl ?_
    refine v_iload_n 3 dX5_comparesNames_60 rfl ?_
    refine m_iald K 13 dX5_comparesNames_61 rfl s1 (by decide) ?_
    refine m_callI K (As := [vI (A2 12 x1), vI (A2 13 x1), vI (A2 12 x2), vI (A2 13 x2)]) dX5_comparesNames_62 LX5_365 rfl rfl (Nat.le_of_ble_eq_true rfl) h (fun r4 F4 A4 h => ?_)
    exact m_iret K dX5_comparesNames_65 rfl h
  · have h := hf c
    refine v_iload_n 0 dX5_comparesNames_33 rfl ?_
    refine v_goto 65 dX5_comparesNames_34 (by decide) ?_
    exact m_iret K dX5_comparesNames_65 rfl h
/-! comparesLetters -/
theorem wX5_comparesLetters_0 (K : KM) (hb : K.G.base ≤ K.m) {x1 x2 x3 x4 : Int} {F : Nat → Int} {A : Nat → Int → Int} (h : VM K mX5_comparesLetters 6 [(0, .ref K.m), (1, vI x1), (2, vI x2), (3, vI x3), (4, vI x4), (5, vI 0), (6, vI 0)] [] F A) : VM K mX5_comparesLetters 0 [(0, .ref K.m), (1, vI x1), (2, vI x2), (3, vI x3), (4, vI x4)] [] F A := by
  refine v_iconst dX5_comparesLetters_0 ?_
  refine v_istore dX5_comparesLetters_1 (by decide) rfl ?_
  refine v_iconst dX5_comparesLetters_3 ?_
  refine v_istore dX5_comparesLetters_4 (by decide) rfl ?_
  refine V.sub [2, 3, 4, 5, 6, 1, 0] rfl ?_
  exact h
theorem wX5_comparesLetters_6 (K : KM) (hb : K.G.base ≤ K.m) {x1 x2 x3 x4 x5 x6 : Int} {F : Nat → Int} {A : Nat → Int → Int} (h : (rI x5) ∧ (rI x2) ∧ ((x2 ≤ x5 → (VM K mX5_comparesLetters 33 [(0, .ref K.m), (1, vI x1), (2, vI x2), (3, vI x3), (4, vI x4), (5, vI x5), (6, vI x6)] [] F A)) ∧ (¬ x2 ≤ x5 → ((0 ≤ (x1 + x5) ∧ (x1 + x5) < 16384) ∧ (RI mX5_isLetter K [vI (A 10 (x1 + x5))] F A fun r3 F3 A3 => (rI r3) ∧ ((¬ r3 = 0 → (VM K mX5_comparesLetters 33 [(0, .ref K.m), (1, vI x1), (2, vI x2), (3, vI x3), (4, vI x4), (5, vI x5), (6, vI x6)] [] F3 A3)) ∧ (r3 = 0 → (VM K mX5_comparesLetters 6 [(0, .ref K.m), (1, vI x1), (2, vI x2), (3, vI x3), (4, vI x4), (5, vI (x5 + 1)), (6, vI x6)] [] F3 A3)))))))) : VM K mX5_comparesLetters 6 [(0, .ref K.m), (1, vI x1), (2, vI x2), (3, vI x3), (4, vI x4), (5, vI x5), (6, vI x6)] [] F A := by
  obtain ⟨s0, s1, h⟩ := h
  refine v_iload 5 dX5_comparesLetters_6 rfl ?_
  refine v_iload_n 2 dX5_comparesLetters_8 rfl ?_
  obtain ⟨ht, hf⟩ := h
  refine v_icmp_ge 33 dX5_comparesLetters_9 (by decide) s0 s1 (fun c => ?_) (fun c => ?_)
  · have h := ht c
    exact h
  · have h := hf c
    obtain ⟨s2, h⟩ := h
    refine v_aload_n 0 dX5_comparesLetters_12 rfl (isR_ref _) ?_
    refine m_get K dX5_comparesLetters_13 fX5_47 rfl ?_
    refine v_iload_n 1 dX5_comparesLetters_16 rfl ?_
    refine v_iload 5 dX5_comparesLetters_17 rfl ?_
    refine v_iadd dX5_comparesLetters_19 ?_
    refine m_iald K 10 dX5_comparesLetters_20 rfl s2 (by decide) ?_
    refine m_callSI K (As := [vI (A 10 (x1 + x5))]) dX5_comparesLetters_21 LX5_355 rfl rfl (Nat.le_of_ble_eq_true rfl) h (fun r3 F3 A3 h => ?_)
    obtain ⟨s4, h⟩ := h
    obtain ⟨ht, hf⟩ := h
    refine v_if_ne 33 dX5_comparesLetters_24 (by decide) s4 (fun c => ?_) (fun c => ?_)
    · have h := ht c
      exact h
    · have h := hf c
      refine v_iinc 5 dX5_comparesLetters_27 rfl (by decide) rfl ?_
      refine v_goto 6 dX5_comparesLetters_30 (by decide) ?_
      refine V.sub [1, 2, 3, 4, 5, 0, 6] rfl ?_
      exact h
theorem wX5_comparesLetters_33 (K : KM) (hb : K.G.base ≤ K.m) {x1 x2 x3 x4 x5 x6 : Int} {F : Nat → Int} {A : Nat → Int → Int} (h : (rI x6) ∧ (rI x4) ∧ ((x4 ≤ x6 → ((rI x5) ∧ (rI x2) ∧ ((x5 = x2 → ((x2 ≤ x5 → ((x4 ≤ x6 → (SI K (0 - 0) F A)) ∧ (¬ x4 ≤ x6 → (SI K (0 - 1) F A)))) ∧ (¬ x2 ≤ x5 → ((x4 ≤ x6 → (SI K (1 - 0) F A)) ∧ (¬ x4 ≤ x6 → (SI K (1 - 1) F A)))))) ∧ (¬ x5 = x2 → ((¬ x6 = x4 → ((0 ≤ (x1 + x5) ∧ (x1 + x5) < 16384) ∧ (0 ≤ (x3 + x6) ∧ (x3 + x6) < 16384) ∧ (rI (A 10 (x1 + x5))) ∧ (rI (A 10 (x3 + x6))) ∧ (((A 10 (x1 + x5)) = (A 10 (x3 + x6)) → (VM K mX5_comparesLetters 6 [(0, .ref K.m), (1, vI x1), (2, vI x2), (3, vI x3), (4, vI x4), (5, vI (x5 + 1)), (6, vI (x6 + 1))] [] F A)) ∧ (¬ (A 10 (x1 + x5)) = (A 10 (x3 + x6)) → (SI K ((A 10 (x1 + x5)) - (A 10 (x3 + x6))) F A))))) ∧ (x6 = x4 → ((x2 ≤ x5 → ((x4 ≤ x6 → (SI K (0 - 0) F A)) ∧ (¬ x4 ≤ x6 → (SI K (0 - 1) F A)))) ∧ (¬ x2 ≤ x5 → ((x4 ≤ x6 → (SI K (1 - 0) F A)) ∧ (¬ x4 ≤ x6 → (SI K (1 - 1) F A))))))))))) ∧ (¬ x4 ≤ x6 → ((0 ≤ (x3 + x6) ∧ (x3 + x6) < 16384) ∧ (RI mX5_isLetter K [vI (A 10 (x3 + x6))] F A fun r3 F3 A3 => (rI r3) ∧ ((¬ r3 = 0 → ((rI x5) ∧ (rI x2) ∧ ((x5 = x2 → ((x2 ≤ x5 → ((x4 ≤ x6 → (SI K (0 - 0) F3 A3)) ∧ (¬ x4 ≤ x6 → (SI K (0 - 1) F3 A3)))) ∧ (¬ x2 ≤ x5 → ((x4 ≤ x6 → (SI K (1 - 0) F3 A3)) ∧ (¬ x4 ≤ x6 → (SI K (1 - 1) F3 A3)))))) ∧ (¬ x5 = x2 → ((¬ x6 = x4 → ((0 ≤ (x1 + x5) ∧ (x1 + x5) < 16384) ∧ (rI (A3 10 (x1 + x5))) ∧ (rI (A3 10 (x3 + x6))) ∧ (((A3 10 (x1 + x5)) = (A3 10 (x3 + x6)) → (VM K mX5_comparesLetters 6 [(0, .ref K.m), (1, vI x1), (2, vI x2), (3, vI x3), (4, vI x4), (5, vI (x5 + 1)), (6, vI (x6 + 1))] [] F3 A3)) ∧ (¬ (A3 10 (x1 + x5)) = (A3 10 (x3 + x6)) → (SI K ((A3 10 (x1 + x5)) - (A3 10 (x3 + x6))) F3 A3))))) ∧ (x6 = x4 → ((x2 ≤ x5 → ((x4 ≤ x6 → (SI K (0 - 0) F3 A3)) ∧ (¬ x4 ≤ x6 → (SI K (0 - 1) F3 A3)))) ∧ (¬ x2 ≤ x5 → ((x4 ≤ x6 → (SI K (1 - 0) F3 A3)) ∧ (¬ x4 ≤ x6 → (SI K (1 - 1) F3 A3))))))))))) ∧ (r3 = 0 → (VM K mX5_comparesLetters 33 [(0, .ref K.m), (1, vI x1), (2, vI x2), (3, vI x3), (4, vI x4), (5, vI x5), (6, vI (x6 + 1))] [] F3 A3)))))))) : VM K mX5_comparesLetters 33 [(0, .ref K.m), (1, vI x1), (2, vI x2), (3, vI x3), (4, vI x4), (5, vI x5), (6, vI x6)] [] F A := by
  obtain ⟨s0, s1, h⟩ := h
  refine v_iload 6 dX5_comparesLetters_33 rfl ?_
  refine v_iload 4 dX5_comparesLetters_35 rfl ?_
  obtain ⟨ht, hf⟩ := h
  refine v_icmp_ge 61 dX5_comparesLetters_37 (by decide) s0 s1 (fun c => ?_) (fun c => ?_)
  · have h := ht c
    obtain ⟨s2, s3, h⟩ := h
    refine v_iload 5 dX5_comparesLetters_61 rfl ?_
    refine v_iload_n 2 dX5_comparesLetters_63 rfl ?_
    obtain ⟨ht, hf⟩ := h
    refine v_icmp_eq 74 dX5_comparesLetters_64 (by decide) s2 s3 (fun c => ?_) (fun c => ?_)
    · have h := ht c
      refine v_iload 5 dX5_comparesLetters_74 rfl ?_
      refine v_iload_n 2 dX5_comparesLetters_76 rfl ?_
      obtain ⟨ht, hf⟩ := h
      refine v_icmp_ge 84 dX5_comparesLetters_77 (by decide) s2 s3 (fun c => ?_) (fun c => ?_)
      · have h := ht c
        refine v_iconst dX5_comparesLetters_84 ?_
        refine v_iload 6 dX5_comparesLetters_85 rfl ?_
        refine v_iload 4 dX5_comparesLetters_87 rfl ?_
        obtain ⟨ht, hf⟩ := h
        refine v_icmp_ge 96 dX5_comparesLetters_89 (by decide) s0 s1 (fun c => ?_) (fun c => ?_)
        · have h := ht c
          refine v_iconst dX5_comparesLetters_96 ?_
          refine v_isub dX5_comparesLetters_97 ?_
          exact m_iret K dX5_comparesLetters_98 rfl h
        · have h := hf c
          refine v_iconst dX5_comparesLetters_92 ?_
          refine v_goto 97 dX5_comparesLetters_93 (by decide) ?_
          refine v_isub dX5_comparesLetters_97 ?_
          exact m_iret K dX5_comparesLetters_98 rfl h
      · have h := hf c
        refine v_iconst dX5_comparesLetters_80 ?_
        refine v_goto 85 dX5_comparesLetters_81 (by decide) ?_
        refine v_iload 6 dX5_comparesLetters_85 rfl ?_
        refine v_iload 4 dX5_comparesLetters_87 rfl ?_
        obtain ⟨ht, hf⟩ := h
        refine v_icmp_ge 96 dX5_comparesLetters_89 (by decide) s0 s1 (fun c => ?_) (fun c => ?_)
        · have h := ht c
          refine v_iconst dX5_comparesLetters_96 ?_
          refine v_isub dX5_comparesLetters_97 ?_
          exact m_iret K dX5_comparesLetters_98 rfl h
        · have h := hf c
          refine v_iconst dX5_comparesLetters_92 ?_
          refine v_goto 97 dX5_comparesLetters_93 (by decide) ?_
          refine v_isub dX5_comparesLetters_97 ?_
          exact m_iret K dX5_comparesLetters_98 rfl h
    · have h := hf c
      refine v_iload 6 dX5_comparesLetters_67 rfl ?_
      refine v_iload 4 dX5_comparesLetters_69 rfl ?_
      obtain ⟨ht, hf⟩ := h
      refine v_icmp_ne 99 dX5_comparesLetters_71 (by decide) s0 s1 (fun c => ?_) (fun c => ?_)
      · have h := ht c
        obtain ⟨s4, s5, s6, s7, h⟩ := h
        refine v_aload_n 0 dX5_comparesLetters_99 rfl (isR_ref _) ?_
        refine m_get K dX5_comparesLetters_100 fX5_47 rfl ?_
        refine v_iload_n 1 dX5_comparesLetters_103 rfl ?_
        refine v_iload 5 dX5_comparesLetters_104 rfl ?_
        refine v_iadd dX5_comparesLetters_106 ?_
        refine m_iald K 10 dX5_comparesLetters_107 rfl s4 (by decide) ?_
        refine v_aload_n 0 dX5_comparesLetters_108 rfl (isR_ref _) ?_
        refine m_get K dX5_comparesLetters_109 fX5_47 rfl ?_
        refine v_iload_n 3 dX5_comparesLetters_112 rfl ?_
        refine v_iload 6 dX5_comparesLetters_113 rfl ?_
        refine v_iadd dX5_comparesLetters_115 ?_
        refine m_iald K 10 dX5_comparesLetters_116 rfl s5 (by decide) ?_
        obtain ⟨ht, hf⟩ := h
        refine v_icmp_eq 140 dX5_comparesLetters_117 (by decide) s6 s7 (fun c => ?_) (fun c => ?_)
        · have h := ht c
          refine v_iinc 5 dX5_comparesLetters_140 rfl (by decide) rfl ?_
          refine v_iinc 6 dX5_comparesLetters_143 rfl (by decide) rfl ?_
          refine v_goto 6 dX5_comparesLetters_146 (by decide) ?_
          refine V.sub [2, 3, 4, 5, 6, 1, 0] rfl ?_
          exact h
        · have h := hf c
          refine v_aload_n 0 dX5_comparesLetters_120 rfl (isR_ref _) ?_
          refine m_get K dX5_comparesLetters_121 fX5_47 rfl ?_
          refine v_iload_n 1 dX5_comparesLetters_124 rfl ?_
          refine v_iload 5 dX5_comparesLetters_125 rfl ?_
          refine v_iadd dX5_comparesLetters_127 ?_
          refine m_iald K 10 dX5_comparesLetters_128 rfl s4 (by decide) ?_
          refine v_aload_n 0 dX5_comparesLetters_129 rfl (isR_ref _) ?_
          refine m_get K dX5_comparesLetters_130 fX5_47 rfl ?_
          refine v_iload_n 3 dX5_comparesLetters_133 rfl ?_
          refine v_iload 6 dX5_comparesLetters_134 rfl ?_
          refine v_iadd dX5_comparesLetters_136 ?_
          refine m_iald K 10 dX5_comparesLetters_137 rfl s5 (by decide) ?_
          refine v_isub dX5_comparesLetters_138 ?_
          exact m_iret K dX5_comparesLetters_139 rfl h
      · have h := hf c
        refine v_iload 5 dX5_comparesLetters_74 rfl ?_
        refine v_iload_n 2 dX5_comparesLetters_76 rfl ?_
        obtain ⟨ht, hf⟩ := h
        refine v_icmp_ge 84 dX5_comparesLetters_77 (by decide) s2 s3 (fun c => ?_) (fun c => ?_)
        · have h := ht c
          refine v_iconst dX5_comparesLetters_84 ?_
          refine v_iload 6 dX5_comparesLetters_85 rfl ?_
          refine v_iload 4 dX5_comparesLetters_87 rfl ?_
          obtain ⟨ht, hf⟩ := h
          refine v_icmp_ge 96 dX5_comparesLetters_89 (by decide) s0 s1 (fun c => ?_) (fun c => ?_)
          · have h := ht c
            refine v_iconst dX5_comparesLetters_96 ?_
            refine v_isub dX5_comparesLetters_97 ?_
            exact m_iret K dX5_comparesLetters_98 rfl h
          · have h := hf c
            refine v_iconst dX5_comparesLetters_92 ?_
            refine v_goto 97 dX5_comparesLetters_93 (by decide) ?_
            refine v_isub dX5_comparesLetters_97 ?_
            exact m_iret K dX5_comparesLetters_98 rfl h
        · have h := hf c
          refine v_iconst dX5_comparesLetters_80 ?_
          refine v_goto 85 dX5_comparesLetters_81 (by decide) ?_
          refine v_iload 6 dX5_comparesLetters_85 rfl ?_
          refine v_iload 4 dX5_comparesLetters_87 rfl ?_
          obtain ⟨ht, hf⟩ := h
          refine v_icmp_ge 96 dX5_comparesLetters_89 (by decide) s0 s1 (fun c => ?_) (fun c => ?_)
          · have h := ht c
            refine v_iconst dX5_comparesLetters_96 ?_
            refine v_isub dX5_comparesLetters_97 ?_
            exact m_iret K dX5_comparesLetters_98 rfl h
          · have h := hf c
            refine v_iconst dX5_comparesLetters_92 ?_
            refine v_goto 97 dX5_comparesLetters_93 (by decide) ?_
            refine v_isub dX5_comparesLetters_97 ?_
            exact m_iret K dX5_comparesLetters_98 rfl h
  · have h := hf c
    obtain ⟨s2, h⟩ := h
    refine v_aload_n 0 dX5_comparesLetters_40 rfl (isR_ref _) ?_
    refine m_get K dX5_comparesLetters_41 fX5_47 rfl ?_
    refine v_iload_n 3 dX5_comparesLetters_44 rfl ?_
    refine v_iload 6 dX5_comparesLetters_45 rfl ?_
    refine v_iadd dX5_comparesLetters_47 ?_
    refine m_iald K 10 dX5_comparesLetters_48 rfl s2 (by decide) ?_
    refine m_callSI K (As := [vI (A 10 (x3 + x6))]) dX5_comparesLetters_49 LX5_355 rfl rfl (Nat.le_of_ble_eq_true rfl) h (fun r3 F3 A3 h => ?_)
    obtain ⟨s4, h⟩ := h
    obtain ⟨ht, hf⟩ := h
    refine v_if_ne 61 dX5_comparesLetters_52 (by decide) s4 (fun c => ?_) (fun c => ?_)
    · have h := ht c
      obtain ⟨s5, s6, h⟩ := h
      refine v_iload 5 dX5_comparesLetters_61 rfl ?_
      refine v_iload_n 2 dX5_comparesLetters_63 rfl ?_
      obtain ⟨ht, hf⟩ := h
      refine v_icmp_eq 74 dX5_comparesLetters_64 (by decide) s5 s6 (fun c => ?_) (fun c => ?_)
      · have h := ht c
        refine v_iload 5 dX5_comparesLetters_74 rfl ?_
        refine v_iload_n 2 dX5_comparesLetters_76 rfl ?_
        obtain ⟨ht, hf⟩ := h
        refine v_icmp_ge 84 dX5_comparesLetters_77 (by decide) s5 s6 (fun c => ?_) (fun c => ?_)
        · have h := ht c
          refine v_iconst dX5_comparesLetters_84 ?_
          refine v_iload 6 dX5_comparesLetters_85 rfl ?_
          refine v_iload 4 dX5_comparesLetters_87 rfl ?_
          obtain ⟨ht, hf⟩ := h
          refine v_icmp_ge 96 dX5_comparesLetters_89 (by decide) s0 s1 (fun c => ?_) (fun c => ?_)
          · have h := ht c
            refine v_iconst dX5_comparesLetters_96 ?_
            refine v_isub dX5_comparesLetters_97 ?_
            exact m_iret K dX5_comparesLetters_98 rfl h
          · have h := hf c
            refine v_iconst dX5_comparesLetters_92 ?_
            refine v_goto 97 dX5_comparesLetters_93 (by decide) ?_
            refine v_isub dX5_comparesLetters_97 ?_
            exact m_iret K dX5_comparesLetters_98 rfl h
        · have h := hf c
          refine v_iconst dX5_comparesLetters_80 ?_
          refine v_goto 85 dX5_comparesLetters_81 (by decide) ?_
          refine v_iload 6 dX5_comparesLetters_85 rfl ?_
          refine v_iload 4 dX5_comparesLetters_87 rfl ?_
          obtain ⟨ht, hf⟩ := h
          refine v_icmp_ge 96 dX5_comparesLetters_89 (by decide) s0 s1 (fun c => ?_) (fun c => ?_)
          · have h := ht c
            refine v_iconst dX5_comparesLetters_96 ?_
            refine v_isub dX5_comparesLetters_97 ?_
            exact m_iret K dX5_comparesLetters_98 rfl h
          · have h := hf c
            refine v_iconst dX5_comparesLetters_92 ?_
            refine v_goto 97 dX5_comparesLetters_93 (by decide) ?_
            refine v_isub dX5_comparesLetters_97 ?_
            exact m_iret K dX5_comparesLetters_98 rfl h
      · have h := hf c
        refine v_iload 6 dX5_comparesLetters_67 rfl ?_
        refine v_iload 4 dX5_comparesLetters_69 rfl ?_
        obtain ⟨ht, hf⟩ := h
        refine v_icmp_ne 99 dX5_comparesLetters_71 (by decide) s0 s1 (fun c => ?_) (fun c => ?_)
        · have h := ht c
          obtain ⟨s7, s8, s9, h⟩ := h
          refine v_aload_n 0 dX5_comparesLetters_99 rfl (isR_ref _) ?_
          refine m_get K dX5_comparesLetters_100 fX5_47 rfl ?_
          refine v_iload_n 1 dX5_comparesLetters_103 rfl ?_
          refine v_iload 5 dX5_comparesLetters_104 rfl ?_
          refine v_iadd dX5_comparesLetters_106 ?_
          refine m_iald K 10 dX5_comparesLetters_107 rfl s7 (by decide) ?_
          refine v_aload_n 0 dX5_comparesLetters_108 rfl (isR_ref _) ?_
          refine m_get K dX5_comparesLetters_109 fX5_47 rfl ?_
          refine v_iload_n 3 dX5_comparesLetters_112 rfl ?_
          refine v_iload 6 dX5_comparesLetters_113 rfl ?_
          refine v_iadd dX5_comparesLetters_115 ?_
          refine m_iald K 10 dX5_comparesLetters_116 rfl s2 (by decide) ?_
          obtain ⟨ht, hf⟩ := h
          refine v_icmp_eq 140 dX5_comparesLetters_117 (by decide) s8 s9 (fun c => ?_) (fun c => ?_)
          · have h := ht c
            refine v_iinc 5 dX5_comparesLetters_140 rfl (by decide) rfl ?_
            refine v_iinc 6 dX5_comparesLetters_143 rfl (by decide) rfl ?_
            refine v_goto 6 dX5_comparesLetters_146 (by decide) ?_
            refine V.sub [2, 3, 4, 5, 6, 1, 0] rfl ?_
            exact h
          · have h := hf c
            refine v_aload_n 0 dX5_comparesLetters_120 rfl (isR_ref _) ?_
            refine m_get K dX5_comparesLetters_121 fX5_47 rfl ?_
            refine v_iload_n 1 dX5_comparesLetters_124 rfl ?_
            refine v_iload 5 dX5_comparesLetters_125 rfl ?_
            refine v_iadd dX5_comparesLetters_127 ?_
            refine m_iald K 10 dX5_comparesLetters_128 rfl s7 (by decide) ?_
            refine v_aload_n 0 dX5_comparesLetters_129 rfl (isR_ref _) ?_
            refine m_get K dX5_comparesLetters_130 fX5_47 rfl ?_
            refine v_iload_n 3 dX5_comparesLetters_133 rfl ?_
            refine v_iload 6 dX5_comparesLetters_134 rfl ?_
            refine v_iadd dX5_comparesLetters_136 ?_
            refine m_iald K 10 dX5_comparesLetters_137 rfl s2 (by decide) ?_
            refine v_isub dX5_comparesLetters_138 ?_
            exact m_iret K dX5_comparesLetters_139 rfl h
        · have h := hf c
          refine v_iload 5 dX5_comparesLetters_74 rfl ?_
          refine v_iload_n 2 dX5_comparesLetters_76 rfl ?_
          obtain ⟨ht, hf⟩ := h
          refine v_icmp_ge 84 dX5_comparesLetters_77 (by decide) s5 s6 (fun c => ?_) (fun c => ?_)
          · have h := ht c
            refine v_iconst dX5_comparesLetters_84 ?_
            refine v_iload 6 dX5_comparesLetters_85 rfl ?_
            refine v_iload 4 dX5_comparesLetters_87 rfl ?_
            obtain ⟨ht, hf⟩ := h
            refine v_icmp_ge 96 dX5_comparesLetters_89 (by decide) s0 s1 (fun c => ?_) (fun c => ?_)
            · have h := ht c
              refine v_iconst dX5_comparesLetters_96 ?_
              refine v_isub dX5_comparesLetters_97 ?_
              exact m_iret K dX5_comparesLetters_98 rfl h
            · have h := hf c
              refine v_iconst dX5_comparesLetters_92 ?_
              refine v_goto 97 dX5_comparesLetters_93 (by decide) ?_
              refine v_isub dX5_comparesLetters_97 ?_
              exact m_iret K dX5_comparesLetters_98 rfl h
          · have h := hf c
            refine v_iconst dX5_comparesLetters_80 ?_
            refine v_goto 85 dX5_comparesLetters_81 (by decide) ?_
            refine v_iload 6 dX5_comparesLetters_85 rfl ?_
            refine v_iload 4 dX5_comparesLetters_87 rfl ?_
            obtain ⟨ht, hf⟩ := h
            refine v_icmp_ge 96 dX5_comparesLetters_89 (by decide) s0 s1 (fun c => ?_) (fun c => ?_)
            · have h := ht c
              refine v_iconst dX5_comparesLetters_96 ?_
              refine v_isub dX5_comparesLetters_97 ?_
              exact m_iret K dX5_comparesLetters_98 rfl h
            · have h := hf c
              refine v_iconst dX5_comparesLetters_92 ?_
              refine v_goto 97 dX5_comparesLetters_93 (by decide) ?_
              refine v_isub dX5_comparesLetters_97 ?_
              exact m_iret K dX5_comparesLetters_98 rfl h
    · have h := hf c
      refine v_iinc 6 dX5_comparesLetters_55 rfl (by decide) rfl ?_
      refine v_goto 33 dX5_comparesLetters_58 (by decide) ?_
      refine V.sub [1, 2, 3, 4, 5, 6, 0] rfl ?_
      exact h
/-! isLetter -/
theorem wX5_isLetter_0 (K : KM) (hb : K.G.base ≤ K.m) {x0 : Int} {F : Nat → Int} {A : Nat → Int → Int} (h : (rI x0) ∧ ((x0 < 97 → (SI K 0 F A)) ∧ (¬ x0 < 97 → ((122 < x0 → (SI K 0 F A)) ∧ (¬ 122 < x0 → (SI K 1 F A)))))) : VM K mX5_isLetter 0 [(0, vI x0)] [] F A := by
  obtain ⟨s0, h⟩ := h
  refine v_iload_n 0 dX5_isLetter_0 rfl ?_
  refine v_bipush dX5_isLetter_1 rfl ?_
  obtain ⟨ht, hf⟩ := h
  refine v_icmp_lt 16 dX5_isLetter_3 (by decide) s0 (by decide) (fun c => ?_) (fun c => ?_)
  · have h := ht c
    refine v_iconst dX5_isLetter_16 ?_
    exact m_zret K dX5_isLetter_17 rfl (by decide) h
  · have h := hf c
    refine v_iload_n 0 dX5_isLetter_6 rfl ?_
    refine v_bipush dX5_isLetter_7 rfl ?_
    obtain ⟨ht, hf⟩ := h
    refine v_icmp_gt 16 dX5_isLetter_9 (by decide) s0 (by decide) (fun c => ?_) (fun c => ?_)
    · have h := ht c
      refine v_iconst dX5_isLetter_16 ?_
      exact m_zret K dX5_isLetter_17 rfl (by decide) h
    · have h := hf c
      refine v_iconst dX5_isLetter_12 ?_
      refine v_goto 17 dX5_isLetter_13 (by decide) ?_
      exact m_zret K dX5_isLetter_17 rfl (by decide) h
/-! compares -/
theorem wX5_compares_0 (K : KM) (hb : K.G.base ≤ K.m) {x1 x2 x3 x4 : Int} {F : Nat → Int} {A : Nat → Int → Int} (h : VM K mX5_compares 3 [(0, .ref K.m), (1, vI x1), (2, vI x2), (3, vI x3), (4, vI x4), (5, vI 0)] [] F A) : VM K mX5_compares 0 [(0, .ref K.m), (1, vI x1), (2, vI x2), (3, vI x3), (4, vI x4)] [] F A := by
  refine v_iconst dX5_compares_0 ?_
  refine v_istore dX5_compares_1 (by decide) rfl ?_
  refine V.sub [1, 2, 3, 4, 5, 0] rfl ?_
  exact h
theorem wX5_compares_3 (K : KM) (hb : K.G.base ≤ K.m) {x1 x2 x3 x4 x5 : Int} {F : Nat → Int} {A : Nat → Int → Int} (h : (rI x5) ∧ (rI x2) ∧ ((x2 ≤ x5 → (SI K (x2 - x4) F A)) ∧ (¬ x2 ≤ x5 → ((rI x4) ∧ ((x4 ≤ x5 → (SI K (x2 - x4) F A)) ∧ (¬ x4 ≤ x5 → ((0 ≤ (x1 + x5) ∧ (x1 + x5) < 16384) ∧ (0 ≤ (x3 + x5) ∧ (x3 + x5) < 16384) ∧ (rI (A 10 (x1 + x5))) ∧ (rI (A 10 (x3 + x5))) ∧ (((A 10 (x1 + x5)) = (A 10 (x3 + x5)) → (VM K mX5_compares 3 [(0, .ref K.m), (1, vI x1), (2, vI x2), (3, vI x3), (4, vI x4), (5, vI (x5 + 1))] [] F A)) ∧ (¬ (A 10 (x1 + x5)) = (A 10 (x3 + x5)) → (SI K ((A 10 (x1 + x5)) - (A 10 (x3 + x5))) F A)))))))))) : VM K mX5_compares 3 [(0, .ref K.m), (1, vI x1), (2, vI x2), (3, vI x3), (4, vI x4), (5, vI x5)] [] F A := by
  obtain ⟨s0, s1, h⟩ := h
  refine v_iload 5 dX5_compares_3 rfl ?_
  refine v_iload_n 2 dX5_compares_5 rfl ?_
  obtain ⟨ht, hf⟩ := h
  refine v_icmp_ge 63 dX5_compares_6 (by decide) s0 s1 (fun c => ?_) (fun c => ?_)
  · have h := ht c
    refine v_iload_n 2 dX5_compares_63 rfl ?_
    refine v_iload 4 dX5_compares_64 rfl ?_
    refine v_isub dX5_compares_66 ?_
    exact m_iret K dX5_compares_67 rfl h
  · have h := hf c
    obtain ⟨s2, h⟩ := h
    refine v_iload 5 dX5_compares_9 rfl ?_
    refine v_iload 4 dX5_compares_11 rfl ?_
    obtain ⟨ht, hf⟩ := h
    refine v_icmp_ge 63 dX5_compares_13 (by decide) s0 s2 (fun c => ?_) (fun c => ?_)
    · have h := ht c
      refine v_iload_n 2 dX5_compares_63 rfl ?_
      refine v_iload 4 dX5_compares_64 rfl ?_
      refine v_isub dX5_compares_66 ?_
      exact m_iret K dX5_compares_67 rfl h
    · have h := hf c
      obtain ⟨s3, s4, s5, s6, h⟩ := h
      refine v_aload_n 0 dX5_compares_16 rfl (isR_ref _) ?_
      refine m_get K dX5_compares_17 fX5_47 rfl ?_
      refine v_iload_n 1 dX5_compares_20 rfl ?_
      refine v_iload 5 dX5_compares_21 rfl ?_
      refine v_iadd dX5_compares_23 ?_
      refine m_iald K 10 dX5_compares_24 rfl s3 (by decide) ?_
      refine v_aload_n 0 dX5_compares_25 rfl (isR_ref _) ?_
      refine m_get K dX5_compares_26 fX5_47 rfl ?_
      refine v_iload_n 3 dX5_compares_29 rfl ?_
      refine v_iload 5 dX5_compares_30 rfl ?_
      refine v_iadd dX5_compares_32 ?_
      refine m_iald K 10 dX5_compares_33 rfl s4 (by decide) ?_
      obtain ⟨ht, hf⟩ := h
      refine v_icmp_eq 57 dX5_compares_34 (by decide) s5 s6 (fun c => ?_) (fun c => ?_)
      · have h := ht c
        refine v_iinc 5 dX5_compares_57 rfl (by decide) rfl ?_
        refine v_goto 3 dX5_compares_60 (by decide) ?_
        refine V.sub [1, 2, 3, 4, 5, 0] rfl ?_
        exact h
      · have h := hf c
        refine v_aload_n 0 dX5_compares_37 rfl (isR_ref _) ?_
        refine m_get K dX5_compares_38 fX5_47 rfl ?_
        refine v_iload_n 1 dX5_compares_41 rfl ?_
        refine v_iload 5 dX5_compares_42 rfl ?_
        refine v_iadd dX5_compares_44 ?_
        refine m_iald K 10 dX5_compares_45 rfl s3 (by decide) ?_
        refine v_aload_n 0 dX5_compares_46 rfl (isR_ref _) ?_
        refine m_get K dX5_compares_47 fX5_47 rfl ?_
        refine v_iload_n 3 dX5_compares_50 rfl ?_
        refine v_iload 5 dX5_compares_51 rfl ?_
        refine v_iadd dX5_compares_53 ?_
        refine m_iald K 10 dX5_compares_54 rfl s4 (by decide) ?_
        refine v_isub dX5_compares_55 ?_
        exact m_iret K dX5_compares_56 rfl h
/-! putsPart -/
theorem wX5_putsPart_0 (K : KM) (hb : K.G.base ≤ K.m) {x1 x2 x3 : Int} {F : Nat → Int} {A : Nat → Int → Int} (h : VM K mX5_putsPart 6 [(0, .ref K.m), (1, vI x1), (2, vI x2), (3, vI x3), (4, vI 0), (5, vI 0)] [] F A) : VM K mX5_putsPart 0 [(0, .ref K.m), (1, vI x1), (2, vI x2), (3, vI x3)] [] F A := by
  refine v_iconst dX5_putsPart_0 ?_
  refine v_istore dX5_putsPart_1 (by decide) rfl ?_
  refine v_iconst dX5_putsPart_3 ?_
  refine v_istore dX5_putsPart_4 (by decide) rfl ?_
  refine V.sub [2, 3, 4, 5, 1, 0] rfl ?_
  exact h
theorem wX5_putsPart_6 (K : KM) (hb : K.G.base ≤ K.m) (hX : XS K.G) {x1 x2 x3 x4 x5 : Int} {F : Nat → Int} {A : Nat → Int → Int} (h : (rI x5) ∧ (rI x2) ∧ ((x2 ≤ x5 → (RV mX5_puts K [.ref K.m, vI 45] F A fun F2 A2 => (rI x4) ∧ ((x4 ≤ 1 → ((0 ≤ (x1 + x3) ∧ (x1 + x3) < 156) ∧ (RI mX5_hasDigit K [.ref K.m, vI (A2 12 (x1 + x3)), vI (A2 13 (x1 + x3))] F2 A2 fun r5 F5 A5 => (rI r5) ∧ ((r5 = 0 → (VM K mX5_putsPart 117 [(0, .ref K.m), (1, vI x1), (3, vI x3), (5, vI r5), (6, vI 0)] [] F5 A5)) ∧ (¬ r5 = 0 → (RV mX5_puts K [.ref K.m, vI 40] F5 A5 fun F7 A7 => VM K mX5_putsPart 117 [(0, .ref K.m), (1, vI x1), (3, vI x3), (5, vI r5), (6, vI 0)] [] F7 A7)))))) ∧ (¬ x4 ≤ 1 → (RV mX5_putsWord K [.ref K.m, .ref (K.G.ad 23), vI (x4 - 2)] F2 A2 fun F4 A4 => (0 ≤ (x1 + x3) ∧ (x1 + x3) < 156) ∧ (RI mX5_hasDigit K [.ref K.m, vI (A4 12 (x1 + x3)), vI (A4 13 (x1 + x3))] F4 A4 fun r6 F6 A6 => (rI r6) ∧ ((r6 = 0 → (VM K mX5_putsPart 117 [(0, .ref K.m), (1, vI x1), (3, vI x3), (5, vI r6), (6, vI 0)] [] F6 A6)) ∧ (¬ r6 = 0 → (RV mX5_puts K [.ref K.m, vI 40] F6 A6 fun F8 A8 => VM K mX5_putsPart 117 [(0, .ref K.m), (1, vI x1), (3, vI x3), (5, vI r6), (6, vI 0)] [] F8 A8))))))))) ∧ (¬ x2 ≤ x5 → (RI mX5_comparesNames K [.ref K.m, vI (x1 + x5), vI (x1 + x3)] F A fun r2 F2 A2 => (rI r2) ∧ ((¬ r2 = 0 → (VM K mX5_putsPart 6 [(0, .ref K.m), (1, vI x1), (2, vI x2), (3, vI x3), (4, vI x4), (5, vI (x5 + 1))] [] F2 A2)) ∧ (r2 = 0 → ((rI x4) ∧ ((x4 ≤ 0 → ((0 ≤ (x1 + x5) ∧ (x1 + x5) < 156) ∧ (RV mX5_putsNumber K [.ref K.m, vI (A2 11 (x1 + x5))] F2 A2 fun F6 A6 => VM K mX5_putsPart 6 [(0, .ref K.m), (1, vI x1), (2, vI x2), (3, vI x3), (4, vI (x4 + 1)), (5, vI (x5 + 1))] [] F6 A6))) ∧ (¬ x4 ≤ 0 → (RV mX5_puts K [.ref K.m, vI 44] F2 A2 fun F5 A5 => (0 ≤ (x1 + x5) ∧ (x1 + x5) < 156) ∧ (RV mX5_putsNumber K [.ref K.m, vI (A5 11 (x1 + x5))] F5 A5 fun F7 A7 => VM K mX5_putsPart 6 [(0, .ref K.m), (1, vI x1), (2, vI x2), (3, vI x3), (4, vI (x4 + 1)), (5, vI (x5 + 1))] [] F7 A7))))))))))) : VM K mX5_putsPart 6 [(0, .ref K.m), (1, vI x1), (2, vI x2), (3, vI x3), (4, vI x4), (5, vI x5)] [] F A := by
  obtain ⟨s0, s1, h⟩ := h
  refine v_iload 5 dX5_putsPart_6 rfl ?_
  refine v_iload_n 2 dX5_putsPart_8 rfl ?_
  obtain ⟨ht, hf⟩ := h
  refine v_icmp_ge 59 dX5_putsPart_9 (by decide) s0 s1 (fun c => ?_) (fun c => ?_)
  · have h := ht c
    refine v_aload_n 0 dX5_putsPart_59 rfl (isR_ref _) ?_
    refine v_bipush dX5_putsPart_60 rfl ?_
    refine m_callV K (As := [vI 45]) dX5_putsPart_62 LX5_352 rfl rfl (Nat.le_of_ble_eq_true rfl) h (fun F2 A2 h => ?_)
    obtain ⟨s3, h⟩ := h
    refine v_iload 4 dX5_putsPart_65 rfl ?_
    refine v_iconst dX5_putsPart_67 ?_
    obtain ⟨ht, hf⟩ := h
    refine v_icmp_le 81 dX5_putsPart_68 (by decide) s3 (by decide) (fun c => ?_) (fun c => ?_)
    · have h := ht c
      obtain ⟨s4, h⟩ := h
      refine v_aload_n 0 dX5_putsPart_81 rfl (isR_ref _) ?_
      refine v_aload_n 0 dX5_putsPart_82 rfl (isR_ref _) ?_
      refine m_get K dX5_putsPart_83 fX5_64 rfl ?_
      refine v_iload_n 1 dX5_putsPart_86 rfl ?_
      refine v_iload_n 3 dX5_putsPart_87 rfl ?_
      refine v_iadd dX5_putsPart_88 ?_
      refine m_iald K 12 dX5_putsPart_89 rfl s4 (by decide) ?_
      refine v_aload_n 0 dX5_putsPart_90 rfl (isR_ref _) ?_
      refine m_get K dX5_putsPart_91 fX5_67 rfl ?_
      refine v_iload_n 1 dX5_putsPart_94 rfl ?_
      refine v_iload_n 3 dX5_putsPart_95 rfl ?_
      refine v_iadd dX5_putsPart_96 ?_
      refine m_iald K 13 dX5_putsPart_97 rfl s4 (by decide) ?_
      refine m_callI K (As := [vI (A2 12 (x1 + x3)), vI (A2 13 (x1 + x3))]) dX5_putsPart_98 LX5_384 rfl rfl (Nat.le_of_ble_eq_true rfl) h (fun r5 F5 A5 h => ?_)
      obtain ⟨s6, h⟩ := h
      refine v_istore dX5_putsPart_101 (by decide) rfl ?_
      refine v_iload 0 dX5_putsPart_103 rfl ?_
      obtain ⟨ht, hf⟩ := h
      refine v_if_eq 114 dX5_putsPart_105 (by decide) s6 (fun c => ?_) (fun c => ?_)
      · have h := ht c
        refine v_iconst dX5_putsPart_114 ?_
        refine v_istore dX5_putsPart_115 (by decide) rfl ?_
        refine V.sub [2, 3, 5, 1, 0] rfl ?_
        exact h
      · have h := hf c
        refine v_aload_n 1 dX5_putsPart_108 rfl (isR_ref _) ?_
        refine v_bipush dX5_putsPart_109 rfl ?_
        refine m_callV K (As := [vI 40]) dX5_putsPart_111 LX5_352 rfl rfl (Nat.le_of_ble_eq_true rfl) h (fun F7 A7 h => ?_)
        refine v_iconst dX5_putsPart_114 ?_
        refine v_istore dX5_putsPart_115 (by decide) rfl ?_
        refine V.sub [2, 3, 5, 1, 0] rfl ?_
        exact h
    · have h := hf c
      refine v_aload_n 0 dX5_putsPart_71 rfl (isR_ref _) ?_
      refine v_ldcS 23 hX dX5_putsPart_72 rfl ?_
      refine v_iload 4 dX5_putsPart_74 rfl ?_
      refine v_iconst dX5_putsPart_76 ?_
      refine v_isub dX5_putsPart_77 ?_
      refine m_callV K (As := [.ref (K.G.ad 23), vI (x4 - 2)]) dX5_putsPart_78 LX5_380 rfl rfl (Nat.le_of_ble_eq_true rfl) h (fun F4 A4 h => ?_)
      obtain ⟨s5, h⟩ := h
      refine v_aload_n 0 dX5_putsPart_81 rfl (isR_ref _) ?_
      refine v_aload_n 0 dX5_putsPart_82 rfl (isR_ref _) ?_
      refine m_get K dX5_putsPart_83 fX5_64 rfl ?_
      refine v_iload_n 1 dX5_putsPart_86 rfl ?_
      refine v_iload_n 3 dX5_putsPart_87 rfl ?_
      refine v_iadd dX5_putsPart_88 ?_
      refine m_iald K 12 dX5_putsPart_89 rfl s5 (by decide) ?_
      refine v_aload_n 0 dX5_putsPart_90 rfl (isR_ref _) ?_
      refine m_get K dX5_putsPart_91 fX5_67 rfl ?_
      refine v_iload_n 1 dX5_putsPart_94 rfl ?_
      refine v_iload_n 3 dX5_putsPart_95 rfl ?_
      refine v_iadd dX5_putsPart_96 ?_
      refine m_iald K 13 dX5_putsPart_97 rfl s5 (by decide) ?_
      refine m_callI K (As := [vI (A4 12 (x1 + x3)), vI (A4 13 (x1 + x3))]) dX5_putsPart_98 LX5_384 rfl rfl (Nat.le_of_ble_eq_true rfl) h (fun r6 F6 A6 h => ?_)
      obtain ⟨s7, h⟩ := h
      refine v_istore dX5_putsPart_101 (by decide) rfl ?_
      refine v_iload 0 dX5_putsPart_103 rfl ?_
      obtain ⟨ht, hf⟩ := h
      refine v_if_eq 114 dX5_putsPart_105 (by decide) s7 (fun c => ?_) (fun c => ?_)
      · have h := ht c
        refine v_iconst dX5_putsPart_114 ?_
        refine v_istore dX5_putsPart_115 (by decide) rfl ?_
        refine V.sub [2, 3, 5, 1, 0] rfl ?_
        exact h
      · have h := hf c
        refine v_aload_n 1 dX5_putsPart_108 rfl (isR_ref _) ?_
        refine v_bipush dX5_putsPart_109 rfl ?_
        refine m_callV K (As := [vI 40]) dX5_putsPart_111 LX5_352 rfl rfl (Nat.le_of_ble_eq_true rfl) h (fun F8 A8 h => ?_)
        refine v_iconst dX5_putsPart_114 ?_
        refine v_istore dX5_putsPart_115 (by decide) rfl ?_
        refine V.sub [2, 3, 5, 1, 0] rfl ?_
        exact h
  · have h := hf c
    refine v_aload_n 0 dX5_putsPart_12 rfl (isR_ref _) ?_
    refine v_iload_n 1 dX5_putsPart_13 rfl ?_
    refine v_iload 5 dX5_putsPart_14 rfl ?_
    refine v_iadd dX5_putsPart_16 ?_
    refine v_iload_n 1 dX5_putsPart_17 rfl ?_
    refine v_iload_n 3 dX5_putsPart_18 rfl ?_
    refine v_iadd dX5_putsPart_19 ?_
    refine m_callI K (As := [vI (x1 + x5), vI (x1 + x3)]) dX5_putsPart_20 LX5_374 rfl rfl (Nat.le_of_ble_eq_true rfl) h (fun r2 F2 A2 h => ?_)
    obtain ⟨s3, h⟩ := h
    obtain ⟨ht, hf⟩ := h
    refine v_if_ne 53 dX5_putsPart_23 (by decide) s3 (fun c => ?_) (fun c => ?_)
    · have h := ht c
      refine v_iinc 5 dX5_putsPart_53 rfl (by decide) rfl ?_
      refine v_goto 6 dX5_putsPart_56 (by decide) ?_
      refine V.sub [1, 2, 3, 4, 5, 0] rfl ?_
      exact h
    · have h := hf c
      obtain ⟨s4, h⟩ := h
      refine v_iload 4 dX5_putsPart_26 rfl ?_
      obtain ⟨ht, hf⟩ := h
      refine v_if_le 37 dX5_putsPart_28 (by decide) s4 (fun c => ?_) (fun c => ?_)
      · have h := ht c
        obtain ⟨s5, h⟩ := h
        refine v_aload_n 0 dX5_putsPart_37 rfl (isR_ref _) ?_
        refine v_aload_n 0 dX5_putsPart_38 rfl (isR_ref _) ?_
        refine m_get K dX5_putsPart_39 fX5_61 rfl ?_
        refine v_iload_n 1 dX5_putsPart_42 rfl ?_
        refine v_iload 5 dX5_putsPart_43 rfl ?_
        refine v_iadd dX5_putsPart_45 ?_
        refine m_iald K 11 dX5_putsPart_46 rfl s5 (by decide) ?_
        refine m_callV K (As := [vI (A2 11 (x1 + x5))]) dX5_putsPart_47 LX5_377 rfl rfl (Nat.le_of_ble_eq_true rfl) h (fun F6 A6 h => ?_)
        refine v_iinc 4 dX5_putsPart_50 rfl (by decide) rfl ?_
        refine v_iinc 5 dX5_putsPart_53 rfl (by decide) rfl ?_
        refine v_goto 6 dX5_putsPart_56 (by decide) ?_
        refine V.sub [2, 3, 4, 5, 1, 0] rfl ?_
        exact h
      · have h := hf c
        refine v_aload_n 0 dX5_putsPart_31 rfl (isR_ref _) ?_
        refine v_bipush dX5_putsPart_32 rfl ?_
        refine m_callV K (As := [vI 44]) dX5_putsPart_34 LX5_352 rfl rfl (Nat.le_of_ble_eq_true rfl) h (fun F5 A5 h => ?_)
        obtain ⟨s6, h⟩ := h
        refine v_aload_n 0 dX5_putsPart_37 rfl (isR_ref _) ?_
        refine v_aload_n 0 dX5_putsPart_38 rfl (isR_ref _) ?_
        refine m_get K dX5_putsPart_39 fX5_61 rfl ?_
        refine v_iload_n 1 dX5_putsPart_42 rfl ?_
        refine v_iload 5 dX5_putsPart_43 rfl ?_
        refine v_iadd dX5_putsPart_45 ?_
        refine m_iald K 11 dX5_putsPart_46 rfl s6 (by decide) ?_
        refine m_callV K (As := [vI (A5 11 (x1 + x5))]) dX5_putsPart_47 LX5_377 rfl rfl (Nat.le_of_ble_eq_true rfl) h (fun F7 A7 h => ?_)
        refine v_iinc 4 dX5_putsPart_50 rfl (by decide) rfl ?_
        refine v_iinc 5 dX5_putsPart_53 rfl (by decide) rfl ?_
        refine v_goto 6 dX5_putsPart_56 (by decide) ?_
        refine V.sub [2, 3, 4, 5, 1, 0] rfl ?_
        exact h
theorem wX5_putsPart_117 (K : KM) (hb : K.G.base ≤ K.m) {x1 x3 x5 x6 : Int} {F : Nat → Int} {A : Nat → Int → Int} (h : (0 ≤ (x1 + x3) ∧ (x1 + x3) < 156) ∧ (rI x6) ∧ (rI (A 13 (x1 + x3))) ∧ (((A 13 (x1 + x3)) ≤ x6 → ((rI x5) ∧ ((x5 = 0 → (SV K F A)) ∧ (¬ x5 = 0 → (RV mX5_puts K [.ref K.m, vI 41] F A fun F4 A4 => SV K F4 A4))))) ∧ (¬ (A 13 (x1 + x3)) ≤ x6 → ((0 ≤ ((A 12 (x1 + x3)) + x6) ∧ ((A 12 (x1 + x3)) + x6) < 16384) ∧ (RV mX5_puts K [.ref K.m, vI (A 10 ((A 12 (x1 + x3)) + x6))] F A fun F4 A4 => VM K mX5_putsPart 117 [(0, .ref K.m), (1, vI x1), (3, vI x3), (5, vI x5), (6, vI (x6 + 1))] [] F4 A4))))) : VM K mX5_putsPart 117 [(0, .ref K.m), (1, vI x1), (3, vI x3), (5, vI x5), (6, vI x6)] [] F A := by
  obtain ⟨s0, s1, s2, h⟩ := h
  refine v_iload 4 dX5_putsPart_117 rfl ?_
  refine v_aload_n 0 dX5_putsPart_119 rfl (isR_ref _) ?_
  refine m_get K dX5_putsPart_120 fX5_67 rfl ?_
  refine v_iload_n 1 dX5_putsPart_123 rfl ?_
  refine v_iload_n 2 dX5_putsPart_124 rfl ?_
  refine v_iadd dX5_putsPart_125 ?_
  refine m_iald K 13 dX5_putsPart_126 rfl s0 (by decide) ?_
  obtain ⟨ht, hf⟩ := h
  refine v_icmp_ge 156 dX5_putsPart_127 (by decide) s1 s2 (fun c => ?_) (fun c => ?_)
  · have h := ht c
    obtain ⟨s3, h⟩ := h
    refine v_iload 3 dX5_putsPart_156 rfl ?_
    obtain ⟨ht, hf⟩ := h
    refine v_if_eq 167 dX5_putsPart_158 (by decide) s3 (fun c => ?_) (fun c => ?_)
    · have h := ht c
      exact m_vret K dX5_putsPart_167 rfl h
    · have h := hf c
      refine v_aload_n 0 dX5_putsPart_161 rfl (isR_ref _) ?_
      refine v_bipush dX5_putsPart_162 rfl ?_
      refine m_callV K (As := [vI 41]) dX5_putsPart_164 LX5_352 rfl rfl (Nat.le_of_ble_eq_true rfl) h (fun F4 A4 h => ?_)
      exact m_vret K dX5_putsPart_167 rfl h
  · have h := hf c
    obtain ⟨s3, h⟩ := h
    refine v_aload_n 0 dX5_putsPart_130 rfl (isR_ref _) ?_
    refine v_aload_n 0 dX5_putsPart_131 rfl (isR_ref _) ?_
    refine m_get K dX5_putsPart_132 fX5_47 rfl ?_
    refine v_aload_n 0 dX5_putsPart_135 rfl (isR_ref _) ?_
    refine m_get K dX5_putsPart_136 fX5_64 rfl ?_
    refine v_iload_n 1 dX5_putsPart_139 rfl ?_
    refine v_iload_n 2 dX5_putsPart_140 rfl ?_
    refine v_iadd dX5_putsPart_141 ?_
    refine m_iald K 12 dX5_putsPart_142 rfl s0 (by decide) ?_
    refine v_iload 4 dX5_putsPart_143 rfl ?_
    refine v_iadd dX5_putsPart_145 ?_
    refine m_iald K 10 dX5_putsPart_146 rfl s3 (by decide) ?_
    refine m_callV K (As := [vI (A 10 ((A 12 (x1 + x3)) + x6))]) dX5_putsPart_147 LX5_352 rfl rfl (Nat.le_of_ble_eq_true rfl) h (fun F4 A4 h => ?_)
    refine v_iinc 4 dX5_putsPart_150 rfl (by decide) rfl ?_
    refine v_goto 117 dX5_putsPart_153 (by decide) ?_
    refine V.sub [1, 2, 3, 4, 0] rfl ?_
    exact h
/-! puts -/
theorem wX5_puts_0 (K : KM) (hb : K.G.base ≤ K.m) {x1 : Int} {F : Nat → Int} {A : Nat → Int → Int} (h : (0 ≤ (F 19) ∧ (F 19) < 16384) ∧ (SV K (upN F 19 ((F 19) + 1)) (upA A 10 (F 19) x1))) : VM K mX5_puts 0 [(0, .ref K.m), (1, vI x1)] [] F A := by
  obtain ⟨s0, h⟩ := h
  refine v_aload_n 0 dX5_puts_0 rfl (isR_ref _) ?_
  refine m_get K dX5_puts_1 fX5_47 rfl ?_
  refine v_aload_n 0 dX5_puts_4 rfl (isR_ref _) ?_
  refine m_get (v := vI (F 19)) K dX5_puts_5 fX5_267 rfl ?_
  refine v_iload_n 1 dX5_puts_8 rfl ?_
  refine m_iast K 10 hb dX5_puts_9 rfl s0 (by decide) ?_
  refine v_aload_n 0 dX5_puts_10 rfl (isR_ref _) ?_
  refine v_dup dX5_puts_11 rfl ?_
  refine m_get (v := vI (F 19)) K dX5_puts_12 fX5_267 rfl ?_
  refine v_iconst dX5_puts_15 ?_
  refine v_iadd dX5_puts_16 ?_
  refine m_put (F' := upN F 19 ((F 19) + 1)) K hb dX5_puts_17 fX5_267 (by decide) (by decide) rfl ?_
  exact m_vret K dX5_puts_20 rfl h
/-! putsNumber -/
theorem wX5_putsNumber_0 (K : KM) (hb : K.G.base ≤ K.m) {x1 : Int} {F : Nat → Int} {A : Nat → Int → Int} (h : (rI x1) ∧ ((x1 ≤ 9 → (RV mX5_puts K [.ref K.m, vI (48 + (Int.tmod x1 10))] F A fun F1 A1 => SV K F1 A1)) ∧ (¬ x1 ≤ 9 → (RV mX5_puts K [.ref K.m, vI (48 + (Int.tdiv x1 10))] F A fun F1 A1 => RV mX5_puts K [.ref K.m, vI (48 + (Int.tmod x1 10))] F1 A1 fun F2 A2 => SV K F2 A2)))) : VM K mX5_putsNumber 0 [(0, .ref K.m), (1, vI x1)] [] F A := by
  obtain ⟨s0, h⟩ := h
  refine v_iload_n 1 dX5_putsNumber_0 rfl ?_
  refine v_bipush dX5_putsNumber_1 rfl ?_
  obtain ⟨ht, hf⟩ := h
  refine v_icmp_le 17 dX5_putsNumber_3 (by decide) s0 (by decide) (fun c => ?_) (fun c => ?_)
  · have h := ht c
    refine v_aload_n 0 dX5_putsNumber_17 rfl (isR_ref _) ?_
    refine v_bipush dX5_putsNumber_18 rfl ?_
    refine v_iload_n 1 dX5_putsNumber_20 rfl ?_
    refine v_bipush dX5_putsNumber_21 rfl ?_
    refine v_irem dX5_putsNumber_23 s0 (by decide) (by decide) ?_
    refine v_iadd dX5_putsNumber_24 ?_
    refine m_callV K (As := [vI (48 + (Int.tmod x1 10))]) dX5_putsNumber_25 LX5_352 rfl rfl (Nat.le_of_ble_eq_true rfl) h (fun F1 A1 h => ?_)
    exact m_vret K dX5_putsNumber_28 rfl h
  · have h := hf c
    refine v_aload_n 0 dX5_putsNumber_6 rfl (isR_ref _) ?_
    refine v_bipush dX5_putsNumber_7 rfl ?_
    refine v_iload_n 1 dX5_putsNumber_9 rfl ?_
    refine v_bipush dX5_putsNumber_10 rfl ?_
    refine v_idiv dX5_putsNumber_12 s0 (by decide) (by decide) ?_
    refine v_iadd dX5_putsNumber_13 ?_
    refine m_callV K (As := [vI (48 + (Int.tdiv x1 10))]) dX5_putsNumber_14 LX5_352 rfl rfl (Nat.le_of_ble_eq_true rfl) h (fun F1 A1 h => ?_)
    refine v_aload_n 0 dX5_putsNumber_17 rfl (isR_ref _) ?_
    refine v_bipush dX5_putsNumber_18 rfl ?_
    refine v_iload_n 1 dX5_putsNumber_20 rfl ?_
    refine v_bipush dX5_putsNumber_21 rfl ?_
    refine v_irem dX5_putsNumber_23 s0 (by decide) (by decide) ?_
    refine v_iadd dX5_putsNumber_24 ?_
    refine m_callV K (As := [vI (48 + (Int.tmod x1 10))]) dX5_putsNumber_25 LX5_352 rfl rfl (Nat.le_of_ble_eq_true rfl) h (fun F2 A2 h => ?_)
    exact m_vret K dX5_putsNumber_28 rfl h
/-! putsWord -/
theorem wX5_putsWord_0 (K : KM) (hb : K.G.base ≤ K.m) {x2 : Int} {q1 : Nat} {F : Nat → Int} {A : Nat → Int → Int} (h : RI mX5_wordAt K [.ref q1, vI x2] F A fun r0 F0 A0 => VM K mX5_putsWord 6 [(0, .ref K.m), (1, .ref q1), (3, vI r0)] [] F0 A0) : VM K mX5_putsWord 0 [(0, .ref K.m), (1, .ref q1), (2, vI x2)] [] F A := by
  refine v_aload_n 1 dX5_putsWord_0 rfl (isR_ref _) ?_
  refine v_iload_n 2 dX5_putsWord_1 rfl ?_
  refine m_callSI K (As := [.ref q1, vI x2]) dX5_putsWord_2 LX5_348 rfl rfl (Nat.le_of_ble_eq_true rfl) h (fun r0 F0 A0 h => ?_)
  refine v_istore_n dX5_putsWord_5 (by decide) rfl ?_
  refine V.sub [1, 2, 0] rfl ?_
  exact h
theorem wX5_putsWord_6 (K : KM) (hb : K.G.base ≤ K.m) {x3 : Int} {q1 : Nat} {F : Nat → Int} {A : Nat → Int → Int} (h : RC K.G (K.wd F A) q1 "java/lang/String" ∧ RI mJ2_charAt K [.ref q1, vI x3] F A fun r0 F0 A0 => (rI r0) ∧ ((r0 = 32 → (SV K F0 A0)) ∧ (¬ r0 = 32 → (RC K.G (K.wd F0 A0) q1 "java/lang/String" ∧ RI mJ2_charAt K [.ref q1, vI x3] F0 A0 fun r2 F2 A2 => RV mX5_puts K [.ref K.m, vI r2] F2 A2 fun F3 A3 => VM K mX5_putsWord 6 [(0, .ref K.m), (1, .ref q1), (3, vI (x3 + 1))] [] F3 A3)))) : VM K mX5_putsWord 6 [(0, .ref K.m), (1, .ref q1), (3, vI x3)] [] F A := by
  refine v_aload_n 1 dX5_putsWord_6 rfl (isR_ref _) ?_
  refine v_iload_n 2 dX5_putsWord_7 rfl ?_
  refine m_callO K (As := [vI x3]) dX5_putsWord_8 LX5_342 rfl rfl (Nat.le_of_ble_eq_true rfl) h (fun r0 F0 A0 h => ?_)
  obtain ⟨s1, h⟩ := h
  refine v_bipush dX5_putsWord_11 rfl ?_
  obtain ⟨ht, hf⟩ := h
  refine v_icmp_eq 31 dX5_putsWord_13 (by decide) s1 (by decide) (fun c => ?_) (fun c => ?_)
  · have h := ht c
    exact m_vret K dX5_putsWord_31 rfl h
  · have h := hf c
    refine v_aload_n 0 dX5_putsWord_16 rfl (isR_ref _) ?_
    refine v_aload_n 1 dX5_putsWord_17 rfl (isR_ref _) ?_
    refine v_iload_n 2 dX5_putsWord_18 rfl ?_
    refine m_callO K (As := [vI x3]) dX5_putsWord_19 LX5_342 rfl rfl (Nat.le_of_ble_eq_true rfl) h (fun r2 F2 A2 h => ?_)
    refine m_callV K (As := [vI r2]) dX5_putsWord_22 LX5_352 rfl rfl (Nat.le_of_ble_eq_true rfl) h (fun F3 A3 h => ?_)
    refine v_iinc 2 dX5_putsWord_25 rfl (by decide) rfl ?_
    refine v_goto 6 dX5_putsWord_28 (by decide) ?_
    refine V.sub [1, 2, 0] rfl ?_
    exact h
/-! wordAt -/
theorem wX5_wordAt_0 (K : KM) (hb : K.G.base ≤ K.m) {x1 : Int} {q0 : Nat} {F : Nat → Int} {A : Nat → Int → Int} (h : VM K mX5_wordAt 4 [(0, .ref q0), (2, vI 0), (3, vI x1)] [] F A) : VM K mX5_wordAt 0 [(0, .ref q0), (1, vI x1)] [] F A := by
  refine v_iconst dX5_wordAt_0 ?_
  refine v_istore_n dX5_wordAt_1 (by decide) rfl ?_
  refine v_iload_n 2 dX5_wordAt_2 rfl ?_
  refine v_istore_n dX5_wordAt_3 (by decide) rfl ?_
  refine V.sub [2, 1, 0] rfl ?_
  exact h
theorem wX5_wordAt_4 (K : KM) (hb : K.G.base ≤ K.m) {x2 x3 : Int} {q0 : Nat} {F : Nat → Int} {A : Nat → Int → Int} (h : (rI x3) ∧ ((x3 ≤ 0 → (SI K x2 F A)) ∧ (¬ x3 ≤ 0 → (RC K.G (K.wd F A) q0 "java/lang/String" ∧ RI mJ2_charAt K [.ref q0, vI x2] F A fun r1 F1 A1 => (rI r1) ∧ ((¬ r1 = 32 → (VM K mX5_wordAt 4 [(0, .ref q0), (2, vI (x2 + 1)), (3, vI (x3 - 0))] [] F1 A1)) ∧ (r1 = 32 → (VM K mX5_wordAt 4 [(0, .ref q0), (2, vI (x2 + 1)), (3, vI (x3 - 1))] [] F1 A1))))))) : VM K mX5_wordAt 4 [(0, .ref q0), (2, vI x2), (3, vI x3)] [] F A := by
  obtain ⟨s0, h⟩ := h
  refine v_iload_n 2 dX5_wordAt_4 rfl ?_
  obtain ⟨ht, hf⟩ := h
  refine v_if_le 32 dX5_wordAt_5 (by decide) s0 (fun c => ?_) (fun c => ?_)
  · have h := ht c
    refine v_iload_n 1 dX5_wordAt_32 rfl ?_
    exact m_iret K dX5_wordAt_33 rfl h
  · have h := hf c
    refine v_iload_n 2 dX5_wordAt_8 rfl ?_
    refine v_aload_n 0 dX5_wordAt_9 rfl (isR_ref _) ?_
    refine v_iload_n 1 dX5_wordAt_10 rfl ?_
    refine m_callO K (As := [vI x2]) dX5_wordAt_11 LX5_342 rfl rfl (Nat.le_of_ble_eq_true rfl) h (fun r1 F1 A1 h => ?_)
    obtain ⟨s2, h⟩ := h
    refine v_bipush dX5_wordAt_14 rfl ?_
    obtain ⟨ht, hf⟩ := h
    refine v_icmp_ne 23 dX5_wordAt_16 (by decide) s2 (by decide) (fun c => ?_) (fun c => ?_)
    · have h := ht c
      refine v_iconst dX5_wordAt_23 ?_
      refine v_isub dX5_wordAt_24 ?_
      refine v_istore_n dX5_wordAt_25 (by decide) rfl ?_
      refine v_iinc 2 dX5_wordAt_26 rfl (by decide) rfl ?_
      refine v_goto 4 dX5_wordAt_29 (by decide) ?_
      refine V.sub [2, 0, 1] rfl ?_
      exact h
    · have h := hf c
      refine v_iconst dX5_wordAt_19 ?_
      refine v_goto 24 dX5_wordAt_20 (by decide) ?_
      refine v_isub dX5_wordAt_24 ?_
      refine v_istore_n dX5_wordAt_25 (by decide) rfl ?_
      refine v_iinc 2 dX5_wordAt_26 rfl (by decide) rfl ?_
      refine v_goto 4 dX5_wordAt_29 (by decide) ?_
      refine V.sub [2, 0, 1] rfl ?_
      exact h
/-! hasDigit -/
theorem wX5_hasDigit_0 (K : KM) (hb : K.G.base ≤ K.m) {x1 x2 : Int} {F : Nat → Int} {A : Nat → Int → Int} (h : VM K mX5_hasDigit 2 [(0, .ref K.m), (1, vI x1), (2, vI x2), (3, vI 0)] [] F A) : VM K mX5_hasDigit 0 [(0, .ref K.m), (1, vI x1), (2, vI x2)] [] F A := by
  refine v_iconst dX5_hasDigit_0 ?_
  refine v_istore_n dX5_hasDigit_1 (by decide) rfl ?_
  refine V.sub [1, 2, 3, 0] rfl ?_
  exact h
theorem wX5_hasDigit_2 (K : KM) (hb : K.G.base ≤ K.m) {x1 x2 x3 : Int} {F : Nat → Int} {A : Nat → Int → Int} (h : (rI x3) ∧ (rI x2) ∧ ((x2 ≤ x3 → (SI K 0 F A)) ∧ (¬ x2 ≤ x3 → ((0 ≤ (x1 + x3) ∧ (x1 + x3) < 16384) ∧ (RI mX5_isDigit K [vI (A 10 (x1 + x3))] F A fun r3 F3 A3 => (rI r3) ∧ ((r3 = 0 → (VM K mX5_hasDigit 2 [(0, .ref K.m), (1, vI x1), (2, vI x2), (3, vI (x3 + 1))] [] F3 A3)) ∧ (¬ r3 = 0 → (SI K 1 F3 A3)))))))) : VM K mX5_hasDigit 2 [(0, .ref K.m), (1, vI x1), (2, vI x2), (3, vI x3)] [] F A := by
  obtain ⟨s0, s1, h⟩ := h
  refine v_iload_n 3 dX5_hasDigit_2 rfl ?_
  refine v_iload_n 2 dX5_hasDigit_3 rfl ?_
  obtain ⟨ht, hf⟩ := h
  refine v_icmp_ge 29 dX5_hasDigit_4 (by decide) s0 s1 (fun c => ?_) (fun c => ?_)
  · have h := ht c
    refine v_iconst dX5_hasDigit_29 ?_
    exact m_zret K dX5_hasDigit_30 rfl (by decide) h
  · have h := hf c
    obtain ⟨s2, h⟩ := h
    refine v_aload_n 0 dX5_hasDigit_7 rfl (isR_ref _) ?_
    refine m_get K dX5_hasDigit_8 fX5_47 rfl ?_
    refine v_iload_n 1 dX5_hasDigit_11 rfl ?_
    refine v_iload_n 3 dX5_hasDigit_12 rfl ?_
    refine v_iadd dX5_hasDigit_13 ?_
    refine m_iald K 10 dX5_hasDigit_14 rfl s2 (by decide) ?_
    refine m_callSI K (As := [vI (A 10 (x1 + x3))]) dX5_hasDigit_15 LX5_358 rfl rfl (Nat.le_of_ble_eq_true rfl) h (fun r3 F3 A3 h => ?_)
    obtain ⟨s4, h⟩ := h
    obtain ⟨ht, hf⟩ := h
    refine v_if_eq 23 dX5_hasDigit_18 (by decide) s4 (fun c => ?_) (fun c => ?_)
    · have h := ht c
      refine v_iinc 3 dX5_hasDigit_23 rfl (by decide) rfl ?_
      refine v_goto 2 dX5_hasDigit_26 (by decide) ?_
      refine V.sub [1, 2, 3, 0] rfl ?_
      exact h
    · have h := hf c
      refine v_iconst dX5_hasDigit_21 ?_
      exact m_zret K dX5_hasDigit_22 rfl (by decide) h
/-! isDigit -/
theorem wX5_isDigit_0 (K : KM) (hb : K.G.base ≤ K.m) {x0 : Int} {F : Nat → Int} {A : Nat → Int → Int} (h : (rI x0) ∧ ((x0 < 48 → (SI K 0 F A)) ∧ (¬ x0 < 48 → ((57 < x0 → (SI K 0 F A)) ∧ (¬ 57 < x0 → (SI K 1 F A)))))) : VM K mX5_isDigit 0 [(0, vI x0)] [] F A := by
  obtain ⟨s0, h⟩ := h
  refine v_iload_n 0 dX5_isDigit_0 rfl ?_
  refine v_bipush dX5_isDigit_1 rfl ?_
  obtain ⟨ht, hf⟩ := h
  refine v_icmp_lt 16 dX5_isDigit_3 (by decide) s0 (by decide) (fun c => ?_) (fun c => ?_)
  · have h := ht c
    refine v_iconst dX5_isDigit_16 ?_
    exact m_zret K dX5_isDigit_17 rfl (by decide) h
  · have h := hf c
    refine v_iload_n 0 dX5_isDigit_6 rfl ?_
    refine v_bipush dX5_isDigit_7 rfl ?_
    obtain ⟨ht, hf⟩ := h
    refine v_icmp_gt 16 dX5_isDigit_9 (by decide) s0 (by decide) (fun c => ?_) (fun c => ?_)
    · have h := ht c
      refine v_iconst dX5_isDigit_16 ?_
      exact m_zret K dX5_isDigit_17 rfl (by decide) h
    · have h := hf c
      refine v_iconst dX5_isDigit_12 ?_
      refine v_goto 17 dX5_isDigit_13 (by decide) ?_
      exact m_zret K dX5_isDigit_17 rfl (by decide) h
/-! measure -/
theorem wX5_measure_0 (K : KM) (hb : K.G.base ≤ K.m) {x1 : Int} {F : Nat → Int} {A : Nat → Int → Int} (h : (rI x1) ∧ (RI mX5_isIn K [vL x1, vL 0, vL 10] F A fun r1 F1 A1 => (rI r1) ∧ ((¬ r1 = 0 → (RV mX5_looksAtDrawing K [.ref K.m] F1 A1 fun F3 A3 => RI mX5_measured K [.ref K.m, vI x1] F3 A3 fun r4 F4 A4 => SI K r4 F4 A4)) ∧ (r1 = 0 → (SI K ((-1)) F1 A1))))) : VM K mX5_measure 0 [(0, .ref K.m), (1, vI x1)] [] F A := by
  obtain ⟨s0, h⟩ := h
  refine v_iload_n 1 dX5_measure_0 rfl ?_
  refine v_i2l dX5_measure_1 s0 ?_
  refine v_lconst (z := 0) dX5_measure_2 rfl ?_
  refine v_ldc2 (z := 10) dX5_measure_3 q2042 ?_
  refine m_callSI K (As := [vL x1, vL 0, vL 10]) dX5_measure_6 LX5_148 rfl rfl (Nat.le_of_ble_eq_true rfl) h (fun r1 F1 A1 h => ?_)
  obtain ⟨s2, h⟩ := h
  obtain ⟨ht, hf⟩ := h
  refine v_if_ne 14 dX5_measure_9 (by decide) s2 (fun c => ?_) (fun c => ?_)
  · have h := ht c
    refine v_aload_n 0 dX5_measure_14 rfl (isR_ref _) ?_
    refine m_callV K (As := []) dX5_measure_15 LX5_241 rfl rfl (Nat.le_of_ble_eq_true rfl) h (fun F3 A3 h => ?_)
    refine v_aload_n 0 dX5_measure_18 rfl (isR_ref _) ?_
    refine v_iload_n 1 dX5_measure_19 rfl ?_
    refine m_callI K (As := [vI x1]) dX5_measure_20 LX5_304 rfl rfl (Nat.le_of_ble_eq_true rfl) h (fun r4 F4 A4 h => ?_)
    exact m_iret K dX5_measure_23 rfl h
  · have h := hf c
    refine v_iconst dX5_measure_12 ?_
    exact m_iret K dX5_measure_13 rfl h
/-! measured -/
theorem wX5_measured_0 (K : KM) (hb : K.G.base ≤ K.m) {x1 : Int} {F : Nat → Int} {A : Nat → Int → Int} (h : (rI x1) ∧ ((x1 = 0 → (SI K (F 1) F A)) ∧ (x1 = 1 → (SI K (2 + (2 * (F 1))) F A)) ∧ (x1 = 2 → (RI mX5_farTogether K [.ref K.m, vI ((-1))] F A fun r1 F1 A1 => SI K r1 F1 A1)) ∧ (x1 = 3 → (RI mX5_ends K [.ref K.m] F A fun r1 F1 A1 => SI K r1 F1 A1)) ∧ (x1 = 4 → (RI mX5_farTogether K [.ref K.m, vI 3] F A fun r1 F1 A1 => SI K r1 F1 A1)) ∧ (x1 = 5 → (RI mX5_centre K [.ref K.m] F A fun r1 F1 A1 => RI mX5_deepOf K [.ref K.m, vI r1, vI ((-1))] F1 A1 fun r2 F2 A2 => SI K r2 F2 A2)) ∧ (x1 = 6 → (RI mX5_unlike K [.ref K.m] F A fun r1 F1 A1 => SI K r1 F1 A1)) ∧ (x1 = 7 → (RI mX5_alikeTo K [.ref K.m, vI 0, vI 0] F A fun r1 F1 A1 => RI mX5_waysOf K [.ref K.m, vI 0, vI ((-1))] F1 A1 fun r2 F2 A2 => SI K (r1 * r2) F2 A2)) ∧ (x1 = 8 → (RI mX5_more K [.ref K.m] F A fun r1 F1 A1 => SI K r1 F1 A1)) ∧ (x1 = 9 → (RI mX5_longest K [.ref K.m] F A fun r1 F1 A1 => SI K r1 F1 A1)) ∧ ((x1 < 0 ∨ 9 < x1) → (RI mX5_mostBranches K [.ref K.m] F A fun r1 F1 A1 => SI K r1 F1 A1)))) : VM K mX5_measured 0 [(0, .ref K.m), (1, vI x1)] [] F A := by
  obtain ⟨s0, h⟩ := h
  refine v_iload_n 1 dX5_measured_0 rfl ?_
  obtain ⟨h0, h1, h2, h3, h4, h5, h6, h7, h8, h9, hd⟩ := h
  by_cases c0 : x1 = 0
  · refine v_tableIn 56 dX5_measured_1 0 c0 (by decide) (by decide) (by decide) rfl (by decide) ?_
    have h := h0 c0
    refine v_aload_n 0 dX5_measured_56 rfl (isR_ref _) ?_
    refine m_get (v := vI (F 1)) K dX5_measured_57 fX5_145 rfl ?_
    exact m_iret K dX5_measured_60 rfl h
  by_cases c1 : x1 = 1
  · refine v_tableIn 61 dX5_measured_1 1 c1 (by decide) (by decide) (by decide) rfl (by decide) ?_
    have h := h1 c1
    refine v_iconst dX5_measured_61 ?_
    refine v_iconst dX5_measured_62 ?_
    refine v_aload_n 0 dX5_measured_63 rfl (isR_ref _) ?_
    refine m_get (v := vI (F 1)) K dX5_measured_64 fX5_145 rfl ?_
    refine v_imul dX5_measured_67 ?_
    refine v_iadd dX5_measured_68 ?_
    exact m_iret K dX5_measured_69 rfl h
  by_cases c2 : x1 = 2
  · refine v_tableIn 70 dX5_measured_1 2 c2 (by decide) (by decide) (by decide) rfl (by decide) ?_
    have h := h2 c2
    refine v_aload_n 0 dX5_measured_70 rfl (isR_ref _) ?_
    refine v_iconst dX5_measured_71 ?_
    refine m_callI K (As := [vI ((-1))]) dX5_measured_72 LX5_289 rfl rfl (Nat.le_of_ble_eq_true rfl) h (fun r1 F1 A1 h => ?_)
    exact m_iret K dX5_measured_75 rfl h
  by_cases c3 : x1 = 3
  · refine v_tableIn 76 dX5_measured_1 3 c3 (by decide) (by decide) (by decide) rfl (by decide) ?_
    have h := h3 c3
    refine v_aload_n 0 dX5_measured_76 rfl (isR_ref _) ?_
    refine m_callI K (As := []) dX5_measured_77 LX5_292 rfl rfl (Nat.le_of_ble_eq_true rfl) h (fun r1 F1 A1 h => ?_)
    exact m_iret K dX5_measured_80 rfl h
  by_cases c4 : x1 = 4
  · refine v_tableIn 81 dX5_measured_1 4 c4 (by decide) (by decide) (by decide) rfl (by decide) ?_
    have h := h4 c4
    refine v_aload_n 0 dX5_measured_81 rfl (isR_ref _) ?_
    refine v_iconst dX5_measured_82 ?_
    refine m_callI K (As := [vI 3]) dX5_measured_83 LX5_289 rfl rfl (Nat.le_of_ble_eq_true rfl) h (fun r1 F1 A1 h => ?_)
    exact m_iret K dX5_measured_86 rfl h
  by_cases c5 : x1 = 5
  · refine v_tableIn 87 dX5_measured_1 5 c5 (by decide) (by decide) (by decide) rfl (by decide) ?_
    have h := h5 c5
    refine v_aload_n 0 dX5_measured_87 rfl (isR_ref _) ?_
    refine v_aload_n 0 dX5_measured_88 rfl (isR_ref _) ?_
    refine m_callI K (As := []) dX5_measured_89 LX5_187 rfl rfl (Nat.le_of_ble_eq_true rfl) h (fun r1 F1 A1 h => ?_)
    refine v_iconst dX5_measured_92 ?_
    refine m_callI K (As := [vI r1, vI ((-1))]) dX5_measured_93 LX5_184 rfl rfl (Nat.le_of_ble_eq_true rfl) h (fun r2 F2 A2 h => ?_)
    exact m_iret K dX5_measured_96 rfl h
  by_cases c6 : x1 = 6
  · refine v_tableIn 97 dX5_measured_1 6 c6 (by decide) (by decide) (by decide) rfl (by decide) ?_
    have h := h6 c6
    refine v_aload_n 0 dX5_measured_97 rfl (isR_ref _) ?_
    refine m_callI K (As := []) dX5_measured_98 LX5_295 rfl rfl (Nat.le_of_ble_eq_true rfl) h (fun r1 F1 A1 h => ?_)
    exact m_iret K dX5_measured_101 rfl h
  by_cases c7 : x1 = 7
  · refine v_tableIn 102 dX5_measured_1 7 c7 (by decide) (by decide) (by decide) rfl (by decide) ?_
    have h := h7 c7
    refine v_aload_n 0 dX5_measured_102 rfl (isR_ref _) ?_
    refine v_iconst dX5_measured_103 ?_
    refine v_iconst dX5_measured_104 ?_
    refine m_callI K (As := [vI 0, vI 0]) dX5_measured_105 LX5_263 rfl rfl (Nat.le_of_ble_eq_true rfl) h (fun r1 F1 A1 h => ?_)
    refine v_aload_n 0 dX5_measured_108 rfl (isR_ref _) ?_
    refine v_iconst dX5_measured_109 ?_
    refine v_iconst dX5_measured_110 ?_
    refine m_callI K (As := [vI 0, vI ((-1))]) dX5_measured_111 LX5_276 rfl rfl (Nat.le_of_ble_eq_true rfl) h (fun r2 F2 A2 h => ?_)
    refine v_imul dX5_measured_114 ?_
    exact m_iret K dX5_measured_115 rfl h
  by_cases c8 : x1 = 8
  · refine v_tableIn 116 dX5_measured_1 8 c8 (by decide) (by decide) (by decide) rfl (by decide) ?_
    have h := h8 c8
    refine v_aload_n 0 dX5_measured_116 rfl (isR_ref _) ?_
    refine m_callI K (As := []) dX5_measured_117 LX5_298 rfl rfl (Nat.le_of_ble_eq_true rfl) h (fun r1 F1 A1 h => ?_)
    exact m_iret K dX5_measured_120 rfl h
  by_cases c9 : x1 = 9
  · refine v_tableIn 121 dX5_measured_1 9 c9 (by decide) (by decide) (by decide) rfl (by decide) ?_
    have h := h9 c9
    refine v_aload_n 0 dX5_measured_121 rfl (isR_ref _) ?_
    refine m_callI K (As := []) dX5_measured_122 LX5_279 rfl rfl (Nat.le_of_ble_eq_true rfl) h (fun r1 F1 A1 h => ?_)
    exact m_iret K dX5_measured_125 rfl h
  have cd : x1 < 0 ∨ 9 < x1 := by omega
  refine v_tableOut 126 dX5_measured_1 s0 cd (by decide) ?_
  have h := hd cd
  refine v_aload_n 0 dX5_measured_126 rfl (isR_ref _) ?_
  refine m_callI K (As := []) dX5_measured_127 LX5_301 rfl rfl (Nat.le_of_ble_eq_true rfl) h (fun r1 F1 A1 h => ?_)
  exact m_iret K dX5_measured_130 rfl h
/-! farTogether -/
theorem wX5_farTogether_0 (K : KM) (hb : K.G.base ≤ K.m) {x1 : Int} {F : Nat → Int} {A : Nat → Int → Int} (h : VM K mX5_farTogether 4 [(0, .ref K.m), (1, vI x1), (2, vI 0), (3, vI 0)] [] F A) : VM K mX5_farTogether 0 [(0, .ref K.m), (1, vI x1)] [] F A := by
  refine v_iconst dX5_farTogether_0 ?_
  refine v_istore_n dX5_farTogether_1 (by decide) rfl ?_
  refine v_iconst dX5_farTogether_2 ?_
  refine v_istore_n dX5_farTogether_3 (by decide) rfl ?_
  refine V.sub [2, 3, 1, 0] rfl ?_
  exact h
theorem wX5_farTogether_4 (K : KM) (hb : K.G.base ≤ K.m) {x1 x2 x3 : Int} {F : Nat → Int} {A : Nat → Int → Int} (h : (rI x3) ∧ (rI (F 1)) ∧ (((F 1) ≤ x3 → (SI K x2 F A)) ∧ (¬ (F 1) ≤ x3 → (VM K mX5_farTogether 17 [(0, .ref K.m), (1, vI x1), (2, vI x2), (3, vI x3), (4, vI (x3 + 1))] [] F A)))) : VM K mX5_farTogether 4 [(0, .ref K.m), (1, vI x1), (2, vI x2), (3, vI x3)] [] F A := by
  obtain ⟨s0, s1, h⟩ := h
  refine v_iload_n 3 dX5_farTogether_4 rfl ?_
  refine v_aload_n 0 dX5_farTogether_5 rfl (isR_ref _) ?_
  refine m_get (v := vI (F 1)) K dX5_farTogether_6 fX5_145 rfl ?_
  obtain ⟨ht, hf⟩ := h
  refine v_icmp_ge 72 dX5_farTogether_9 (by decide) s0 s1 (fun c => ?_) (fun c => ?_)
  · have h := ht c
    refine v_iload_n 2 dX5_farTogether_72 rfl ?_
    exact m_iret K dX5_farTogether_73 rfl h
  · have h := hf c
    refine v_iload_n 3 dX5_farTogether_12 rfl ?_
    refine v_iconst dX5_farTogether_13 ?_
    refine v_iadd dX5_farTogether_14 ?_
    refine v_istore dX5_farTogether_15 (by decide) rfl ?_
    refine V.sub [1, 2, 3, 4, 0] rfl ?_
    exact h
theorem wX5_farTogether_17 (K : KM) (hb : K.G.base ≤ K.m) {x1 x2 x3 x4 : Int} {F : Nat → Int} {A : Nat → Int → Int} (h : (rI x4) ∧ (rI (F 1)) ∧ (((F 1) ≤ x4 → (VM K mX5_farTogether 4 [(0, .ref K.m), (1, vI x1), (2, vI x2), (3, vI (x3 + 1))] [] F A)) ∧ (¬ (F 1) ≤ x4 → (RI mX5_farOf K [.ref K.m, vI x3, vI x4, vI ((-1))] F A fun r2 F2 A2 => (rI x1) ∧ ((¬ x1 = ((-1)) → ((rI r2) ∧ ((¬ r2 = x1 → (VM K mX5_farTogether 17 [(0, .ref K.m), (1, vI x1), (2, vI (x2 + 0)), (3, vI x3), (4, vI (x4 + 1))] [] F2 A2)) ∧ (r2 = x1 → (VM K mX5_farTogether 17 [(0, .ref K.m), (1, vI x1), (2, vI (x2 + 1)), (3, vI x3), (4, vI (x4 + 1))] [] F2 A2))))) ∧ (x1 = ((-1)) → (VM K mX5_farTogether 17 [(0, .ref K.m), (1, vI x1), (2, vI (x2 + r2)), (3, vI x3), (4, vI (x4 + 1))] [] F2 A2))))))) : VM K mX5_farTogether 17 [(0, .ref K.m), (1, vI x1), (2, vI x2), (3, vI x3), (4, vI x4)] [] F A := by
  obtain ⟨s0, s1, h⟩ := h
  refine v_iload 4 dX5_farTogether_17 rfl ?_
  refine v_aload_n 0 dX5_farTogether_19 rfl (isR_ref _) ?_
  refine m_get (v := vI (F 1)) K dX5_farTogether_20 fX5_145 rfl ?_
  obtain ⟨ht, hf⟩ := h
  refine v_icmp_ge 66 dX5_farTogether_23 (by decide) s0 s1 (fun c => ?_) (fun c => ?_)
  · have h := ht c
    refine v_iinc 3 dX5_farTogether_66 rfl (by decide) rfl ?_
    refine v_goto 4 dX5_farTogether_69 (by decide) ?_
    refine V.sub [1, 2, 3, 0] rfl ?_
    exact h
  · have h := hf c
    refine v_aload_n 0 dX5_farTogether_26 rfl (isR_ref _) ?_
    refine v_iload_n 3 dX5_farTogether_27 rfl ?_
    refine v_iload 4 dX5_farTogether_28 rfl ?_
    refine v_iconst dX5_farTogether_30 ?_
    refine m_callI K (As := [vI x3, vI x4, vI ((-1))]) dX5_farTogether_31 LX5_180 rfl rfl (Nat.le_of_ble_eq_true rfl) h (fun r2 F2 A2 h => ?_)
    obtain ⟨s3, h⟩ := h
    refine v_istore dX5_farTogether_34 (by decide) rfl ?_
    refine v_iload_n 3 dX5_farTogether_36 rfl ?_
    refine v_iload_n 2 dX5_farTogether_37 rfl ?_
    refine v_iconst dX5_farTogether_38 ?_
    obtain ⟨ht, hf⟩ := h
    refine v_icmp_ne 47 dX5_farTogether_39 (by decide) s3 (by decide) (fun c => ?_) (fun c => ?_)
    · have h := ht c
      obtain ⟨s4, h⟩ := h
      refine v_iload 0 dX5_farTogether_47 rfl ?_
      refine v_iload_n 2 dX5_farTogether_49 rfl ?_
      obtain ⟨ht, hf⟩ := h
      refine v_icmp_ne 57 dX5_farTogether_50 (by decide) s4 s3 (fun c => ?_) (fun c => ?_)
      · have h := ht c
        refine v_iconst dX5_farTogether_57 ?_
        refine v_iadd dX5_farTogether_58 ?_
        refine v_istore_n dX5_farTogether_59 (by decide) rfl ?_
        refine v_iinc 5 dX5_farTogether_60 rfl (by decide) rfl ?_
        refine v_goto 17 dX5_farTogether_63 (by decide) ?_
        refine V.sub [3, 4, 1, 5, 0] rfl ?_
        exact h
      · have h := hf c
        refine v_iconst dX5_farTogether_53 ?_
        refine v_goto 58 dX5_farTogether_54 (by decide) ?_
        refine v_iadd dX5_farTogether_58 ?_
        refine v_istore_n dX5_farTogether_59 (by decide) rfl ?_
        refine v_iinc 5 dX5_farTogether_60 rfl (by decide) rfl ?_
        refine v_goto 17 dX5_farTogether_63 (by decide) ?_
        refine V.sub [3, 4, 1, 5, 0] rfl ?_
        exact h
    · have h := hf c
      refine v_iload 0 dX5_farTogether_42 rfl ?_
      refine v_goto 58 dX5_farTogether_44 (by decide) ?_
      refine v_iadd dX5_farTogether_58 ?_
      refine v_istore_n dX5_farTogether_59 (by decide) rfl ?_
      refine v_iinc 5 dX5_farTogether_60 rfl (by decide) rfl ?_
      refine v_goto 17 dX5_farTogether_63 (by decide) ?_
      refine V.sub [3, 4, 1, 5, 0] rfl ?_
      exact h
