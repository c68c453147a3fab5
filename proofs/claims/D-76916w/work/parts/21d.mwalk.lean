set_option maxRecDepth 100000
/-! behind -/
theorem wX5_behind_0 (K : KM) (hb : K.G.base ≤ K.m) {x2 x3 : Int} {q1 : Nat} {F : Nat → Int} {A : Nat → Int → Int} (h : RI mX5_wordAt K [.ref q1, vI x2] F A fun r0 F0 A0 => VM K mX5_behind 10 [(0, .ref K.m), (1, .ref q1), (4, vI x3), (5, vI r0)] [] F0 A0) : VM K mX5_behind 0 [(0, .ref K.m), (1, .ref q1), (2, vI x2), (3, vI x3)] [] F A := by
  refine v_iload_n 3 dX5_behind_0 rfl ?_
  refine v_istore dX5_behind_1 (by decide) rfl ?_
  refine v_aload_n 2 dX5_behind_3 rfl (isR_ref _) ?_
  refine v_iload_n 3 dX5_behind_4 rfl ?_
  refine m_callSI K (As := [.ref q1, vI x2]) dX5_behind_5 LX5_348 rfl rfl (Nat.le_of_ble_eq_true rfl) h (fun r0 F0 A0 h => ?_)
  refine v_istore dX5_behind_8 (by decide) rfl ?_
  refine V.sub [2, 3, 1, 0] rfl ?_
  exact h
theorem wX5_behind_10 (K : KM) (hb : K.G.base ≤ K.m) {x4 x5 : Int} {q1 : Nat} {F : Nat → Int} {A : Nat → Int → Int} (h : RC K.G (K.wd F A) q1 "java/lang/String" ∧ RI mJ2_charAt K [.ref q1, vI x5] F A fun r0 F0 A0 => (rI r0) ∧ ((r0 = 32 → (SI K x4 F0 A0)) ∧ (¬ r0 = 32 → (RI mX5_byteAt K [.ref K.m, vI x4] F0 A0 fun r2 F2 A2 => RC K.G (K.wd F2 A2) q1 "java/lang/String" ∧ RI mJ2_charAt K [.ref q1, vI x5] F2 A2 fun r3 F3 A3 => (rI r2) ∧ (rI r3) ∧ ((r2 = r3 → (VM K mX5_behind 10 [(0, .ref K.m), (1, .ref q1), (4, vI (x4 + 1)), (5, vI (x5 + 1))] [] F3 A3)) ∧ (¬ r2 = r3 → ((rI (F3 35)) ∧ (rI x4) ∧ (1 ≤ K.d) ∧ (SI K ((-1)) (upN F3 35 (max (F3 35) x4)) A3)))))))) : VM K mX5_behind 10 [(0, .ref K.m), (1, .ref q1), (4, vI x4), (5, vI x5)] [] F A := by
  refine v_aload_n 1 dX5_behind_10 rfl (isR_ref _) ?_
  refine v_iload 3 dX5_behind_11 rfl ?_
  refine m_callO K (As := [vI x5]) dX5_behind_13 LX5_342 rfl rfl (Nat.le_of_ble_eq_true rfl) h (fun r0 F0 A0 h => ?_)
  obtain ⟨s1, h⟩ := h
  refine v_bipush dX5_behind_16 rfl ?_
  obtain ⟨ht, hf⟩ := h
  refine v_icmp_eq 60 dX5_behind_18 (by decide) s1 (by decide) (fun c => ?_) (fun c => ?_)
  · have h := ht c
    refine v_iload 2 dX5_behind_60 rfl ?_
    exact m_iret K dX5_behind_62 rfl h
  · have h := hf c
    refine v_aload_n 0 dX5_behind_21 rfl (isR_ref _) ?_
    refine v_iload 2 dX5_behind_22 rfl ?_
    refine m_callI K (As := [vI x4]) dX5_behind_24 LX5_420 rfl rfl (Nat.le_of_ble_eq_true rfl) h (fun r2 F2 A2 h => ?_)
    refine v_aload_n 1 dX5_behind_27 rfl (isR_ref _) ?_
    refine v_iload 3 dX5_behind_28 rfl ?_
    refine m_callO K (As := [vI x5]) dX5_behind_30 LX5_342 rfl rfl (Nat.le_of_ble_eq_true rfl) h (fun r3 F3 A3 h => ?_)
    obtain ⟨s4, s5, h⟩ := h
    obtain ⟨ht, hf⟩ := h
    refine v_icmp_eq 51 dX5_behind_33 (by decide) s4 s5 (fun c => ?_) (fun c => ?_)
    · have h := ht c
      refine v_iinc 2 dX5_behind_51 rfl (by decide) rfl ?_
      refine v_iinc 3 dX5_behind_54 rfl (by decide) rfl ?_
      refine v_goto 10 dX5_behind_57 (by decide) ?_
      refine V.sub [2, 3, 1, 0] rfl ?_
      exact h
    · have h := hf c
      obtain ⟨s6, s7, s8, h⟩ := h
      refine v_aload_n 0 dX5_behind_36 rfl (isR_ref _) ?_
      refine v_aload_n 0 dX5_behind_37 rfl (isR_ref _) ?_
      refine m_get (v := vI (F3 35)) K dX5_behind_38 fX5_423 rfl ?_
      refine v_iload 2 dX5_behind_41 rfl ?_
      refine v_mmax dX5_behind_43 q2021 s6 s7 s8 (Nat.le_of_ble_eq_true rfl) ?_
      refine m_put (F' := upN F3 35 (max (F3 35) x4)) K hb dX5_behind_46 fX5_423 (by decide) (by decide) rfl ?_
      refine v_iconst dX5_behind_49 ?_
      exact m_iret K dX5_behind_50 rfl h
/-! takesBranch -/
theorem wX5_takesBranch_0 (K : KM) (hb : K.G.base ≤ K.m) {x1 x2 x3 : Int} {F : Nat → Int} {A : Nat → Int → Int} (h : VM K mX5_takesBranch 3 [(0, .ref K.m), (1, vI x1), (2, vI x2), (3, vI x3), (4, vI 0)] [] F A) : VM K mX5_takesBranch 0 [(0, .ref K.m), (1, vI x1), (2, vI x2), (3, vI x3)] [] F A := by
  refine v_iconst dX5_takesBranch_0 ?_
  refine v_istore dX5_takesBranch_1 (by decide) rfl ?_
  refine V.sub [1, 2, 3, 4, 0] rfl ?_
  exact h
theorem wX5_takesBranch_3 (K : KM) (hb : K.G.base ≤ K.m) (hX : XS K.G) {x1 x2 x3 x4 : Int} {F : Nat → Int} {A : Nat → Int → Int} (h : (rI x4) ∧ ((12 ≤ x4 → (SI K 0 F A)) ∧ (¬ 12 ≤ x4 → (RI mX5_behind K [.ref K.m, .ref (K.G.ad 22), vI x4, vI x3] F A fun r1 F1 A1 => (rI r1) ∧ ((¬ r1 = ((-1)) → (RI mX5_behind K [.ref K.m, .ref (K.G.ad 24), vI 0, vI r1] F1 A1 fun r3 F3 A3 => (rI r3) ∧ ((r3 = ((-1)) → (VM K mX5_takesBranch 3 [(0, .ref K.m), (1, vI x1), (2, vI x2), (3, vI x3), (4, vI (x4 + 1))] [] F3 A3)) ∧ (¬ r3 = ((-1)) → ((0 ≤ x1 ∧ x1 < 32) ∧ (SI K 1 (upN F3 34 r3) (upA (upA A3 21 x1 x2) 22 x1 x4))))))) ∧ (r1 = ((-1)) → (VM K mX5_takesBranch 3 [(0, .ref K.m), (1, vI x1), (2, vI x2), (3, vI x3), (4, vI (x4 + 1))] [] F1 A1))))))) : VM K mX5_takesBranch 3 [(0, .ref K.m), (1, vI x1), (2, vI x2), (3, vI x3), (4, vI x4)] [] F A := by
  obtain ⟨s0, h⟩ := h
  refine v_iload 4 dX5_takesBranch_3 rfl ?_
  refine v_bipush dX5_takesBranch_5 rfl ?_
  obtain ⟨ht, hf⟩ := h
  refine v_icmp_ge 78 dX5_takesBranch_7 (by decide) s0 (by decide) (fun c => ?_) (fun c => ?_)
  · have h := ht c
    refine v_iconst dX5_takesBranch_78 ?_
    exact m_zret K dX5_takesBranch_79 rfl (by decide) h
  · have h := hf c
    refine v_aload_n 0 dX5_takesBranch_10 rfl (isR_ref _) ?_
    refine v_ldcS 22 hX dX5_takesBranch_11 rfl ?_
    refine v_iload 4 dX5_takesBranch_13 rfl ?_
    refine v_iload_n 3 dX5_takesBranch_15 rfl ?_
    refine m_callI K (As := [.ref (K.G.ad 22), vI x4, vI x3]) dX5_takesBranch_16 LX5_432 rfl rfl (Nat.le_of_ble_eq_true rfl) h (fun r1 F1 A1 h => ?_)
    obtain ⟨s2, h⟩ := h
    refine v_istore dX5_takesBranch_19 (by decide) rfl ?_
    refine v_iload 0 dX5_takesBranch_21 rfl ?_
    refine v_iconst dX5_takesBranch_23 ?_
    obtain ⟨ht, hf⟩ := h
    refine v_icmp_ne 31 dX5_takesBranch_24 (by decide) s2 (by decide) (fun c => ?_) (fun c => ?_)
    · have h := ht c
      refine v_aload_n 1 dX5_takesBranch_31 rfl (isR_ref _) ?_
      refine v_ldcSw 24 hX dX5_takesBranch_32 rfl ?_
      refine v_iconst dX5_takesBranch_35 ?_
      refine v_iload 0 dX5_takesBranch_36 rfl ?_
      refine m_callI K (As := [.ref (K.G.ad 24), vI 0, vI r1]) dX5_takesBranch_38 LX5_432 rfl rfl (Nat.le_of_ble_eq_true rfl) h (fun r3 F3 A3 h => ?_)
      obtain ⟨s4, h⟩ := h
      refine v_istore dX5_takesBranch_41 (by decide) rfl ?_
      refine v_iload 0 dX5_takesBranch_43 rfl ?_
      refine v_iconst dX5_takesBranch_45 ?_
      obtain ⟨ht, hf⟩ := h
      refine v_icmp_eq 72 dX5_takesBranch_46 (by decide) s4 (by decide) (fun c => ?_) (fun c => ?_)
      · have h := ht c
        refine v_iinc 6 dX5_takesBranch_72 rfl (by decide) rfl ?_
        refine v_goto 3 dX5_takesBranch_75 (by decide) ?_
        refine V.sub [3, 4, 5, 6, 0] rfl ?_
        exact h
      · have h := hf c
        obtain ⟨s5, h⟩ := h
        refine v_aload_n 2 dX5_takesBranch_49 rfl (isR_ref _) ?_
        refine v_iload 0 dX5_takesBranch_50 rfl ?_
        refine m_put (F' := upN F3 34 r3) K hb dX5_takesBranch_52 fX5_426 (by decide) (by decide) rfl ?_
        refine v_aload_n 2 dX5_takesBranch_55 rfl (isR_ref _) ?_
        refine m_get K dX5_takesBranch_56 fX5_91 rfl ?_
        refine v_iload_n 3 dX5_takesBranch_59 rfl ?_
        refine v_iload_n 4 dX5_takesBranch_60 rfl ?_
        refine m_iast K 21 hb dX5_takesBranch_61 rfl s5 (by decide) ?_
        refine v_aload_n 2 dX5_takesBranch_62 rfl (isR_ref _) ?_
        refine m_get K dX5_takesBranch_63 fX5_94 rfl ?_
        refine v_iload_n 3 dX5_takesBranch_66 rfl ?_
        refine v_iload 6 dX5_takesBranch_67 rfl ?_
        refine m_iast K 22 hb dX5_takesBranch_69 rfl s5 (by decide) ?_
        refine v_iconst dX5_takesBranch_70 ?_
        exact m_zret K dX5_takesBranch_71 rfl (by decide) h
    · have h := hf c
      refine v_iconst dX5_takesBranch_27 ?_
      refine v_goto 41 dX5_takesBranch_28 (by decide) ?_
      refine v_istore dX5_takesBranch_41 (by decide) rfl ?_
      refine v_iload 0 dX5_takesBranch_43 rfl ?_
      refine v_iconst dX5_takesBranch_45 ?_
      refine v_icmp_eq 72 dX5_takesBranch_46 (by decide) (by decide) (by decide) (fun _ => ?_) (fun c => absurd (by decide) c)
      refine v_iinc 6 dX5_takesBranch_72 rfl (by decide) rfl ?_
      refine v_goto 3 dX5_takesBranch_75 (by decide) ?_
      refine V.sub [3, 4, 5, 6, 0] rfl ?_
      exact h
/-! takesStem -/
theorem wX5_takesStem_0 (K : KM) (hb : K.G.base ≤ K.m) {x1 : Int} {q2 : Nat} {F : Nat → Int} {A : Nat → Int → Int} (h : VM K mX5_takesStem 10 [(0, .ref K.m), (1, vI x1), (2, .ref q2), (3, vI 0)] [] (upN F 35 (F 34)) A) : VM K mX5_takesStem 0 [(0, .ref K.m), (1, vI x1), (2, .ref q2)] [] F A := by
  refine v_aload_n 0 dX5_takesStem_0 rfl (isR_ref _) ?_
  refine v_aload_n 0 dX5_takesStem_1 rfl (isR_ref _) ?_
  refine m_get (v := vI (F 34)) K dX5_takesStem_2 fX5_426 rfl ?_
  refine m_put (F' := upN F 35 (F 34)) K hb dX5_takesStem_5 fX5_423 (by decide) (by decide) rfl ?_
  refine v_iconst dX5_takesStem_8 ?_
  refine v_istore_n dX5_takesStem_9 (by decide) rfl ?_
  refine V.sub [1, 2, 3, 0] rfl ?_
  exact h
theorem wX5_takesStem_10 (K : KM) (hb : K.G.base ≤ K.m) (hX : XS K.G) {x1 x3 : Int} {q2 : Nat} {F : Nat → Int} {A : Nat → Int → Int} (h : (rI x3) ∧ ((12 ≤ x3 → (RI mX5_fails K [.ref K.m] F A fun r1 F1 A1 => (r1 = 0 ∨ r1 = 1) ∧ (SI K r1 F1 A1))) ∧ (¬ 12 ≤ x3 → (RI mX5_behind K [.ref K.m, .ref (K.G.ad 22), vI x3, vI (F 34)] F A fun r1 F1 A1 => (rI r1) ∧ ((¬ r1 = ((-1)) → (RI mX5_behind K [.ref K.m, .ref q2, vI 0, vI r1] F1 A1 fun r3 F3 A3 => (rI r3) ∧ ((r3 = ((-1)) → (VM K mX5_takesStem 10 [(0, .ref K.m), (1, vI x1), (2, .ref q2), (3, vI (x3 + 1))] [] F3 A3)) ∧ (¬ r3 = ((-1)) → ((0 ≤ x1 ∧ x1 < 32) ∧ (SI K 1 (upN F3 34 r3) (upA A3 27 x1 x3))))))) ∧ (r1 = ((-1)) → (VM K mX5_takesStem 10 [(0, .ref K.m), (1, vI x1), (2, .ref q2), (3, vI (x3 + 1))] [] F1 A1))))))) : VM K mX5_takesStem 10 [(0, .ref K.m), (1, vI x1), (2, .ref q2), (3, vI x3)] [] F A := by
  obtain ⟨s0, h⟩ := h
  refine v_iload_n 3 dX5_takesStem_10 rfl ?_
  refine v_bipush dX5_takesStem_11 rfl ?_
  obtain ⟨ht, hf⟩ := h
  refine v_icmp_ge 76 dX5_takesStem_13 (by decide) s0 (by decide) (fun c => ?_) (fun c => ?_)
  · have h := ht c
    refine v_aload_n 0 dX5_takesStem_76 rfl (isR_ref _) ?_
    refine m_callI K (As := []) dX5_takesStem_77 LX5_436 rfl rfl (Nat.le_of_ble_eq_true rfl) h (fun r1 F1 A1 h => ?_)
    obtain ⟨s2, h⟩ := h
    exact m_zret K dX5_takesStem_80 rfl s2 h
  · have h := hf c
    refine v_aload_n 0 dX5_takesStem_16 rfl (isR_ref _) ?_
    refine v_ldcS 22 hX dX5_takesStem_17 rfl ?_
    refine v_iload_n 3 dX5_takesStem_19 rfl ?_
    refine v_aload_n 0 dX5_takesStem_20 rfl (isR_ref _) ?_
    refine m_get (v := vI (F 34)) K dX5_takesStem_21 fX5_426 rfl ?_
    refine m_callI K (As := [.ref (K.G.ad 22), vI x3, vI (F 34)]) dX5_takesStem_24 LX5_432 rfl rfl (Nat.le_of_ble_eq_true rfl) h (fun r1 F1 A1 h => ?_)
    obtain ⟨s2, h⟩ := h
    refine v_istore dX5_takesStem_27 (by decide) rfl ?_
    refine v_iload 0 dX5_takesStem_29 rfl ?_
    refine v_iconst dX5_takesStem_31 ?_
    obtain ⟨ht, hf⟩ := h
    refine v_icmp_ne 39 dX5_takesStem_32 (by decide) s2 (by decide) (fun c => ?_) (fun c => ?_)
    · have h := ht c
      refine v_aload_n 1 dX5_takesStem_39 rfl (isR_ref _) ?_
      refine v_aload_n 3 dX5_takesStem_40 rfl (isR_ref _) ?_
      refine v_iconst dX5_takesStem_41 ?_
      refine v_iload 0 dX5_takesStem_42 rfl ?_
      refine m_callI K (As := [.ref q2, vI 0, vI r1]) dX5_takesStem_44 LX5_432 rfl rfl (Nat.le_of_ble_eq_true rfl) h (fun r3 F3 A3 h => ?_)
      obtain ⟨s4, h⟩ := h
      refine v_istore dX5_takesStem_47 (by decide) rfl ?_
      refine v_iload 0 dX5_takesStem_49 rfl ?_
      refine v_iconst dX5_takesStem_51 ?_
      obtain ⟨ht, hf⟩ := h
      refine v_icmp_eq 70 dX5_takesStem_52 (by decide) s4 (by decide) (fun c => ?_) (fun c => ?_)
      · have h := ht c
        refine v_iinc 5 dX5_takesStem_70 rfl (by decide) rfl ?_
        refine v_goto 10 dX5_takesStem_73 (by decide) ?_
        refine V.sub [3, 4, 5, 0] rfl ?_
        exact h
      · have h := hf c
        obtain ⟨s5, h⟩ := h
        refine v_aload_n 2 dX5_takesStem_55 rfl (isR_ref _) ?_
        refine v_iload 0 dX5_takesStem_56 rfl ?_
        refine m_put (F' := upN F3 34 r3) K hb dX5_takesStem_58 fX5_426 (by decide) (by decide) rfl ?_
        refine v_aload_n 2 dX5_takesStem_61 rfl (isR_ref _) ?_
        refine m_get K dX5_takesStem_62 fX5_109 rfl ?_
        refine v_iload_n 3 dX5_takesStem_65 rfl ?_
        refine v_iload_n 5 dX5_takesStem_66 rfl ?_
        refine m_iast K 27 hb dX5_takesStem_67 rfl s5 (by decide) ?_
        refine v_iconst dX5_takesStem_68 ?_
        exact m_zret K dX5_takesStem_69 rfl (by decide) h
    · have h := hf c
      refine v_iconst dX5_takesStem_35 ?_
      refine v_goto 47 dX5_takesStem_36 (by decide) ?_
      refine v_istore dX5_takesStem_47 (by decide) rfl ?_
      refine v_iload 0 dX5_takesStem_49 rfl ?_
      refine v_iconst dX5_takesStem_51 ?_
      refine v_icmp_eq 70 dX5_takesStem_52 (by decide) (by decide) (by decide) (fun _ => ?_) (fun c => absurd (by decide) c)
      refine v_iinc 5 dX5_takesStem_70 rfl (by decide) rfl ?_
      refine v_goto 10 dX5_takesStem_73 (by decide) ?_
      refine V.sub [3, 4, 5, 0] rfl ?_
      exact h
/-! fails -/
theorem wX5_fails_0 (K : KM) (hb : K.G.base ≤ K.m) {F : Nat → Int} {A : Nat → Int → Int} (h : SI K 0 (upN F 34 (F 35)) A) : VM K mX5_fails 0 [(0, .ref K.m)] [] F A := by
  refine v_aload_n 0 dX5_fails_0 rfl (isR_ref _) ?_
  refine v_aload_n 0 dX5_fails_1 rfl (isR_ref _) ?_
  refine m_get (v := vI (F 35)) K dX5_fails_2 fX5_423 rfl ?_
  refine m_put (F' := upN F 34 (F 35)) K hb dX5_fails_5 fX5_426 (by decide) (by decide) rfl ?_
  refine v_iconst dX5_fails_8 ?_
  exact m_zret K dX5_fails_9 rfl (by decide) h
/-! makes -/
theorem wX5_makes_0 (K : KM) (hb : K.G.base ≤ K.m) {x1 x2 : Int} {F : Nat → Int} {A : Nat → Int → Int} (h : (0 ≤ x1 ∧ x1 < 32) ∧ (0 ≤ x2 ∧ x2 < 33) ∧ (RV mX5_hangsChain K [.ref K.m, vI x2, vI ((-1)), vI ((A 27 x1) + 1)] F (upA A 28 x2 0) fun F2 A2 => (0 ≤ (12 * x2) ∧ (12 * x2) < 396) ∧ (rI x2) ∧ ((x2 ≤ 0 → (VM K mX5_makes 47 [(0, .ref K.m), (1, vI x1), (2, vI x2), (3, vI ((A 27 x1) + 1)), (4, vI 0)] [] F2 (upA A2 30 (12 * x2) ((A2 30 (12 * x2)) + 0)))) ∧ (¬ x2 ≤ 0 → (VM K mX5_makes 47 [(0, .ref K.m), (1, vI x1), (2, vI x2), (3, vI ((A 27 x1) + 1)), (4, vI 0)] [] F2 (upA A2 30 (12 * x2) ((A2 30 (12 * x2)) + 1))))))) : VM K mX5_makes 0 [(0, .ref K.m), (1, vI x1), (2, vI x2)] [] F A := by
  obtain ⟨s0, s1, h⟩ := h
  refine v_aload_n 0 dX5_makes_0 rfl (isR_ref _) ?_
  refine m_get K dX5_makes_1 fX5_109 rfl ?_
  refine v_iload_n 1 dX5_makes_4 rfl ?_
  refine m_iald K 27 dX5_makes_5 rfl s0 (by decide) ?_
  refine v_iconst dX5_makes_6 ?_
  refine v_iadd dX5_makes_7 ?_
  refine v_istore_n dX5_makes_8 (by decide) rfl ?_
  refine v_aload_n 1 dX5_makes_9 rfl (isR_ref _) ?_
  refine m_get K dX5_makes_10 fX5_112 rfl ?_
  refine v_iload_n 3 dX5_makes_13 rfl ?_
  refine v_iconst dX5_makes_14 ?_
  refine m_iast K 28 hb dX5_makes_15 rfl s1 (by decide) ?_
  refine v_aload_n 1 dX5_makes_16 rfl (isR_ref _) ?_
  refine v_iload_n 3 dX5_makes_17 rfl ?_
  refine v_iconst dX5_makes_18 ?_
  refine v_iload_n 0 dX5_makes_19 rfl ?_
  refine m_callV K (As := [vI x2, vI ((-1)), vI ((A 27 x1) + 1)]) dX5_makes_20 LX5_493 rfl rfl (Nat.le_of_ble_eq_true rfl) h (fun F2 A2 h => ?_)
  obtain ⟨s3, s4, h⟩ := h
  refine v_aload_n 1 dX5_makes_23 rfl (isR_ref _) ?_
  refine m_get K dX5_makes_24 fX5_118 rfl ?_
  refine v_bipush dX5_makes_27 rfl ?_
  refine v_iload_n 3 dX5_makes_29 rfl ?_
  refine v_imul dX5_makes_30 ?_
  refine v_dup2 dX5_makes_31 rfl rfl ?_
  refine m_iald K 30 dX5_makes_32 rfl s3 (by decide) ?_
  refine v_iload_n 3 dX5_makes_33 rfl ?_
  obtain ⟨ht, hf⟩ := h
  refine v_if_le 41 dX5_makes_34 (by decide) s4 (fun c => ?_) (fun c => ?_)
  · have h := ht c
    refine v_iconst dX5_makes_41 ?_
    refine v_iadd dX5_makes_42 ?_
    refine m_iast K 30 hb dX5_makes_43 rfl s3 (by decide) ?_
    refine v_iconst dX5_makes_44 ?_
    refine v_istore dX5_makes_45 (by decide) rfl ?_
    refine V.sub [2, 3, 4, 1, 0] rfl ?_
    exact h
  · have h := hf c
    refine v_iconst dX5_makes_37 ?_
    refine v_goto 42 dX5_makes_38 (by decide) ?_
    refine v_iadd dX5_makes_42 ?_
    refine m_iast K 30 hb dX5_makes_43 rfl s3 (by decide) ?_
    refine v_iconst dX5_makes_44 ?_
    refine v_istore dX5_makes_45 (by decide) rfl ?_
    refine V.sub [2, 3, 4, 1, 0] rfl ?_
    exact h
theorem wX5_makes_47 (K : KM) (hb : K.G.base ≤ K.m) {x1 x2 x3 x4 : Int} {F : Nat → Int} {A : Nat → Int → Int} (h : (rI x4) ∧ (rI (F 36)) ∧ (((F 36) ≤ x4 → (SI K 1 F A)) ∧ (¬ (F 36) ≤ x4 → ((0 ≤ x4 ∧ x4 < 32) ∧ (rI (A 19 x4)) ∧ (rI x1) ∧ ((¬ (A 19 x4) = x1 → (VM K mX5_makes 47 [(0, .ref K.m), (1, vI x1), (2, vI x2), (3, vI x3), (4, vI (x4 + 1))] [] F A)) ∧ ((A 19 x4) = x1 → (RI mX5_makesPart K [.ref K.m, vI x4, vI x2, vI x3] F A fun r5 F5 A5 => (rI r5) ∧ ((¬ r5 = 0 → (VM K mX5_makes 47 [(0, .ref K.m), (1, vI x1), (2, vI x2), (3, vI x3), (4, vI (x4 + 1))] [] F5 A5)) ∧ (r5 = 0 → (SI K 0 F5 A5)))))))))) : VM K mX5_makes 47 [(0, .ref K.m), (1, vI x1), (2, vI x2), (3, vI x3), (4, vI x4)] [] F A := by
  obtain ⟨s0, s1, h⟩ := h
  refine v_iload 4 dX5_makes_47 rfl ?_
  refine v_aload_n 0 dX5_makes_49 rfl (isR_ref _) ?_
  refine m_get (v := vI (F 36)) K dX5_makes_50 fX5_457 rfl ?_
  obtain ⟨ht, hf⟩ := h
  refine v_icmp_ge 86 dX5_makes_53 (by decide) s0 s1 (fun c => ?_) (fun c => ?_)
  · have h := ht c
    refine v_iconst dX5_makes_86 ?_
    exact m_zret K dX5_makes_87 rfl (by decide) h
  · have h := hf c
    obtain ⟨s2, s3, s4, h⟩ := h
    refine v_aload_n 0 dX5_makes_56 rfl (isR_ref _) ?_
    refine m_get K dX5_makes_57 fX5_85 rfl ?_
    refine v_iload 4 dX5_makes_60 rfl ?_
    refine m_iald K 19 dX5_makes_62 rfl s2 (by decide) ?_
    refine v_iload_n 1 dX5_makes_63 rfl ?_
    obtain ⟨ht, hf⟩ := h
    refine v_icmp_ne 80 dX5_makes_64 (by decide) s3 s4 (fun c => ?_) (fun c => ?_)
    · have h := ht c
      refine v_iinc 4 dX5_makes_80 rfl (by decide) rfl ?_
      refine v_goto 47 dX5_makes_83 (by decide) ?_
      refine V.sub [1, 2, 3, 4, 0] rfl ?_
      exact h
    · have h := hf c
      refine v_aload_n 0 dX5_makes_67 rfl (isR_ref _) ?_
      refine v_iload 4 dX5_makes_68 rfl ?_
      refine v_iload_n 2 dX5_makes_70 rfl ?_
      refine v_iload_n 3 dX5_makes_71 rfl ?_
      refine m_callI K (As := [vI x4, vI x2, vI x3]) dX5_makes_72 LX5_496 rfl rfl (Nat.le_of_ble_eq_true rfl) h (fun r5 F5 A5 h => ?_)
      obtain ⟨s6, h⟩ := h
      obtain ⟨ht, hf⟩ := h
      refine v_if_ne 80 dX5_makes_75 (by decide) s6 (fun c => ?_) (fun c => ?_)
      · have h := ht c
        refine v_iinc 4 dX5_makes_80 rfl (by decide) rfl ?_
        refine v_goto 47 dX5_makes_83 (by decide) ?_
        refine V.sub [1, 2, 3, 4, 0] rfl ?_
        exact h
      · have h := hf c
        refine v_iconst dX5_makes_78 ?_
        exact m_zret K dX5_makes_79 rfl (by decide) h
/-! hangsChain -/
theorem wX5_hangsChain_0 (K : KM) (hb : K.G.base ≤ K.m) {x1 x2 x3 : Int} {F : Nat → Int} {A : Nat → Int → Int} (h : VM K mX5_hangsChain 3 [(0, .ref K.m), (1, vI x1), (2, vI x2), (3, vI x3), (4, vI 0)] [] F A) : VM K mX5_hangsChain 0 [(0, .ref K.m), (1, vI x1), (2, vI x2), (3, vI x3)] [] F A := by
  refine v_iconst dX5_hangsChain_0 ?_
  refine v_istore dX5_hangsChain_1 (by decide) rfl ?_
  refine V.sub [1, 2, 3, 4, 0] rfl ?_
  exact h
theorem wX5_hangsChain_3 (K : KM) (hb : K.G.base ≤ K.m) {x1 x2 x3 x4 : Int} {F : Nat → Int} {A : Nat → Int → Int} (h : (rI x4) ∧ (rI x3) ∧ ((x3 ≤ x4 → (SV K F A)) ∧ (¬ x3 ≤ x4 → ((¬ x4 = 0 → ((0 ≤ x1 ∧ x1 < 33) ∧ (RV mX5_hangs K [.ref K.m, vI x1, vI ((A 28 x1) - 1)] F A fun F3 A3 => VM K mX5_hangsChain 3 [(0, .ref K.m), (1, vI x1), (2, vI x2), (3, vI x3), (4, vI (x4 + 1))] [] F3 A3))) ∧ (x4 = 0 → (RV mX5_hangs K [.ref K.m, vI x1, vI x2] F A fun F2 A2 => VM K mX5_hangsChain 3 [(0, .ref K.m), (1, vI x1), (2, vI x2), (3, vI x3), (4, vI (x4 + 1))] [] F2 A2)))))) : VM K mX5_hangsChain 3 [(0, .ref K.m), (1, vI x1), (2, vI x2), (3, vI x3), (4, vI x4)] [] F A := by
  obtain ⟨s0, s1, h⟩ := h
  refine v_iload 4 dX5_hangsChain_3 rfl ?_
  refine v_iload_n 3 dX5_hangsChain_5 rfl ?_
  obtain ⟨ht, hf⟩ := h
  refine v_icmp_ge 37 dX5_hangsChain_6 (by decide) s0 s1 (fun c => ?_) (fun c => ?_)
  · have h := ht c
    exact m_vret K dX5_hangsChain_37 rfl h
  · have h := hf c
    refine v_aload_n 0 dX5_hangsChain_9 rfl (isR_ref _) ?_
    refine v_iload_n 1 dX5_hangsChain_10 rfl ?_
    refine v_iload 4 dX5_hangsChain_11 rfl ?_
    obtain ⟨ht, hf⟩ := h
    refine v_if_ne 20 dX5_hangsChain_13 (by decide) s0 (fun c => ?_) (fun c => ?_)
    · have h := ht c
      obtain ⟨s2, h⟩ := h
      refine v_aload_n 0 dX5_hangsChain_20 rfl (isR_ref _) ?_
      refine m_get K dX5_hangsChain_21 fX5_112 rfl ?_
      refine v_iload_n 1 dX5_hangsChain_24 rfl ?_
      refine m_iald K 28 dX5_hangsChain_25 rfl s2 (by decide) ?_
      refine v_iconst dX5_hangsChain_26 ?_
      refine v_isub dX5_hangsChain_27 ?_
      refine m_callV K (As := [vI x1, vI ((A 28 x1) - 1)]) dX5_hangsChain_28 LX5_481 rfl rfl (Nat.le_of_ble_eq_true rfl) h (fun F3 A3 h => ?_)
      refine v_iinc 4 dX5_hangsChain_31 rfl (by decide) rfl ?_
      refine v_goto 3 dX5_hangsChain_34 (by decide) ?_
      refine V.sub [1, 2, 3, 4, 0] rfl ?_
      exact h
    · have h := hf c
      refine v_iload_n 2 dX5_hangsChain_16 rfl ?_
      refine v_goto 28 dX5_hangsChain_17 (by decide) ?_
      refine m_callV K (As := [vI x1, vI x2]) dX5_hangsChain_28 LX5_481 rfl rfl (Nat.le_of_ble_eq_true rfl) h (fun F2 A2 h => ?_)
      refine v_iinc 4 dX5_hangsChain_31 rfl (by decide) rfl ?_
      refine v_goto 3 dX5_hangsChain_34 (by decide) ?_
      refine V.sub [1, 2, 3, 4, 0] rfl ?_
      exact h
/-! hangs -/
theorem wX5_hangs_0 (K : KM) (hb : K.G.base ≤ K.m) {x1 x2 : Int} {F : Nat → Int} {A : Nat → Int → Int} (h : (0 ≤ x1 ∧ x1 < 33) ∧ (0 ≤ ((12 * x1) + (A 28 x1)) ∧ ((12 * x1) + (A 28 x1)) < 396) ∧ (rI x2) ∧ ((¬ x2 = ((-1)) → ((x2 = ((-1)) → (SV K F (upA (upA (upA A 29 ((12 * x1) + (A 28 x1)) x2) 30 ((12 * x1) + (A 28 x1)) 1) 28 x1 (((upA (upA A 29 ((12 * x1) + (A 28 x1)) x2) 30 ((12 * x1) + (A 28 x1)) 1) 28 x1) + 1)))) ∧ (¬ x2 = ((-1)) → ((0 ≤ ((12 * x1) + x2) ∧ ((12 * x1) + x2) < 396) ∧ (SV K F (upA (upA (upA (upA A 29 ((12 * x1) + (A 28 x1)) x2) 30 ((12 * x1) + (A 28 x1)) 1) 30 ((12 * x1) + x2) (((upA (upA A 29 ((12 * x1) + (A 28 x1)) x2) 30 ((12 * x1) + (A 28 x1)) 1) 30 ((12 * x1) + x2)) + 1)) 28 x1 (((upA (upA (upA A 29 ((12 * x1) + (A 28 x1)) x2) 30 ((12 * x1) + (A 28 x1)) 1) 30 ((12 * x1) + x2) (((upA (upA A 29 ((12 * x1) + (A 28 x1)) x2) 30 ((12 * x1) + (A 28 x1)) 1) 30 ((12 * x1) + x2)) + 1)) 28 x1) + 1))))))) ∧ (x2 = ((-1)) → ((x2 = ((-1)) → (SV K F (upA (upA (upA A 29 ((12 * x1) + (A 28 x1)) x2) 30 ((12 * x1) + (A 28 x1)) 0) 28 x1 (((upA (upA A 29 ((12 * x1) + (A 28 x1)) x2) 30 ((12 * x1) + (A 28 x1)) 0) 28 x1) + 1)))) ∧ (¬ x2 = ((-1)) → ((0 ≤ ((12 * x1) + x2) ∧ ((12 * x1) + x2) < 396) ∧ (SV K F (upA (upA (upA (upA A 29 ((12 * x1) + (A 28 x1)) x2) 30 ((12 * x1) + (A 28 x1)) 0) 30 ((12 * x1) + x2) (((upA (upA A 29 ((12 * x1) + (A 28 x1)) x2) 30 ((12 * x1) + (A 28 x1)) 0) 30 ((12 * x1) + x2)) + 1)) 28 x1 (((upA (upA (upA A 29 ((12 * x1) + (A 28 x1)) x2) 30 ((12 * x1) + (A 28 x1)) 0) 30 ((12 * x1) + x2) (((upA (upA A 29 ((12 * x1) + (A 28 x1)) x2) 30 ((12 * x1) + (A 28 x1)) 0) 30 ((12 * x1) + x2)) + 1)) 28 x1) + 1))))))))) : VM K mX5_hangs 0 [(0, .ref K.m), (1, vI x1), (2, vI x2)] [] F A := by
  obtain ⟨s0, s1, s2, h⟩ := h
  refine v_bipush dX5_hangs_0 rfl ?_
  refine v_iload_n 1 dX5_hangs_2 rfl ?_
  refine v_imul dX5_hangs_3 ?_
  refine v_aload_n 0 dX5_hangs_4 rfl (isR_ref _) ?_
  refine m_get K dX5_hangs_5 fX5_112 rfl ?_
  refine v_iload_n 1 dX5_hangs_8 rfl ?_
  refine m_iald K 28 dX5_hangs_9 rfl s0 (by decide) ?_
  refine v_iadd dX5_hangs_10 ?_
  refine v_istore_n dX5_hangs_11 (by decide) rfl ?_
  refine v_aload_n 1 dX5_hangs_12 rfl (isR_ref _) ?_
  refine m_get K dX5_hangs_13 fX5_115 rfl ?_
  refine v_iload_n 0 dX5_hangs_16 rfl ?_
  refine v_iload_n 3 dX5_hangs_17 rfl ?_
  refine m_iast K 29 hb dX5_hangs_18 rfl s1 (by decide) ?_
  refine v_aload_n 1 dX5_hangs_19 rfl (isR_ref _) ?_
  refine m_get K dX5_hangs_20 fX5_118 rfl ?_
  refine v_iload_n 0 dX5_hangs_23 rfl ?_
  refine v_iload_n 3 dX5_hangs_24 rfl ?_
  refine v_iconst dX5_hangs_25 ?_
  obtain ⟨ht, hf⟩ := h
  refine v_icmp_ne 33 dX5_hangs_26 (by decide) s2 (by decide) (fun c => ?_) (fun c => ?_)
  · have h := ht c
    refine v_iconst dX5_hangs_33 ?_
    refine m_iast K 30 hb dX5_hangs_34 rfl s1 (by decide) ?_
    refine v_iload_n 3 dX5_hangs_35 rfl ?_
    refine v_iconst dX5_hangs_36 ?_
    obtain ⟨ht, hf⟩ := h
    refine v_icmp_eq 55 dX5_hangs_37 (by decide) s2 (by decide) (fun c => ?_) (fun c => ?_)
    · have h := ht c
      refine v_aload_n 1 dX5_hangs_55 rfl (isR_ref _) ?_
      refine m_get K dX5_hangs_56 fX5_112 rfl ?_
      refine v_iload_n 2 dX5_hangs_59 rfl ?_
      refine v_dup2 dX5_hangs_60 rfl rfl ?_
      refine m_iald K 28 dX5_hangs_61 rfl s0 (by decide) ?_
      refine v_iconst dX5_hangs_62 ?_
      refine v_iadd dX5_hangs_63 ?_
      refine m_iast K 28 hb dX5_hangs_64 rfl s0 (by decide) ?_
      exact m_vret K dX5_hangs_65 rfl h
    · have h := hf c
      obtain ⟨s3, h⟩ := h
      refine v_aload_n 1 dX5_hangs_40 rfl (isR_ref _) ?_
      refine m_get K dX5_hangs_41 fX5_118 rfl ?_
      refine v_bipush dX5_hangs_44 rfl ?_
      refine v_iload_n 2 dX5_hangs_46 rfl ?_
      refine v_imul dX5_hangs_47 ?_
      refine v_iload_n 3 dX5_hangs_48 rfl ?_
      refine v_iadd dX5_hangs_49 ?_
      refine v_dup2 dX5_hangs_50 rfl rfl ?_
      refine m_iald K 30 dX5_hangs_51 rfl s3 (by decide) ?_
      refine v_iconst dX5_hangs_52 ?_
      refine v_iadd dX5_hangs_53 ?_
      refine m_iast K 30 hb dX5_hangs_54 rfl s3 (by decide) ?_
      refine v_aload_n 1 dX5_hangs_55 rfl (isR_ref _) ?_
      refine m_get K dX5_hangs_56 fX5_112 rfl ?_
      refine v_iload_n 2 dX5_hangs_59 rfl ?_
      refine v_dup2 dX5_hangs_60 rfl rfl ?_
      refine m_iald K 28 dX5_hangs_61 rfl s0 (by decide) ?_
      refine v_iconst dX5_hangs_62 ?_
      refine v_iadd dX5_hangs_63 ?_
      refine m_iast K 28 hb dX5_hangs_64 rfl s0 (by decide) ?_
      exact m_vret K dX5_hangs_65 rfl h
  · have h := hf c
    refine v_iconst dX5_hangs_29 ?_
    refine v_goto 34 dX5_hangs_30 (by decide) ?_
    refine m_iast K 30 hb dX5_hangs_34 rfl s1 (by decide) ?_
    refine v_iload_n 3 dX5_hangs_35 rfl ?_
    refine v_iconst dX5_hangs_36 ?_
    obtain ⟨ht, hf⟩ := h
    refine v_icmp_eq 55 dX5_hangs_37 (by decide) s2 (by decide) (fun c => ?_) (fun c => ?_)
    · have h := ht c
      refine v_aload_n 1 dX5_hangs_55 rfl (isR_ref _) ?_
      refine m_get K dX5_hangs_56 fX5_112 rfl ?_
      refine v_iload_n 2 dX5_hangs_59 rfl ?_
      refine v_dup2 dX5_hangs_60 rfl rfl ?_
      refine m_iald K 28 dX5_hangs_61 rfl s0 (by decide) ?_
      refine v_iconst dX5_hangs_62 ?_
      refine v_iadd dX5_hangs_63 ?_
      refine m_iast K 28 hb dX5_hangs_64 rfl s0 (by decide) ?_
      exact m_vret K dX5_hangs_65 rfl h
    · have h := hf c
      obtain ⟨s3, h⟩ := h
      refine v_aload_n 1 dX5_hangs_40 rfl (isR_ref _) ?_
      refine m_get K dX5_hangs_41 fX5_118 rfl ?_
      refine v_bipush dX5_hangs_44 rfl ?_
      refine v_iload_n 2 dX5_hangs_46 rfl ?_
      refine v_imul dX5_hangs_47 ?_
      refine v_iload_n 3 dX5_hangs_48 rfl ?_
      refine v_iadd dX5_hangs_49 ?_
      refine v_dup2 dX5_hangs_50 rfl rfl ?_
      refine m_iald K 30 dX5_hangs_51 rfl s3 (by decide) ?_
      refine v_iconst dX5_hangs_52 ?_
      refine v_iadd dX5_hangs_53 ?_
      refine m_iast K 30 hb dX5_hangs_54 rfl s3 (by decide) ?_
      refine v_aload_n 1 dX5_hangs_55 rfl (isR_ref _) ?_
      refine m_get K dX5_hangs_56 fX5_112 rfl ?_
      refine v_iload_n 2 dX5_hangs_59 rfl ?_
      refine v_dup2 dX5_hangs_60 rfl rfl ?_
      refine m_iald K 28 dX5_hangs_61 rfl s0 (by decide) ?_
      refine v_iconst dX5_hangs_62 ?_
      refine v_iadd dX5_hangs_63 ?_
      refine m_iast K 28 hb dX5_hangs_64 rfl s0 (by decide) ?_
      exact m_vret K dX5_hangs_65 rfl h
/-! makesPart -/
theorem wX5_makesPart_0 (K : KM) (hb : K.G.base ≤ K.m) {x1 x2 x3 : Int} {F : Nat → Int} {A : Nat → Int → Int} (h : (0 ≤ x1 ∧ x1 < 32) ∧ (rI (A 21 x1)) ∧ (rI (A 25 x1)) ∧ (((A 21 x1) = (A 25 x1) → ((rI (A 22 x1)) ∧ ((¬ (A 22 x1) = ((-1)) → (VM K mX5_makesPart 96 [(0, .ref K.m), (1, vI x1), (2, vI x2), (3, vI x3), (4, vI 0), (5, vI ((A 22 x1) + 1)), (6, vI 0)] [] F A)) ∧ ((A 22 x1) = ((-1)) → (RI mX5_makes K [.ref K.m, vI (A 23 x1), vI (x2 + 1)] F A fun r4 F4 A4 => (rI r4) ∧ ((¬ r4 = 0 → ((0 ≤ (x2 + 1) ∧ (x2 + 1) < 33) ∧ (VM K mX5_makesPart 96 [(0, .ref K.m), (1, vI x1), (2, vI x2), (3, vI x3), (4, vI 1), (5, vI (A4 28 (x2 + 1))), (6, vI 0)] [] F4 A4))) ∧ (r4 = 0 → (RI mX5_isTrouble K [.ref K.m, vI 5, vI x1] F4 A4 fun r6 F6 A6 => (r6 = 0 ∨ r6 = 1) ∧ (SI K r6 F6 A6))))))))) ∧ (¬ (A 21 x1) = (A 25 x1) → (RI mX5_isTrouble K [.ref K.m, vI 3, vI x1] F A fun r3 F3 A3 => (r3 = 0 ∨ r3 = 1) ∧ (SI K r3 F3 A3))))) : VM K mX5_makesPart 0 [(0, .ref K.m), (1, vI x1), (2, vI x2), (3, vI x3)] [] F A := by
  obtain ⟨s0, s1, s2, h⟩ := h
  refine v_aload_n 0 dX5_makesPart_0 rfl (isR_ref _) ?_
  refine m_get K dX5_makesPart_1 fX5_91 rfl ?_
  refine v_iload_n 1 dX5_makesPart_4 rfl ?_
  refine m_iald K 21 dX5_makesPart_5 rfl s0 (by decide) ?_
  refine v_aload_n 0 dX5_makesPart_6 rfl (isR_ref _) ?_
  refine m_get K dX5_makesPart_7 fX5_103 rfl ?_
  refine v_iload_n 1 dX5_makesPart_10 rfl ?_
  refine m_iald K 25 dX5_makesPart_11 rfl s0 (by decide) ?_
  obtain ⟨ht, hf⟩ := h
  refine v_icmp_eq 22 dX5_makesPart_12 (by decide) s1 s2 (fun c => ?_) (fun c => ?_)
  · have h := ht c
    obtain ⟨s3, h⟩ := h
    refine v_aload_n 0 dX5_makesPart_22 rfl (isR_ref _) ?_
    refine m_get K dX5_makesPart_23 fX5_94 rfl ?_
    refine v_iload_n 1 dX5_makesPart_26 rfl ?_
    refine m_iald K 22 dX5_makesPart_27 rfl s0 (by decide) ?_
    refine v_iconst dX5_makesPart_28 ?_
    obtain ⟨ht, hf⟩ := h
    refine v_icmp_ne 36 dX5_makesPart_29 (by decide) s3 (by decide) (fun c => ?_) (fun c => ?_)
    · have h := ht c
      refine v_iconst dX5_makesPart_36 ?_
      refine v_istore dX5_makesPart_37 (by decide) rfl ?_
      refine v_iload 0 dX5_makesPart_39 rfl ?_
      refine v_if_eq 67 dX5_makesPart_41 (by decide) (by decide) (fun _ => ?_) (fun c => absurd (by decide) c)
      refine v_iload 0 dX5_makesPart_67 rfl ?_
      refine v_if_eq 83 dX5_makesPart_69 (by decide) (by decide) (fun _ => ?_) (fun c => absurd (by decide) c)
      refine v_aload_n 1 dX5_makesPart_83 rfl (isR_ref _) ?_
      refine m_get K dX5_makesPart_84 fX5_94 rfl ?_
      refine v_iload_n 2 dX5_makesPart_87 rfl ?_
      refine m_iald K 22 dX5_makesPart_88 rfl s0 (by decide) ?_
      refine v_iconst dX5_makesPart_89 ?_
      refine v_iadd dX5_makesPart_90 ?_
      refine v_istore dX5_makesPart_91 (by decide) rfl ?_
      refine v_iconst dX5_makesPart_93 ?_
      refine v_istore dX5_makesPart_94 (by decide) rfl ?_
      refine V.sub [3, 4, 5, 6, 2, 1, 0] rfl ?_
      exact h
    · have h := hf c
      refine v_iconst dX5_makesPart_32 ?_
      refine v_goto 37 dX5_makesPart_33 (by decide) ?_
      refine v_istore dX5_makesPart_37 (by decide) rfl ?_
      refine v_iload 0 dX5_makesPart_39 rfl ?_
      refine v_if_eq 67 dX5_makesPart_41 (by decide) (by decide) (fun c => absurd c (by decide)) (fun _ => ?_)
      refine v_aload_n 1 dX5_makesPart_44 rfl (isR_ref _) ?_
      refine v_aload_n 1 dX5_makesPart_45 rfl (isR_ref _) ?_
      refine m_get K dX5_makesPart_46 fX5_97 rfl ?_
      refine v_iload_n 2 dX5_makesPart_49 rfl ?_
      refine m_iald K 23 dX5_makesPart_50 rfl s0 (by decide) ?_
      refine v_iload_n 3 dX5_makesPart_51 rfl ?_
      refine v_iconst dX5_makesPart_52 ?_
      refine v_iadd dX5_makesPart_53 ?_
      refine m_callI K (As := [vI (A 23 x1), vI (x2 + 1)]) dX5_makesPart_54 LX5_487 rfl rfl (Nat.le_of_ble_eq_true rfl) h (fun r4 F4 A4 h => ?_)
      obtain ⟨s5, h⟩ := h
      obtain ⟨ht, hf⟩ := h
      refine v_if_ne 67 dX5_makesPart_57 (by decide) s5 (fun c => ?_) (fun c => ?_)
      · have h := ht c
        obtain ⟨s6, h⟩ := h
        refine v_iload 0 dX5_makesPart_67 rfl ?_
        refine v_if_eq 83 dX5_makesPart_69 (by decide) (by decide) (fun c => absurd c (by decide)) (fun _ => ?_)
        refine v_aload_n 1 dX5_makesPart_72 rfl (isR_ref _) ?_
        refine m_get K dX5_makesPart_73 fX5_112 rfl ?_
        refine v_iload_n 3 dX5_makesPart_76 rfl ?_
        refine v_iconst dX5_makesPart_77 ?_
        refine v_iadd dX5_makesPart_78 ?_
        refine m_iald K 28 dX5_makesPart_79 rfl s6 (by decide) ?_
        refine v_goto 91 dX5_makesPart_80 (by decide) ?_
        refine v_istore dX5_makesPart_91 (by decide) rfl ?_
        refine v_iconst dX5_makesPart_93 ?_
        refine v_istore dX5_makesPart_94 (by decide) rfl ?_
        refine V.sub [3, 4, 5, 6, 2, 1, 0] rfl ?_
        exact h
      · have h := hf c
        refine v_aload_n 1 dX5_makesPart_60 rfl (isR_ref _) ?_
        refine v_iconst dX5_makesPart_61 ?_
        refine v_iload_n 2 dX5_makesPart_62 rfl ?_
        refine m_callI K (As := [vI 5, vI x1]) dX5_makesPart_63 LX5_484 rfl rfl (Nat.le_of_ble_eq_true rfl) h (fun r6 F6 A6 h => ?_)
        obtain ⟨s7, h⟩ := h
        exact m_zret K dX5_makesPart_66 rfl s7 h
  · have h := hf c
    refine v_aload_n 0 dX5_makesPart_15 rfl (isR_ref _) ?_
    refine v_iconst dX5_makesPart_16 ?_
    refine v_iload_n 1 dX5_makesPart_17 rfl ?_
    refine m_callI K (As := [vI 3, vI x1]) dX5_makesPart_18 LX5_484 rfl rfl (Nat.le_of_ble_eq_true rfl) h (fun r3 F3 A3 h => ?_)
    obtain ⟨s4, h⟩ := h
    exact m_zret K dX5_makesPart_21 rfl s4 h
theorem wX5_makesPart_96 (K : KM) (hb : K.G.base ≤ K.m) {x1 x2 x3 x4 x5 x6 : Int} {F : Nat → Int} {A : Nat → Int → Int} (h : (0 ≤ x1 ∧ x1 < 32) ∧ (rI x6) ∧ (rI (A 25 x1)) ∧ (((A 25 x1) ≤ x6 → (SI K 1 F A)) ∧ (¬ (A 25 x1) ≤ x6 → ((0 ≤ ((A 24 x1) + x6) ∧ ((A 24 x1) + x6) < 80) ∧ (rI (A 26 ((A 24 x1) + x6))) ∧ (rI x3) ∧ (((A 26 ((A 24 x1) + x6)) ≤ x3 → ((0 ≤ (((12 * x2) + (A 26 ((A 24 x1) + x6))) - 1) ∧ (((12 * x2) + (A 26 ((A 24 x1) + x6))) - 1) < 396) ∧ (rI (A 30 (((12 * x2) + (A 26 ((A 24 x1) + x6))) - 1))) ∧ ((¬ (A 30 (((12 * x2) + (A 26 ((A 24 x1) + x6))) - 1)) = 4 → ((0 ≤ x2 ∧ x2 < 33) ∧ (rI ((A 28 x2) + x5)) ∧ ((((A 28 x2) + x5) ≤ 12 → ((rI x4) ∧ ((x4 = 0 → (RV mX5_hangsChain K [.ref K.m, vI x2, vI ((A 26 ((A 24 x1) + x6)) - 1), vI x5] F A fun F11 A11 => VM K mX5_makesPart 96 [(0, .ref K.m), (1, vI x1), (2, vI x2), (3, vI x3), (4, vI x4), (5, vI x5), (6, vI (x6 + 1))] [] F11 A11)) ∧ (¬ x4 = 0 → (RV mX5_hangsTree K [.ref K.m, vI x2, vI ((A 26 ((A 24 x1) + x6)) - 1)] F A fun F11 A11 => VM K mX5_makesPart 96 [(0, .ref K.m), (1, vI x1), (2, vI x2), (3, vI x3), (4, vI x4), (5, vI x5), (6, vI (x6 + 1))] [] F11 A11))))) ∧ (¬ ((A 28 x2) + x5) ≤ 12 → (RI mX5_isTrouble K [.ref K.m, vI 4, vI x1] F A fun r10 F10 A10 => (r10 = 0 ∨ r10 = 1) ∧ (SI K r10 F10 A10)))))) ∧ ((A 30 (((12 * x2) + (A 26 ((A 24 x1) + x6))) - 1)) = 4 → (RI mX5_isTrouble K [.ref K.m, vI 2, vI x1] F A fun r8 F8 A8 => (r8 = 0 ∨ r8 = 1) ∧ (SI K r8 F8 A8)))))) ∧ (¬ (A 26 ((A 24 x1) + x6)) ≤ x3 → (RI mX5_isTrouble K [.ref K.m, vI 1, vI x1] F A fun r6 F6 A6 => (r6 = 0 ∨ r6 = 1) ∧ (SI K r6 F6 A6)))))))) : VM K mX5_makesPart 96 [(0, .ref K.m), (1, vI x1), (2, vI x2), (3, vI x3), (4, vI x4), (5, vI x5), (6, vI x6)] [] F A := by
  obtain ⟨s0, s1, s2, h⟩ := h
  refine v_iload 6 dX5_makesPart_96 rfl ?_
  refine v_aload_n 0 dX5_makesPart_98 rfl (isR_ref _) ?_
  refine m_get K dX5_makesPart_99 fX5_103 rfl ?_
  refine v_iload_n 1 dX5_makesPart_102 rfl ?_
  refine m_iald K 25 dX5_makesPart_103 rfl s0 (by decide) ?_
  obtain ⟨ht, hf⟩ := h
  refine v_icmp_ge 216 dX5_makesPart_104 (by decide) s1 s2 (fun c => ?_) (fun c => ?_)
  · have h := ht c
    refine v_iconst dX5_makesPart_216 ?_
    exact m_zret K dX5_makesPart_217 rfl (by decide) h
  · have h := hf c
    obtain ⟨s3, s4, s5, h⟩ := h
    refine v_aload_n 0 dX5_makesPart_107 rfl (isR_ref _) ?_
    refine m_get K dX5_makesPart_108 fX5_106 rfl ?_
    refine v_aload_n 0 dX5_makesPart_111 rfl (isR_ref _) ?_
    refine m_get K dX5_makesPart_112 fX5_100 rfl ?_
    refine v_iload_n 1 dX5_makesPart_115 rfl ?_
    refine m_iald K 24 dX5_makesPart_116 rfl s0 (by decide) ?_
    refine v_iload 6 dX5_makesPart_117 rfl ?_
    refine v_iadd dX5_makesPart_119 ?_
    refine m_iald K 26 dX5_makesPart_120 rfl s3 (by decide) ?_
    refine v_istore dX5_makesPart_121 (by decide) rfl ?_
    refine v_iload 0 dX5_makesPart_123 rfl ?_
    refine v_iload_n 4 dX5_makesPart_125 rfl ?_
    obtain ⟨ht, hf⟩ := h
    refine v_icmp_le 136 dX5_makesPart_126 (by decide) s4 s5 (fun c => ?_) (fun c => ?_)
    · have h := ht c
      obtain ⟨s6, s7, h⟩ := h
      refine v_aload_n 1 dX5_makesPart_136 rfl (isR_ref _) ?_
      refine m_get K dX5_makesPart_137 fX5_118 rfl ?_
      refine v_bipush dX5_makesPart_140 rfl ?_
      refine v_iload_n 3 dX5_makesPart_142 rfl ?_
      refine v_imul dX5_makesPart_143 ?_
      refine v_iload 0 dX5_makesPart_144 rfl ?_
      refine v_iadd dX5_makesPart_146 ?_
      refine v_iconst dX5_makesPart_147 ?_
      refine v_isub dX5_makesPart_148 ?_
      refine m_iald K 30 dX5_makesPart_149 rfl s6 (by decide) ?_
      refine v_iconst dX5_makesPart_150 ?_
      obtain ⟨ht, hf⟩ := h
      refine v_icmp_ne 161 dX5_makesPart_151 (by decide) s7 (by decide) (fun c => ?_) (fun c => ?_)
      · have h := ht c
        obtain ⟨s8, s9, h⟩ := h
        refine v_aload_n 1 dX5_makesPart_161 rfl (isR_ref _) ?_
        refine m_get K dX5_makesPart_162 fX5_112 rfl ?_
        refine v_iload_n 3 dX5_makesPart_165 rfl ?_
        refine m_iald K 28 dX5_makesPart_166 rfl s8 (by decide) ?_
        refine v_iload 6 dX5_makesPart_167 rfl ?_
        refine v_iadd dX5_makesPart_169 ?_
        refine v_bipush dX5_makesPart_170 rfl ?_
        obtain ⟨ht, hf⟩ := h
        refine v_icmp_le 182 dX5_makesPart_172 (by decide) s9 (by decide) (fun c => ?_) (fun c => ?_)
        · have h := ht c
          obtain ⟨s10, h⟩ := h
          refine v_iload 5 dX5_makesPart_182 rfl ?_
          obtain ⟨ht, hf⟩ := h
          refine v_if_eq 199 dX5_makesPart_184 (by decide) s10 (fun c => ?_) (fun c => ?_)
          · have h := ht c
            refine v_aload_n 1 dX5_makesPart_199 rfl (isR_ref _) ?_
            refine v_iload_n 3 dX5_makesPart_200 rfl ?_
            refine v_iload 0 dX5_makesPart_201 rfl ?_
            refine v_iconst dX5_makesPart_203 ?_
            refine v_isub dX5_makesPart_204 ?_
            refine v_iload 6 dX5_makesPart_205 rfl ?_
            refine m_callV K (As := [vI x2, vI ((A 26 ((A 24 x1) + x6)) - 1), vI x5]) dX5_makesPart_207 LX5_493 rfl rfl (Nat.le_of_ble_eq_true rfl) h (fun F11 A11 h => ?_)
            refine v_iinc 7 dX5_makesPart_210 rfl (by decide) rfl ?_
            refine v_goto 96 dX5_makesPart_213 (by decide) ?_
            refine V.sub [2, 3, 4, 5, 6, 7, 0] rfl ?_
            exact h
          · have h := hf c
            refine v_aload_n 1 dX5_makesPart_187 rfl (isR_ref _) ?_
            refine v_iload_n 3 dX5_makesPart_188 rfl ?_
            refine v_iload 0 dX5_makesPart_189 rfl ?_
            refine v_iconst dX5_makesPart_191 ?_
            refine v_isub dX5_makesPart_192 ?_
            refine m_callV K (As := [vI x2, vI ((A 26 ((A 24 x1) + x6)) - 1)]) dX5_makesPart_193 LX5_490 rfl rfl (Nat.le_of_ble_eq_true rfl) h (fun F11 A11 h => ?_)
            refine v_goto 210 dX5_makesPart_196 (by decide) ?_
            refine v_iinc 7 dX5_makesPart_210 rfl (by decide) rfl ?_
            refine v_goto 96 dX5_makesPart_213 (by decide) ?_
            refine V.sub [2, 3, 4, 5, 6, 7, 0] rfl ?_
            exact h
        · have h := hf c
          refine v_aload_n 1 dX5_makesPart_175 rfl (isR_ref _) ?_
          refine v_iconst dX5_makesPart_176 ?_
          refine v_iload_n 2 dX5_makesPart_177 rfl ?_
          refine m_callI K (As := [vI 4, vI x1]) dX5_makesPart_178 LX5_484 rfl rfl (Nat.le_of_ble_eq_true rfl) h (fun r10 F10 A10 h => ?_)
          obtain ⟨s11, h⟩ := h
          exact m_zret K dX5_makesPart_181 rfl s11 h
      · have h := hf c
        refine v_aload_n 1 dX5_makesPart_154 rfl (isR_ref _) ?_
        refine v_iconst dX5_makesPart_155 ?_
        refine v_iload_n 2 dX5_makesPart_156 rfl ?_
        refine m_callI K (As := [vI 2, vI x1]) dX5_makesPart_157 LX5_484 rfl rfl (Nat.le_of_ble_eq_true rfl) h (fun r8 F8 A8 h => ?_)
        obtain ⟨s9, h⟩ := h
        exact m_zret K dX5_makesPart_160 rfl s9 h
    · have h := hf c
      refine v_aload_n 1 dX5_makesPart_129 rfl (isR_ref _) ?_
      refine v_iconst dX5_makesPart_130 ?_
      refine v_iload_n 2 dX5_makesPart_131 rfl ?_
      refine m_callI K (As := [vI 1, vI x1]) dX5_makesPart_132 LX5_484 rfl rfl (Nat.le_of_ble_eq_true rfl) h (fun r6 F6 A6 h => ?_)
      obtain ⟨s7, h⟩ := h
      exact m_zret K dX5_makesPart_135 rfl s7 h
/-! isTrouble -/
theorem wX5_isTrouble_0 (K : KM) (hb : K.G.base ≤ K.m) {x1 x2 : Int} {F : Nat → Int} {A : Nat → Int → Int} (h : VM K mX5_isTrouble 5 [(0, .ref K.m), (1, vI x1), (2, vI x2), (3, vI (F 55))] [] F A) : VM K mX5_isTrouble 0 [(0, .ref K.m), (1, vI x1), (2, vI x2)] [] F A := by
  refine v_aload_n 0 dX5_isTrouble_0 rfl (isR_ref _) ?_
  refine m_get (v := vI (F 55)) K dX5_isTrouble_1 fX5_478 rfl ?_
  refine v_istore_n dX5_isTrouble_4 (by decide) rfl ?_
  refine V.sub [1, 2, 3, 0] rfl ?_
  exact h
theorem wX5_isTrouble_5 (K : KM) (hb : K.G.base ≤ K.m) {x1 x2 x3 : Int} {F : Nat → Int} {A : Nat → Int → Int} (h : (rI x3) ∧ ((x3 ≤ 0 → ((0 ≤ x2 ∧ x2 < 32) ∧ (SI K 0 (upN F 55 ((F 55) + 1)) (upA (upA A 31 0 x1) 32 0 ((upA A 31 0 x1) 20 x2))))) ∧ (¬ x3 ≤ 0 → ((0 ≤ (x3 - 1) ∧ (x3 - 1) < 32) ∧ (0 ≤ x3 ∧ x3 < 32) ∧ (VM K mX5_isTrouble 5 [(0, .ref K.m), (1, vI x1), (2, vI x2), (3, vI (x3 + (-1)))] [] F (upA (upA A 31 x3 (A 31 (x3 - 1))) 32 x3 ((upA A 31 x3 (A 31 (x3 - 1))) 32 (x3 - 1)))))))) : VM K mX5_isTrouble 5 [(0, .ref K.m), (1, vI x1), (2, vI x2), (3, vI x3)] [] F A := by
  obtain ⟨s0, h⟩ := h
  refine v_iload_n 3 dX5_isTrouble_5 rfl ?_
  obtain ⟨ht, hf⟩ := h
  refine v_if_le 43 dX5_isTrouble_6 (by decide) s0 (fun c => ?_) (fun c => ?_)
  · have h := ht c
    obtain ⟨s1, h⟩ := h
    refine v_aload_n 0 dX5_isTrouble_43 rfl (isR_ref _) ?_
    refine m_get K dX5_isTrouble_44 fX5_121 rfl ?_
    refine v_iconst dX5_isTrouble_47 ?_
    refine v_iload_n 1 dX5_isTrouble_48 rfl ?_
    refine m_iast K 31 hb dX5_isTrouble_49 rfl (by decide) (by decide) ?_
    refine v_aload_n 0 dX5_isTrouble_50 rfl (isR_ref _) ?_
    refine m_get K dX5_isTrouble_51 fX5_124 rfl ?_
    refine v_iconst dX5_isTrouble_54 ?_
    refine v_aload_n 0 dX5_isTrouble_55 rfl (isR_ref _) ?_
    refine m_get K dX5_isTrouble_56 fX5_88 rfl ?_
    refine v_iload_n 2 dX5_isTrouble_59 rfl ?_
    refine m_iald K 20 dX5_isTrouble_60 rfl s1 (by decide) ?_
    refine m_iast K 32 hb dX5_isTrouble_61 rfl (by decide) (by decide) ?_
    refine v_aload_n 0 dX5_isTrouble_62 rfl (isR_ref _) ?_
    refine v_dup dX5_isTrouble_63 rfl ?_
    refine m_get (v := vI (F 55)) K dX5_isTrouble_64 fX5_478 rfl ?_
    refine v_iconst dX5_isTrouble_67 ?_
    refine v_iadd dX5_isTrouble_68 ?_
    refine m_put (F' := upN F 55 ((F 55) + 1)) K hb dX5_isTrouble_69 fX5_478 (by decide) (by decide) rfl ?_
    refine v_iconst dX5_isTrouble_72 ?_
    exact m_zret K dX5_isTrouble_73 rfl (by decide) h
  · have h := hf c
    obtain ⟨s1, s2, h⟩ := h
    refine v_aload_n 0 dX5_isTrouble_9 rfl (isR_ref _) ?_
    refine m_get K dX5_isTrouble_10 fX5_121 rfl ?_
    refine v_iload_n 3 dX5_isTrouble_13 rfl ?_
    refine v_aload_n 0 dX5_isTrouble_14 rfl (isR_ref _) ?_
    refine m_get K dX5_isTrouble_15 fX5_121 rfl ?_
    refine v_iload_n 3 dX5_isTrouble_18 rfl ?_
    refine v_iconst dX5_isTrouble_19 ?_
    refine v_isub dX5_isTrouble_20 ?_
    refine m_iald K 31 dX5_isTrouble_21 rfl s1 (by decide) ?_
    refine m_iast K 31 hb dX5_isTrouble_22 rfl s2 (by decide) ?_
    refine v_aload_n 0 dX5_isTrouble_23 rfl (isR_ref _) ?_
    refine m_get K dX5_isTrouble_24 fX5_124 rfl ?_
    refine v_iload_n 3 dX5_isTrouble_27 rfl ?_
    refine v_aload_n 0 dX5_isTrouble_28 rfl (isR_ref _) ?_
    refine m_get K dX5_isTrouble_29 fX5_124 rfl ?_
    refine v_iload_n 3 dX5_isTrouble_32 rfl ?_
    refine v_iconst dX5_isTrouble_33 ?_
    refine v_isub dX5_isTrouble_34 ?_
    refine m_iald K 32 dX5_isTrouble_35 rfl s1 (by decide) ?_
    refine m_iast K 32 hb dX5_isTrouble_36 rfl s2 (by decide) ?_
    refine v_iinc 3 dX5_isTrouble_37 rfl (by decide) rfl ?_
    refine v_goto 5 dX5_isTrouble_40 (by decide) ?_
    refine V.sub [1, 2, 3, 0] rfl ?_
    exact h
/-! hangsTree -/
theorem wX5_hangsTree_0 (K : KM) (hb : K.G.base ≤ K.m) {x1 x2 : Int} {F : Nat → Int} {A : Nat → Int → Int} (h : (0 ≤ x1 ∧ x1 < 33) ∧ (VM K mX5_hangsTree 18 [(0, .ref K.m), (1, vI x1), (2, vI x2), (3, vI (A 28 x1)), (4, vI (12 * (x1 + 1))), (5, vI 0)] [] F A)) : VM K mX5_hangsTree 0 [(0, .ref K.m), (1, vI x1), (2, vI x2)] [] F A := by
  obtain ⟨s0, h⟩ := h
  refine v_aload_n 0 dX5_hangsTree_0 rfl (isR_ref _) ?_
  refine m_get K dX5_hangsTree_1 fX5_112 rfl ?_
  refine v_iload_n 1 dX5_hangsTree_4 rfl ?_
  refine m_iald K 28 dX5_hangsTree_5 rfl s0 (by decide) ?_
  refine v_istore_n dX5_hangsTree_6 (by decide) rfl ?_
  refine v_bipush dX5_hangsTree_7 rfl ?_
  refine v_iload_n 2 dX5_hangsTree_9 rfl ?_
  refine v_iconst dX5_hangsTree_10 ?_
  refine v_iadd dX5_hangsTree_11 ?_
  refine v_imul dX5_hangsTree_12 ?_
  refine v_istore dX5_hangsTree_13 (by decide) rfl ?_
  refine v_iconst dX5_hangsTree_15 ?_
  refine v_istore dX5_hangsTree_16 (by decide) rfl ?_
  refine V.sub [3, 4, 5, 2, 1, 0] rfl ?_
  exact h
theorem wX5_hangsTree_18 (K : KM) (hb : K.G.base ≤ K.m) {x1 x2 x3 x4 x5 : Int} {F : Nat → Int} {A : Nat → Int → Int} (h : (0 ≤ (x1 + 1) ∧ (x1 + 1) < 33) ∧ (rI x5) ∧ (rI (A 28 (x1 + 1))) ∧ (((A 28 (x1 + 1)) ≤ x5 → (SV K F A)) ∧ (¬ (A 28 (x1 + 1)) ≤ x5 → ((¬ x5 = 0 → ((0 ≤ (x4 + x5) ∧ (x4 + x5) < 396) ∧ (RV mX5_hangs K [.ref K.m, vI x1, vI (x3 + (A 29 (x4 + x5)))] F A fun F4 A4 => VM K mX5_hangsTree 18 [(0, .ref K.m), (1, vI x1), (2, vI x2), (3, vI x3), (4, vI x4), (5, vI (x5 + 1))] [] F4 A4))) ∧ (x5 = 0 → (RV mX5_hangs K [.ref K.m, vI x1, vI x2] F A fun F3 A3 => VM K mX5_hangsTree 18 [(0, .ref K.m), (1, vI x1), (2, vI x2), (3, vI x3), (4, vI x4), (5, vI (x5 + 1))] [] F3 A3)))))) : VM K mX5_hangsTree 18 [(0, .ref K.m), (1, vI x1), (2, vI x2), (3, vI x3), (4, vI x4), (5, vI x5)] [] F A := by
  obtain ⟨s0, s1, s2, h⟩ := h
  refine v_iload 5 dX5_hangsTree_18 rfl ?_
  refine v_aload_n 0 dX5_hangsTree_20 rfl (isR_ref _) ?_
  refine m_get K dX5_hangsTree_21 fX5_112 rfl ?_
  refine v_iload_n 1 dX5_hangsTree_24 rfl ?_
  refine v_iconst dX5_hangsTree_25 ?_
  refine v_iadd dX5_hangsTree_26 ?_
  refine m_iald K 28 dX5_hangsTree_27 rfl s0 (by decide) ?_
  obtain ⟨ht, hf⟩ := h
  refine v_icmp_ge 63 dX5_hangsTree_28 (by decide) s1 s2 (fun c => ?_) (fun c => ?_)
  · have h := ht c
    exact m_vret K dX5_hangsTree_63 rfl h
  · have h := hf c
    refine v_aload_n 0 dX5_hangsTree_31 rfl (isR_ref _) ?_
    refine v_iload_n 1 dX5_hangsTree_32 rfl ?_
    refine v_iload 5 dX5_hangsTree_33 rfl ?_
    obtain ⟨ht, hf⟩ := h
    refine v_if_ne 42 dX5_hangsTree_35 (by decide) s1 (fun c => ?_) (fun c => ?_)
    · have h := ht c
      obtain ⟨s3, h⟩ := h
      refine v_iload_n 3 dX5_hangsTree_42 rfl ?_
      refine v_aload_n 0 dX5_hangsTree_43 rfl (isR_ref _) ?_
      refine m_get K dX5_hangsTree_44 fX5_115 rfl ?_
      refine v_iload 4 dX5_hangsTree_47 rfl ?_
      refine v_iload 5 dX5_hangsTree_49 rfl ?_
      refine v_iadd dX5_hangsTree_51 ?_
      refine m_iald K 29 dX5_hangsTree_52 rfl s3 (by decide) ?_
      refine v_iadd dX5_hangsTree_53 ?_
      refine m_callV K (As := [vI x1, vI (x3 + (A 29 (x4 + x5)))]) dX5_hangsTree_54 LX5_481 rfl rfl (Nat.le_of_ble_eq_true rfl) h (fun F4 A4 h => ?_)
      refine v_iinc 5 dX5_hangsTree_57 rfl (by decide) rfl ?_
      refine v_goto 18 dX5_hangsTree_60 (by decide) ?_
      refine V.sub [1, 2, 3, 4, 5, 0] rfl ?_
      exact h
    · have h := hf c
      refine v_iload_n 2 dX5_hangsTree_38 rfl ?_
      refine v_goto 54 dX5_hangsTree_39 (by decide) ?_
      refine m_callV K (As := [vI x1, vI x2]) dX5_hangsTree_54 LX5_481 rfl rfl (Nat.le_of_ble_eq_true rfl) h (fun F3 A3 h => ?_)
      refine v_iinc 5 dX5_hangsTree_57 rfl (by decide) rfl ?_
      refine v_goto 18 dX5_hangsTree_60 (by decide) ?_
      refine V.sub [1, 2, 3, 4, 5, 0] rfl ?_
      exact h
/-! drawsMade -/
theorem wX5_drawsMade_0 (K : KM) (hb : K.G.base ≤ K.m) {F : Nat → Int} {A : Nat → Int → Int} (h : VM K mX5_drawsMade 2 [(0, .ref K.m), (1, vI 0)] [] F A) : VM K mX5_drawsMade 0 [(0, .ref K.m)] [] F A := by
  refine v_iconst dX5_drawsMade_0 ?_
  refine v_istore_n dX5_drawsMade_1 (by decide) rfl ?_
  refine V.sub [1, 0] rfl ?_
  exact h
theorem wX5_drawsMade_2 (K : KM) (hb : K.G.base ≤ K.m) {x1 : Int} {F : Nat → Int} {A : Nat → Int → Int} (h : (rI x1) ∧ ((13 ≤ x1 → (VM K mX5_drawsMade 33 [(0, .ref K.m), (1, vI 1)] [] (upN F 1 (A 28 0)) A)) ∧ (¬ 13 ≤ x1 → ((0 ≤ x1 ∧ x1 < 13) ∧ (VM K mX5_drawsMade 2 [(0, .ref K.m), (1, vI (x1 + 1))] [] F (upA A 0 x1 0)))))) : VM K mX5_drawsMade 2 [(0, .ref K.m), (1, vI x1)] [] F A := by
  obtain ⟨s0, h⟩ := h
  refine v_iload_n 1 dX5_drawsMade_2 rfl ?_
  refine v_bipush dX5_drawsMade_3 rfl ?_
  obtain ⟨ht, hf⟩ := h
  refine v_icmp_ge 21 dX5_drawsMade_5 (by decide) s0 (by decide) (fun c => ?_) (fun c => ?_)
  · have h := ht c
    refine v_aload_n 0 dX5_drawsMade_21 rfl (isR_ref _) ?_
    refine v_aload_n 0 dX5_drawsMade_22 rfl (isR_ref _) ?_
    refine m_get K dX5_drawsMade_23 fX5_112 rfl ?_
    refine v_iconst dX5_drawsMade_26 ?_
    refine m_iald K 28 dX5_drawsMade_27 rfl (by decide) (by decide) ?_
    refine m_put (F' := upN F 1 (A 28 0)) K hb dX5_drawsMade_28 fX5_145 (by decide) (by decide) rfl ?_
    refine v_iconst dX5_drawsMade_31 ?_
    refine v_istore_n dX5_drawsMade_32 (by decide) rfl ?_
    refine V.sub [1, 0] rfl ?_
    exact h
  · have h := hf c
    obtain ⟨s1, h⟩ := h
    refine v_aload_n 0 dX5_drawsMade_8 rfl (isR_ref _) ?_
    refine m_get K dX5_drawsMade_9 fX5_11 rfl ?_
    refine v_iload_n 1 dX5_drawsMade_12 rfl ?_
    refine v_iconst dX5_drawsMade_13 ?_
    refine m_iast K 0 hb dX5_drawsMade_14 rfl s1 (by decide) ?_
    refine v_iinc 1 dX5_drawsMade_15 rfl (by decide) rfl ?_
    refine v_goto 2 dX5_drawsMade_18 (by decide) ?_
    refine V.sub [1, 0] rfl ?_
    exact h
theorem wX5_drawsMade_33 (K : KM) (hb : K.G.base ≤ K.m) {x1 : Int} {F : Nat → Int} {A : Nat → Int → Int} (h : (rI x1) ∧ (rI (F 1)) ∧ (((F 1) ≤ x1 → (RV mX5_draws K [.ref K.m] F A fun F2 A2 => SV K F2 A2)) ∧ (¬ (F 1) ≤ x1 → ((0 ≤ x1 ∧ x1 < 396) ∧ (RV mX5_binds K [.ref K.m, vI x1, vI (A 29 x1)] F A fun F3 A3 => VM K mX5_drawsMade 33 [(0, .ref K.m), (1, vI (x1 + 1))] [] F3 A3))))) : VM K mX5_drawsMade 33 [(0, .ref K.m), (1, vI x1)] [] F A := by
  obtain ⟨s0, s1, h⟩ := h
  refine v_iload_n 1 dX5_drawsMade_33 rfl ?_
  refine v_aload_n 0 dX5_drawsMade_34 rfl (isR_ref _) ?_
  refine m_get (v := vI (F 1)) K dX5_drawsMade_35 fX5_145 rfl ?_
  obtain ⟨ht, hf⟩ := h
  refine v_icmp_ge 58 dX5_drawsMade_38 (by decide) s0 s1 (fun c => ?_) (fun c => ?_)
  · have h := ht c
    refine v_aload_n 0 dX5_drawsMade_58 rfl (isR_ref _) ?_
    refine m_callV K (As := []) dX5_drawsMade_59 LX5_247 rfl rfl (Nat.le_of_ble_eq_true rfl) h (fun F2 A2 h => ?_)
    exact m_vret K dX5_drawsMade_62 rfl h
  · have h := hf c
    obtain ⟨s2, h⟩ := h
    refine v_aload_n 0 dX5_drawsMade_41 rfl (isR_ref _) ?_
    refine v_iload_n 1 dX5_drawsMade_42 rfl ?_
    refine v_aload_n 0 dX5_drawsMade_43 rfl (isR_ref _) ?_
    refine m_get K dX5_drawsMade_44 fX5_115 rfl ?_
    refine v_iload_n 1 dX5_drawsMade_47 rfl ?_
    refine m_iald K 29 dX5_drawsMade_48 rfl s2 (by decide) ?_
    refine m_callV K (As := [vI x1, vI (A 29 x1)]) dX5_drawsMade_49 LX5_206 rfl rfl (Nat.le_of_ble_eq_true rfl) h (fun F3 A3 h => ?_)
    refine v_iinc 1 dX5_drawsMade_52 rfl (by decide) rfl ?_
    refine v_goto 33 dX5_drawsMade_55 (by decide) ?_
    refine V.sub [1, 0] rfl ?_
    exact h
/-! isItsName -/
theorem wX5_isItsName_0 (K : KM) (hb : K.G.base ≤ K.m) {x1 : Int} {F : Nat → Int} {A : Nat → Int → Int} (h : RI mX5_namesTree K [.ref K.m] F A fun r0 F0 A0 => (rI r0) ∧ (rI x1) ∧ ((¬ r0 = x1 → (VM K mX5_isItsName 16 [(0, .ref K.m), (1, vI x1), (2, vI 0), (3, vI 0)] [] F0 A0)) ∧ (r0 = x1 → (VM K mX5_isItsName 16 [(0, .ref K.m), (1, vI x1), (2, vI 1), (3, vI 0)] [] F0 A0)))) : VM K mX5_isItsName 0 [(0, .ref K.m), (1, vI x1)] [] F A := by
  refine v_aload_n 0 dX5_isItsName_0 rfl (isR_ref _) ?_
  refine m_callI K (As := []) dX5_isItsName_1 LX5_412 rfl rfl (Nat.le_of_ble_eq_true rfl) h (fun r0 F0 A0 h => ?_)
  obtain ⟨s1, s2, h⟩ := h
  refine v_iload_n 1 dX5_isItsName_4 rfl ?_
  obtain ⟨ht, hf⟩ := h
  refine v_icmp_ne 12 dX5_isItsName_5 (by decide) s1 s2 (fun c => ?_) (fun c => ?_)
  · have h := ht c
    refine v_iconst dX5_isItsName_12 ?_
    refine v_istore_n dX5_isItsName_13 (by decide) rfl ?_
    refine v_iconst dX5_isItsName_14 ?_
    refine v_istore_n dX5_isItsName_15 (by decide) rfl ?_
    refine V.sub [2, 3, 1, 0] rfl ?_
    exact h
  · have h := hf c
    refine v_iconst dX5_isItsName_8 ?_
    refine v_goto 13 dX5_isItsName_9 (by decide) ?_
    refine v_istore_n dX5_isItsName_13 (by decide) rfl ?_
    refine v_iconst dX5_isItsName_14 ?_
    refine v_istore_n dX5_isItsName_15 (by decide) rfl ?_
    refine V.sub [2, 3, 1, 0] rfl ?_
    exact h
theorem wX5_isItsName_16 (K : KM) (hb : K.G.base ≤ K.m) {x1 x2 x3 : Int} {F : Nat → Int} {A : Nat → Int → Int} (h : (rI x3) ∧ (rI x1) ∧ ((x1 ≤ x3 → ((x2 = 0 ∨ x2 = 1) ∧ (SI K x2 F A))) ∧ (¬ x1 ≤ x3 → ((rI x2) ∧ ((x2 = 0 → ((x2 = 0 ∨ x2 = 1) ∧ (SI K x2 F A))) ∧ (¬ x2 = 0 → ((0 ≤ x3 ∧ x3 < 16384) ∧ (0 ≤ x3 ∧ x3 < 80) ∧ (rI (A 10 x3)) ∧ (rI (A 18 x3)) ∧ ((¬ (A 10 x3) = (A 18 x3) → (VM K mX5_isItsName 16 [(0, .ref K.m), (1, vI x1), (2, vI 0), (3, vI (x3 + 1))] [] F A)) ∧ ((A 10 x3) = (A 18 x3) → (VM K mX5_isItsName 16 [(0, .ref K.m), (1, vI x1), (2, vI 1), (3, vI (x3 + 1))] [] F A)))))))))) : VM K mX5_isItsName 16 [(0, .ref K.m), (1, vI x1), (2, vI x2), (3, vI x3)] [] F A := by
  obtain ⟨s0, s1, h⟩ := h
  refine v_iload_n 3 dX5_isItsName_16 rfl ?_
  refine v_iload_n 1 dX5_isItsName_17 rfl ?_
  obtain ⟨ht, hf⟩ := h
  refine v_icmp_ge 52 dX5_isItsName_18 (by decide) s0 s1 (fun c => ?_) (fun c => ?_)
  · have h := ht c
    obtain ⟨s2, h⟩ := h
    refine v_iload_n 2 dX5_isItsName_52 rfl ?_
    exact m_zret K dX5_isItsName_53 rfl s2 h
  · have h := hf c
    obtain ⟨s2, h⟩ := h
    refine v_iload_n 2 dX5_isItsName_21 rfl ?_
    obtain ⟨ht, hf⟩ := h
    refine v_if_eq 52 dX5_isItsName_22 (by decide) s2 (fun c => ?_) (fun c => ?_)
    · have h := ht c
      obtain ⟨s3, h⟩ := h
      refine v_iload_n 2 dX5_isItsName_52 rfl ?_
      exact m_zret K dX5_isItsName_53 rfl s3 h
    · have h := hf c
      obtain ⟨s3, s4, s5, s6, h⟩ := h
      refine v_aload_n 0 dX5_isItsName_25 rfl (isR_ref _) ?_
      refine m_get K dX5_isItsName_26 fX5_47 rfl ?_
      refine v_iload_n 3 dX5_isItsName_29 rfl ?_
      refine m_iald K 10 dX5_isItsName_30 rfl s3 (by decide) ?_
      refine v_aload_n 0 dX5_isItsName_31 rfl (isR_ref _) ?_
      refine m_get K dX5_isItsName_32 fX5_82 rfl ?_
      refine v_iload_n 3 dX5_isItsName_35 rfl ?_
      refine m_iald K 18 dX5_isItsName_36 rfl s4 (by decide) ?_
      obtain ⟨ht, hf⟩ := h
      refine v_icmp_ne 44 dX5_isItsName_37 (by decide) s5 s6 (fun c => ?_) (fun c => ?_)
      · have h := ht c
        refine v_iconst dX5_isItsName_44 ?_
        refine v_istore_n dX5_isItsName_45 (by decide) rfl ?_
        refine v_iinc 3 dX5_isItsName_46 rfl (by decide) rfl ?_
        refine v_goto 16 dX5_isItsName_49 (by decide) ?_
        refine V.sub [2, 3, 1, 0] rfl ?_
        exact h
      · have h := hf c
        refine v_iconst dX5_isItsName_40 ?_
        refine v_goto 45 dX5_isItsName_41 (by decide) ?_
        refine v_istore_n dX5_isItsName_45 (by decide) rfl ?_
        refine v_iinc 3 dX5_isItsName_46 rfl (by decide) rfl ?_
        refine v_goto 16 dX5_isItsName_49 (by decide) ?_
        refine V.sub [2, 3, 1, 0] rfl ?_
        exact h
/-! why -/
theorem wX5_why_0 (K : KM) (hb : K.G.base ≤ K.m) {x1 x2 : Int} {F : Nat → Int} {A : Nat → Int → Int} (h : (rI x1) ∧ (rI ((F 56) - 1)) ∧ (RI mX5_isIn K [vL x1, vL 0, vL ((F 56) - 1)] F A fun r2 F2 A2 => (rI r2) ∧ ((r2 = 0 → (SI K ((-1)) F2 A2)) ∧ (¬ r2 = 0 → ((rI x2) ∧ (RI mX5_isIn K [vL x2, vL 0, vL 1] F2 A2 fun r5 F5 A5 => (rI r5) ∧ ((¬ r5 = 0 → ((¬ x2 = 0 → ((0 ≤ x1 ∧ x1 < 32) ∧ (SI K (A5 34 x1) F5 A5))) ∧ (x2 = 0 → ((0 ≤ x1 ∧ x1 < 32) ∧ (SI K (A5 33 x1) F5 A5))))) ∧ (r5 = 0 → (SI K ((-1)) F5 A5))))))))) : VM K mX5_why 0 [(0, .ref K.m), (1, vI x1), (2, vI x2)] [] F A := by
  obtain ⟨s0, s1, h⟩ := h
  refine v_iload_n 1 dX5_why_0 rfl ?_
  refine v_i2l dX5_why_1 s0 ?_
  refine v_lconst (z := 0) dX5_why_2 rfl ?_
  refine v_aload_n 0 dX5_why_3 rfl (isR_ref _) ?_
  refine m_get (v := vI (F 56)) K dX5_why_4 fX5_505 rfl ?_
  refine v_iconst dX5_why_7 ?_
  refine v_isub dX5_why_8 ?_
  refine v_i2l dX5_why_9 s1 ?_
  refine m_callSI K (As := [vL x1, vL 0, vL ((F 56) - 1)]) dX5_why_10 LX5_148 rfl rfl (Nat.le_of_ble_eq_true rfl) h (fun r2 F2 A2 h => ?_)
  obtain ⟨s3, h⟩ := h
  obtain ⟨ht, hf⟩ := h
  refine v_if_eq 26 dX5_why_13 (by decide) s3 (fun c => ?_) (fun c => ?_)
  · have h := ht c
    refine v_iconst dX5_why_26 ?_
    exact m_iret K dX5_why_27 rfl h
  · have h := hf c
    obtain ⟨s4, h⟩ := h
    refine v_iload_n 2 dX5_why_16 rfl ?_
    refine v_i2l dX5_why_17 s4 ?_
    refine v_lconst (z := 0) dX5_why_18 rfl ?_
    refine v_lconst (z := 1) dX5_why_19 rfl ?_
    refine m_callSI K (As := [vL x2, vL 0, vL 1]) dX5_why_20 LX5_148 rfl rfl (Nat.le_of_ble_eq_true rfl) h (fun r5 F5 A5 h => ?_)
    obtain ⟨s6, h⟩ := h
    obtain ⟨ht, hf⟩ := h
    refine v_if_ne 28 dX5_why_23 (by decide) s6 (fun c => ?_) (fun c => ?_)
    · have h := ht c
      refine v_iload_n 2 dX5_why_28 rfl ?_
      obtain ⟨ht, hf⟩ := h
      refine v_if_ne 41 dX5_why_29 (by decide) s4 (fun c => ?_) (fun c => ?_)
      · have h := ht c
        obtain ⟨s7, h⟩ := h
        refine v_aload_n 0 dX5_why_41 rfl (isR_ref _) ?_
        refine m_get K dX5_why_42 fX5_130 rfl ?_
        refine v_iload_n 1 dX5_why_45 rfl ?_
        refine m_iald K 34 dX5_why_46 rfl s7 (by decide) ?_
        exact m_iret K dX5_why_47 rfl h
      · have h := hf c
        obtain ⟨s7, h⟩ := h
        refine v_aload_n 0 dX5_why_32 rfl (isR_ref _) ?_
        refine m_get K dX5_why_33 fX5_127 rfl ?_
        refine v_iload_n 1 dX5_why_36 rfl ?_
        refine m_iald K 33 dX5_why_37 rfl s7 (by decide) ?_
        refine v_goto 47 dX5_why_38 (by decide) ?_
        exact m_iret K dX5_why_47 rfl h
    · have h := hf c
      refine v_iconst dX5_why_26 ?_
      exact m_iret K dX5_why_27 rfl h
/-! told -/
theorem wX5_told_0 (K : KM) (hb : K.G.base ≤ K.m) {x1 : Int} {F : Nat → Int} {A : Nat → Int → Int} (h : (rI x1) ∧ ((x1 = 0 → (SI K (F 31) F A)) ∧ (x1 = 1 → (SI K (F 56) F A)) ∧ (x1 = 2 → (SI K (F 33) F A)) ∧ (x1 = 3 → (SI K (F 32) F A)) ∧ ((x1 < 0 ∨ 3 < x1) → (SI K ((-2)) F A)))) : VM K mX5_told 0 [(0, .ref K.m), (1, vI x1)] [] F A := by
  obtain ⟨s0, h⟩ := h
  refine v_iload_n 1 dX5_told_0 rfl ?_
  obtain ⟨h0, h1, h2, h3, hd⟩ := h
  by_cases c0 : x1 = 0
  · refine v_tableIn 32 dX5_told_1 0 c0 (by decide) (by decide) (by decide) rfl (by decide) ?_
    have h := h0 c0
    refine v_aload_n 0 dX5_told_32 rfl (isR_ref _) ?_
    refine m_get (v := vI (F 31)) K dX5_told_33 fX5_417 rfl ?_
    exact m_iret K dX5_told_36 rfl h
  by_cases c1 : x1 = 1
  · refine v_tableIn 37 dX5_told_1 1 c1 (by decide) (by decide) (by decide) rfl (by decide) ?_
    have h := h1 c1
    refine v_aload_n 0 dX5_told_37 rfl (isR_ref _) ?_
    refine m_get (v := vI (F 56)) K dX5_told_38 fX5_505 rfl ?_
    exact m_iret K dX5_told_41 rfl h
  by_cases c2 : x1 = 2
  · refine v_tableIn 42 dX5_told_1 2 c2 (by decide) (by decide) (by decide) rfl (by decide) ?_
    have h := h2 c2
    refine v_aload_n 0 dX5_told_42 rfl (isR_ref _) ?_
    refine m_get (v := vI (F 33)) K dX5_told_43 fX5_514 rfl ?_
    exact m_iret K dX5_told_46 rfl h
  by_cases c3 : x1 = 3
  · refine v_tableIn 47 dX5_told_1 3 c3 (by decide) (by decide) (by decide) rfl (by decide) ?_
    have h := h3 c3
    refine v_aload_n 0 dX5_told_47 rfl (isR_ref _) ?_
    refine m_get (v := vI (F 32)) K dX5_told_48 fX5_499 rfl ?_
    exact m_iret K dX5_told_51 rfl h
  have cd : x1 < 0 ∨ 3 < x1 := by omega
  refine v_tableOut 52 dX5_told_1 s0 cd (by decide) ?_
  have h := hd cd
  refine v_bipush dX5_told_52 rfl ?_
  exact m_iret K dX5_told_54 rfl h
/-! row -/
theorem wX5_row_0 (K : KM) (hb : K.G.base ≤ K.m) {x1 x2 x3 : Int} {F : Nat → Int} {A : Nat → Int → Int} (h : RI mX5_isRow K [vI x1] F A fun r0 F0 A0 => (rI r0) ∧ ((¬ r0 = 0 → ((rI x2) ∧ (RI mX5_isIn K [vL x2, vL ((-1)), vL 2] F0 A0 fun r3 F3 A3 => (rI r3) ∧ ((r3 = 0 → (SI K ((-2)) F3 A3)) ∧ (¬ r3 = 0 → ((x2 = ((-1)) → ((x2 = ((-1)) → ((0 ≤ x1 ∧ x1 < 4) ∧ ((¬ x2 = ((-1)) → (VM K mX5_row 75 [(0, .ref K.m), (1, vI x1), (4, vI 0)] [] F3 (upA (upA A3 35 x1 x2) 36 x1 x3))) ∧ (x2 = ((-1)) → (VM K mX5_row 75 [(0, .ref K.m), (1, vI x1), (4, vI 0)] [] F3 (upA (upA A3 35 x1 x2) 36 x1 0)))))) ∧ (¬ x2 = ((-1)) → ((rI x3) ∧ ((0 ≤ x3 → ((0 ≤ x1 ∧ x1 < 4) ∧ ((¬ x2 = ((-1)) → (VM K mX5_row 75 [(0, .ref K.m), (1, vI x1), (4, vI 0)] [] F3 (upA (upA A3 35 x1 x2) 36 x1 x3))) ∧ (x2 = ((-1)) → (VM K mX5_row 75 [(0, .ref K.m), (1, vI x1), (4, vI 0)] [] F3 (upA (upA A3 35 x1 x2) 36 x1 0)))))) ∧ (¬ 0 ≤ x3 → (SI K ((-14)) F3 A3))))))) ∧ (¬ x2 = ((-1)) → ((rI x3) ∧ ((x3 ≤ 40 → ((x2 = ((-1)) → ((0 ≤ x1 ∧ x1 < 4) ∧ ((¬ x2 = ((-1)) → (VM K mX5_row 75 [(0, .ref K.m), (1, vI x1), (4, vI 0)] [] F3 (upA (upA A3 35 x1 x2) 36 x1 x3))) ∧ (x2 = ((-1)) → (VM K mX5_row 75 [(0, .ref K.m), (1, vI x1), (4, vI 0)] [] F3 (upA (upA A3 35 x1 x2) 36 x1 0)))))) ∧ (¬ x2 = ((-1)) → ((0 ≤ x3 → ((0 ≤ x1 ∧ x1 < 4) ∧ ((¬ x2 = ((-1)) → (VM K mX5_row 75 [(0, .ref K.m), (1, vI x1), (4, vI 0)] [] F3 (upA (upA A3 35 x1 x2) 36 x1 x3))) ∧ (x2 = ((-1)) → (VM K mX5_row 75 [(0, .ref K.m), (1, vI x1), (4, vI 0)] [] F3 (upA (upA A3 35 x1 x2) 36 x1 0)))))) ∧ (¬ 0 ≤ x3 → (SI K ((-14)) F3 A3)))))) ∧ (¬ x3 ≤ 40 → (SI K ((-2)) F3 A3))))))))))) ∧ (r0 = 0 → (SI K ((-1)) F0 A0)))) : VM K mX5_row 0 [(0, .ref K.m), (1, vI x1), (2, vI x2), (3, vI x3)] [] F A := by
  refine v_iload_n 1 dX5_row_0 rfl ?_
  refine m_callSI K (As := [vI x1]) dX5_row_1 LX5_519 rfl rfl (Nat.le_of_ble_eq_true rfl) h (fun r0 F0 A0 h => ?_)
  obtain ⟨s1, h⟩ := h
  obtain ⟨ht, hf⟩ := h
  refine v_if_ne 9 dX5_row_4 (by decide) s1 (fun c => ?_) (fun c => ?_)
  · have h := ht c
    obtain ⟨s2, h⟩ := h
    refine v_iload_n 2 dX5_row_9 rfl ?_
    refine v_i2l dX5_row_10 s2 ?_
    refine v_ldc2 (z := (-1)) dX5_row_11 (by have h9 := q2383; rwa [show (-1 : Int64) = jL (-1) from by decide] at h9) ?_
    refine v_ldc2 (z := 2) dX5_row_14 q2384 ?_
    refine m_callSI K (As := [vL x2, vL ((-1)), vL 2]) dX5_row_17 LX5_148 rfl rfl (Nat.le_of_ble_eq_true rfl) h (fun r3 F3 A3 h => ?_)
    obtain ⟨s4, h⟩ := h
    obtain ⟨ht, hf⟩ := h
    refine v_if_eq 34 dX5_row_20 (by decide) s4 (fun c => ?_) (fun c => ?_)
    · have h := ht c
      refine v_bipush dX5_row_34 rfl ?_
      exact m_iret K dX5_row_36 rfl h
    · have h := hf c
      refine v_iload_n 2 dX5_row_23 rfl ?_
      refine v_iconst dX5_row_24 ?_
      obtain ⟨ht, hf⟩ := h
      refine v_icmp_eq 37 dX5_row_25 (by decide) s2 (by decide) (fun c => ?_) (fun c => ?_)
      · have h := ht c
        refine v_iload_n 2 dX5_row_37 rfl ?_
        refine v_iconst dX5_row_38 ?_
        obtain ⟨ht, hf⟩ := h
        refine v_icmp_eq 49 dX5_row_39 (by decide) s2 (by decide) (fun c => ?_) (fun c => ?_)
        · have h := ht c
          obtain ⟨s5, h⟩ := h
          refine v_aload_n 0 dX5_row_49 rfl (isR_ref _) ?_
          refine m_get K dX5_row_50 fX5_133 rfl ?_
          refine v_iload_n 1 dX5_row_53 rfl ?_
          refine v_iload_n 2 dX5_row_54 rfl ?_
          refine m_iast K 35 hb dX5_row_55 rfl s5 (by decide) ?_
          refine v_aload_n 0 dX5_row_56 rfl (isR_ref _) ?_
          refine m_get K dX5_row_57 fX5_136 rfl ?_
          refine v_iload_n 1 dX5_row_60 rfl ?_
          refine v_iload_n 2 dX5_row_61 rfl ?_
          refine v_iconst dX5_row_62 ?_
          obtain ⟨ht, hf⟩ := h
          refine v_icmp_ne 70 dX5_row_63 (by decide) s2 (by decide) (fun c => ?_) (fun c => ?_)
          · have h := ht c
            refine v_iload_n 3 dX5_row_70 rfl ?_
            refine m_iast K 36 hb dX5_row_71 rfl s5 (by decide) ?_
            refine v_iconst dX5_row_72 ?_
            refine v_istore dX5_row_73 (by decide) rfl ?_
            refine V.sub [1, 2, 0] rfl ?_
            exact h
          · have h := hf c
            refine v_iconst dX5_row_66 ?_
            refine v_goto 71 dX5_row_67 (by decide) ?_
            refine m_iast K 36 hb dX5_row_71 rfl s5 (by decide) ?_
            refine v_iconst dX5_row_72 ?_
            refine v_istore dX5_row_73 (by decide) rfl ?_
            refine V.sub [1, 2, 0] rfl ?_
            exact h
        · have h := hf c
          obtain ⟨s5, h⟩ := h
          refine v_iload_n 3 dX5_row_42 rfl ?_
          obtain ⟨ht, hf⟩ := h
          refine v_if_ge 49 dX5_row_43 (by decide) s5 (fun c => ?_) (fun c => ?_)
          · have h := ht c
            obtain ⟨s6, h⟩ := h
            refine v_aload_n 0 dX5_row_49 rfl (isR_ref _) ?_
            refine m_get K dX5_row_50 fX5_133 rfl ?_
            refine v_iload_n 1 dX5_row_53 rfl ?_
            refine v_iload_n 2 dX5_row_54 rfl ?_
            refine m_iast K 35 hb dX5_row_55 rfl s6 (by decide) ?_
            refine v_aload_n 0 dX5_row_56 rfl (isR_ref _) ?_
            refine m_get K dX5_row_57 fX5_136 rfl ?_
            refine v_iload_n 1 dX5_row_60 rfl ?_
            refine v_iload_n 2 dX5_row_61 rfl ?_
            refine v_iconst dX5_row_62 ?_
            obtain ⟨ht, hf⟩ := h
            refine v_icmp_ne 70 dX5_row_63 (by decide) s2 (by decide) (fun c => ?_) (fun c => ?_)
            · have h := ht c
              refine v_iload_n 3 dX5_row_70 rfl ?_
              refine m_iast K 36 hb dX5_row_71 rfl s6 (by decide) ?_
              refine v_iconst dX5_row_72 ?_
              refine v_istore dX5_row_73 (by decide) rfl ?_
              refine V.sub [1, 2, 0] rfl ?_
              exact h
            · have h := hf c
              refine v_iconst dX5_row_66 ?_
              refine v_goto 71 dX5_row_67 (by decide) ?_
              refine m_iast K 36 hb dX5_row_71 rfl s6 (by decide) ?_
              refine v_iconst dX5_row_72 ?_
              refine v_istore dX5_row_73 (by decide) rfl ?_
              refine V.sub [1, 2, 0] rfl ?_
              exact h
          · have h := hf c
            refine v_bipush dX5_row_46 rfl ?_
            exact m_iret K dX5_row_48 rfl h
      · have h := hf c
        obtain ⟨s5, h⟩ := h
        refine v_iload_n 3 dX5_row_28 rfl ?_
        refine v_bipush dX5_row_29 rfl ?_
        obtain ⟨ht, hf⟩ := h
        refine v_icmp_le 37 dX5_row_31 (by decide) s5 (by decide) (fun c => ?_) (fun c => ?_)
        · have h := ht c
          refine v_iload_n 2 dX5_row_37 rfl ?_
          refine v_iconst dX5_row_38 ?_
          obtain ⟨ht, hf⟩ := h
          refine v_icmp_eq 49 dX5_row_39 (by decide) s2 (by decide) (fun c => ?_) (fun c => ?_)
          · have h := ht c
            obtain ⟨s6, h⟩ := h
            refine v_aload_n 0 dX5_row_49 rfl (isR_ref _) ?_
            refine m_get K dX5_row_50 fX5_133 rfl ?_
            refine v_iload_n 1 dX5_row_53 rfl ?_
            refine v_iload_n 2 dX5_row_54 rfl ?_
            refine m_iast K 35 hb dX5_row_55 rfl s6 (by decide) ?_
            refine v_aload_n 0 dX5_row_56 rfl (isR_ref _) ?_
            refine m_get K dX5_row_57 fX5_136 rfl ?_
            refine v_iload_n 1 dX5_row_60 rfl ?_
            refine v_iload_n 2 dX5_row_61 rfl ?_
            refine v_iconst dX5_row_62 ?_
            obtain ⟨ht, hf⟩ := h
            refine v_icmp_ne 70 dX5_row_63 (by decide) s2 (by decide) (fun c => ?_) (fun c => ?_)
            · have h := ht c
              refine v_iload_n 3 dX5_row_70 rfl ?_
              refine m_iast K 36 hb dX5_row_71 rfl s6 (by decide) ?_
              refine v_iconst dX5_row_72 ?_
              refine v_istore dX5_row_73 (by decide) rfl ?_
              refine V.sub [1, 2, 0] rfl ?_
              exact h
            · have h := hf c
              refine v_iconst dX5_row_66 ?_
              refine v_goto 71 dX5_row_67 (by decide) ?_
              refine m_iast K 36 hb dX5_row_71 rfl s6 (by decide) ?_
              refine v_iconst dX5_row_72 ?_
              refine v_istore dX5_row_73 (by decide) rfl ?_
              refine V.sub [1, 2, 0] rfl ?_
              exact h
          · have h := hf c
            refine v_iload_n 3 dX5_row_42 rfl ?_
            obtain ⟨ht, hf⟩ := h
            refine v_if_ge 49 dX5_row_43 (by decide) s5 (fun c => ?_) (fun c => ?_)
            · have h := ht c
              obtain ⟨s6, h⟩ := h
              refine v_aload_n 0 dX5_row_49 rfl (isR_ref _) ?_
              refine m_get K dX5_row_50 fX5_133 rfl ?_
              refine v_iload_n 1 dX5_row_53 rfl ?_
              refine v_iload_n 2 dX5_row_54 rfl ?_
              refine m_iast K 35 hb dX5_row_55 rfl s6 (by decide) ?_
              refine v_aload_n 0 dX5_row_56 rfl (isR_ref _) ?_
              refine m_get K dX5_row_57 fX5_136 rfl ?_
              refine v_iload_n 1 dX5_row_60 rfl ?_
              refine v_iload_n 2 dX5_row_61 rfl ?_
              refine v_iconst dX5_row_62 ?_
              obtain ⟨ht, hf⟩ := h
              refine v_icmp_ne 70 dX5_row_63 (by decide) s2 (by decide) (fun c => ?_) (fun c => ?_)
              · have h := ht c
                refine v_iload_n 3 dX5_row_70 rfl ?_
                refine m_iast K 36 hb dX5_row_71 rfl s6 (by decide) ?_
                refine v_iconst dX5_row_72 ?_
                refine v_istore dX5_row_73 (by decide) rfl ?_
                refine V.sub [1, 2, 0] rfl ?_
                exact h
              · have h := hf c
                refine v_iconst dX5_row_66 ?_
                refine v_goto 71 dX5_row_67 (by decide) ?_
                refine m_iast K 36 hb dX5_row_71 rfl s6 (by decide) ?_
                refine v_iconst dX5_row_72 ?_
                refine v_istore dX5_row_73 (by decide) rfl ?_
                refine V.sub [1, 2, 0] rfl ?_
                exact h
            · have h := hf c
              refine v_bipush dX5_row_46 rfl ?_
              exact m_iret K dX5_row_48 rfl h
        · have h := hf c
          refine v_bipush dX5_row_34 rfl ?_
          exact m_iret K dX5_row_36 rfl h
  · have h := hf c
    refine v_iconst dX5_row_7 ?_
    exact m_iret K dX5_row_8 rfl h
theorem wX5_row_75 (K : KM) (hb : K.G.base ≤ K.m) {x1 x4 : Int} {F : Nat → Int} {A : Nat → Int → Int} (h : (rI x4) ∧ ((40 ≤ x4 → (SI K 1 F A)) ∧ (¬ 40 ≤ x4 → ((0 ≤ ((40 * x1) + x4) ∧ ((40 * x1) + x4) < 160) ∧ (VM K mX5_row 75 [(0, .ref K.m), (1, vI x1), (4, vI (x4 + 1))] [] F (upA A 37 ((40 * x1) + x4) 0)))))) : VM K mX5_row 75 [(0, .ref K.m), (1, vI x1), (4, vI x4)] [] F A := by
  obtain ⟨s0, h⟩ := h
  refine v_iload 2 dX5_row_75 rfl ?_
  refine v_bipush dX5_row_77 rfl ?_
  obtain ⟨ht, hf⟩ := h
  refine v_icmp_ge 101 dX5_row_79 (by decide) s0 (by decide) (fun c => ?_) (fun c => ?_)
  · have h := ht c
    refine v_iconst dX5_row_101 ?_
    exact m_iret K dX5_row_102 rfl h
  · have h := hf c
    obtain ⟨s1, h⟩ := h
    refine v_aload_n 0 dX5_row_82 rfl (isR_ref _) ?_
    refine m_get K dX5_row_83 fX5_139 rfl ?_
    refine v_bipush dX5_row_86 rfl ?_
    refine v_iload_n 1 dX5_row_88 rfl ?_
    refine v_imul dX5_row_89 ?_
    refine v_iload 2 dX5_row_90 rfl ?_
    refine v_iadd dX5_row_92 ?_
    refine v_lconst (z := 0) dX5_row_93 rfl ?_
    refine m_last K 37 hb dX5_row_94 rfl s1 (by decide) ?_
    refine v_iinc 2 dX5_row_95 rfl (by decide) rfl ?_
    refine v_goto 75 dX5_row_98 (by decide) ?_
    refine V.sub [1, 2, 0] rfl ?_
    exact h
/-! isRow -/
theorem wX5_isRow_0 (K : KM) (hb : K.G.base ≤ K.m) {x0 : Int} {F : Nat → Int} {A : Nat → Int → Int} (h : (rI x0) ∧ (RI mX5_isIn K [vL x0, vL 0, vL 3] F A fun r1 F1 A1 => (r1 = 0 ∨ r1 = 1) ∧ (SI K r1 F1 A1))) : VM K mX5_isRow 0 [(0, vI x0)] [] F A := by
  obtain ⟨s0, h⟩ := h
  refine v_iload_n 0 dX5_isRow_0 rfl ?_
  refine v_i2l dX5_isRow_1 s0 ?_
  refine v_lconst (z := 0) dX5_isRow_2 rfl ?_
  refine v_ldc2 (z := 3) dX5_isRow_3 q2382 ?_
  refine m_callSI K (As := [vL x0, vL 0, vL 3]) dX5_isRow_6 LX5_148 rfl rfl (Nat.le_of_ble_eq_true rfl) h (fun r1 F1 A1 h => ?_)
  obtain ⟨s2, h⟩ := h
  exact m_zret K dX5_isRow_9 rfl s2 h
/-! put -/
theorem wX5_put_0 (K : KM) (hb : K.G.base ≤ K.m) {x1 x2 x3 : Int} {F : Nat → Int} {A : Nat → Int → Int} (h : RI mX5_isRow K [vI x1] F A fun r0 F0 A0 => (rI r0) ∧ ((¬ r0 = 0 → ((0 ≤ x1 ∧ x1 < 4) ∧ (rI (A0 35 x1)) ∧ ((¬ (A0 35 x1) = ((-1)) → ((rI x2) ∧ (rI ((A0 36 x1) - 1)) ∧ (RI mX5_isIn K [vL x2, vL 0, vL ((A0 36 x1) - 1)] F0 A0 fun r6 F6 A6 => (rI r6) ∧ ((¬ r6 = 0 → (RL mX5_held K [vI (A6 35 x1), vL x3] F6 A6 fun r8 F8 A8 => (0 ≤ ((40 * x1) + x2) ∧ ((40 * x1) + x2) < 160) ∧ (SI K 1 F8 (upA A8 37 ((40 * x1) + x2) r8)))) ∧ (r6 = 0 → (SI K ((-13)) F6 A6)))))) ∧ ((A0 35 x1) = ((-1)) → (SI K ((-11)) F0 A0))))) ∧ (r0 = 0 → (SI K ((-1)) F0 A0)))) : VM K mX5_put 0 [(0, .ref K.m), (1, vI x1), (2, vI x2), (3, vL x3)] [] F A := by
  refine v_iload_n 1 dX5_put_0 rfl ?_
  refine m_callSI K (As := [vI x1]) dX5_put_1 LX5_519 rfl rfl (Nat.le_of_ble_eq_true rfl) h (fun r0 F0 A0 h => ?_)
  obtain ⟨s1, h⟩ := h
  obtain ⟨ht, hf⟩ := h
  refine v_if_ne 9 dX5_put_4 (by decide) s1 (fun c => ?_) (fun c => ?_)
  · have h := ht c
    obtain ⟨s2, s3, h⟩ := h
    refine v_aload_n 0 dX5_put_9 rfl (isR_ref _) ?_
    refine m_get K dX5_put_10 fX5_133 rfl ?_
    refine v_iload_n 1 dX5_put_13 rfl ?_
    refine m_iald K 35 dX5_put_14 rfl s2 (by decide) ?_
    refine v_iconst dX5_put_15 ?_
    obtain ⟨ht, hf⟩ := h
    refine v_icmp_ne 22 dX5_put_16 (by decide) s3 (by decide) (fun c => ?_) (fun c => ?_)
    · have h := ht c
      obtain ⟨s4, s5, h⟩ := h
      refine v_iload_n 2 dX5_put_22 rfl ?_
      refine v_i2l dX5_put_23 s4 ?_
      refine v_lconst (z := 0) dX5_put_24 rfl ?_
      refine v_aload_n 0 dX5_put_25 rfl (isR_ref _) ?_
      refine m_get K dX5_put_26 fX5_136 rfl ?_
      refine v_iload_n 1 dX5_put_29 rfl ?_
      refine m_iald K 36 dX5_put_30 rfl s2 (by decide) ?_
      refine v_iconst dX5_put_31 ?_
      refine v_isub dX5_put_32 ?_
      refine v_i2l dX5_put_33 s5 ?_
      refine m_callSI K (As := [vL x2, vL 0, vL ((A0 36 x1) - 1)]) dX5_put_34 LX5_148 rfl rfl (Nat.le_of_ble_eq_true rfl) h (fun r6 F6 A6 h => ?_)
      obtain ⟨s7, h⟩ := h
      obtain ⟨ht, hf⟩ := h
      refine v_if_ne 43 dX5_put_37 (by decide) s7 (fun c => ?_) (fun c => ?_)
      · have h := ht c
        refine v_aload_n 0 dX5_put_43 rfl (isR_ref _) ?_
        refine m_get K dX5_put_44 fX5_139 rfl ?_
        refine v_bipush dX5_put_47 rfl ?_
        refine v_iload_n 1 dX5_put_49 rfl ?_
        refine v_imul dX5_put_50 ?_
        refine v_iload_n 2 dX5_put_51 rfl ?_
        refine v_iadd dX5_put_52 ?_
        refine v_aload_n 0 dX5_put_53 rfl (isR_ref _) ?_
        refine m_get K dX5_put_54 fX5_133 rfl ?_
        refine v_iload_n 1 dX5_put_57 rfl ?_
        refine m_iald K 35 dX5_put_58 rfl s2 (by decide) ?_
        refine v_lload_n 3 dX5_put_59 rfl ?_
        refine m_callSL K (As := [vI (A6 35 x1), vL x3]) dX5_put_60 LX5_526 rfl rfl (Nat.le_of_ble_eq_true rfl) h (fun r8 F8 A8 h => ?_)
        obtain ⟨s9, h⟩ := h
        refine m_last K 37 hb dX5_put_63 rfl s9 (by decide) ?_
        refine v_iconst dX5_put_64 ?_
        exact m_iret K dX5_put_65 rfl h
      · have h := hf c
        refine v_bipush dX5_put_40 rfl ?_
        exact m_iret K dX5_put_42 rfl h
    · have h := hf c
      refine v_bipush dX5_put_19 rfl ?_
      exact m_iret K dX5_put_21 rfl h
  · have h := hf c
    refine v_iconst dX5_put_7 ?_
    exact m_iret K dX5_put_8 rfl h
/-! held -/
theorem wX5_held_0 (K : KM) (hb : K.G.base ≤ K.m) {x0 x1 : Int} {F : Nat → Int} {A : Nat → Int → Int} (h : (rI x0) ∧ ((¬ x0 = 0 → ((¬ x0 = 1 → ((rI (i2b (wI x1))) ∧ (SL K (i2b (wI x1)) F A))) ∧ (x0 = 1 → (SL K x1 F A)))) ∧ (x0 = 0 → (SL K (wI x1) F A)))) : VM K mX5_held 0 [(0, vI x0), (1, vL x1)] [] F A := by
  obtain ⟨s0, h⟩ := h
  refine v_iload_n 0 dX5_held_0 rfl ?_
  obtain ⟨ht, hf⟩ := h
  refine v_if_ne 10 dX5_held_1 (by decide) s0 (fun c => ?_) (fun c => ?_)
  · have h := ht c
    refine v_iload_n 0 dX5_held_10 rfl ?_
    refine v_iconst dX5_held_11 ?_
    obtain ⟨ht, hf⟩ := h
    refine v_icmp_ne 19 dX5_held_12 (by decide) s0 (by decide) (fun c => ?_) (fun c => ?_)
    · have h := ht c
      obtain ⟨s1, h⟩ := h
      refine v_lload_n 1 dX5_held_19 rfl ?_
      refine v_l2i dX5_held_20 ?_
      refine v_wI ?_
      refine v_i2b dX5_held_21 ?_
      refine v_i2l dX5_held_22 s1 ?_
      exact m_lret K dX5_held_23 rfl h
    · have h := hf c
      refine v_lload_n 1 dX5_held_15 rfl ?_
      refine v_goto 23 dX5_held_16 (by decide) ?_
      exact m_lret K dX5_held_23 rfl h
  · have h := hf c
    refine v_lload_n 1 dX5_held_4 rfl ?_
    refine v_l2i dX5_held_5 ?_
    refine v_wI ?_
    refine v_i2l dX5_held_6 (wI_rI _) ?_
    refine v_goto 23 dX5_held_7 (by decide) ?_
    exact m_lret K dX5_held_23 rfl h
/-! get -/
theorem wX5_get_0 (K : KM) (hb : K.G.base ≤ K.m) {x1 x2 : Int} {F : Nat → Int} {A : Nat → Int → Int} (h : RI mX5_isRow K [vI x1] F A fun r0 F0 A0 => (rI r0) ∧ ((r0 = 0 → (SL K ((-9223372036854775808)) F0 A0)) ∧ (¬ r0 = 0 → ((0 ≤ x1 ∧ x1 < 4) ∧ (rI (A0 35 x1)) ∧ (((A0 35 x1) = ((-1)) → (SL K ((-9223372036854775808)) F0 A0)) ∧ (¬ (A0 35 x1) = ((-1)) → ((rI x2) ∧ (rI ((A0 36 x1) - 1)) ∧ (RI mX5_isIn K [vL x2, vL 0, vL ((A0 36 x1) - 1)] F0 A0 fun r6 F6 A6 => (rI r6) ∧ ((r6 = 0 → (SL K ((-9223372036854775808)) F6 A6)) ∧ (¬ r6 = 0 → ((0 ≤ ((40 * x1) + x2) ∧ ((40 * x1) + x2) < 160) ∧ (SL K (A6 37 ((40 * x1) + x2)) F6 A6)))))))))))) : VM K mX5_get 0 [(0, .ref K.m), (1, vI x1), (2, vI x2)] [] F A := by
  refine v_iload_n 1 dX5_get_0 rfl ?_
  refine m_callSI K (As := [vI x1]) dX5_get_1 LX5_519 rfl rfl (Nat.le_of_ble_eq_true rfl) h (fun r0 F0 A0 h => ?_)
  obtain ⟨s1, h⟩ := h
  obtain ⟨ht, hf⟩ := h
  refine v_if_eq 49 dX5_get_4 (by decide) s1 (fun c => ?_) (fun c => ?_)
  · have h := ht c
    refine v_ldc2 (z := (-9223372036854775808)) dX5_get_49 (by have h9 := q2241; rwa [show (-9223372036854775808 : Int64) = jL (-9223372036854775808) from by decide] at h9) ?_
    exact m_lret K dX5_get_52 rfl h
  · have h := hf c
    obtain ⟨s2, s3, h⟩ := h
    refine v_aload_n 0 dX5_get_7 rfl (isR_ref _) ?_
    refine m_get K dX5_get_8 fX5_133 rfl ?_
    refine v_iload_n 1 dX5_get_11 rfl ?_
    refine m_iald K 35 dX5_get_12 rfl s2 (by decide) ?_
    refine v_iconst dX5_get_13 ?_
    obtain ⟨ht, hf⟩ := h
    refine v_icmp_eq 49 dX5_get_14 (by decide) s3 (by decide) (fun c => ?_) (fun c => ?_)
    · have h := ht c
      refine v_ldc2 (z := (-9223372036854775808)) dX5_get_49 (by have h9 := q2241; rwa [show (-9223372036854775808 : Int64) = jL (-9223372036854775808) from by decide] at h9) ?_
      exact m_lret K dX5_get_52 rfl h
    · have h := hf c
      obtain ⟨s4, s5, h⟩ := h
      refine v_iload_n 2 dX5_get_17 rfl ?_
      refine v_i2l dX5_get_18 s4 ?_
      refine v_lconst (z := 0) dX5_get_19 rfl ?_
      refine v_aload_n 0 dX5_get_20 rfl (isR_ref _) ?_
      refine m_get K dX5_get_21 fX5_136 rfl ?_
      refine v_iload_n 1 dX5_get_24 rfl ?_
      refine m_iald K 36 dX5_get_25 rfl s2 (by decide) ?_
      refine v_iconst dX5_get_26 ?_
      refine v_isub dX5_get_27 ?_
      refine v_i2l dX5_get_28 s5 ?_
      refine m_callSI K (As := [vL x2, vL 0, vL ((A0 36 x1) - 1)]) dX5_get_29 LX5_148 rfl rfl (Nat.le_of_ble_eq_true rfl) h (fun r6 F6 A6 h => ?_)
      obtain ⟨s7, h⟩ := h
      obtain ⟨ht, hf⟩ := h
      refine v_if_eq 49 dX5_get_32 (by decide) s7 (fun c => ?_) (fun c => ?_)
      · have h := ht c
        refine v_ldc2 (z := (-9223372036854775808)) dX5_get_49 (by have h9 := q2241; rwa [show (-9223372036854775808 : Int64) = jL (-9223372036854775808) from by decide] at h9) ?_
        exact m_lret K dX5_get_52 rfl h
      · have h := hf c
        obtain ⟨s8, h⟩ := h
        refine v_aload_n 0 dX5_get_35 rfl (isR_ref _) ?_
        refine m_get K dX5_get_36 fX5_139 rfl ?_
        refine v_bipush dX5_get_39 rfl ?_
        refine v_iload_n 1 dX5_get_41 rfl ?_
        refine v_imul dX5_get_42 ?_
        refine v_iload_n 2 dX5_get_43 rfl ?_
        refine v_iadd dX5_get_44 ?_
        refine m_lald K 37 dX5_get_45 rfl s8 (by decide) ?_
        refine v_goto 52 dX5_get_46 (by decide) ?_
        exact m_lret K dX5_get_52 rfl h
/-! fill -/
theorem wX5_fill_0 (K : KM) (hb : K.G.base ≤ K.m) {x1 x2 : Int} {F : Nat → Int} {A : Nat → Int → Int} (h : RI mX5_isRow K [vI x1] F A fun r0 F0 A0 => (rI r0) ∧ ((r0 = 0 → (SI K ((-1)) F0 A0)) ∧ (¬ r0 = 0 → (RI mX5_isListOf K [.ref K.m, vI x2] F0 A0 fun r2 F2 A2 => (rI r2) ∧ ((¬ r2 = 0 → ((0 ≤ x1 ∧ x1 < 4) ∧ (rI (A2 35 x1)) ∧ ((¬ (A2 35 x1) = ((-1)) → ((¬ (A2 35 x1) = 2 → (VM K mX5_fill 45 [(0, .ref K.m), (1, vI x1), (2, vI x2), (3, vI 0)] [] F2 A2)) ∧ ((A2 35 x1) = 2 → (SI K ((-12)) F2 A2)))) ∧ ((A2 35 x1) = ((-1)) → (SI K ((-11)) F2 A2))))) ∧ (r2 = 0 → (SI K ((-1)) F2 A2))))))) : VM K mX5_fill 0 [(0, .ref K.m), (1, vI x1), (2, vI x2)] [] F A := by
  refine v_iload_n 1 dX5_fill_0 rfl ?_
  refine m_callSI K (As := [vI x1]) dX5_fill_1 LX5_519 rfl rfl (Nat.le_of_ble_eq_true rfl) h (fun r0 F0 A0 h => ?_)
  obtain ⟨s1, h⟩ := h
  obtain ⟨ht, hf⟩ := h
  refine v_if_eq 15 dX5_fill_4 (by decide) s1 (fun c => ?_) (fun c => ?_)
  · have h := ht c
    refine v_iconst dX5_fill_15 ?_
    exact m_iret K dX5_fill_16 rfl h
  · have h := hf c
    refine v_aload_n 0 dX5_fill_7 rfl (isR_ref _) ?_
    refine v_iload_n 2 dX5_fill_8 rfl ?_
    refine m_callI K (As := [vI x2]) dX5_fill_9 LX5_232 rfl rfl (Nat.le_of_ble_eq_true rfl) h (fun r2 F2 A2 h => ?_)
    obtain ⟨s3, h⟩ := h
    obtain ⟨ht, hf⟩ := h
    refine v_if_ne 17 dX5_fill_12 (by decide) s3 (fun c => ?_) (fun c => ?_)
    · have h := ht c
      obtain ⟨s4, s5, h⟩ := h
      refine v_aload_n 0 dX5_fill_17 rfl (isR_ref _) ?_
      refine m_get K dX5_fill_18 fX5_133 rfl ?_
      refine v_iload_n 1 dX5_fill_21 rfl ?_
      refine m_iald K 35 dX5_fill_22 rfl s4 (by decide) ?_
      refine v_iconst dX5_fill_23 ?_
      obtain ⟨ht, hf⟩ := h
      refine v_icmp_ne 30 dX5_fill_24 (by decide) s5 (by decide) (fun c => ?_) (fun c => ?_)
      · have h := ht c
        refine v_aload_n 0 dX5_fill_30 rfl (isR_ref _) ?_
        refine m_get K dX5_fill_31 fX5_133 rfl ?_
        refine v_iload_n 1 dX5_fill_34 rfl ?_
        refine m_iald K 35 dX5_fill_35 rfl s4 (by decide) ?_
        refine v_iconst dX5_fill_36 ?_
        obtain ⟨ht, hf⟩ := h
        refine v_icmp_ne 43 dX5_fill_37 (by decide) s5 (by decide) (fun c => ?_) (fun c => ?_)
        · have h := ht c
          refine v_iconst dX5_fill_43 ?_
          refine v_istore_n dX5_fill_44 (by decide) rfl ?_
          refine V.sub [1, 2, 3, 0] rfl ?_
          exact h
        · have h := hf c
          refine v_bipush dX5_fill_40 rfl ?_
          exact m_iret K dX5_fill_42 rfl h
      · have h := hf c
        refine v_bipush dX5_fill_27 rfl ?_
        exact m_iret K dX5_fill_29 rfl h
    · have h := hf c
      refine v_iconst dX5_fill_15 ?_
      exact m_iret K dX5_fill_16 rfl h
theorem wX5_fill_45 (K : KM) (hb : K.G.base ≤ K.m) {x1 x2 x3 : Int} {F : Nat → Int} {A : Nat → Int → Int} (h : (0 ≤ x1 ∧ x1 < 4) ∧ (rI x3) ∧ (rI (A 36 x1)) ∧ (((A 36 x1) ≤ x3 → (SI K x3 F A)) ∧ (¬ (A 36 x1) ≤ x3 → ((0 ≤ x2 ∧ x2 < 11) ∧ (rI (A 4 x2)) ∧ (((A 4 x2) ≤ x3 → (SI K x3 F A)) ∧ (¬ (A 4 x2) ≤ x3 → (RI mX5_keyOf K [.ref K.m, vI x2, vI x3] F A fun r5 F5 A5 => (rI r5) ∧ (0 ≤ ((40 * x1) + x3) ∧ ((40 * x1) + x3) < 160) ∧ (VM K mX5_fill 45 [(0, .ref K.m), (1, vI x1), (2, vI x2), (3, vI (x3 + 1))] [] F5 (upA A5 37 ((40 * x1) + x3) r5))))))))) : VM K mX5_fill 45 [(0, .ref K.m), (1, vI x1), (2, vI x2), (3, vI x3)] [] F A := by
  obtain ⟨s0, s1, s2, h⟩ := h
  refine v_iload_n 3 dX5_fill_45 rfl ?_
  refine v_aload_n 0 dX5_fill_46 rfl (isR_ref _) ?_
  refine m_get K dX5_fill_47 fX5_136 rfl ?_
  refine v_iload_n 1 dX5_fill_50 rfl ?_
  refine m_iald K 36 dX5_fill_51 rfl s0 (by decide) ?_
  obtain ⟨ht, hf⟩ := h
  refine v_icmp_ge 89 dX5_fill_52 (by decide) s1 s2 (fun c => ?_) (fun c => ?_)
  · have h := ht c
    refine v_iload_n 3 dX5_fill_89 rfl ?_
    exact m_iret K dX5_fill_90 rfl h
  · have h := hf c
    obtain ⟨s3, s4, h⟩ := h
    refine v_iload_n 3 dX5_fill_55 rfl ?_
    refine v_aload_n 0 dX5_fill_56 rfl (isR_ref _) ?_
    refine m_get K dX5_fill_57 fX5_28 rfl ?_
    refine v_iload_n 2 dX5_fill_60 rfl ?_
    refine m_iald K 4 dX5_fill_61 rfl s3 (by decide) ?_
    obtain ⟨ht, hf⟩ := h
    refine v_icmp_ge 89 dX5_fill_62 (by decide) s1 s4 (fun c => ?_) (fun c => ?_)
    · have h := ht c
      refine v_iload_n 3 dX5_fill_89 rfl ?_
      exact m_iret K dX5_fill_90 rfl h
    · have h := hf c
      refine v_aload_n 0 dX5_fill_65 rfl (isR_ref _) ?_
      refine m_get K dX5_fill_66 fX5_139 rfl ?_
      refine v_bipush dX5_fill_69 rfl ?_
      refine v_iload_n 1 dX5_fill_71 rfl ?_
      refine v_imul dX5_fill_72 ?_
      refine v_iload_n 3 dX5_fill_73 rfl ?_
      refine v_iadd dX5_fill_74 ?_
      refine v_aload_n 0 dX5_fill_75 rfl (isR_ref _) ?_
      refine v_iload_n 2 dX5_fill_76 rfl ?_
      refine v_iload_n 3 dX5_fill_77 rfl ?_
      refine m_callI K (As := [vI x2, vI x3]) dX5_fill_78 LX5_235 rfl rfl (Nat.le_of_ble_eq_true rfl) h (fun r5 F5 A5 h => ?_)
      obtain ⟨s6, s7, h⟩ := h
      refine v_i2l dX5_fill_81 s6 ?_
      refine m_last K 37 hb dX5_fill_82 rfl s7 (by decide) ?_
      refine v_iinc 3 dX5_fill_83 rfl (by decide) rfl ?_
      refine v_goto 45 dX5_fill_86 (by decide) ?_
      refine V.sub [1, 2, 3, 0] rfl ?_
      exact h
/-! judge -/
theorem wX5_judge_0 (K : KM) (hb : K.G.base ≤ K.m) {x1 x2 : Int} {F : Nat → Int} {A : Nat → Int → Int} (h : RI mX5_isRow K [vI x1] F A fun r0 F0 A0 => (rI r0) ∧ ((r0 = 0 → (SI K ((-1)) F0 A0)) ∧ (¬ r0 = 0 → (RI mX5_isListOf K [.ref K.m, vI x2] F0 A0 fun r2 F2 A2 => (rI r2) ∧ ((¬ r2 = 0 → ((0 ≤ x1 ∧ x1 < 4) ∧ (rI (A2 35 x1)) ∧ ((¬ (A2 35 x1) = ((-1)) → (VM K mX5_judge 32 [(0, .ref K.m), (1, vI x1), (2, vI x2), (3, vI 0)] [] F2 A2)) ∧ ((A2 35 x1) = ((-1)) → (SI K ((-11)) F2 A2))))) ∧ (r2 = 0 → (SI K ((-1)) F2 A2))))))) : VM K mX5_judge 0 [(0, .ref K.m), (1, vI x1), (2, vI x2)] [] F A := by
  refine v_iload_n 1 dX5_judge_0 rfl ?_
  refine m_callSI K (As := [vI x1]) dX5_judge_1 LX5_519 rfl rfl (Nat.le_of_ble_eq_true rfl) h (fun r0 F0 A0 h => ?_)
  obtain ⟨s1, h⟩ := h
  obtain ⟨ht, hf⟩ := h
  refine v_if_eq 15 dX5_judge_4 (by decide) s1 (fun c => ?_) (fun c => ?_)
  · have h := ht c
    refine v_iconst dX5_judge_15 ?_
    exact m_iret K dX5_judge_16 rfl h
  · have h := hf c
    refine v_aload_n 0 dX5_judge_7 rfl (isR_ref _) ?_
    refine v_iload_n 2 dX5_judge_8 rfl ?_
    refine m_callI K (As := [vI x2]) dX5_judge_9 LX5_232 rfl rfl (Nat.le_of_ble_eq_true rfl) h (fun r2 F2 A2 h => ?_)
    obtain ⟨s3, h⟩ := h
    obtain ⟨ht, hf⟩ := h
    refine v_if_ne 17 dX5_judge_12 (by decide) s3 (fun c => ?_) (fun c => ?_)
    · have h := ht c
      obtain ⟨s4, s5, h⟩ := h
      refine v_aload_n 0 dX5_judge_17 rfl (isR_ref _) ?_
      refine m_get K dX5_judge_18 fX5_133 rfl ?_
      refine v_iload_n 1 dX5_judge_21 rfl ?_
      refine m_iald K 35 dX5_judge_22 rfl s4 (by decide) ?_
      refine v_iconst dX5_judge_23 ?_
      obtain ⟨ht, hf⟩ := h
      refine v_icmp_ne 30 dX5_judge_24 (by decide) s5 (by decide) (fun c => ?_) (fun c => ?_)
      · have h := ht c
        refine v_iconst dX5_judge_30 ?_
        refine v_istore_n dX5_judge_31 (by decide) rfl ?_
        refine V.sub [1, 2, 3, 0] rfl ?_
        exact h
      · have h := hf c
        refine v_bipush dX5_judge_27 rfl ?_
        exact m_iret K dX5_judge_29 rfl h
    · have h := hf c
      refine v_iconst dX5_judge_15 ?_
      exact m_iret K dX5_judge_16 rfl h
theorem wX5_judge_32 (K : KM) (hb : K.G.base ≤ K.m) {x1 x2 x3 : Int} {F : Nat → Int} {A : Nat → Int → Int} (h : (0 ≤ x1 ∧ x1 < 4) ∧ (rI x3) ∧ (rI (A 36 x1)) ∧ (((A 36 x1) ≤ x3 → (SI K ((-1)) F A)) ∧ (¬ (A 36 x1) ≤ x3 → ((0 ≤ x2 ∧ x2 < 11) ∧ (rI (A 4 x2)) ∧ (((A 4 x2) ≤ x3 → (SI K x3 F A)) ∧ (¬ (A 4 x2) ≤ x3 → ((0 ≤ ((40 * x1) + x3) ∧ ((40 * x1) + x3) < 160) ∧ (RI mX5_keyOf K [.ref K.m, vI x2, vI x3] F A fun r6 F6 A6 => (rI r6) ∧ (rL (A 37 ((40 * x1) + x3))) ∧ (rL r6) ∧ (((cmpI (A 37 ((40 * x1) + x3)) r6) = 0 → (VM K mX5_judge 32 [(0, .ref K.m), (1, vI x1), (2, vI x2), (3, vI (x3 + 1))] [] F6 A6)) ∧ (¬ (cmpI (A 37 ((40 * x1) + x3)) r6) = 0 → (SI K x3 F6 A6))))))))))) : VM K mX5_judge 32 [(0, .ref K.m), (1, vI x1), (2, vI x2), (3, vI x3)] [] F A := by
  obtain ⟨s0, s1, s2, h⟩ := h
  refine v_iload_n 3 dX5_judge_32 rfl ?_
  refine v_aload_n 0 dX5_judge_33 rfl (isR_ref _) ?_
  refine m_get K dX5_judge_34 fX5_136 rfl ?_
  refine v_iload_n 1 dX5_judge_37 rfl ?_
  refine m_iald K 36 dX5_judge_38 rfl s0 (by decide) ?_
  obtain ⟨ht, hf⟩ := h
  refine v_icmp_ge 82 dX5_judge_39 (by decide) s1 s2 (fun c => ?_) (fun c => ?_)
  · have h := ht c
    refine v_iconst dX5_judge_82 ?_
    exact m_iret K dX5_judge_83 rfl h
  · have h := hf c
    obtain ⟨s3, s4, h⟩ := h
    refine v_iload_n 3 dX5_judge_42 rfl ?_
    refine v_aload_n 0 dX5_judge_43 rfl (isR_ref _) ?_
    refine m_get K dX5_judge_44 fX5_28 rfl ?_
    refine v_iload_n 2 dX5_judge_47 rfl ?_
    refine m_iald K 4 dX5_judge_48 rfl s3 (by decide) ?_
    obtain ⟨ht, hf⟩ := h
    refine v_icmp_ge 74 dX5_judge_49 (by decide) s1 s4 (fun c => ?_) (fun c => ?_)
    · have h := ht c
      refine v_iload_n 3 dX5_judge_74 rfl ?_
      exact m_iret K dX5_judge_75 rfl h
    · have h := hf c
      obtain ⟨s5, h⟩ := h
      refine v_aload_n 0 dX5_judge_52 rfl (isR_ref _) ?_
      refine m_get K dX5_judge_53 fX5_139 rfl ?_
      refine v_bipush dX5_judge_56 rfl ?_
      refine v_iload_n 1 dX5_judge_58 rfl ?_
      refine v_imul dX5_judge_59 ?_
      refine v_iload_n 3 dX5_judge_60 rfl ?_
      refine v_iadd dX5_judge_61 ?_
      refine m_lald K 37 dX5_judge_62 rfl s5 (by decide) ?_
      refine v_aload_n 0 dX5_judge_63 rfl (isR_ref _) ?_
      refine v_iload_n 2 dX5_judge_64 rfl ?_
      refine v_iload_n 3 dX5_judge_65 rfl ?_
      refine m_callI K (As := [vI x2, vI x3]) dX5_judge_66 LX5_235 rfl rfl (Nat.le_of_ble_eq_true rfl) h (fun r6 F6 A6 h => ?_)
      obtain ⟨s7, s8, s9, h⟩ := h
      refine v_i2l dX5_judge_69 s7 ?_
      refine v_lcmp dX5_judge_70 s8 s9 ?_
      obtain ⟨ht, hf⟩ := h
      refine v_if_eq 76 dX5_judge_71 (by decide) cmpI_rI (fun c => ?_) (fun c => ?_)
      · have h := ht c
        refine v_iinc 3 dX5_judge_76 rfl (by decide) rfl ?_
        refine v_goto 32 dX5_judge_79 (by decide) ?_
        refine V.sub [1, 2, 3, 0] rfl ?_
        exact h
      · have h := hf c
        refine v_iload_n 3 dX5_judge_74 rfl ?_
        exact m_iret K dX5_judge_75 rfl h
/-! copy -/
theorem wX5_copy_0 (K : KM) (hb : K.G.base ≤ K.m) {x1 x2 x3 x4 x5 : Int} {F : Nat → Int} {A : Nat → Int → Int} (h : RI mX5_isRow K [vI x1] F A fun r0 F0 A0 => (rI r0) ∧ ((r0 = 0 → (SI K ((-1)) F0 A0)) ∧ (¬ r0 = 0 → (RI mX5_isRow K [vI x3] F0 A0 fun r2 F2 A2 => (rI r2) ∧ ((¬ r2 = 0 → ((0 ≤ x1 ∧ x1 < 4) ∧ (rI (A2 35 x1)) ∧ (((A2 35 x1) = ((-1)) → (SI K ((-11)) F2 A2)) ∧ (¬ (A2 35 x1) = ((-1)) → ((0 ≤ x3 ∧ x3 < 4) ∧ (rI (A2 35 x3)) ∧ ((¬ (A2 35 x3) = ((-1)) → (((A2 35 x1) = (A2 35 x3) → ((rI x5) ∧ ((x5 < 0 → (SI K ((-13)) F2 A2)) ∧ (¬ x5 < 0 → ((rI x2) ∧ ((x2 < 0 → (SI K ((-13)) F2 A2)) ∧ (¬ x2 < 0 → ((rI x4) ∧ ((x4 < 0 → (SI K ((-13)) F2 A2)) ∧ (¬ x4 < 0 → ((rI ((A2 36 x1) - x5)) ∧ ((((A2 36 x1) - x5) < x2 → (SI K ((-13)) F2 A2)) ∧ (¬ ((A2 36 x1) - x5) < x2 → ((rI ((A2 36 x3) - x5)) ∧ ((x4 ≤ ((A2 36 x3) - x5) → (((0 : Int) ≤ ((40 * x1) + x2) ∧ ((40 * x1) + x2) + x5 ≤ 160) ∧ ((0 : Int) ≤ 0 ∧ 0 + x5 ≤ 40) ∧ (0 ≤ x5) ∧ (1 ≤ K.d) ∧ ((0 : Int) ≤ ((40 * x3) + x4) ∧ ((40 * x3) + x4) + x5 ≤ 160) ∧ (SI K x5 F2 (cpA (cpA A2 37 38 ((40 * x1) + x2) 0 x5) 38 37 0 ((40 * x3) + x4) x5)))) ∧ (¬ x4 ≤ ((A2 36 x3) - x5) → (SI K ((-13)) F2 A2))))))))))))))))) ∧ (¬ (A2 35 x1) = (A2 35 x3) → (SI K ((-12)) F2 A2)))) ∧ ((A2 35 x3) = ((-1)) → (SI K ((-11)) F2 A2)))))))) ∧ (r2 = 0 → (SI K ((-1)) F2 A2))))))) : VM K mX5_copy 0 [(0, .ref K.m), (1, vI x1), (2, vI x2), (3, vI x3), (4, vI x4), (5, vI x5)] [] F A := by
  refine v_iload_n 1 dX5_copy_0 rfl ?_
  refine m_callSI K (As := [vI x1]) dX5_copy_1 LX5_519 rfl rfl (Nat.le_of_ble_eq_true rfl) h (fun r0 F0 A0 h => ?_)
  obtain ⟨s1, h⟩ := h
  obtain ⟨ht, hf⟩ := h
  refine v_if_eq 14 dX5_copy_4 (by decide) s1 (fun c => ?_) (fun c => ?_)
  · have h := ht c
    refine v_iconst dX5_copy_14 ?_
    exact m_iret K dX5_copy_15 rfl h
  · have h := hf c
    refine v_iload_n 3 dX5_copy_7 rfl ?_
    refine m_callSI K (As := [vI x3]) dX5_copy_8 LX5_519 rfl rfl (Nat.le_of_ble_eq_true rfl) h (fun r2 F2 A2 h => ?_)
    obtain ⟨s3, h⟩ := h
    obtain ⟨ht, hf⟩ := h
    refine v_if_ne 16 dX5_copy_11 (by decide) s3 (fun c => ?_) (fun c => ?_)
    · have h := ht c
      obtain ⟨s4, s5, h⟩ := h
      refine v_aload_n 0 dX5_copy_16 rfl (isR_ref _) ?_
      refine m_get K dX5_copy_17 fX5_133 rfl ?_
      refine v_iload_n 1 dX5_copy_20 rfl ?_
      refine m_iald K 35 dX5_copy_21 rfl s4 (by decide) ?_
      refine v_iconst dX5_copy_22 ?_
      obtain ⟨ht, hf⟩ := h
      refine v_icmp_eq 36 dX5_copy_23 (by decide) s5 (by decide) (fun c => ?_) (fun c => ?_)
      · have h := ht c
        refine v_bipush dX5_copy_36 rfl ?_
        exact m_iret K dX5_copy_38 rfl h
      · have h := hf c
        obtain ⟨s6, s7, h⟩ := h
        refine v_aload_n 0 dX5_copy_26 rfl (isR_ref _) ?_
        refine m_get K dX5_copy_27 fX5_133 rfl ?_
        refine v_iload_n 3 dX5_copy_30 rfl ?_
        refine m_iald K 35 dX5_copy_31 rfl s6 (by decide) ?_
        refine v_iconst dX5_copy_32 ?_
        obtain ⟨ht, hf⟩ := h
        refine v_icmp_ne 39 dX5_copy_33 (by decide) s7 (by decide) (fun c => ?_) (fun c => ?_)
        · have h := ht c
          refine v_aload_n 0 dX5_copy_39 rfl (isR_ref _) ?_
          refine m_get K dX5_copy_40 fX5_133 rfl ?_
          refine v_iload_n 1 dX5_copy_43 rfl ?_
          refine m_iald K 35 dX5_copy_44 rfl s4 (by decide) ?_
          refine v_aload_n 0 dX5_copy_45 rfl (isR_ref _) ?_
          refine m_get K dX5_copy_46 fX5_133 rfl ?_
          refine v_iload_n 3 dX5_copy_49 rfl ?_
          refine m_iald K 35 dX5_copy_50 rfl s6 (by decide) ?_
          obtain ⟨ht, hf⟩ := h
          refine v_icmp_eq 57 dX5_copy_51 (by decide) s5 s7 (fun c => ?_) (fun c => ?_)
          · have h := ht c
            obtain ⟨s8, h⟩ := h
            refine v_iload 5 dX5_copy_57 rfl ?_
            obtain ⟨ht, hf⟩ := h
            refine v_if_lt 98 dX5_copy_59 (by decide) s8 (fun c => ?_) (fun c => ?_)
            · have h := ht c
              refine v_bipush dX5_copy_98 rfl ?_
              exact m_iret K dX5_copy_100 rfl h
            · have h := hf c
              obtain ⟨s9, h⟩ := h
              refine v_iload_n 2 dX5_copy_62 rfl ?_
              obtain ⟨ht, hf⟩ := h
              refine v_if_lt 98 dX5_copy_63 (by decide) s9 (fun c => ?_) (fun c => ?_)
              · have h := ht c
                refine v_bipush dX5_copy_98 rfl ?_
                exact m_iret K dX5_copy_100 rfl h
              · have h := hf c
                obtain ⟨s10, h⟩ := h
                refine v_iload 4 dX5_copy_66 rfl ?_
                obtain ⟨ht, hf⟩ := h
                refine v_if_lt 98 dX5_copy_68 (by decide) s10 (fun c => ?_) (fun c => ?_)
                · have h := ht c
                  refine v_bipush dX5_copy_98 rfl ?_
                  exact m_iret K dX5_copy_100 rfl h
                · have h := hf c
                  obtain ⟨s11, h⟩ := h
                  refine v_iload_n 2 dX5_copy_71 rfl ?_
                  refine v_aload_n 0 dX5_copy_72 rfl (isR_ref _) ?_
                  refine m_get K dX5_copy_73 fX5_136 rfl ?_
                  refine v_iload_n 1 dX5_copy_76 rfl ?_
                  refine m_iald K 36 dX5_copy_77 rfl s4 (by decide) ?_
                  refine v_iload 5 dX5_copy_78 rfl ?_
                  refine v_isub dX5_copy_80 ?_
                  obtain ⟨ht, hf⟩ := h
                  refine v_icmp_gt 98 dX5_copy_81 (by decide) s9 s11 (fun c => ?_) (fun c => ?_)
                  · have h := ht c
                    refine v_bipush dX5_copy_98 rfl ?_
                    exact m_iret K dX5_copy_100 rfl h
                  · have h := hf c
                    obtain ⟨s12, h⟩ := h
                    refine v_iload 4 dX5_copy_84 rfl ?_
                    refine v_aload_n 0 dX5_copy_86 rfl (isR_ref _) ?_
                    refine m_get K dX5_copy_87 fX5_136 rfl ?_
                    refine v_iload_n 3 dX5_copy_90 rfl ?_
                    refine m_iald K 36 dX5_copy_91 rfl s6 (by decide) ?_
                    refine v_iload 5 dX5_copy_92 rfl ?_
                    refine v_isub dX5_copy_94 ?_
                    obtain ⟨ht, hf⟩ := h
                    refine v_icmp_le 101 dX5_copy_95 (by decide) s10 s12 (fun c => ?_) (fun c => ?_)
                    · have h := ht c
                      obtain ⟨s13, s14, s15, s16, s17, h⟩ := h
                      refine v_aload_n 0 dX5_copy_101 rfl (isR_ref _) ?_
                      refine m_get K dX5_copy_102 fX5_139 rfl ?_
                      refine v_bipush dX5_copy_105 rfl ?_
                      refine v_iload_n 1 dX5_copy_107 rfl ?_
                      refine v_imul dX5_copy_108 ?_
                      refine v_iload_n 2 dX5_copy_109 rfl ?_
                      refine v_iadd dX5_copy_110 ?_
                      refine v_aload_n 0 dX5_copy_111 rfl (isR_ref _) ?_
                      refine m_get K dX5_copy_112 fX5_142 rfl ?_
                      refine v_iconst dX5_copy_115 ?_
                      refine v_iload 5 dX5_copy_116 rfl ?_
                      refine m_copyL K 37 38 hb dX5_copy_118 q2140 rfl rfl s13 s14 s15 (by decide) (by decide) s16 (Nat.le_of_ble_eq_true rfl) ?_
                      refine v_aload_n 0 dX5_copy_121 rfl (isR_ref _) ?_
                      refine m_get K dX5_copy_122 fX5_142 rfl ?_
                      refine v_iconst dX5_copy_125 ?_
                      refine v_aload_n 0 dX5_copy_126 rfl (isR_ref _) ?_
                      refine m_get K dX5_copy_127 fX5_139 rfl ?_
                      refine v_bipush dX5_copy_130 rfl ?_
                      refine v_iload_n 3 dX5_copy_132 rfl ?_
                      refine v_imul dX5_copy_133 ?_
                      refine v_iload 4 dX5_copy_134 rfl ?_
                      refine v_iadd dX5_copy_136 ?_
                      refine v_iload 5 dX5_copy_137 rfl ?_
                      refine m_copyL K 38 37 hb dX5_copy_139 q2140 rfl rfl s14 s17 s15 (by decide) (by decide) s16 (Nat.le_of_ble_eq_true rfl) ?_
                      refine v_iload 5 dX5_copy_142 rfl ?_
                      exact m_iret K dX5_copy_144 rfl h
                    · have h := hf c
                      refine v_bipush dX5_copy_98 rfl ?_
                      exact m_iret K dX5_copy_100 rfl h
          · have h := hf c
            refine v_bipush dX5_copy_54 rfl ?_
            exact m_iret K dX5_copy_56 rfl h
        · have h := hf c
          refine v_bipush dX5_copy_36 rfl ?_
          exact m_iret K dX5_copy_38 rfl h
    · have h := hf c
      refine v_iconst dX5_copy_14 ?_
      exact m_iret K dX5_copy_15 rfl h
/-! image -/
theorem wX5_image_0 (K : KM) (hb : K.G.base ≤ K.m) {F : Nat → Int} {A : Nat → Int → Int} (h : (1 ≤ K.d) ∧ (SI K (F 3) (upN F 5 (F 3)) (cpA A 1 2 0 0 13))) : VM K mX5_image 0 [(0, .ref K.m)] [] F A := by
  obtain ⟨s0, h⟩ := h
  refine v_aload_n 0 dX5_image_0 rfl (isR_ref _) ?_
  refine v_aload_n 0 dX5_image_1 rfl (isR_ref _) ?_
  refine m_get (v := vI (F 3)) K dX5_image_2 fX5_18 rfl ?_
  refine m_put (F' := upN F 5 (F 3)) K hb dX5_image_5 fX5_530 (by decide) (by decide) rfl ?_
  refine v_aload_n 0 dX5_image_8 rfl (isR_ref _) ?_
  refine m_get K dX5_image_9 fX5_15 rfl ?_
  refine v_iconst dX5_image_12 ?_
  refine v_aload_n 0 dX5_image_13 rfl (isR_ref _) ?_
  refine m_get K dX5_image_14 fX5_22 rfl ?_
  refine v_iconst dX5_image_17 ?_
  refine v_bipush dX5_image_18 rfl ?_
  refine m_copyI K 1 2 hb dX5_image_20 q2140 rfl rfl (by decide) (by decide) (by decide) (by decide) (by decide) s0 (Nat.le_of_ble_eq_true rfl) ?_
  refine v_aload_n 0 dX5_image_23 rfl (isR_ref _) ?_
  refine m_get (v := vI (F 3)) K dX5_image_24 fX5_18 rfl ?_
  exact m_iret K dX5_image_27 rfl h
/-! undo -/
theorem wX5_undo_0 (K : KM) (hb : K.G.base ≤ K.m) {F : Nat → Int} {A : Nat → Int → Int} (h : (rI (F 5)) ∧ ((¬ (F 5) = 0 → ((1 ≤ K.d) ∧ (SI K (F 5) (upN F 3 (F 5)) (cpA A 2 1 0 0 13)))) ∧ ((F 5) = 0 → (SI K ((-3)) F A)))) : VM K mX5_undo 0 [(0, .ref K.m)] [] F A := by
  obtain ⟨s0, h⟩ := h
  refine v_aload_n 0 dX5_undo_0 rfl (isR_ref _) ?_
  refine m_get (v := vI (F 5)) K dX5_undo_1 fX5_530 rfl ?_
  obtain ⟨ht, hf⟩ := h
  refine v_if_ne 10 dX5_undo_4 (by decide) s0 (fun c => ?_) (fun c => ?_)
  · have h := ht c
    obtain ⟨s1, h⟩ := h
    refine v_aload_n 0 dX5_undo_10 rfl (isR_ref _) ?_
    refine v_aload_n 0 dX5_undo_11 rfl (isR_ref _) ?_
    refine m_get (v := vI (F 5)) K dX5_undo_12 fX5_530 rfl ?_
    refine m_put (F' := upN F 3 (F 5)) K hb dX5_undo_15 fX5_18 (by decide) (by decide) rfl ?_
    refine v_aload_n 0 dX5_undo_18 rfl (isR_ref _) ?_
    refine m_get K dX5_undo_19 fX5_22 rfl ?_
    refine v_iconst dX5_undo_22 ?_
    refine v_aload_n 0 dX5_undo_23 rfl (isR_ref _) ?_
    refine m_get K dX5_undo_24 fX5_15 rfl ?_
    refine v_iconst dX5_undo_27 ?_
    refine v_bipush dX5_undo_28 rfl ?_
    refine m_copyI K 2 1 hb dX5_undo_30 q2140 rfl rfl (by decide) (by decide) (by decide) (by decide) (by decide) s1 (Nat.le_of_ble_eq_true rfl) ?_
    refine v_aload_n 0 dX5_undo_33 rfl (isR_ref _) ?_
    refine m_get (v := vI (F 5)) K dX5_undo_34 fX5_18 rfl ?_
    exact m_iret K dX5_undo_37 rfl h
  · have h := hf c
    refine v_bipush dX5_undo_7 rfl ?_
    exact m_iret K dX5_undo_9 rfl h
