set_option maxRecDepth 100000
/-! BranchNames.digitsOf -/
theorem wX0_digitsOf_2_0 (K : KV) {x1 x2 : Int} {x0 : Nat} {w : Wd} {sz n : Nat} (h : VX K mX0_digitsOf_2 7 [(0, .ref x0), (3, vI x2), (4, vI (x1 - 1))] [] w sz n) : VX K mX0_digitsOf_2 0 [(0, .ref x0), (1, vI x1), (2, vI x2)] [] w sz n := by
  refine v_iload_n 2 dX0_digitsOf_2_0 rfl ?_
  refine v_istore_n dX0_digitsOf_2_1 (by decide) rfl ?_
  refine v_iload_n 2 dX0_digitsOf_2_2 rfl ?_
  refine v_iconst dX0_digitsOf_2_3 ?_
  refine v_isub dX0_digitsOf_2_4 ?_
  refine v_istore dX0_digitsOf_2_5 (by decide) rfl ?_
  refine V.sub [2, 1, 0] rfl ?_
  exact h
theorem wX0_digitsOf_2_7 (K : KV) {x3 x4 : Int} {x0 : Nat} {w : Wd} {sz n : Nat} (h : (rI x4) ∧ ((x4 < 0 → (K.S none w sz n)) ∧ (¬ x4 < 0 → (∃ (F2 : Nat → Int) (p2 : Nat), (w x0 = some (obX x0 F2 p2)) ∧ ((rI x3) ∧ (∃ (A4 : Nat → Int → Int) (B4 : Nat → Int → Option Nat) (M4 : Nat → Int → Int → Int), (w (x0 + 221) = some (obXA A4 B4 M4)) ∧ ((0 ≤ x4 ∧ x4 < 13) ∧ ((K.G.base ≤ x0 + 221) ∧ (VX K mX0_digitsOf_2 7 [(0, .ref x0), (3, vI (Int.tdiv x3 5)), (4, vI (x4 + (-1)))] [] (wset w (x0 + 221) (some (obXA (upA A4 1 x4 (Int.tmod x3 5)) B4 M4))) sz n))))))))) : VX K mX0_digitsOf_2 7 [(0, .ref x0), (3, vI x3), (4, vI x4)] [] w sz n := by
  refine v_iload 2 dX0_digitsOf_2_7 rfl ?_
  obtain ⟨s1, h⟩ := h
  obtain ⟨ht, hf⟩ := h
  refine v_if_lt 32 dX0_digitsOf_2_9 (by decide) s1 (fun c => ?_) (fun c => ?_)
  · have h := ht c
    exact v_vret dX0_digitsOf_2_32 rfl h
  · have h := hf c
    refine v_aload_n 0 dX0_digitsOf_2_12 rfl (isR_ref _) ?_
    obtain ⟨F2, p2, hw2, h⟩ := h
    refine v_get (q := x0) (j := 0) (v := .ref (x0 + 221 + 30)) dX0_digitsOf_2_13 fX0_75 hw2 rfl (lay_X0 _ _ _) rfl ?_
    refine v_iload 2 dX0_digitsOf_2_16 rfl ?_
    refine v_iload_n 1 dX0_digitsOf_2_18 rfl ?_
    refine v_iconst dX0_digitsOf_2_19 ?_
    obtain ⟨s3, h⟩ := h
    refine v_irem dX0_digitsOf_2_20 s3 (by decide) (by decide) ?_
    obtain ⟨A4, B4, M4, hw4, h⟩ := h
    obtain ⟨s5, h⟩ := h
    obtain ⟨s6, h⟩ := h
    refine v_iast (q := x0 + 221) (j := 30) (f := A4 1) (obXA (upA A4 1 x4 (Int.tmod x3 5)) B4 M4) dX0_digitsOf_2_21 hw4 rfl (lay_XA 30 rfl) s5 (by decide) (chg_XAa 30 _ _ rfl (by decide)) s6 ?_
    refine v_iload_n 1 dX0_digitsOf_2_22 rfl ?_
    refine v_iconst dX0_digitsOf_2_23 ?_
    refine v_idiv dX0_digitsOf_2_24 s3 (by decide) (by decide) ?_
    refine v_istore_n dX0_digitsOf_2_25 (by decide) rfl ?_
    refine v_iinc 2 dX0_digitsOf_2_26 rfl (by decide) rfl ?_
    refine v_goto 7 dX0_digitsOf_2_29 (by decide) ?_
    refine V.sub [2, 1, 0] rfl ?_
    exact h
/-! BranchNames.isTwig -/
theorem wX0_isTwig_0 (K : KV) {x2 x3 : Int} {x0 q1 : Nat} {w : Wd} {sz n : Nat} (h : ∃ (F1 : Nat → Int) (p1 : Nat), (w x0 = some (obX x0 F1 p1)) ∧ (∃ (A2 : Nat → Int → Int) (B2 : Nat → Int → Option Nat) (M2 : Nat → Int → Int → Int), (w (x0 + 221) = some (obXA A2 B2 M2)) ∧ ((0 ≤ (F1 10) ∧ (F1 10) < 13) ∧ ((K.G.base ≤ x0) ∧ (∃ (F5 : Nat → Int) (P5 : Nat → Option Nat) (A5 : Nat → Int → Int) (M5 : Nat → Int → Int → Int) (N5 : Nat → Int → Int → Option Nat), ((wset w x0 (some (obX x0 (upN F1 10 ((F1 10) + 1)) p1))) q1 = some (obT F5 P5 A5 M5 N5)) ∧ ((0 ≤ x3 ∧ x3 < 13) ∧ ((rI ((A2 1 (F1 10)) + (A5 0 x3))) ∧ ((((A2 1 (F1 10)) + (A5 0 x3)) ≤ 4 → (VX K mX0_isTwig 39 [(0, .ref x0), (1, .ref q1), (2, vI x2), (3, vI x3), (4, vI (A2 1 (F1 10))), (5, vI 0)] [] (wset w x0 (some (obX x0 (upN F1 10 ((F1 10) + 1)) p1))) sz n)) ∧ (¬ ((A2 1 (F1 10)) + (A5 0 x3)) ≤ 4 → (K.S (some (vI 0)) (wset w x0 (some (obX x0 (upN F1 10 ((F1 10) + 1)) p1))) sz n)))))))))) : VX K mX0_isTwig 0 [(0, .ref x0), (1, .ref q1), (2, vI x2), (3, vI x3)] [] w sz n := by
  refine v_aload_n 0 dX0_isTwig_0 rfl (isR_ref _) ?_
  obtain ⟨F1, p1, hw1, h⟩ := h
  refine v_get (q := x0) (j := 0) (v := .ref (x0 + 221 + 30)) dX0_isTwig_1 fX0_75 hw1 rfl (lay_X0 _ _ _) rfl ?_
  refine v_aload_n 0 dX0_isTwig_4 rfl (isR_ref _) ?_
  refine v_get (q := x0) (j := 0) (v := vI (F1 10)) dX0_isTwig_5 fX0_78 hw1 rfl (lay_X0 _ _ _) rfl ?_
  obtain ⟨A2, B2, M2, hw2, h⟩ := h
  obtain ⟨s3, h⟩ := h
  refine v_iald (q := x0 + 221) (j := 30) (f := A2 1) dX0_isTwig_8 hw2 rfl (lay_XA 30 rfl) s3 (by decide) ?_
  refine v_istore dX0_isTwig_9 (by decide) rfl ?_
  refine v_aload_n 1 dX0_isTwig_11 rfl (isR_ref _) ?_
  refine v_dup dX0_isTwig_12 rfl ?_
  refine v_get (q := x0) (j := 0) (v := vI (F1 10)) dX0_isTwig_13 fX0_78 hw1 rfl (lay_X0 _ _ _) rfl ?_
  refine v_iconst dX0_isTwig_16 ?_
  refine v_iadd dX0_isTwig_17 ?_
  obtain ⟨s4, h⟩ := h
  refine v_put (q := x0) (j := 0) (v := vI ((F1 10) + 1)) (obX x0 (upN F1 10 ((F1 10) + 1)) p1) dX0_isTwig_18 fX0_78 pf0_10 hw1 rfl (lay_X0 _ _ _) (Nat.le_of_ble_eq_true rfl) rfl rfl (chg_X0 rfl) s4 ?_
  refine v_iload 0 dX0_isTwig_21 rfl ?_
  refine v_aload_n 2 dX0_isTwig_23 rfl (isR_ref _) ?_
  obtain ⟨F5, P5, A5, M5, N5, hw5, h⟩ := h
  refine v_get (q := q1) (j := 0) (v := .ref (q1 + 43)) dX0_isTwig_24 fX0_11 hw5 rfl (lay_T0 _ _ _ _ _ _) rfl ?_
  refine v_iload_n 4 dX0_isTwig_27 rfl ?_
  obtain ⟨s6, h⟩ := h
  refine v_iald (q := q1) (j := 43) (f := A5 0) dX0_isTwig_28 hw5 rfl rfl s6 (by decide) ?_
  refine v_iadd dX0_isTwig_29 ?_
  refine v_iconst dX0_isTwig_30 ?_
  obtain ⟨s7, h⟩ := h
  obtain ⟨ht, hf⟩ := h
  refine v_icmp_le 36 dX0_isTwig_31 (by decide) s7 (by decide) (fun c => ?_) (fun c => ?_)
  · have h := ht c
    refine v_iconst dX0_isTwig_36 ?_
    refine v_istore dX0_isTwig_37 (by decide) rfl ?_
    refine V.sub [2, 3, 4, 5, 1, 0] rfl ?_
    exact h
  · have h := hf c
    refine v_iconst dX0_isTwig_34 ?_
    exact x_zret K dX0_isTwig_35 rfl (by decide) h
theorem wX0_isTwig_39 (K : KV) {x2 x3 x4 x5 : Int} {x0 q1 : Nat} {w : Wd} {sz n : Nat} (h : (rI x5) ∧ ((rI x4) ∧ ((x4 ≤ x5 → (K.S (some (vI 1)) w sz n)) ∧ (¬ x4 ≤ x5 → (∃ (F3 : Nat → Int) (p3 : Nat), (w x0 = some (obX x0 F3 p3)) ∧ ((rI (F3 10)) ∧ ((rI x2) ∧ ((x2 ≤ (F3 10) → (K.S (some (vI 0)) w sz n)) ∧ (¬ x2 ≤ (F3 10) → (∃ (F6 : Nat → Int) (P6 : Nat → Option Nat) (A6 : Nat → Int → Int) (M6 : Nat → Int → Int → Int) (N6 : Nat → Int → Int → Option Nat), (w q1 = some (obT F6 P6 A6 M6 N6)) ∧ ((rI (F6 4)) ∧ ((x2 ≤ (F6 4) → (K.S (some (vI 0)) w sz n)) ∧ (¬ x2 ≤ (F6 4) → (CI mX1_grows K [.ref q1, vI x3] w sz n fun r8 w8 z8 n8 => ∃ (F9 : Nat → Int) (p9 : Nat), (w8 x0 = some (obX x0 F9 p9)) ∧ (CI mX0_isTwig K [.ref x0, .ref q1, vI x2, vI r8] w8 z8 n8 fun r10 w10 z10 n10 => (rI r10) ∧ ((¬ r10 = 0 → (VX K mX0_isTwig 39 [(0, .ref x0), (1, .ref q1), (2, vI x2), (3, vI x3), (4, vI x4), (5, vI (x5 + 1))] [] w10 z10 n10)) ∧ (r10 = 0 → (K.S (some (vI 0)) w10 z10 n10)))))))))))))))))) : VX K mX0_isTwig 39 [(0, .ref x0), (1, .ref q1), (2, vI x2), (3, vI x3), (4, vI x4), (5, vI x5)] [] w sz n := by
  refine v_iload 5 dX0_isTwig_39 rfl ?_
  refine v_iload 4 dX0_isTwig_41 rfl ?_
  obtain ⟨s1, h⟩ := h
  obtain ⟨s2, h⟩ := h
  obtain ⟨ht, hf⟩ := h
  refine v_icmp_ge 84 dX0_isTwig_43 (by decide) s1 s2 (fun c => ?_) (fun c => ?_)
  · have h := ht c
    refine v_iconst dX0_isTwig_84 ?_
    exact x_zret K dX0_isTwig_85 rfl (by decide) h
  · have h := hf c
    refine v_aload_n 0 dX0_isTwig_46 rfl (isR_ref _) ?_
    obtain ⟨F3, p3, hw3, h⟩ := h
    refine v_get (q := x0) (j := 0) (v := vI (F3 10)) dX0_isTwig_47 fX0_78 hw3 rfl (lay_X0 _ _ _) rfl ?_
    refine v_iload_n 2 dX0_isTwig_50 rfl ?_
    obtain ⟨s4, h⟩ := h
    obtain ⟨s5, h⟩ := h
    obtain ⟨ht, hf⟩ := h
    refine v_icmp_ge 76 dX0_isTwig_51 (by decide) s4 s5 (fun c => ?_) (fun c => ?_)
    · have h := ht c
      refine v_iconst dX0_isTwig_76 ?_
      exact x_zret K dX0_isTwig_77 rfl (by decide) h
    · have h := hf c
      refine v_aload_n 1 dX0_isTwig_54 rfl (isR_ref _) ?_
      obtain ⟨F6, P6, A6, M6, N6, hw6, h⟩ := h
      refine v_get (q := q1) (j := 0) (v := vI (F6 4)) dX0_isTwig_55 fX0_44 hw6 rfl (lay_T0 _ _ _ _ _ _) rfl ?_
      refine v_iload_n 2 dX0_isTwig_58 rfl ?_
      obtain ⟨s7, h⟩ := h
      obtain ⟨ht, hf⟩ := h
      refine v_icmp_ge 76 dX0_isTwig_59 (by decide) s7 s5 (fun c => ?_) (fun c => ?_)
      · have h := ht c
        refine v_iconst dX0_isTwig_76 ?_
        exact x_zret K dX0_isTwig_77 rfl (by decide) h
      · have h := hf c
        refine v_aload_n 0 dX0_isTwig_62 rfl (isR_ref _) ?_
        refine v_aload_n 1 dX0_isTwig_63 rfl (isR_ref _) ?_
        refine v_iload_n 2 dX0_isTwig_64 rfl ?_
        refine v_aload_n 1 dX0_isTwig_65 rfl (isR_ref _) ?_
        refine v_iload_n 3 dX0_isTwig_66 rfl ?_
        refine x_callVI K (As := [vI x3]) dX0_isTwig_67 LX0_81 rfl rfl (Nat.le_of_ble_eq_true rfl) (rc_of hw6 (lay_T0 _ _ _ _ _ _) rfl) h (fun r8 w8 z8 n8 h => ?_)
        obtain ⟨F9, p9, hw9, h⟩ := h
        refine x_callVI K (As := [.ref q1, vI x2, vI r8]) dX0_isTwig_70 LX0_85 rfl rfl (Nat.le_of_ble_eq_true rfl) (rc_of hw9 (lay_X0 _ _ _) rfl) h (fun r10 w10 z10 n10 h => ?_)
        obtain ⟨s11, h⟩ := h
        obtain ⟨ht, hf⟩ := h
        refine v_if_ne 78 dX0_isTwig_73 (by decide) s11 (fun c => ?_) (fun c => ?_)
        · have h := ht c
          refine v_iinc 5 dX0_isTwig_78 rfl (by decide) rfl ?_
          refine v_goto 39 dX0_isTwig_81 (by decide) ?_
          refine V.sub [1, 2, 3, 4, 5, 0] rfl ?_
          exact h
        · have h := hf c
          refine v_iconst dX0_isTwig_76 ?_
          exact x_zret K dX0_isTwig_77 rfl (by decide) h
/-! BranchNames.counts -/
theorem wX0_counts_0 (K : KV) {x0 : Nat} {w : Wd} {sz n : Nat} (h : ∃ (F1 : Nat → Int) (p1 : Nat), (w x0 = some (obX x0 F1 p1)) ∧ (∃ (A2 : Nat → Int → Int) (B2 : Nat → Int → Option Nat) (M2 : Nat → Int → Int → Int), (w (x0 + 221) = some (obXA A2 B2 M2)) ∧ ((K.G.base ≤ x0 + 221) ∧ (VX K mX0_counts 11 [(0, .ref x0), (1, vI 1)] [] (wset w (x0 + 221) (some (obXA A2 B2 (upM M2 3 0 0 1)))) sz n)))) : VX K mX0_counts 0 [(0, .ref x0)] [] w sz n := by
  refine v_aload_n 0 dX0_counts_0 rfl (isR_ref _) ?_
  obtain ⟨F1, p1, hw1, h⟩ := h
  refine v_get (q := x0) (j := 0) (v := .ref (x0 + 221 + 54)) dX0_counts_1 fX0_418 hw1 rfl (lay_X0 _ _ _) rfl ?_
  refine v_iconst dX0_counts_4 ?_
  obtain ⟨A2, B2, M2, hw2, h⟩ := h
  refine v_aaldR (q := x0 + 221) (j := 54) (q0 := x0 + 221 + 54 + 1) (t := 9) (by decide) dX0_counts_5 hw2 rfl (lay_XA 54 rfl) (by decide) (by decide) ?_
  refine v_iconst dX0_counts_6 ?_
  refine v_lconst (z := 1) dX0_counts_7 rfl ?_
  obtain ⟨s3, h⟩ := h
  refine v_last (q := x0 + 221) (j := 55 + Int.toNat 0) (f := M2 3 0) (obXA A2 B2 (upM M2 3 0 0 1)) dX0_counts_8 hw2 (by omega) (lay_XAr 55 (by decide) xr_sets (by decide)) (by decide) (by decide) (chg_XAr 55 _ _ (by decide) xr_sets (by decide)) s3 ?_
  refine v_iconst dX0_counts_9 ?_
  refine v_istore_n dX0_counts_10 (by decide) rfl ?_
  refine V.sub [1, 0] rfl ?_
  exact h
theorem wX0_counts_11 (K : KV) {x1 : Int} {x0 : Nat} {w : Wd} {sz n : Nat} (h : (rI x1) ∧ ((20 < x1 → (K.S none w sz n)) ∧ (¬ 20 < x1 → (∃ (F2 : Nat → Int) (p2 : Nat), (w x0 = some (obX x0 F2 p2)) ∧ (CL mX0_setsOf K [.ref x0, vI 3, vI (x1 - 1)] w sz n fun r3 w3 z3 n3 => ∃ (A4 : Nat → Int → Int) (B4 : Nat → Int → Option Nat) (M4 : Nat → Int → Int → Int), (w3 (x0 + 221) = some (obXA A4 B4 M4)) ∧ ((0 ≤ x1 ∧ x1 < 21) ∧ ((K.G.base ≤ x0 + 221) ∧ (VX K mX0_counts 33 [(0, .ref x0), (1, vI x1), (2, vI 4)] [] (wset w3 (x0 + 221) (some (obXA (upA A4 5 x1 r3) B4 M4))) z3 n3)))))))) : VX K mX0_counts 11 [(0, .ref x0), (1, vI x1)] [] w sz n := by
  refine v_iload_n 1 dX0_counts_11 rfl ?_
  refine v_bipush dX0_counts_12 rfl ?_
  obtain ⟨s1, h⟩ := h
  obtain ⟨ht, hf⟩ := h
  refine v_icmp_gt 125 dX0_counts_14 (by decide) s1 (by decide) (fun c => ?_) (fun c => ?_)
  · have h := ht c
    exact v_vret dX0_counts_125 rfl h
  · have h := hf c
    refine v_aload_n 0 dX0_counts_17 rfl (isR_ref _) ?_
    obtain ⟨F2, p2, hw2, h⟩ := h
    refine v_get (q := x0) (j := 0) (v := .ref (x0 + 221 + 53)) dX0_counts_18 fX0_415 hw2 rfl (lay_X0 _ _ _) rfl ?_
    refine v_iload_n 1 dX0_counts_21 rfl ?_
    refine v_aload_n 0 dX0_counts_22 rfl (isR_ref _) ?_
    refine v_iconst dX0_counts_23 ?_
    refine v_iload_n 1 dX0_counts_24 rfl ?_
    refine v_iconst dX0_counts_25 ?_
    refine v_isub dX0_counts_26 ?_
    refine x_callVL K (As := [vI 3, vI (x1 - 1)]) dX0_counts_27 LX0_475 rfl rfl (Nat.le_of_ble_eq_true rfl) (rc_of hw2 (lay_X0 _ _ _) rfl) h (fun r3 w3 z3 n3 h => ?_)
    obtain ⟨A4, B4, M4, hw4, h⟩ := h
    obtain ⟨s5, h⟩ := h
    obtain ⟨s6, h⟩ := h
    refine v_last (q := x0 + 221) (j := 53) (f := A4 5) (obXA (upA A4 5 x1 r3) B4 M4) dX0_counts_30 hw4 rfl (lay_XA 53 rfl) s5 (by decide) (chg_XAl 53 _ _ rfl) s6 ?_
    refine v_iconst dX0_counts_31 ?_
    refine v_istore_n dX0_counts_32 (by decide) rfl ?_
    refine V.sub [1, 2, 0] rfl ?_
    exact h
theorem wX0_counts_33 (K : KV) {x1 x2 : Int} {x0 : Nat} {w : Wd} {sz n : Nat} (h : (rI x2) ∧ ((x2 ≤ 0 → (VX K mX0_counts 11 [(0, .ref x0), (1, vI (x1 + 1))] [] w sz n)) ∧ (¬ x2 ≤ 0 → (VX K mX0_counts 40 [(0, .ref x0), (1, vI x1), (2, vI x2), (3, vI 20)] [] w sz n)))) : VX K mX0_counts 33 [(0, .ref x0), (1, vI x1), (2, vI x2)] [] w sz n := by
  refine v_iload_n 2 dX0_counts_33 rfl ?_
  obtain ⟨s1, h⟩ := h
  obtain ⟨ht, hf⟩ := h
  refine v_if_le 119 dX0_counts_34 (by decide) s1 (fun c => ?_) (fun c => ?_)
  · have h := ht c
    refine v_iinc 1 dX0_counts_119 rfl (by decide) rfl ?_
    refine v_goto 11 dX0_counts_122 (by decide) ?_
    refine V.sub [1, 0] rfl ?_
    exact h
  · have h := hf c
    refine v_bipush dX0_counts_37 rfl ?_
    refine v_istore_n dX0_counts_39 (by decide) rfl ?_
    refine V.sub [1, 2, 3, 0] rfl ?_
    exact h
theorem wX0_counts_40 (K : KV) {x1 x2 x3 : Int} {x0 : Nat} {w : Wd} {sz n : Nat} (h : (rI x3) ∧ ((rI x1) ∧ ((x3 < x1 → (VX K mX0_counts 33 [(0, .ref x0), (1, vI x1), (2, vI (x2 + (-1)))] [] w sz n)) ∧ (¬ x3 < x1 → (VX K mX0_counts 48 [(0, .ref x0), (1, vI x1), (2, vI x2), (3, vI x3), (4, vI 1)] [] w sz n))))) : VX K mX0_counts 40 [(0, .ref x0), (1, vI x1), (2, vI x2), (3, vI x3)] [] w sz n := by
  refine v_iload_n 3 dX0_counts_40 rfl ?_
  refine v_iload_n 1 dX0_counts_41 rfl ?_
  obtain ⟨s1, h⟩ := h
  obtain ⟨s2, h⟩ := h
  obtain ⟨ht, hf⟩ := h
  refine v_icmp_lt 113 dX0_counts_42 (by decide) s1 s2 (fun c => ?_) (fun c => ?_)
  · have h := ht c
    refine v_iinc 2 dX0_counts_113 rfl (by decide) rfl ?_
    refine v_goto 33 dX0_counts_116 (by decide) ?_
    refine V.sub [1, 2, 0] rfl ?_
    exact h
  · have h := hf c
    refine v_iconst dX0_counts_45 ?_
    refine v_istore dX0_counts_46 (by decide) rfl ?_
    refine V.sub [1, 2, 3, 4, 0] rfl ?_
    exact h
theorem wX0_counts_48 (K : KV) {x1 x2 x3 x4 : Int} {x0 : Nat} {w : Wd} {sz n : Nat} (h : (rI x4) ∧ ((rI x2) ∧ ((x2 < x4 → (VX K mX0_counts 40 [(0, .ref x0), (1, vI x1), (2, vI x2), (3, vI (x3 + (-1)))] [] w sz n)) ∧ (¬ x2 < x4 → ((rI (x4 * x1)) ∧ ((rI x3) ∧ ((x3 < (x4 * x1) → (VX K mX0_counts 40 [(0, .ref x0), (1, vI x1), (2, vI x2), (3, vI (x3 + (-1)))] [] w sz n)) ∧ (¬ x3 < (x4 * x1) → (∃ (F5 : Nat → Int) (p5 : Nat), (w x0 = some (obX x0 F5 p5)) ∧ (∃ (A6 : Nat → Int → Int) (B6 : Nat → Int → Option Nat) (M6 : Nat → Int → Int → Int), (w (x0 + 221) = some (obXA A6 B6 M6)) ∧ ((0 ≤ x2 ∧ x2 < 5) ∧ ((0 ≤ x3 ∧ x3 < 21) ∧ ((0 ≤ x1 ∧ x1 < 21) ∧ (CL mX0_chosen K [vL (A6 5 x1), vI x4] w sz n fun r10 w10 z10 n10 => ∃ (F11 : Nat → Int) (p11 : Nat), (w10 x0 = some (obX x0 F11 p11)) ∧ (∃ (A12 : Nat → Int → Int) (B12 : Nat → Int → Option Nat) (M12 : Nat → Int → Int → Int), (w10 (x0 + 221) = some (obXA A12 B12 M12)) ∧ ((0 ≤ (x2 - x4) ∧ (x2 - x4) < 5) ∧ ((0 ≤ (x3 - (x4 * x1)) ∧ (x3 - (x4 * x1)) < 21) ∧ ((K.G.base ≤ x0 + 221) ∧ (VX K mX0_counts 48 [(0, .ref x0), (1, vI x1), (2, vI x2), (3, vI x3), (4, vI (x4 + 1))] [] (wset w10 (x0 + 221) (some (obXA A12 B12 (upM M12 3 x2 x3 ((M6 3 x2 x3) + (r10 * (M12 3 (x2 - x4) (x3 - (x4 * x1))))))))) z10 n10))))))))))))))))))) : VX K mX0_counts 48 [(0, .ref x0), (1, vI x1), (2, vI x2), (3, vI x3), (4, vI x4)] [] w sz n := by
  refine v_iload 4 dX0_counts_48 rfl ?_
  refine v_iload_n 2 dX0_counts_50 rfl ?_
  obtain ⟨s1, h⟩ := h
  obtain ⟨s2, h⟩ := h
  obtain ⟨ht, hf⟩ := h
  refine v_icmp_gt 107 dX0_counts_51 (by decide) s1 s2 (fun c => ?_) (fun c => ?_)
  · have h := ht c
    refine v_iinc 3 dX0_counts_107 rfl (by decide) rfl ?_
    refine v_goto 40 dX0_counts_110 (by decide) ?_
    refine V.sub [1, 2, 3, 0] rfl ?_
    exact h
  · have h := hf c
    refine v_iload 4 dX0_counts_54 rfl ?_
    refine v_iload_n 1 dX0_counts_56 rfl ?_
    refine v_imul dX0_counts_57 ?_
    refine v_iload_n 3 dX0_counts_58 rfl ?_
    obtain ⟨s3, h⟩ := h
    obtain ⟨s4, h⟩ := h
    obtain ⟨ht, hf⟩ := h
    refine v_icmp_gt 107 dX0_counts_59 (by decide) s3 s4 (fun c => ?_) (fun c => ?_)
    · have h := ht c
      refine v_iinc 3 dX0_counts_107 rfl (by decide) rfl ?_
      refine v_goto 40 dX0_counts_110 (by decide) ?_
      refine V.sub [1, 2, 3, 0] rfl ?_
      exact h
    · have h := hf c
      refine v_aload_n 0 dX0_counts_62 rfl (isR_ref _) ?_
      obtain ⟨F5, p5, hw5, h⟩ := h
      refine v_get (q := x0) (j := 0) (v := .ref (x0 + 221 + 54)) dX0_counts_63 fX0_418 hw5 rfl (lay_X0 _ _ _) rfl ?_
      refine v_iload_n 2 dX0_counts_66 rfl ?_
      obtain ⟨A6, B6, M6, hw6, h⟩ := h
      obtain ⟨s7, h⟩ := h
      refine v_aaldR (q := x0 + 221) (j := 54) (q0 := x0 + 221 + 54 + 1) (t := 9) (by decide) dX0_counts_67 hw6 rfl (lay_XA 54 rfl) s7 (by decide) ?_
      refine v_iload_n 3 dX0_counts_68 rfl ?_
      refine v_dup2 dX0_counts_69 rfl rfl ?_
      obtain ⟨s8, h⟩ := h
      refine v_lald (q := x0 + 221) (j := 55 + Int.toNat x2) (f := M6 3 x2) dX0_counts_70 hw6 (by omega) (lay_XAr 55 (by decide) xr_sets s7) s8 (by decide) ?_
      refine v_aload_n 0 dX0_counts_71 rfl (isR_ref _) ?_
      refine v_get (q := x0) (j := 0) (v := .ref (x0 + 221 + 53)) dX0_counts_72 fX0_415 hw5 rfl (lay_X0 _ _ _) rfl ?_
      refine v_iload_n 1 dX0_counts_75 rfl ?_
      obtain ⟨s9, h⟩ := h
      refine v_lald (q := x0 + 221) (j := 53) (f := A6 5) dX0_counts_76 hw6 rfl (lay_XA 53 rfl) s9 (by decide) ?_
      refine v_iload 4 dX0_counts_77 rfl ?_
      refine x_callSL K (As := [vL (A6 5 x1), vI x4]) dX0_counts_79 LX0_479 rfl rfl (Nat.le_of_ble_eq_true rfl) h (fun r10 w10 z10 n10 h => ?_)
      refine v_aload_n 0 dX0_counts_82 rfl (isR_ref _) ?_
      obtain ⟨F11, p11, hw11, h⟩ := h
      refine v_get (q := x0) (j := 0) (v := .ref (x0 + 221 + 54)) dX0_counts_83 fX0_418 hw11 rfl (lay_X0 _ _ _) rfl ?_
      refine v_iload_n 2 dX0_counts_86 rfl ?_
      refine v_iload 4 dX0_counts_87 rfl ?_
      refine v_isub dX0_counts_89 ?_
      obtain ⟨A12, B12, M12, hw12, h⟩ := h
      obtain ⟨s13, h⟩ := h
      refine v_aaldR (q := x0 + 221) (j := 54) (q0 := x0 + 221 + 54 + 1) (t := 9) (by decide) dX0_counts_90 hw12 rfl (lay_XA 54 rfl) s13 (by decide) ?_
      refine v_iload_n 3 dX0_counts_91 rfl ?_
      refine v_iload 4 dX0_counts_92 rfl ?_
      refine v_iload_n 1 dX0_counts_94 rfl ?_
      refine v_imul dX0_counts_95 ?_
      refine v_isub dX0_counts_96 ?_
      obtain ⟨s14, h⟩ := h
      refine v_lald (q := x0 + 221) (j := 55 + Int.toNat (x2 - x4)) (f := M12 3 (x2 - x4)) dX0_counts_97 hw12 (by omega) (lay_XAr 55 (by decide) xr_sets s13) s14 (by decide) ?_
      refine v_lmul dX0_counts_98 ?_
      refine v_ladd dX0_counts_99 ?_
      obtain ⟨s15, h⟩ := h
      refine v_last (q := x0 + 221) (j := 55 + Int.toNat x2) (f := M12 3 x2) (obXA A12 B12 (upM M12 3 x2 x3 ((M6 3 x2 x3) + (r10 * (M12 3 (x2 - x4) (x3 - (x4 * x1))))))) dX0_counts_100 hw12 (by omega) (lay_XAr 55 (by decide) xr_sets s7) s8 (by decide) (chg_XAr 55 _ _ (by decide) xr_sets s7) s15 ?_
      refine v_iinc 4 dX0_counts_101 rfl (by decide) rfl ?_
      refine v_goto 48 dX0_counts_104 (by decide) ?_
      refine V.sub [1, 2, 3, 4, 0] rfl ?_
      exact h
/-! BranchNames.setsOf -/
theorem wX0_setsOf_0 (K : KV) {x1 x2 : Int} {x0 : Nat} {w : Wd} {sz n : Nat} (h : VX K mX0_setsOf 5 [(0, .ref x0), (1, vI x1), (2, vI x2), (3, vL 0), (5, vI 0)] [] w sz n) : VX K mX0_setsOf 0 [(0, .ref x0), (1, vI x1), (2, vI x2)] [] w sz n := by
  refine v_lconst (z := 0) dX0_setsOf_0 rfl ?_
  refine v_lstore_n dX0_setsOf_1 (by decide) rfl ?_
  refine v_iconst dX0_setsOf_2 ?_
  refine v_istore dX0_setsOf_3 (by decide) rfl ?_
  refine V.sub [2, 3, 4, 1, 0] rfl ?_
  exact h
theorem wX0_setsOf_5 (K : KV) {x1 x2 x3 x5 : Int} {x0 : Nat} {w : Wd} {sz n : Nat} (h : (rI x5) ∧ ((rI x1) ∧ ((x1 < x5 → (K.S (some (vL x3)) w sz n)) ∧ (¬ x1 < x5 → (∃ (F3 : Nat → Int) (p3 : Nat), (w x0 = some (obX x0 F3 p3)) ∧ (∃ (A4 : Nat → Int → Int) (B4 : Nat → Int → Option Nat) (M4 : Nat → Int → Int → Int), (w (x0 + 221) = some (obXA A4 B4 M4)) ∧ ((0 ≤ x5 ∧ x5 < 5) ∧ ((0 ≤ x2 ∧ x2 < 21) ∧ (VX K mX0_setsOf 5 [(0, .ref x0), (1, vI x1), (2, vI x2), (3, vL (x3 + (M4 3 x5 x2))), (5, vI (x5 + 1))] [] w sz n))))))))) : VX K mX0_setsOf 5 [(0, .ref x0), (1, vI x1), (2, vI x2), (3, vL x3), (5, vI x5)] [] w sz n := by
  refine v_iload 4 dX0_setsOf_5 rfl ?_
  refine v_iload_n 1 dX0_setsOf_7 rfl ?_
  obtain ⟨s1, h⟩ := h
  obtain ⟨s2, h⟩ := h
  obtain ⟨ht, hf⟩ := h
  refine v_icmp_gt 29 dX0_setsOf_8 (by decide) s1 s2 (fun c => ?_) (fun c => ?_)
  · have h := ht c
    refine v_lload_n 3 dX0_setsOf_29 rfl ?_
    exact v_lret dX0_setsOf_30 rfl h
  · have h := hf c
    refine v_lload_n 3 dX0_setsOf_11 rfl ?_
    refine v_aload_n 0 dX0_setsOf_12 rfl (isR_ref _) ?_
    obtain ⟨F3, p3, hw3, h⟩ := h
    refine v_get (q := x0) (j := 0) (v := .ref (x0 + 221 + 54)) dX0_setsOf_13 fX0_418 hw3 rfl (lay_X0 _ _ _) rfl ?_
    refine v_iload 4 dX0_setsOf_16 rfl ?_
    obtain ⟨A4, B4, M4, hw4, h⟩ := h
    obtain ⟨s5, h⟩ := h
    refine v_aaldR (q := x0 + 221) (j := 54) (q0 := x0 + 221 + 54 + 1) (t := 9) (by decide) dX0_setsOf_18 hw4 rfl (lay_XA 54 rfl) s5 (by decide) ?_
    refine v_iload_n 2 dX0_setsOf_19 rfl ?_
    obtain ⟨s6, h⟩ := h
    refine v_lald (q := x0 + 221) (j := 55 + Int.toNat x5) (f := M4 3 x5) dX0_setsOf_20 hw4 (by omega) (lay_XAr 55 (by decide) xr_sets s5) s6 (by decide) ?_
    refine v_ladd dX0_setsOf_21 ?_
    refine v_lstore_n dX0_setsOf_22 (by decide) rfl ?_
    refine v_iinc 4 dX0_setsOf_23 rfl (by decide) rfl ?_
    refine v_goto 5 dX0_setsOf_26 (by decide) ?_
    refine V.sub [2, 3, 4, 1, 0] rfl ?_
    exact h
/-! BranchNames.chosen -/
theorem wX0_chosen_0 (K : KV) {x0 x2 : Int} {w : Wd} {sz n : Nat} (h : VX K mX0_chosen 5 [(0, vL x0), (2, vI x2), (3, vL 1), (5, vI 0)] [] w sz n) : VX K mX0_chosen 0 [(0, vL x0), (2, vI x2)] [] w sz n := by
  refine v_lconst (z := 1) dX0_chosen_0 rfl ?_
  refine v_lstore_n dX0_chosen_1 (by decide) rfl ?_
  refine v_iconst dX0_chosen_2 ?_
  refine v_istore dX0_chosen_3 (by decide) rfl ?_
  refine V.sub [2, 3, 1, 0] rfl ?_
  exact h
theorem wX0_chosen_5 (K : KV) {x0 x2 x3 x5 : Int} {w : Wd} {sz n : Nat} (h : (rI x5) ∧ ((rI x2) ∧ ((x2 ≤ x5 → (K.S (some (vL x3)) w sz n)) ∧ (¬ x2 ≤ x5 → ((rI (x5 + 1)) ∧ ((rL (x3 * (x0 + x5))) ∧ ((rL (x5 + 1)) ∧ (((x5 + 1) ≠ 0) ∧ (VX K mX0_chosen 5 [(0, vL x0), (2, vI x2), (3, vL (Int.tdiv (x3 * (x0 + x5)) (x5 + 1))), (5, vI (x5 + 1))] [] w sz n))))))))) : VX K mX0_chosen 5 [(0, vL x0), (2, vI x2), (3, vL x3), (5, vI x5)] [] w sz n := by
  refine v_iload 3 dX0_chosen_5 rfl ?_
  refine v_iload_n 1 dX0_chosen_7 rfl ?_
  obtain ⟨s1, h⟩ := h
  obtain ⟨s2, h⟩ := h
  obtain ⟨ht, hf⟩ := h
  refine v_icmp_ge 31 dX0_chosen_8 (by decide) s1 s2 (fun c => ?_) (fun c => ?_)
  · have h := ht c
    refine v_lload_n 2 dX0_chosen_31 rfl ?_
    exact v_lret dX0_chosen_32 rfl h
  · have h := hf c
    refine v_lload_n 2 dX0_chosen_11 rfl ?_
    refine v_lload_n 0 dX0_chosen_12 rfl ?_
    refine v_iload 3 dX0_chosen_13 rfl ?_
    refine v_i2l dX0_chosen_15 s1 ?_
    refine v_ladd dX0_chosen_16 ?_
    refine v_lmul dX0_chosen_17 ?_
    refine v_iload 3 dX0_chosen_18 rfl ?_
    refine v_iconst dX0_chosen_20 ?_
    refine v_iadd dX0_chosen_21 ?_
    obtain ⟨s3, h⟩ := h
    refine v_i2l dX0_chosen_22 s3 ?_
    obtain ⟨s4, h⟩ := h
    obtain ⟨s5, h⟩ := h
    obtain ⟨s6, h⟩ := h
    refine v_ldiv dX0_chosen_23 s4 s5 s6 ?_
    refine v_lstore_n dX0_chosen_24 (by decide) rfl ?_
    refine v_iinc 3 dX0_chosen_25 rfl (by decide) rfl ?_
    refine v_goto 5 dX0_chosen_28 (by decide) ?_
    refine V.sub [2, 3, 1, 0] rfl ?_
    exact h
/-! BranchNames.counted -/
theorem wX0_counted_0 (K : KV) {x1 x2 : Int} {x0 : Nat} {w : Wd} {sz n : Nat} (h : (rI x2) ∧ (CI mX0_isIn K [vL x2, vL 1, vL 20] w sz n fun r2 w2 z2 n2 => (rI r2) ∧ ((¬ r2 = 0 → ((rI x1) ∧ ((x1 = 0 → (∃ (F5 : Nat → Int) (p5 : Nat), (w2 x0 = some (obX x0 F5 p5)) ∧ (∃ (A6 : Nat → Int → Int) (B6 : Nat → Int → Option Nat) (M6 : Nat → Int → Int → Int), (w2 (x0 + 221) = some (obXA A6 B6 M6)) ∧ ((0 ≤ x2 ∧ x2 < 21) ∧ (K.S (some (vL (A6 5 x2))) w2 z2 n2))))) ∧ (x1 = 1 → (∃ (F5 : Nat → Int) (p5 : Nat), (w2 x0 = some (obX x0 F5 p5)) ∧ (CL mX0_rooted K [.ref x0, vI x2] w2 z2 n2 fun r6 w6 z6 n6 => K.S (some (vL r6)) w6 z6 n6))) ∧ (x1 = 2 → (∃ (F5 : Nat → Int) (p5 : Nat), (w2 x0 = some (obX x0 F5 p5)) ∧ (CL mX0_bonded K [.ref x0, vI x2] w2 z2 n2 fun r6 w6 z6 n6 => K.S (some (vL r6)) w6 z6 n6))) ∧ (x1 = 3 → (∃ (F5 : Nat → Int) (p5 : Nat), (w2 x0 = some (obX x0 F5 p5)) ∧ (CL mX0_halved K [.ref x0, vI x2] w2 z2 n2 fun r6 w6 z6 n6 => K.S (some (vL r6)) w6 z6 n6))) ∧ (x1 = 4 → (∃ (F5 : Nat → Int) (p5 : Nat), (w2 x0 = some (obX x0 F5 p5)) ∧ (CL mX0_rooted K [.ref x0, vI x2] w2 z2 n2 fun r6 w6 z6 n6 => ∃ (F7 : Nat → Int) (p7 : Nat), (w6 x0 = some (obX x0 F7 p7)) ∧ (CL mX0_bonded K [.ref x0, vI x2] w6 z6 n6 fun r8 w8 z8 n8 => ∃ (F9 : Nat → Int) (p9 : Nat), (w8 x0 = some (obX x0 F9 p9)) ∧ (CL mX0_halved K [.ref x0, vI x2] w8 z8 n8 fun r10 w10 z10 n10 => K.S (some (vL ((r6 - r8) + r10))) w10 z10 n10))))) ∧ ((x1 < 0 ∨ 4 < x1) → (K.S (some (vL ((-9223372036854775808)))) w2 z2 n2))))) ∧ (r2 = 0 → (K.S (some (vL ((-9223372036854775808)))) w2 z2 n2))))) : VX K mX0_counted 0 [(0, .ref x0), (1, vI x1), (2, vI x2)] [] w sz n := by
  refine v_iload_n 2 dX0_counted_0 rfl ?_
  obtain ⟨s1, h⟩ := h
  refine v_i2l dX0_counted_1 s1 ?_
  refine v_lconst (z := 1) dX0_counted_2 rfl ?_
  refine v_ldc2 (z := 20) dX0_counted_3 q867 ?_
  refine x_callSI K (As := [vL x2, vL 1, vL 20]) dX0_counted_6 LX0_142 rfl rfl (Nat.le_of_ble_eq_true rfl) h (fun r2 w2 z2 n2 h => ?_)
  obtain ⟨s3, h⟩ := h
  obtain ⟨ht, hf⟩ := h
  refine v_if_ne 16 dX0_counted_9 (by decide) s3 (fun c => ?_) (fun c => ?_)
  · have h := ht c
    refine v_iload_n 1 dX0_counted_16 rfl ?_
    obtain ⟨s4, h⟩ := h
    obtain ⟨h0, h1, h2, h3, h4, hd⟩ := h
    by_cases c0 : x1 = 0
    · refine v_tableIn 52 dX0_counted_17 0 c0 (by decide) (by decide) (by decide) rfl (by decide) ?_
      have h := h0 c0
      refine v_aload_n 0 dX0_counted_52 rfl (isR_ref _) ?_
      obtain ⟨F5, p5, hw5, h⟩ := h
      refine v_get (q := x0) (j := 0) (v := .ref (x0 + 221 + 53)) dX0_counted_53 fX0_415 hw5 rfl (lay_X0 _ _ _) rfl ?_
      refine v_iload_n 2 dX0_counted_56 rfl ?_
      obtain ⟨A6, B6, M6, hw6, h⟩ := h
      obtain ⟨s7, h⟩ := h
      refine v_lald (q := x0 + 221) (j := 53) (f := A6 5) dX0_counted_57 hw6 rfl (lay_XA 53 rfl) s7 (by decide) ?_
      exact v_lret dX0_counted_58 rfl h
    by_cases c1 : x1 = 1
    · refine v_tableIn 59 dX0_counted_17 1 c1 (by decide) (by decide) (by decide) rfl (by decide) ?_
      have h := h1 c1
      refine v_aload_n 0 dX0_counted_59 rfl (isR_ref _) ?_
      refine v_iload_n 2 dX0_counted_60 rfl ?_
      obtain ⟨F5, p5, hw5, h⟩ := h
      refine x_callVL K (As := [vI x2]) dX0_counted_61 LX0_486 rfl rfl (Nat.le_of_ble_eq_true rfl) (rc_of hw5 (lay_X0 _ _ _) rfl) h (fun r6 w6 z6 n6 h => ?_)
      exact v_lret dX0_counted_64 rfl h
    by_cases c2 : x1 = 2
    · refine v_tableIn 65 dX0_counted_17 2 c2 (by decide) (by decide) (by decide) rfl (by decide) ?_
      have h := h2 c2
      refine v_aload_n 0 dX0_counted_65 rfl (isR_ref _) ?_
      refine v_iload_n 2 dX0_counted_66 rfl ?_
      obtain ⟨F5, p5, hw5, h⟩ := h
      refine x_callVL K (As := [vI x2]) dX0_counted_67 LX0_490 rfl rfl (Nat.le_of_ble_eq_true rfl) (rc_of hw5 (lay_X0 _ _ _) rfl) h (fun r6 w6 z6 n6 h => ?_)
      exact v_lret dX0_counted_70 rfl h
    by_cases c3 : x1 = 3
    · refine v_tableIn 71 dX0_counted_17 3 c3 (by decide) (by decide) (by decide) rfl (by decide) ?_
      have h := h3 c3
      refine v_aload_n 0 dX0_counted_71 rfl (isR_ref _) ?_
      refine v_iload_n 2 dX0_counted_72 rfl ?_
      obtain ⟨F5, p5, hw5, h⟩ := h
      refine x_callVL K (As := [vI x2]) dX0_counted_73 LX0_493 rfl rfl (Nat.le_of_ble_eq_true rfl) (rc_of hw5 (lay_X0 _ _ _) rfl) h (fun r6 w6 z6 n6 h => ?_)
      exact v_lret dX0_counted_76 rfl h
    by_cases c4 : x1 = 4
    · refine v_tableIn 77 dX0_counted_17 4 c4 (by decide) (by decide) (by decide) rfl (by decide) ?_
      have h := h4 c4
      refine v_aload_n 0 dX0_counted_77 rfl (isR_ref _) ?_
      refine v_iload_n 2 dX0_counted_78 rfl ?_
      obtain ⟨F5, p5, hw5, h⟩ := h
      refine x_callVL K (As := [vI x2]) dX0_counted_79 LX0_486 rfl rfl (Nat.le_of_ble_eq_true rfl) (rc_of hw5 (lay_X0 _ _ _) rfl) h (fun r6 w6 z6 n6 h => ?_)
      refine v_aload_n 0 dX0_counted_82 rfl (isR_ref _) ?_
      refine v_iload_n 2 dX0_counted_83 rfl ?_
      obtain ⟨F7, p7, hw7, h⟩ := h
      refine x_callVL K (As := [vI x2]) dX0_counted_84 LX0_490 rfl rfl (Nat.le_of_ble_eq_true rfl) (rc_of hw7 (lay_X0 _ _ _) rfl) h (fun r8 w8 z8 n8 h => ?_)
      refine v_lsub dX0_counted_87 ?_
      refine v_aload_n 0 dX0_counted_88 rfl (isR_ref _) ?_
      refine v_iload_n 2 dX0_counted_89 rfl ?_
      obtain ⟨F9, p9, hw9, h⟩ := h
      refine x_callVL K (As := [vI x2]) dX0_counted_90 LX0_493 rfl rfl (Nat.le_of_ble_eq_true rfl) (rc_of hw9 (lay_X0 _ _ _) rfl) h (fun r10 w10 z10 n10 h => ?_)
      refine v_ladd dX0_counted_93 ?_
      exact v_lret dX0_counted_94 rfl h
    have cd : x1 < 0 ∨ 4 < x1 := by omega
    refine v_tableOut 95 dX0_counted_17 s4 cd (by decide) ?_
    have h := hd cd
    refine v_ldc2 (z := (-9223372036854775808)) dX0_counted_95 (by have h9 := q871; rwa [show (-9223372036854775808 : Int64) = jL (-9223372036854775808) from by decide] at h9) ?_
    exact v_lret dX0_counted_98 rfl h
  · have h := hf c
    refine v_ldc2 (z := (-9223372036854775808)) dX0_counted_12 (by have h9 := q871; rwa [show (-9223372036854775808 : Int64) = jL (-9223372036854775808) from by decide] at h9) ?_
    exact v_lret dX0_counted_15 rfl h
/-! BranchNames.isIn -/
theorem wX0_isIn_0 (K : KV) {x0 x2 x4 : Int} {w : Wd} {sz n : Nat} (h : (rL x0) ∧ ((rL x2) ∧ (((cmpI x0 x2) < 0 → (K.S (some (vI 0)) w sz n)) ∧ (¬ (cmpI x0 x2) < 0 → ((rL x4) ∧ ((0 < (cmpI x0 x4) → (K.S (some (vI 0)) w sz n)) ∧ (¬ 0 < (cmpI x0 x4) → (K.S (some (vI 1)) w sz n)))))))) : VX K mX0_isIn 0 [(0, vL x0), (2, vL x2), (4, vL x4)] [] w sz n := by
  refine v_lload_n 0 dX0_isIn_0 rfl ?_
  refine v_lload_n 1 dX0_isIn_1 rfl ?_
  obtain ⟨s1, h⟩ := h
  obtain ⟨s2, h⟩ := h
  refine v_lcmp dX0_isIn_2 s1 s2 ?_
  obtain ⟨ht, hf⟩ := h
  refine v_if_lt 17 dX0_isIn_3 (by decide) cmpI_rI (fun c => ?_) (fun c => ?_)
  · have h := ht c
    refine v_iconst dX0_isIn_17 ?_
    exact x_zret K dX0_isIn_18 rfl (by decide) h
  · have h := hf c
    refine v_lload_n 0 dX0_isIn_6 rfl ?_
    refine v_lload 2 dX0_isIn_7 rfl ?_
    obtain ⟨s3, h⟩ := h
    refine v_lcmp dX0_isIn_9 s1 s3 ?_
    obtain ⟨ht, hf⟩ := h
    refine v_if_gt 17 dX0_isIn_10 (by decide) cmpI_rI (fun c => ?_) (fun c => ?_)
    · have h := ht c
      refine v_iconst dX0_isIn_17 ?_
      exact x_zret K dX0_isIn_18 rfl (by decide) h
    · have h := hf c
      refine v_iconst dX0_isIn_13 ?_
      refine v_goto 18 dX0_isIn_14 (by decide) ?_
      exact x_zret K dX0_isIn_18 rfl (by decide) h
/-! BranchNames.rooted -/
theorem wX0_rooted_0 (K : KV) {x1 : Int} {x0 : Nat} {w : Wd} {sz n : Nat} (h : ∃ (F1 : Nat → Int) (p1 : Nat), (w x0 = some (obX x0 F1 p1)) ∧ (CL mX0_setsOf K [.ref x0, vI 4, vI (x1 - 1)] w sz n fun r2 w2 z2 n2 => K.S (some (vL r2)) w2 z2 n2)) : VX K mX0_rooted 0 [(0, .ref x0), (1, vI x1)] [] w sz n := by
  refine v_aload_n 0 dX0_rooted_0 rfl (isR_ref _) ?_
  refine v_iconst dX0_rooted_1 ?_
  refine v_iload_n 1 dX0_rooted_2 rfl ?_
  refine v_iconst dX0_rooted_3 ?_
  refine v_isub dX0_rooted_4 ?_
  obtain ⟨F1, p1, hw1, h⟩ := h
  refine x_callVL K (As := [vI 4, vI (x1 - 1)]) dX0_rooted_5 LX0_475 rfl rfl (Nat.le_of_ble_eq_true rfl) (rc_of hw1 (lay_X0 _ _ _) rfl) h (fun r2 w2 z2 n2 h => ?_)
  exact v_lret dX0_rooted_8 rfl h
/-! BranchNames.bonded -/
theorem wX0_bonded_0 (K : KV) {x1 : Int} {x0 : Nat} {w : Wd} {sz n : Nat} (h : (rI x1) ∧ ((rI (Int.tmod x1 2)) ∧ ((¬ (Int.tmod x1 2) = 0 → (VX K mX0_bonded 26 [(0, .ref x0), (1, vI x1), (2, vL 0), (4, vI 1)] [] w sz n)) ∧ ((Int.tmod x1 2) = 0 → (∃ (F3 : Nat → Int) (p3 : Nat), (w x0 = some (obX x0 F3 p3)) ∧ (∃ (A4 : Nat → Int → Int) (B4 : Nat → Int → Option Nat) (M4 : Nat → Int → Int → Int), (w (x0 + 221) = some (obXA A4 B4 M4)) ∧ ((0 ≤ (Int.tdiv x1 2) ∧ (Int.tdiv x1 2) < 21) ∧ (CL mX0_chosen K [vL (A4 5 (Int.tdiv x1 2)), vI 2] w sz n fun r6 w6 z6 n6 => VX K mX0_bonded 26 [(0, .ref x0), (1, vI x1), (2, vL r6), (4, vI 1)] [] w6 z6 n6)))))))) : VX K mX0_bonded 0 [(0, .ref x0), (1, vI x1)] [] w sz n := by
  refine v_iload_n 1 dX0_bonded_0 rfl ?_
  refine v_iconst dX0_bonded_1 ?_
  obtain ⟨s1, h⟩ := h
  refine v_irem dX0_bonded_2 s1 (by decide) (by decide) ?_
  obtain ⟨s2, h⟩ := h
  obtain ⟨ht, hf⟩ := h
  refine v_if_ne 21 dX0_bonded_3 (by decide) s2 (fun c => ?_) (fun c => ?_)
  · have h := ht c
    refine v_lconst (z := 0) dX0_bonded_21 rfl ?_
    refine v_lstore_n dX0_bonded_22 (by decide) rfl ?_
    refine v_iconst dX0_bonded_23 ?_
    refine v_istore dX0_bonded_24 (by decide) rfl ?_
    refine V.sub [2, 3, 1, 0] rfl ?_
    exact h
  · have h := hf c
    refine v_aload_n 0 dX0_bonded_6 rfl (isR_ref _) ?_
    obtain ⟨F3, p3, hw3, h⟩ := h
    refine v_get (q := x0) (j := 0) (v := .ref (x0 + 221 + 53)) dX0_bonded_7 fX0_415 hw3 rfl (lay_X0 _ _ _) rfl ?_
    refine v_iload_n 1 dX0_bonded_10 rfl ?_
    refine v_iconst dX0_bonded_11 ?_
    refine v_idiv dX0_bonded_12 s1 (by decide) (by decide) ?_
    obtain ⟨A4, B4, M4, hw4, h⟩ := h
    obtain ⟨s5, h⟩ := h
    refine v_lald (q := x0 + 221) (j := 53) (f := A4 5) dX0_bonded_13 hw4 rfl (lay_XA 53 rfl) s5 (by decide) ?_
    refine v_iconst dX0_bonded_14 ?_
    refine x_callSL K (As := [vL (A4 5 (Int.tdiv x1 2)), vI 2]) dX0_bonded_15 LX0_479 rfl rfl (Nat.le_of_ble_eq_true rfl) h (fun r6 w6 z6 n6 h => ?_)
    refine v_goto 22 dX0_bonded_18 (by decide) ?_
    refine v_lstore_n dX0_bonded_22 (by decide) rfl ?_
    refine v_iconst dX0_bonded_23 ?_
    refine v_istore dX0_bonded_24 (by decide) rfl ?_
    refine V.sub [2, 3, 1, 0] rfl ?_
    exact h
theorem wX0_bonded_26 (K : KV) {x1 x2 x4 : Int} {x0 : Nat} {w : Wd} {sz n : Nat} (h : (rI (2 * x4)) ∧ ((rI x1) ∧ ((x1 ≤ (2 * x4) → (K.S (some (vL x2)) w sz n)) ∧ (¬ x1 ≤ (2 * x4) → (∃ (F3 : Nat → Int) (p3 : Nat), (w x0 = some (obX x0 F3 p3)) ∧ (∃ (A4 : Nat → Int → Int) (B4 : Nat → Int → Option Nat) (M4 : Nat → Int → Int → Int), (w (x0 + 221) = some (obXA A4 B4 M4)) ∧ ((0 ≤ x4 ∧ x4 < 21) ∧ ((0 ≤ (x1 - x4) ∧ (x1 - x4) < 21) ∧ (VX K mX0_bonded 26 [(0, .ref x0), (1, vI x1), (2, vL (x2 + ((A4 5 x4) * (A4 5 (x1 - x4))))), (4, vI (x4 + 1))] [] w sz n))))))))) : VX K mX0_bonded 26 [(0, .ref x0), (1, vI x1), (2, vL x2), (4, vI x4)] [] w sz n := by
  refine v_iconst dX0_bonded_26 ?_
  refine v_iload 3 dX0_bonded_27 rfl ?_
  refine v_imul dX0_bonded_29 ?_
  refine v_iload_n 1 dX0_bonded_30 rfl ?_
  obtain ⟨s1, h⟩ := h
  obtain ⟨s2, h⟩ := h
  obtain ⟨ht, hf⟩ := h
  refine v_icmp_ge 60 dX0_bonded_31 (by decide) s1 s2 (fun c => ?_) (fun c => ?_)
  · have h := ht c
    refine v_lload_n 2 dX0_bonded_60 rfl ?_
    exact v_lret dX0_bonded_61 rfl h
  · have h := hf c
    refine v_lload_n 2 dX0_bonded_34 rfl ?_
    refine v_aload_n 0 dX0_bonded_35 rfl (isR_ref _) ?_
    obtain ⟨F3, p3, hw3, h⟩ := h
    refine v_get (q := x0) (j := 0) (v := .ref (x0 + 221 + 53)) dX0_bonded_36 fX0_415 hw3 rfl (lay_X0 _ _ _) rfl ?_
    refine v_iload 3 dX0_bonded_39 rfl ?_
    obtain ⟨A4, B4, M4, hw4, h⟩ := h
    obtain ⟨s5, h⟩ := h
    refine v_lald (q := x0 + 221) (j := 53) (f := A4 5) dX0_bonded_41 hw4 rfl (lay_XA 53 rfl) s5 (by decide) ?_
    refine v_aload_n 0 dX0_bonded_42 rfl (isR_ref _) ?_
    refine v_get (q := x0) (j := 0) (v := .ref (x0 + 221 + 53)) dX0_bonded_43 fX0_415 hw3 rfl (lay_X0 _ _ _) rfl ?_
    refine v_iload_n 1 dX0_bonded_46 rfl ?_
    refine v_iload 3 dX0_bonded_47 rfl ?_
    refine v_isub dX0_bonded_49 ?_
    obtain ⟨s6, h⟩ := h
    refine v_lald (q := x0 + 221) (j := 53) (f := A4 5) dX0_bonded_50 hw4 rfl (lay_XA 53 rfl) s6 (by decide) ?_
    refine v_lmul dX0_bonded_51 ?_
    refine v_ladd dX0_bonded_52 ?_
    refine v_lstore_n dX0_bonded_53 (by decide) rfl ?_
    refine v_iinc 3 dX0_bonded_54 rfl (by decide) rfl ?_
    refine v_goto 26 dX0_bonded_57 (by decide) ?_
    refine V.sub [2, 3, 1, 0] rfl ?_
    exact h
/-! BranchNames.halved -/
theorem wX0_halved_0 (K : KV) {x1 : Int} {x0 : Nat} {w : Wd} {sz n : Nat} (h : (rI x1) ∧ ((rI (Int.tmod x1 2)) ∧ ((¬ (Int.tmod x1 2) = 0 → (K.S (some (vL 0)) w sz n)) ∧ ((Int.tmod x1 2) = 0 → (∃ (F3 : Nat → Int) (p3 : Nat), (w x0 = some (obX x0 F3 p3)) ∧ (∃ (A4 : Nat → Int → Int) (B4 : Nat → Int → Option Nat) (M4 : Nat → Int → Int → Int), (w (x0 + 221) = some (obXA A4 B4 M4)) ∧ ((0 ≤ (Int.tdiv x1 2) ∧ (Int.tdiv x1 2) < 21) ∧ (K.S (some (vL (A4 5 (Int.tdiv x1 2)))) w sz n)))))))) : VX K mX0_halved 0 [(0, .ref x0), (1, vI x1)] [] w sz n := by
  refine v_iload_n 1 dX0_halved_0 rfl ?_
  refine v_iconst dX0_halved_1 ?_
  obtain ⟨s1, h⟩ := h
  refine v_irem dX0_halved_2 s1 (by decide) (by decide) ?_
  obtain ⟨s2, h⟩ := h
  obtain ⟨ht, hf⟩ := h
  refine v_if_ne 17 dX0_halved_3 (by decide) s2 (fun c => ?_) (fun c => ?_)
  · have h := ht c
    refine v_lconst (z := 0) dX0_halved_17 rfl ?_
    exact v_lret dX0_halved_18 rfl h
  · have h := hf c
    refine v_aload_n 0 dX0_halved_6 rfl (isR_ref _) ?_
    obtain ⟨F3, p3, hw3, h⟩ := h
    refine v_get (q := x0) (j := 0) (v := .ref (x0 + 221 + 53)) dX0_halved_7 fX0_415 hw3 rfl (lay_X0 _ _ _) rfl ?_
    refine v_iload_n 1 dX0_halved_10 rfl ?_
    refine v_iconst dX0_halved_11 ?_
    refine v_idiv dX0_halved_12 s1 (by decide) (by decide) ?_
    obtain ⟨A4, B4, M4, hw4, h⟩ := h
    obtain ⟨s5, h⟩ := h
    refine v_lald (q := x0 + 221) (j := 53) (f := A4 5) dX0_halved_13 hw4 rfl (lay_XA 53 rfl) s5 (by decide) ?_
    refine v_goto 18 dX0_halved_14 (by decide) ?_
    exact v_lret dX0_halved_18 rfl h
/-! BranchNames.grow -/
theorem wX0_grow_0 (K : KV) {x1 : Int} {x0 : Nat} {w : Wd} {sz n : Nat} (h : ∃ (F1 : Nat → Int) (p1 : Nat), (w x0 = some (obX x0 F1 p1)) ∧ (∃ (F2 : Nat → Int) (P2 : Nat → Option Nat) (A2 : Nat → Int → Int) (M2 : Nat → Int → Int → Int) (N2 : Nat → Int → Int → Option Nat), (w (x0 + 1) = some (obT F2 P2 A2 M2 N2)) ∧ (CI mX1_isAtom K [.ref (x0 + 1), vI x1] w sz n fun r3 w3 z3 n3 => (rI r3) ∧ ((¬ r3 = 0 → (∃ (F5 : Nat → Int) (p5 : Nat), (w3 x0 = some (obX x0 F5 p5)) ∧ (∃ (F6 : Nat → Int) (P6 : Nat → Option Nat) (A6 : Nat → Int → Int) (M6 : Nat → Int → Int → Int) (N6 : Nat → Int → Int → Option Nat), (w3 (x0 + 1) = some (obT F6 P6 A6 M6 N6)) ∧ (CI mX1_isFull K [.ref (x0 + 1), vI x1] w3 z3 n3 fun r7 w7 z7 n7 => (rI r7) ∧ ((¬ r7 = 0 → (K.S (some (vI ((-4)))) w7 z7 n7)) ∧ (r7 = 0 → (∃ (F9 : Nat → Int) (p9 : Nat), (w7 x0 = some (obX x0 F9 p9)) ∧ (∃ (F10 : Nat → Int) (P10 : Nat → Option Nat) (A10 : Nat → Int → Int) (M10 : Nat → Int → Int → Int) (N10 : Nat → Int → Int → Option Nat), (w7 (x0 + 1) = some (obT F10 P10 A10 M10 N10)) ∧ ((rI (F10 4)) ∧ ((¬ (F10 4) = 12 → (CI mX1_grows K [.ref (x0 + 1), vI x1] w7 z7 n7 fun r12 w12 z12 n12 => K.S (some (vI r12)) w12 z12 n12)) ∧ ((F10 4) = 12 → (K.S (some (vI ((-4)))) w7 z7 n7)))))))))))) ∧ (r3 = 0 → (K.S (some (vI ((-1)))) w3 z3 n3)))))) : VX K mX0_grow 0 [(0, .ref x0), (1, vI x1)] [] w sz n := by
  refine v_aload_n 0 dX0_grow_0 rfl (isR_ref _) ?_
  obtain ⟨F1, p1, hw1, h⟩ := h
  refine v_get (q := x0) (j := 0) (v := .ref (x0 + 1)) dX0_grow_1 fX0_365 hw1 rfl (lay_X0 _ _ _) rfl ?_
  refine v_iload_n 1 dX0_grow_4 rfl ?_
  obtain ⟨F2, P2, A2, M2, N2, hw2, h⟩ := h
  refine x_callVI K (As := [vI x1]) dX0_grow_5 LX0_496 rfl rfl (Nat.le_of_ble_eq_true rfl) (rc_of hw2 (lay_T0 _ _ _ _ _ _) rfl) h (fun r3 w3 z3 n3 h => ?_)
  obtain ⟨s4, h⟩ := h
  obtain ⟨ht, hf⟩ := h
  refine v_if_ne 13 dX0_grow_8 (by decide) s4 (fun c => ?_) (fun c => ?_)
  · have h := ht c
    refine v_aload_n 0 dX0_grow_13 rfl (isR_ref _) ?_
    obtain ⟨F5, p5, hw5, h⟩ := h
    refine v_get (q := x0) (j := 0) (v := .ref (x0 + 1)) dX0_grow_14 fX0_365 hw5 rfl (lay_X0 _ _ _) rfl ?_
    refine v_iload_n 1 dX0_grow_17 rfl ?_
    obtain ⟨F6, P6, A6, M6, N6, hw6, h⟩ := h
    refine x_callVI K (As := [vI x1]) dX0_grow_18 LX0_118 rfl rfl (Nat.le_of_ble_eq_true rfl) (rc_of hw6 (lay_T0 _ _ _ _ _ _) rfl) h (fun r7 w7 z7 n7 h => ?_)
    obtain ⟨s8, h⟩ := h
    obtain ⟨ht, hf⟩ := h
    refine v_if_ne 36 dX0_grow_21 (by decide) s8 (fun c => ?_) (fun c => ?_)
    · have h := ht c
      refine v_bipush dX0_grow_36 rfl ?_
      refine v_goto 49 dX0_grow_38 (by decide) ?_
      exact x_iret K dX0_grow_49 rfl h
    · have h := hf c
      refine v_aload_n 0 dX0_grow_24 rfl (isR_ref _) ?_
      obtain ⟨F9, p9, hw9, h⟩ := h
      refine v_get (q := x0) (j := 0) (v := .ref (x0 + 1)) dX0_grow_25 fX0_365 hw9 rfl (lay_X0 _ _ _) rfl ?_
      obtain ⟨F10, P10, A10, M10, N10, hw10, h⟩ := h
      refine v_get (q := x0 + 1) (j := 0) (v := vI (F10 4)) dX0_grow_28 fX0_44 hw10 rfl (lay_T0 _ _ _ _ _ _) rfl ?_
      refine v_bipush dX0_grow_31 rfl ?_
      obtain ⟨s11, h⟩ := h
      obtain ⟨ht, hf⟩ := h
      refine v_icmp_ne 41 dX0_grow_33 (by decide) s11 (by decide) (fun c => ?_) (fun c => ?_)
      · have h := ht c
        refine v_aload_n 0 dX0_grow_41 rfl (isR_ref _) ?_
        refine v_get (q := x0) (j := 0) (v := .ref (x0 + 1)) dX0_grow_42 fX0_365 hw9 rfl (lay_X0 _ _ _) rfl ?_
        refine v_iload_n 1 dX0_grow_45 rfl ?_
        refine x_callVI K (As := [vI x1]) dX0_grow_46 LX0_81 rfl rfl (Nat.le_of_ble_eq_true rfl) (rc_of hw10 (lay_T0 _ _ _ _ _ _) rfl) h (fun r12 w12 z12 n12 h => ?_)
        exact x_iret K dX0_grow_49 rfl h
      · have h := hf c
        refine v_bipush dX0_grow_36 rfl ?_
        refine v_goto 49 dX0_grow_38 (by decide) ?_
        exact x_iret K dX0_grow_49 rfl h
  · have h := hf c
    refine v_iconst dX0_grow_11 ?_
    exact x_iret K dX0_grow_12 rfl h
/-! BranchNames.cut -/
theorem wX0_cut_0 (K : KV) {x1 : Int} {x0 : Nat} {w : Wd} {sz n : Nat} (h : ∃ (F1 : Nat → Int) (p1 : Nat), (w x0 = some (obX x0 F1 p1)) ∧ (∃ (F2 : Nat → Int) (P2 : Nat → Option Nat) (A2 : Nat → Int → Int) (M2 : Nat → Int → Int → Int) (N2 : Nat → Int → Int → Option Nat), (w (x0 + 1) = some (obT F2 P2 A2 M2 N2)) ∧ (CI mX1_isAtom K [.ref (x0 + 1), vI x1] w sz n fun r3 w3 z3 n3 => (rI r3) ∧ ((¬ r3 = 0 → (∃ (F5 : Nat → Int) (p5 : Nat), (w3 x0 = some (obX x0 F5 p5)) ∧ (∃ (F6 : Nat → Int) (P6 : Nat → Option Nat) (A6 : Nat → Int → Int) (M6 : Nat → Int → Int → Int) (N6 : Nat → Int → Int → Option Nat), (w3 (x0 + 1) = some (obT F6 P6 A6 M6 N6)) ∧ ((0 ≤ x1 ∧ x1 < 13) ∧ ((rI (A6 0 x1)) ∧ (((A6 0 x1) = 1 → (CV mX1_cuts K [.ref (x0 + 1), vI x1] w3 z3 n3 fun w9 z9 n9 => ∃ (F10 : Nat → Int) (p10 : Nat), (w9 x0 = some (obX x0 F10 p10)) ∧ (∃ (F11 : Nat → Int) (P11 : Nat → Option Nat) (A11 : Nat → Int → Int) (M11 : Nat → Int → Int → Int) (N11 : Nat → Int → Int → Option Nat), (w9 (x0 + 1) = some (obT F11 P11 A11 M11 N11)) ∧ (K.S (some (vI (F11 4))) w9 z9 n9)))) ∧ (¬ (A6 0 x1) = 1 → (K.S (some (vI ((-3)))) w3 z3 n3)))))))) ∧ (r3 = 0 → (K.S (some (vI ((-1)))) w3 z3 n3)))))) : VX K mX0_cut 0 [(0, .ref x0), (1, vI x1)] [] w sz n := by
  refine v_aload_n 0 dX0_cut_0 rfl (isR_ref _) ?_
  obtain ⟨F1, p1, hw1, h⟩ := h
  refine v_get (q := x0) (j := 0) (v := .ref (x0 + 1)) dX0_cut_1 fX0_365 hw1 rfl (lay_X0 _ _ _) rfl ?_
  refine v_iload_n 1 dX0_cut_4 rfl ?_
  obtain ⟨F2, P2, A2, M2, N2, hw2, h⟩ := h
  refine x_callVI K (As := [vI x1]) dX0_cut_5 LX0_496 rfl rfl (Nat.le_of_ble_eq_true rfl) (rc_of hw2 (lay_T0 _ _ _ _ _ _) rfl) h (fun r3 w3 z3 n3 h => ?_)
  obtain ⟨s4, h⟩ := h
  obtain ⟨ht, hf⟩ := h
  refine v_if_ne 13 dX0_cut_8 (by decide) s4 (fun c => ?_) (fun c => ?_)
  · have h := ht c
    refine v_aload_n 0 dX0_cut_13 rfl (isR_ref _) ?_
    obtain ⟨F5, p5, hw5, h⟩ := h
    refine v_get (q := x0) (j := 0) (v := .ref (x0 + 1)) dX0_cut_14 fX0_365 hw5 rfl (lay_X0 _ _ _) rfl ?_
    obtain ⟨F6, P6, A6, M6, N6, hw6, h⟩ := h
    refine v_get (q := x0 + 1) (j := 0) (v := .ref (x0 + 1 + 43)) dX0_cut_17 fX0_11 hw6 rfl (lay_T0 _ _ _ _ _ _) rfl ?_
    refine v_iload_n 1 dX0_cut_20 rfl ?_
    obtain ⟨s7, h⟩ := h
    refine v_iald (q := x0 + 1) (j := 43) (f := A6 0) dX0_cut_21 hw6 rfl rfl s7 (by decide) ?_
    refine v_iconst dX0_cut_22 ?_
    obtain ⟨s8, h⟩ := h
    obtain ⟨ht, hf⟩ := h
    refine v_icmp_eq 29 dX0_cut_23 (by decide) s8 (by decide) (fun c => ?_) (fun c => ?_)
    · have h := ht c
      refine v_aload_n 0 dX0_cut_29 rfl (isR_ref _) ?_
      refine v_get (q := x0) (j := 0) (v := .ref (x0 + 1)) dX0_cut_30 fX0_365 hw5 rfl (lay_X0 _ _ _) rfl ?_
      refine v_iload_n 1 dX0_cut_33 rfl ?_
      refine x_callVV K (As := [vI x1]) dX0_cut_34 LX0_499 rfl rfl (Nat.le_of_ble_eq_true rfl) (rc_of hw6 (lay_T0 _ _ _ _ _ _) rfl) h (fun w9 z9 n9 h => ?_)
      refine v_aload_n 0 dX0_cut_37 rfl (isR_ref _) ?_
      obtain ⟨F10, p10, hw10, h⟩ := h
      refine v_get (q := x0) (j := 0) (v := .ref (x0 + 1)) dX0_cut_38 fX0_365 hw10 rfl (lay_X0 _ _ _) rfl ?_
      obtain ⟨F11, P11, A11, M11, N11, hw11, h⟩ := h
      refine v_get (q := x0 + 1) (j := 0) (v := vI (F11 4)) dX0_cut_41 fX0_44 hw11 rfl (lay_T0 _ _ _ _ _ _) rfl ?_
      exact x_iret K dX0_cut_44 rfl h
    · have h := hf c
      refine v_bipush dX0_cut_26 rfl ?_
      exact x_iret K dX0_cut_28 rfl h
  · have h := hf c
    refine v_iconst dX0_cut_11 ?_
    exact x_iret K dX0_cut_12 rfl h
/-! BranchNames.take -/
theorem wX0_take_0 (K : KV) {x1 x2 : Int} {x0 : Nat} {w : Wd} {sz n : Nat} (h : ∃ (F1 : Nat → Int) (p1 : Nat), (w x0 = some (obX x0 F1 p1)) ∧ (CI mX0_isListed K [.ref x0, vI x1, vI x2] w sz n fun r2 w2 z2 n2 => (rI r2) ∧ ((¬ r2 = 0 → (∃ (F4 : Nat → Int) (p4 : Nat), (w2 x0 = some (obX x0 F4 p4)) ∧ (∃ (A5 : Nat → Int → Int) (B5 : Nat → Int → Option Nat) (M5 : Nat → Int → Int → Int), (w2 (x0 + 221) = some (obXA A5 B5 M5)) ∧ ((0 ≤ x1 ∧ x1 < 11) ∧ (∃ (a7 : Nat), (B5 0 x1 = some a7) ∧ (∃ (l8 : Nat) (f8 : Int → Int), (w2 a7 = some (obA 0 l8 f8)) ∧ ((0 ≤ x2 ∧ x2 < ((l8 : Nat) : Int)) ∧ ((l8 < 2147483648) ∧ (CI mX0_isBy K [.ref x0, .ref (x0 + 1), vI x1, vI (f8 x2)] w2 z2 n2 fun r11 w11 z11 n11 => ∃ (F12 : Nat → Int) (p12 : Nat), (w11 x0 = some (obX x0 F12 p12)) ∧ (∃ (A13 : Nat → Int → Int) (B13 : Nat → Int → Option Nat) (M13 : Nat → Int → Int → Int), (w11 (x0 + 221) = some (obXA A13 B13 M13)) ∧ (∃ (a14 : Nat), (B13 0 x1 = some a14) ∧ (∃ (l15 : Nat) (f15 : Int → Int), (w11 a14 = some (obA 0 l15 f15)) ∧ ((0 ≤ x2 ∧ x2 < ((l15 : Nat) : Int)) ∧ ((l15 < 2147483648) ∧ (K.S (some (vI (f15 x2))) w11 z11 n11))))))))))))))) ∧ (r2 = 0 → (K.S (some (vI ((-1)))) w2 z2 n2))))) : VX K mX0_take 0 [(0, .ref x0), (1, vI x1), (2, vI x2)] [] w sz n := by
  refine v_aload_n 0 dX0_take_0 rfl (isR_ref _) ?_
  refine v_iload_n 1 dX0_take_1 rfl ?_
  refine v_iload_n 2 dX0_take_2 rfl ?_
  obtain ⟨F1, p1, hw1, h⟩ := h
  refine x_callVI K (As := [vI x1, vI x2]) dX0_take_3 LX0_502 rfl rfl (Nat.le_of_ble_eq_true rfl) (rc_of hw1 (lay_X0 _ _ _) rfl) h (fun r2 w2 z2 n2 h => ?_)
  obtain ⟨s3, h⟩ := h
  obtain ⟨ht, hf⟩ := h
  refine v_if_ne 11 dX0_take_6 (by decide) s3 (fun c => ?_) (fun c => ?_)
  · have h := ht c
    refine v_aload_n 0 dX0_take_11 rfl (isR_ref _) ?_
    refine v_aload_n 0 dX0_take_12 rfl (isR_ref _) ?_
    obtain ⟨F4, p4, hw4, h⟩ := h
    refine v_get (q := x0) (j := 0) (v := .ref (x0 + 1)) dX0_take_13 fX0_365 hw4 rfl (lay_X0 _ _ _) rfl ?_
    refine v_iload_n 1 dX0_take_16 rfl ?_
    refine v_aload_n 0 dX0_take_17 rfl (isR_ref _) ?_
    refine v_get (q := x0) (j := 0) (v := .ref (x0 + 221 + 31)) dX0_take_18 fX0_108 hw4 rfl (lay_X0 _ _ _) rfl ?_
    refine v_iload_n 1 dX0_take_21 rfl ?_
    obtain ⟨A5, B5, M5, hw5, h⟩ := h
    obtain ⟨s6, h⟩ := h
    refine v_aaldQ (q := x0 + 221) (j := 31) (f := B5 0) (t := 8) (by decide) dX0_take_22 hw5 rfl (lay_XA 31 rfl) s6 (by decide) ?_
    refine v_iload_n 2 dX0_take_23 rfl ?_
    obtain ⟨a7, ea7, h⟩ := h
    rw [ea7]
    obtain ⟨l8, f8, hw8, h⟩ := h
    obtain ⟨s9, h⟩ := h
    obtain ⟨s10, h⟩ := h
    refine v_iald (q := a7) (j := 0) (f := f8) dX0_take_24 hw8 rfl (lay_AI _ _ _) s9 s10 ?_
    refine x_callVI K (As := [.ref (x0 + 1), vI x1, vI (f8 x2)]) dX0_take_25 LX0_115 rfl rfl (Nat.le_of_ble_eq_true rfl) (rc_of hw4 (lay_X0 _ _ _) rfl) h (fun r11 w11 z11 n11 h => ?_)
    refine v_istore_n dX0_take_28 (by decide) rfl ?_
    refine v_aload_n 1 dX0_take_29 rfl (isR_ref _) ?_
    obtain ⟨F12, p12, hw12, h⟩ := h
    refine v_get (q := x0) (j := 0) (v := .ref (x0 + 221 + 31)) dX0_take_30 fX0_108 hw12 rfl (lay_X0 _ _ _) rfl ?_
    refine v_iload_n 2 dX0_take_33 rfl ?_
    obtain ⟨A13, B13, M13, hw13, h⟩ := h
    refine v_aaldQ (q := x0 + 221) (j := 31) (f := B13 0) (t := 8) (by decide) dX0_take_34 hw13 rfl (lay_XA 31 rfl) s6 (by decide) ?_
    refine v_iload_n 3 dX0_take_35 rfl ?_
    obtain ⟨a14, ea14, h⟩ := h
    rw [ea14]
    obtain ⟨l15, f15, hw15, h⟩ := h
    obtain ⟨s16, h⟩ := h
    obtain ⟨s17, h⟩ := h
    refine v_iald (q := a14) (j := 0) (f := f15) dX0_take_36 hw15 rfl (lay_AI _ _ _) s16 s17 ?_
    exact x_iret K dX0_take_37 rfl h
  · have h := hf c
    refine v_iconst dX0_take_9 ?_
    exact x_iret K dX0_take_10 rfl h
/-! BranchNames.isListed -/
theorem wX0_isListed_0 (K : KV) {x1 x2 : Int} {x0 : Nat} {w : Wd} {sz n : Nat} (h : ∃ (F1 : Nat → Int) (p1 : Nat), (w x0 = some (obX x0 F1 p1)) ∧ (CI mX0_isList K [.ref x0, vI x1] w sz n fun r2 w2 z2 n2 => (rI r2) ∧ ((r2 = 0 → (K.S (some (vI 0)) w2 z2 n2)) ∧ (¬ r2 = 0 → ((rI x2) ∧ (∃ (F5 : Nat → Int) (p5 : Nat), (w2 x0 = some (obX x0 F5 p5)) ∧ (∃ (A6 : Nat → Int → Int) (B6 : Nat → Int → Option Nat) (M6 : Nat → Int → Int → Int), (w2 (x0 + 221) = some (obXA A6 B6 M6)) ∧ ((0 ≤ x1 ∧ x1 < 11) ∧ (∃ (a8 : Nat), (B6 0 x1 = some a8) ∧ (∃ (l9 : Nat) (f9 : Int → Int), (w2 a8 = some (obA 0 l9 f9)) ∧ ((rI ((((l9 : Nat) : Int)) - 1)) ∧ (CI mX0_isIn K [vL x2, vL 0, vL ((((l9 : Nat) : Int)) - 1)] w2 z2 n2 fun r11 w11 z11 n11 => (rI r11) ∧ ((r11 = 0 → (K.S (some (vI 0)) w11 z11 n11)) ∧ (¬ r11 = 0 → (K.S (some (vI 1)) w11 z11 n11))))))))))))))) : VX K mX0_isListed 0 [(0, .ref x0), (1, vI x1), (2, vI x2)] [] w sz n := by
  refine v_aload_n 0 dX0_isListed_0 rfl (isR_ref _) ?_
  refine v_iload_n 1 dX0_isListed_1 rfl ?_
  obtain ⟨F1, p1, hw1, h⟩ := h
  refine x_callVI K (As := [vI x1]) dX0_isListed_2 LX0_146 rfl rfl (Nat.le_of_ble_eq_true rfl) (rc_of hw1 (lay_X0 _ _ _) rfl) h (fun r2 w2 z2 n2 h => ?_)
  obtain ⟨s3, h⟩ := h
  obtain ⟨ht, hf⟩ := h
  refine v_if_eq 31 dX0_isListed_5 (by decide) s3 (fun c => ?_) (fun c => ?_)
  · have h := ht c
    refine v_iconst dX0_isListed_31 ?_
    exact x_zret K dX0_isListed_32 rfl (by decide) h
  · have h := hf c
    refine v_iload_n 2 dX0_isListed_8 rfl ?_
    obtain ⟨s4, h⟩ := h
    refine v_i2l dX0_isListed_9 s4 ?_
    refine v_lconst (z := 0) dX0_isListed_10 rfl ?_
    refine v_aload_n 0 dX0_isListed_11 rfl (isR_ref _) ?_
    obtain ⟨F5, p5, hw5, h⟩ := h
    refine v_get (q := x0) (j := 0) (v := .ref (x0 + 221 + 31)) dX0_isListed_12 fX0_108 hw5 rfl (lay_X0 _ _ _) rfl ?_
    refine v_iload_n 1 dX0_isListed_15 rfl ?_
    obtain ⟨A6, B6, M6, hw6, h⟩ := h
    obtain ⟨s7, h⟩ := h
    refine v_aaldQ (q := x0 + 221) (j := 31) (f := B6 0) (t := 8) (by decide) dX0_isListed_16 hw6 rfl (lay_XA 31 rfl) s7 (by decide) ?_
    obtain ⟨a8, ea8, h⟩ := h
    rw [ea8]
    obtain ⟨l9, f9, hw9, h⟩ := h
    refine v_alen (q := a8) (j := 0) dX0_isListed_17 hw9 rfl (lay_AI _ _ _) (by decide) ?_
    refine v_iconst dX0_isListed_18 ?_
    refine v_isub dX0_isListed_19 ?_
    obtain ⟨s10, h⟩ := h
    refine v_i2l dX0_isListed_20 s10 ?_
    refine x_callSI K (As := [vL x2, vL 0, vL ((((l9 : Nat) : Int)) - 1)]) dX0_isListed_21 LX0_142 rfl rfl (Nat.le_of_ble_eq_true rfl) h (fun r11 w11 z11 n11 h => ?_)
    obtain ⟨s12, h⟩ := h
    obtain ⟨ht, hf⟩ := h
    refine v_if_eq 31 dX0_isListed_24 (by decide) s12 (fun c => ?_) (fun c => ?_)
    · have h := ht c
      refine v_iconst dX0_isListed_31 ?_
      exact x_zret K dX0_isListed_32 rfl (by decide) h
    · have h := hf c
      refine v_iconst dX0_isListed_27 ?_
      refine v_goto 32 dX0_isListed_28 (by decide) ?_
      exact x_zret K dX0_isListed_32 rfl (by decide) h
/-! BranchNames.isList -/
theorem wX0_isList_0 (K : KV) {x1 : Int} {x0 : Nat} {w : Wd} {sz n : Nat} (h : (rI x1) ∧ (CI mX0_isIn K [vL x1, vL 1, vL 10] w sz n fun r2 w2 z2 n2 => (r2 = 0 ∨ r2 = 1) ∧ (K.S (some (vI r2)) w2 z2 n2))) : VX K mX0_isList 0 [(0, .ref x0), (1, vI x1)] [] w sz n := by
  refine v_iload_n 1 dX0_isList_0 rfl ?_
  obtain ⟨s1, h⟩ := h
  refine v_i2l dX0_isList_1 s1 ?_
  refine v_lconst (z := 1) dX0_isList_2 rfl ?_
  refine v_ldc2 (z := 10) dX0_isList_3 q925 ?_
  refine x_callSI K (As := [vL x1, vL 1, vL 10]) dX0_isList_6 LX0_142 rfl rfl (Nat.le_of_ble_eq_true rfl) h (fun r2 w2 z2 n2 h => ?_)
  obtain ⟨s3, h⟩ := h
  exact x_zret K dX0_isList_9 rfl s3 h
/-! BranchNames.code -/
theorem wX0_code_0 (K : KV) {x1 x2 : Int} {x0 : Nat} {w : Wd} {sz n : Nat} (h : (rI x1) ∧ (CI mX0_isIn K [vL x1, vL 1, vL 12] w sz n fun r2 w2 z2 n2 => (rI r2) ∧ ((r2 = 0 → (K.S (some (vI ((-2)))) w2 z2 n2)) ∧ (¬ r2 = 0 → ((rI x2) ∧ (∃ (F5 : Nat → Int) (p5 : Nat), (w2 x0 = some (obX x0 F5 p5)) ∧ (∃ (A6 : Nat → Int → Int) (B6 : Nat → Int → Option Nat) (M6 : Nat → Int → Int → Int), (w2 (x0 + 221) = some (obXA A6 B6 M6)) ∧ ((0 ≤ x1 ∧ x1 < 14) ∧ (CI mX0_isIn K [vL x2, vL 0, vL ((A6 0 x1) - 1)] w2 z2 n2 fun r8 w8 z8 n8 => (rI r8) ∧ ((r8 = 0 → (K.S (some (vI ((-2)))) w8 z8 n8)) ∧ (¬ r8 = 0 → (∃ (F10 : Nat → Int) (p10 : Nat), (w8 x0 = some (obX x0 F10 p10)) ∧ (CI mX0_isBy K [.ref x0, .ref (x0 + 89), vI x1, vI x2] w8 z8 n8 fun r11 w11 z11 n11 => (rI r11) ∧ ((¬ r11 = 0 → (∃ (F13 : Nat → Int) (p13 : Nat), (w11 x0 = some (obX x0 F13 p13)) ∧ (∃ (F14 : Nat → Int) (P14 : Nat → Option Nat) (A14 : Nat → Int → Int) (M14 : Nat → Int → Int → Int) (N14 : Nat → Int → Int → Option Nat), (w11 (x0 + 1) = some (obT F14 P14 A14 M14 N14)) ∧ (CV mX1_becomes K [.ref (x0 + 1), .ref (x0 + 89)] w11 z11 n11 fun w15 z15 n15 => ∃ (F16 : Nat → Int) (p16 : Nat), (w15 x0 = some (obX x0 F16 p16)) ∧ (CL mX0_keyOf K [.ref x0, .ref (x0 + 1)] w15 z15 n15 fun r17 w17 z17 n17 => CL mX0_numberOf K [vL r17] w17 z17 n17 fun r18 w18 z18 n18 => (rL r18) ∧ ((rL x2) ∧ ((¬ (cmpI r18 x2) = 0 → (K.S (some (vI 0)) w18 z18 n18)) ∧ ((cmpI r18 x2) = 0 → (K.S (some (vI 1)) w18 z18 n18))))))))) ∧ (r11 = 0 → (K.S (some (vI ((-2)))) w11 z11 n11)))))))))))))))) : VX K mX0_code 0 [(0, .ref x0), (1, vI x1), (2, vI x2)] [] w sz n := by
  refine v_iload_n 1 dX0_code_0 rfl ?_
  obtain ⟨s1, h⟩ := h
  refine v_i2l dX0_code_1 s1 ?_
  refine v_lconst (z := 1) dX0_code_2 rfl ?_
  refine v_ldc2 (z := 12) dX0_code_3 q930 ?_
  refine x_callSI K (As := [vL x1, vL 1, vL 12]) dX0_code_6 LX0_142 rfl rfl (Nat.le_of_ble_eq_true rfl) h (fun r2 w2 z2 n2 h => ?_)
  obtain ⟨s3, h⟩ := h
  obtain ⟨ht, hf⟩ := h
  refine v_if_eq 42 dX0_code_9 (by decide) s3 (fun c => ?_) (fun c => ?_)
  · have h := ht c
    refine v_bipush dX0_code_42 rfl ?_
    exact x_iret K dX0_code_44 rfl h
  · have h := hf c
    refine v_iload_n 2 dX0_code_12 rfl ?_
    obtain ⟨s4, h⟩ := h
    refine v_i2l dX0_code_13 s4 ?_
    refine v_lconst (z := 0) dX0_code_14 rfl ?_
    refine v_aload_n 0 dX0_code_15 rfl (isR_ref _) ?_
    obtain ⟨F5, p5, hw5, h⟩ := h
    refine v_get (q := x0) (j := 0) (v := .ref (x0 + 221 + 15)) dX0_code_16 fX0_29 hw5 rfl (lay_X0 _ _ _) rfl ?_
    refine v_iload_n 1 dX0_code_19 rfl ?_
    obtain ⟨A6, B6, M6, hw6, h⟩ := h
    obtain ⟨s7, h⟩ := h
    refine v_lald (q := x0 + 221) (j := 15) (f := A6 0) dX0_code_20 hw6 rfl (lay_XA 15 rfl) s7 (by decide) ?_
    refine v_lconst (z := 1) dX0_code_21 rfl ?_
    refine v_lsub dX0_code_22 ?_
    refine x_callSI K (As := [vL x2, vL 0, vL ((A6 0 x1) - 1)]) dX0_code_23 LX0_142 rfl rfl (Nat.le_of_ble_eq_true rfl) h (fun r8 w8 z8 n8 h => ?_)
    obtain ⟨s9, h⟩ := h
    obtain ⟨ht, hf⟩ := h
    refine v_if_eq 42 dX0_code_26 (by decide) s9 (fun c => ?_) (fun c => ?_)
    · have h := ht c
      refine v_bipush dX0_code_42 rfl ?_
      exact x_iret K dX0_code_44 rfl h
    · have h := hf c
      refine v_aload_n 0 dX0_code_29 rfl (isR_ref _) ?_
      refine v_aload_n 0 dX0_code_30 rfl (isR_ref _) ?_
      obtain ⟨F10, p10, hw10, h⟩ := h
      refine v_get (q := x0) (j := 0) (v := .ref (x0 + 89)) dX0_code_31 fX0_122 hw10 rfl (lay_X0 _ _ _) rfl ?_
      refine v_iload_n 1 dX0_code_34 rfl ?_
      refine v_iload_n 2 dX0_code_35 rfl ?_
      refine x_callVI K (As := [.ref (x0 + 89), vI x1, vI x2]) dX0_code_36 LX0_115 rfl rfl (Nat.le_of_ble_eq_true rfl) (rc_of hw10 (lay_X0 _ _ _) rfl) h (fun r11 w11 z11 n11 h => ?_)
      obtain ⟨s12, h⟩ := h
      obtain ⟨ht, hf⟩ := h
      refine v_if_ne 45 dX0_code_39 (by decide) s12 (fun c => ?_) (fun c => ?_)
      · have h := ht c
        refine v_aload_n 0 dX0_code_45 rfl (isR_ref _) ?_
        obtain ⟨F13, p13, hw13, h⟩ := h
        refine v_get (q := x0) (j := 0) (v := .ref (x0 + 1)) dX0_code_46 fX0_365 hw13 rfl (lay_X0 _ _ _) rfl ?_
        refine v_aload_n 0 dX0_code_49 rfl (isR_ref _) ?_
        refine v_get (q := x0) (j := 0) (v := .ref (x0 + 89)) dX0_code_50 fX0_122 hw13 rfl (lay_X0 _ _ _) rfl ?_
        obtain ⟨F14, P14, A14, M14, N14, hw14, h⟩ := h
        refine x_callVV K (As := [.ref (x0 + 89)]) dX0_code_53 LX0_125 rfl rfl (Nat.le_of_ble_eq_true rfl) (rc_of hw14 (lay_T0 _ _ _ _ _ _) rfl) h (fun w15 z15 n15 h => ?_)
        refine v_aload_n 0 dX0_code_56 rfl (isR_ref _) ?_
        refine v_aload_n 0 dX0_code_57 rfl (isR_ref _) ?_
        obtain ⟨F16, p16, hw16, h⟩ := h
        refine v_get (q := x0) (j := 0) (v := .ref (x0 + 1)) dX0_code_58 fX0_365 hw16 rfl (lay_X0 _ _ _) rfl ?_
        refine x_callVL K (As := [.ref (x0 + 1)]) dX0_code_61 LX0_128 rfl rfl (Nat.le_of_ble_eq_true rfl) (rc_of hw16 (lay_X0 _ _ _) rfl) h (fun r17 w17 z17 n17 h => ?_)
        refine x_callSL K (As := [vL r17]) dX0_code_64 LX0_33 rfl rfl (Nat.le_of_ble_eq_true rfl) h (fun r18 w18 z18 n18 h => ?_)
        refine v_iload_n 2 dX0_code_67 rfl ?_
        refine v_i2l dX0_code_68 s4 ?_
        obtain ⟨s19, h⟩ := h
        obtain ⟨s20, h⟩ := h
        refine v_lcmp dX0_code_69 s19 s20 ?_
        obtain ⟨ht, hf⟩ := h
        refine v_if_ne 77 dX0_code_70 (by decide) cmpI_rI (fun c => ?_) (fun c => ?_)
        · have h := ht c
          refine v_iconst dX0_code_77 ?_
          exact x_iret K dX0_code_78 rfl h
        · have h := hf c
          refine v_iconst dX0_code_73 ?_
          refine v_goto 78 dX0_code_74 (by decide) ?_
          exact x_iret K dX0_code_78 rfl h
      · have h := hf c
        refine v_bipush dX0_code_42 rfl ?_
        exact x_iret K dX0_code_44 rfl h
/-! BranchNames.drawn -/
theorem wX0_drawn_0 (K : KV) {x1 : Int} {x0 : Nat} {w : Wd} {sz n : Nat} (h : (rI x1) ∧ ((x1 = 0 → (∃ (F2 : Nat → Int) (p2 : Nat), (w x0 = some (obX x0 F2 p2)) ∧ (∃ (F3 : Nat → Int) (P3 : Nat → Option Nat) (A3 : Nat → Int → Int) (M3 : Nat → Int → Int → Int) (N3 : Nat → Int → Int → Option Nat), (w (x0 + 1) = some (obT F3 P3 A3 M3 N3)) ∧ (K.S (some (vI (F3 4))) w sz n)))) ∧ (x1 = 1 → (∃ (F2 : Nat → Int) (p2 : Nat), (w x0 = some (obX x0 F2 p2)) ∧ (CL mX0_keyOf K [.ref x0, .ref (x0 + 1)] w sz n fun r3 w3 z3 n3 => CL mX0_numberOf K [vL r3] w3 z3 n3 fun r4 w4 z4 n4 => K.S (some (vI (wI r4))) w4 z4 n4))) ∧ (x1 = 2 → (∃ (F2 : Nat → Int) (p2 : Nat), (w x0 = some (obX x0 F2 p2)) ∧ (∃ (F3 : Nat → Int) (P3 : Nat → Option Nat) (A3 : Nat → Int → Int) (M3 : Nat → Int → Int → Int) (N3 : Nat → Int → Int → Option Nat), (w (x0 + 1) = some (obT F3 P3 A3 M3 N3)) ∧ ((rI (F3 4)) ∧ (((F3 4) ≤ 10 → (∃ (A5 : Nat → Int → Int) (B5 : Nat → Int → Option Nat) (M5 : Nat → Int → Int → Int), (w (x0 + 221) = some (obXA A5 B5 M5)) ∧ ((0 ≤ (F3 4) ∧ (F3 4) < 11) ∧ (CL mX0_keyOf K [.ref x0, .ref (x0 + 1)] w sz n fun r7 w7 z7 n7 => CL mX0_numberOf K [vL r7] w7 z7 n7 fun r8 w8 z8 n8 => ∃ (F9 : Nat → Int) (p9 : Nat), (w8 x0 = some (obX x0 F9 p9)) ∧ (CI mX0_placeIn K [.ref x0, va_rf (B5 0 (F3 4)), vL r8] w8 z8 n8 fun r10 w10 z10 n10 => K.S (some (vI r10)) w10 z10 n10))))) ∧ (¬ (F3 4) ≤ 10 → (K.S (some (vI ((-1)))) w sz n))))))) ∧ (x1 = 3 → (∃ (F2 : Nat → Int) (p2 : Nat), (w x0 = some (obX x0 F2 p2)) ∧ (CI mX0_centre K [.ref x0, .ref (x0 + 1), vI (x1 - 3)] w sz n fun r3 w3 z3 n3 => K.S (some (vI r3)) w3 z3 n3))) ∧ (x1 = 4 → (∃ (F2 : Nat → Int) (p2 : Nat), (w x0 = some (obX x0 F2 p2)) ∧ (CI mX0_centre K [.ref x0, .ref (x0 + 1), vI (x1 - 3)] w sz n fun r3 w3 z3 n3 => K.S (some (vI r3)) w3 z3 n3))) ∧ ((x1 < 0 ∨ 4 < x1) → (K.S (some (vI ((-1)))) w sz n)))) : VX K mX0_drawn 0 [(0, .ref x0), (1, vI x1)] [] w sz n := by
  refine v_iload_n 1 dX0_drawn_0 rfl ?_
  obtain ⟨s1, h⟩ := h
  obtain ⟨h0, h1, h2, h3, h4, hd⟩ := h
  by_cases c0 : x1 = 0
  · refine v_tableIn 36 dX0_drawn_1 0 c0 (by decide) (by decide) (by decide) rfl (by decide) ?_
    have h := h0 c0
    refine v_aload_n 0 dX0_drawn_36 rfl (isR_ref _) ?_
    obtain ⟨F2, p2, hw2, h⟩ := h
    refine v_get (q := x0) (j := 0) (v := .ref (x0 + 1)) dX0_drawn_37 fX0_365 hw2 rfl (lay_X0 _ _ _) rfl ?_
    obtain ⟨F3, P3, A3, M3, N3, hw3, h⟩ := h
    refine v_get (q := x0 + 1) (j := 0) (v := vI (F3 4)) dX0_drawn_40 fX0_44 hw3 rfl (lay_T0 _ _ _ _ _ _) rfl ?_
    exact x_iret K dX0_drawn_43 rfl h
  by_cases c1 : x1 = 1
  · refine v_tableIn 44 dX0_drawn_1 1 c1 (by decide) (by decide) (by decide) rfl (by decide) ?_
    have h := h1 c1
    refine v_aload_n 0 dX0_drawn_44 rfl (isR_ref _) ?_
    refine v_aload_n 0 dX0_drawn_45 rfl (isR_ref _) ?_
    obtain ⟨F2, p2, hw2, h⟩ := h
    refine v_get (q := x0) (j := 0) (v := .ref (x0 + 1)) dX0_drawn_46 fX0_365 hw2 rfl (lay_X0 _ _ _) rfl ?_
    refine x_callVL K (As := [.ref (x0 + 1)]) dX0_drawn_49 LX0_128 rfl rfl (Nat.le_of_ble_eq_true rfl) (rc_of hw2 (lay_X0 _ _ _) rfl) h (fun r3 w3 z3 n3 h => ?_)
    refine x_callSL K (As := [vL r3]) dX0_drawn_52 LX0_33 rfl rfl (Nat.le_of_ble_eq_true rfl) h (fun r4 w4 z4 n4 h => ?_)
    refine v_l2i dX0_drawn_55 ?_
    refine v_wI ?_
    exact x_iret K dX0_drawn_56 rfl h
  by_cases c2 : x1 = 2
  · refine v_tableIn 57 dX0_drawn_1 2 c2 (by decide) (by decide) (by decide) rfl (by decide) ?_
    have h := h2 c2
    refine v_aload_n 0 dX0_drawn_57 rfl (isR_ref _) ?_
    obtain ⟨F2, p2, hw2, h⟩ := h
    refine v_get (q := x0) (j := 0) (v := .ref (x0 + 1)) dX0_drawn_58 fX0_365 hw2 rfl (lay_X0 _ _ _) rfl ?_
    obtain ⟨F3, P3, A3, M3, N3, hw3, h⟩ := h
    refine v_get (q := x0 + 1) (j := 0) (v := vI (F3 4)) dX0_drawn_61 fX0_44 hw3 rfl (lay_T0 _ _ _ _ _ _) rfl ?_
    refine v_bipush dX0_drawn_64 rfl ?_
    obtain ⟨s4, h⟩ := h
    obtain ⟨ht, hf⟩ := h
    refine v_icmp_le 73 dX0_drawn_66 (by decide) s4 (by decide) (fun c => ?_) (fun c => ?_)
    · have h := ht c
      refine v_aload_n 0 dX0_drawn_73 rfl (isR_ref _) ?_
      refine v_aload_n 0 dX0_drawn_74 rfl (isR_ref _) ?_
      refine v_get (q := x0) (j := 0) (v := .ref (x0 + 221 + 31)) dX0_drawn_75 fX0_108 hw2 rfl (lay_X0 _ _ _) rfl ?_
      refine v_aload_n 0 dX0_drawn_78 rfl (isR_ref _) ?_
      refine v_get (q := x0) (j := 0) (v := .ref (x0 + 1)) dX0_drawn_79 fX0_365 hw2 rfl (lay_X0 _ _ _) rfl ?_
      refine v_get (q := x0 + 1) (j := 0) (v := vI (F3 4)) dX0_drawn_82 fX0_44 hw3 rfl (lay_T0 _ _ _ _ _ _) rfl ?_
      obtain ⟨A5, B5, M5, hw5, h⟩ := h
      obtain ⟨s6, h⟩ := h
      refine v_aaldQ (q := x0 + 221) (j := 31) (f := B5 0) (t := 8) (by decide) dX0_drawn_85 hw5 rfl (lay_XA 31 rfl) s6 (by decide) ?_
      refine v_aload_n 0 dX0_drawn_86 rfl (isR_ref _) ?_
      refine v_aload_n 0 dX0_drawn_87 rfl (isR_ref _) ?_
      refine v_get (q := x0) (j := 0) (v := .ref (x0 + 1)) dX0_drawn_88 fX0_365 hw2 rfl (lay_X0 _ _ _) rfl ?_
      refine x_callVL K (As := [.ref (x0 + 1)]) dX0_drawn_91 LX0_128 rfl rfl (by simp only [List.map_cons, List.map_nil, List.sum_cons, List.sum_nil, cat_rf]; exact Nat.le_of_ble_eq_true rfl) (rc_of hw2 (lay_X0 _ _ _) rfl) h (fun r7 w7 z7 n7 h => ?_)
      refine x_callSL K (As := [vL r7]) dX0_drawn_94 LX0_33 rfl rfl (by simp only [List.map_cons, List.map_nil, List.sum_cons, List.sum_nil, cat_rf]; exact Nat.le_of_ble_eq_true rfl) h (fun r8 w8 z8 n8 h => ?_)
      obtain ⟨F9, p9, hw9, h⟩ := h
      refine x_callVI K (As := [va_rf (B5 0 (F3 4)), vL r8]) dX0_drawn_97 LX0_507 rfl rfl (Nat.le_of_ble_eq_true rfl) (rc_of hw9 (lay_X0 _ _ _) rfl) h (fun r10 w10 z10 n10 h => ?_)
      exact x_iret K dX0_drawn_100 rfl h
    · have h := hf c
      refine v_iconst dX0_drawn_69 ?_
      refine v_goto 100 dX0_drawn_70 (by decide) ?_
      exact x_iret K dX0_drawn_100 rfl h
  by_cases c3 : x1 = 3
  · refine v_tableIn 101 dX0_drawn_1 3 c3 (by decide) (by decide) (by decide) rfl (by decide) ?_
    have h := h3 c3
    refine v_aload_n 0 dX0_drawn_101 rfl (isR_ref _) ?_
    refine v_aload_n 0 dX0_drawn_102 rfl (isR_ref _) ?_
    obtain ⟨F2, p2, hw2, h⟩ := h
    refine v_get (q := x0) (j := 0) (v := .ref (x0 + 1)) dX0_drawn_103 fX0_365 hw2 rfl (lay_X0 _ _ _) rfl ?_
    refine v_iload_n 1 dX0_drawn_106 rfl ?_
    refine v_iconst dX0_drawn_107 ?_
    refine v_isub dX0_drawn_108 ?_
    refine x_callVI K (As := [.ref (x0 + 1), vI (x1 - 3)]) dX0_drawn_109 LX0_65 rfl rfl (Nat.le_of_ble_eq_true rfl) (rc_of hw2 (lay_X0 _ _ _) rfl) h (fun r3 w3 z3 n3 h => ?_)
    exact x_iret K dX0_drawn_112 rfl h
  by_cases c4 : x1 = 4
  · refine v_tableIn 101 dX0_drawn_1 4 c4 (by decide) (by decide) (by decide) rfl (by decide) ?_
    have h := h4 c4
    refine v_aload_n 0 dX0_drawn_101 rfl (isR_ref _) ?_
    refine v_aload_n 0 dX0_drawn_102 rfl (isR_ref _) ?_
    obtain ⟨F2, p2, hw2, h⟩ := h
    refine v_get (q := x0) (j := 0) (v := .ref (x0 + 1)) dX0_drawn_103 fX0_365 hw2 rfl (lay_X0 _ _ _) rfl ?_
    refine v_iload_n 1 dX0_drawn_106 rfl ?_
    refine v_iconst dX0_drawn_107 ?_
    refine v_isub dX0_drawn_108 ?_
    refine x_callVI K (As := [.ref (x0 + 1), vI (x1 - 3)]) dX0_drawn_109 LX0_65 rfl rfl (Nat.le_of_ble_eq_true rfl) (rc_of hw2 (lay_X0 _ _ _) rfl) h (fun r3 w3 z3 n3 h => ?_)
    exact x_iret K dX0_drawn_112 rfl h
  have cd : x1 < 0 ∨ 4 < x1 := by omega
  refine v_tableOut 113 dX0_drawn_1 s1 cd (by decide) ?_
  have h := hd cd
  refine v_iconst dX0_drawn_113 ?_
  exact x_iret K dX0_drawn_114 rfl h
/-! BranchNames.placeIn -/
theorem wX0_placeIn_0 (K : KV) {x2 : Int} {x0 q1 : Nat} {w : Wd} {sz n : Nat} (h : VX K mX0_placeIn 3 [(0, .ref x0), (1, .ref q1), (2, vL x2), (4, vI 0)] [] w sz n) : VX K mX0_placeIn 0 [(0, .ref x0), (1, .ref q1), (2, vL x2)] [] w sz n := by
  refine v_iconst dX0_placeIn_0 ?_
  refine v_istore dX0_placeIn_1 (by decide) rfl ?_
  refine V.sub [1, 2, 3, 0] rfl ?_
  exact h
theorem wX0_placeIn_3 (K : KV) {x2 x4 : Int} {x0 q1 : Nat} {w : Wd} {sz n : Nat} (h : ∃ (l1 : Nat) (f1 : Int → Int), (w q1 = some (obA 0 l1 f1)) ∧ ((0 ≤ x4 ∧ x4 < ((l1 : Nat) : Int)) ∧ ((l1 < 2147483648) ∧ ((rI (f1 x4)) ∧ ((rL (f1 x4)) ∧ ((rL x2) ∧ (((cmpI (f1 x4) x2) = 0 → (K.S (some (vI x4)) w sz n)) ∧ (¬ (cmpI (f1 x4) x2) = 0 → (VX K mX0_placeIn 3 [(0, .ref x0), (1, .ref q1), (2, vL x2), (4, vI (x4 + 1))] [] w sz n))))))))) : VX K mX0_placeIn 3 [(0, .ref x0), (1, .ref q1), (2, vL x2), (4, vI x4)] [] w sz n := by
  refine v_aload_n 1 dX0_placeIn_3 rfl (isR_ref _) ?_
  refine v_iload 3 dX0_placeIn_4 rfl ?_
  obtain ⟨l1, f1, hw1, h⟩ := h
  obtain ⟨s2, h⟩ := h
  obtain ⟨s3, h⟩ := h
  refine v_iald (q := q1) (j := 0) (f := f1) dX0_placeIn_6 hw1 rfl (lay_AI _ _ _) s2 s3 ?_
  obtain ⟨s4, h⟩ := h
  refine v_i2l dX0_placeIn_7 s4 ?_
  refine v_lload_n 2 dX0_placeIn_8 rfl ?_
  obtain ⟨s5, h⟩ := h
  obtain ⟨s6, h⟩ := h
  refine v_lcmp dX0_placeIn_9 s5 s6 ?_
  obtain ⟨ht, hf⟩ := h
  refine v_if_eq 19 dX0_placeIn_10 (by decide) cmpI_rI (fun c => ?_) (fun c => ?_)
  · have h := ht c
    refine v_iload 3 dX0_placeIn_19 rfl ?_
    exact x_iret K dX0_placeIn_21 rfl h
  · have h := hf c
    refine v_iinc 3 dX0_placeIn_13 rfl (by decide) rfl ?_
    refine v_goto 3 dX0_placeIn_16 (by decide) ?_
    refine V.sub [1, 2, 3, 0] rfl ?_
    exact h
/-! BranchNames.atom -/
theorem wX0_atom_0 (K : KV) {x1 x2 : Int} {x0 : Nat} {w : Wd} {sz n : Nat} (h : ∃ (F1 : Nat → Int) (p1 : Nat), (w x0 = some (obX x0 F1 p1)) ∧ (∃ (F2 : Nat → Int) (P2 : Nat → Option Nat) (A2 : Nat → Int → Int) (M2 : Nat → Int → Int → Int) (N2 : Nat → Int → Int → Option Nat), (w (x0 + 1) = some (obT F2 P2 A2 M2 N2)) ∧ (CI mX1_isAtom K [.ref (x0 + 1), vI x1] w sz n fun r3 w3 z3 n3 => (rI r3) ∧ ((r3 = 0 → (K.S (some (vI ((-1)))) w3 z3 n3)) ∧ (¬ r3 = 0 → ((rI x2) ∧ (CI mX0_isIn K [vL x2, vL 0, vL 4] w3 z3 n3 fun r6 w6 z6 n6 => (rI r6) ∧ ((¬ r6 = 0 → (∃ (F8 : Nat → Int) (p8 : Nat), (w6 x0 = some (obX x0 F8 p8)) ∧ (CV mX0_looks K [.ref x0, .ref (x0 + 1)] w6 z6 n6 fun w9 z9 n9 => ∃ (F10 : Nat → Int) (p10 : Nat), (w9 x0 = some (obX x0 F10 p10)) ∧ (CV mX0_measures K [.ref x0, .ref (x0 + 1)] w9 z9 n9 fun w11 z11 n11 => (x2 = 0 → (∃ (F12 : Nat → Int) (p12 : Nat), (w11 x0 = some (obX x0 F12 p12)) ∧ (∃ (F13 : Nat → Int) (P13 : Nat → Option Nat) (A13 : Nat → Int → Int) (M13 : Nat → Int → Int → Int) (N13 : Nat → Int → Int → Option Nat), (w11 (x0 + 1) = some (obT F13 P13 A13 M13 N13)) ∧ ((0 ≤ x1 ∧ x1 < 13) ∧ (K.S (some (vI (A13 0 x1))) w11 z11 n11))))) ∧ (x2 = 1 → (∃ (F12 : Nat → Int) (p12 : Nat), (w11 x0 = some (obX x0 F12 p12)) ∧ (CI mX0_deep K [.ref x0, .ref (x0 + 1), vI x1] w11 z11 n11 fun r13 w13 z13 n13 => K.S (some (vI r13)) w13 z13 n13))) ∧ (x2 = 2 → (∃ (F12 : Nat → Int) (p12 : Nat), (w11 x0 = some (obX x0 F12 p12)) ∧ (∃ (A13 : Nat → Int → Int) (B13 : Nat → Int → Option Nat) (M13 : Nat → Int → Int → Int), (w11 (x0 + 221) = some (obXA A13 B13 M13)) ∧ ((0 ≤ x1 ∧ x1 < 13) ∧ (CL mX0_numberOf K [vL (A13 3 x1)] w11 z11 n11 fun r15 w15 z15 n15 => K.S (some (vI (wI r15))) w15 z15 n15))))) ∧ (x2 = 3 → (∃ (F12 : Nat → Int) (p12 : Nat), (w11 x0 = some (obX x0 F12 p12)) ∧ (CI mX0_leastAlike K [.ref x0, vI x1] w11 z11 n11 fun r13 w13 z13 n13 => K.S (some (vI r13)) w13 z13 n13))) ∧ ((x2 < 0 ∨ 3 < x2) → (∃ (F12 : Nat → Int) (p12 : Nat), (w11 x0 = some (obX x0 F12 p12)) ∧ (CI mX0_alike K [.ref x0, .ref (x0 + 1), vI x1] w11 z11 n11 fun r13 w13 z13 n13 => K.S (some (vI r13)) w13 z13 n13))))))) ∧ (r6 = 0 → (K.S (some (vI ((-1)))) w6 z6 n6)))))))))) : VX K mX0_atom 0 [(0, .ref x0), (1, vI x1), (2, vI x2)] [] w sz n := by
  refine v_aload_n 0 dX0_atom_0 rfl (isR_ref _) ?_
  obtain ⟨F1, p1, hw1, h⟩ := h
  refine v_get (q := x0) (j := 0) (v := .ref (x0 + 1)) dX0_atom_1 fX0_365 hw1 rfl (lay_X0 _ _ _) rfl ?_
  refine v_iload_n 1 dX0_atom_4 rfl ?_
  obtain ⟨F2, P2, A2, M2, N2, hw2, h⟩ := h
  refine x_callVI K (As := [vI x1]) dX0_atom_5 LX0_496 rfl rfl (Nat.le_of_ble_eq_true rfl) (rc_of hw2 (lay_T0 _ _ _ _ _ _) rfl) h (fun r3 w3 z3 n3 h => ?_)
  obtain ⟨s4, h⟩ := h
  obtain ⟨ht, hf⟩ := h
  refine v_if_eq 23 dX0_atom_8 (by decide) s4 (fun c => ?_) (fun c => ?_)
  · have h := ht c
    refine v_iconst dX0_atom_23 ?_
    exact x_iret K dX0_atom_24 rfl h
  · have h := hf c
    refine v_iload_n 2 dX0_atom_11 rfl ?_
    obtain ⟨s5, h⟩ := h
    refine v_i2l dX0_atom_12 s5 ?_
    refine v_lconst (z := 0) dX0_atom_13 rfl ?_
    refine v_ldc2 (z := 4) dX0_atom_14 q943 ?_
    refine x_callSI K (As := [vL x2, vL 0, vL 4]) dX0_atom_17 LX0_142 rfl rfl (Nat.le_of_ble_eq_true rfl) h (fun r6 w6 z6 n6 h => ?_)
    obtain ⟨s7, h⟩ := h
    obtain ⟨ht, hf⟩ := h
    refine v_if_ne 25 dX0_atom_20 (by decide) s7 (fun c => ?_) (fun c => ?_)
    · have h := ht c
      refine v_aload_n 0 dX0_atom_25 rfl (isR_ref _) ?_
      refine v_aload_n 0 dX0_atom_26 rfl (isR_ref _) ?_
      obtain ⟨F8, p8, hw8, h⟩ := h
      refine v_get (q := x0) (j := 0) (v := .ref (x0 + 1)) dX0_atom_27 fX0_365 hw8 rfl (lay_X0 _ _ _) rfl ?_
      refine x_callVV K (As := [.ref (x0 + 1)]) dX0_atom_30 LX0_152 rfl rfl (Nat.le_of_ble_eq_true rfl) (rc_of hw8 (lay_X0 _ _ _) rfl) h (fun w9 z9 n9 h => ?_)
      refine v_aload_n 0 dX0_atom_33 rfl (isR_ref _) ?_
      refine v_aload_n 0 dX0_atom_34 rfl (isR_ref _) ?_
      obtain ⟨F10, p10, hw10, h⟩ := h
      refine v_get (q := x0) (j := 0) (v := .ref (x0 + 1)) dX0_atom_35 fX0_365 hw10 rfl (lay_X0 _ _ _) rfl ?_
      refine x_callVV K (As := [.ref (x0 + 1)]) dX0_atom_38 LX0_54 rfl rfl (Nat.le_of_ble_eq_true rfl) (rc_of hw10 (lay_X0 _ _ _) rfl) h (fun w11 z11 n11 h => ?_)
      refine v_iload_n 2 dX0_atom_41 rfl ?_
      obtain ⟨h0, h1, h2, h3, hd⟩ := h
      by_cases c0 : x2 = 0
      · refine v_tableIn 72 dX0_atom_42 0 c0 (by decide) (by decide) (by decide) rfl (by decide) ?_
        have h := h0 c0
        refine v_aload_n 0 dX0_atom_72 rfl (isR_ref _) ?_
        obtain ⟨F12, p12, hw12, h⟩ := h
        refine v_get (q := x0) (j := 0) (v := .ref (x0 + 1)) dX0_atom_73 fX0_365 hw12 rfl (lay_X0 _ _ _) rfl ?_
        obtain ⟨F13, P13, A13, M13, N13, hw13, h⟩ := h
        refine v_get (q := x0 + 1) (j := 0) (v := .ref (x0 + 1 + 43)) dX0_atom_76 fX0_11 hw13 rfl (lay_T0 _ _ _ _ _ _) rfl ?_
        refine v_iload_n 1 dX0_atom_79 rfl ?_
        obtain ⟨s14, h⟩ := h
        refine v_iald (q := x0 + 1) (j := 43) (f := A13 0) dX0_atom_80 hw13 rfl rfl s14 (by decide) ?_
        exact x_iret K dX0_atom_81 rfl h
      by_cases c1 : x2 = 1
      · refine v_tableIn 82 dX0_atom_42 1 c1 (by decide) (by decide) (by decide) rfl (by decide) ?_
        have h := h1 c1
        refine v_aload_n 0 dX0_atom_82 rfl (isR_ref _) ?_
        refine v_aload_n 0 dX0_atom_83 rfl (isR_ref _) ?_
        obtain ⟨F12, p12, hw12, h⟩ := h
        refine v_get (q := x0) (j := 0) (v := .ref (x0 + 1)) dX0_atom_84 fX0_365 hw12 rfl (lay_X0 _ _ _) rfl ?_
        refine v_iload_n 1 dX0_atom_87 rfl ?_
        refine x_callVI K (As := [.ref (x0 + 1), vI x1]) dX0_atom_88 LX0_58 rfl rfl (Nat.le_of_ble_eq_true rfl) (rc_of hw12 (lay_X0 _ _ _) rfl) h (fun r13 w13 z13 n13 h => ?_)
        exact x_iret K dX0_atom_91 rfl h
      by_cases c2 : x2 = 2
      · refine v_tableIn 92 dX0_atom_42 2 c2 (by decide) (by decide) (by decide) rfl (by decide) ?_
        have h := h2 c2
        refine v_aload_n 0 dX0_atom_92 rfl (isR_ref _) ?_
        obtain ⟨F12, p12, hw12, h⟩ := h
        refine v_get (q := x0) (j := 0) (v := .ref (x0 + 221 + 33)) dX0_atom_93 fX0_149 hw12 rfl (lay_X0 _ _ _) rfl ?_
        refine v_iload_n 1 dX0_atom_96 rfl ?_
        obtain ⟨A13, B13, M13, hw13, h⟩ := h
        obtain ⟨s14, h⟩ := h
        refine v_lald (q := x0 + 221) (j := 33) (f := A13 3) dX0_atom_97 hw13 rfl (lay_XA 33 rfl) s14 (by decide) ?_
        refine x_callSL K (As := [vL (A13 3 x1)]) dX0_atom_98 LX0_33 rfl rfl (Nat.le_of_ble_eq_true rfl) h (fun r15 w15 z15 n15 h => ?_)
        refine v_l2i dX0_atom_101 ?_
        refine v_wI ?_
        exact x_iret K dX0_atom_102 rfl h
      by_cases c3 : x2 = 3
      · refine v_tableIn 103 dX0_atom_42 3 c3 (by decide) (by decide) (by decide) rfl (by decide) ?_
        have h := h3 c3
        refine v_aload_n 0 dX0_atom_103 rfl (isR_ref _) ?_
        refine v_iload_n 1 dX0_atom_104 rfl ?_
        obtain ⟨F12, p12, hw12, h⟩ := h
        refine x_callVI K (As := [vI x1]) dX0_atom_105 LX0_155 rfl rfl (Nat.le_of_ble_eq_true rfl) (rc_of hw12 (lay_X0 _ _ _) rfl) h (fun r13 w13 z13 n13 h => ?_)
        exact x_iret K dX0_atom_108 rfl h
      have cd : x2 < 0 ∨ 3 < x2 := by omega
      refine v_tableOut 109 dX0_atom_42 s5 cd (by decide) ?_
      have h := hd cd
      refine v_aload_n 0 dX0_atom_109 rfl (isR_ref _) ?_
      refine v_aload_n 0 dX0_atom_110 rfl (isR_ref _) ?_
      obtain ⟨F12, p12, hw12, h⟩ := h
      refine v_get (q := x0) (j := 0) (v := .ref (x0 + 1)) dX0_atom_111 fX0_365 hw12 rfl (lay_X0 _ _ _) rfl ?_
      refine v_iload_n 1 dX0_atom_114 rfl ?_
      refine x_callVI K (As := [.ref (x0 + 1), vI x1]) dX0_atom_115 LX0_165 rfl rfl (Nat.le_of_ble_eq_true rfl) (rc_of hw12 (lay_X0 _ _ _) rfl) h (fun r13 w13 z13 n13 h => ?_)
      exact x_iret K dX0_atom_118 rfl h
    · have h := hf c
      refine v_iconst dX0_atom_23 ?_
      exact x_iret K dX0_atom_24 rfl h
/-! BranchNames.bond -/
theorem wX0_bond_0 (K : KV) {x1 x2 : Int} {x0 : Nat} {w : Wd} {sz n : Nat} (h : ∃ (F1 : Nat → Int) (p1 : Nat), (w x0 = some (obX x0 F1 p1)) ∧ (∃ (F2 : Nat → Int) (P2 : Nat → Option Nat) (A2 : Nat → Int → Int) (M2 : Nat → Int → Int → Int) (N2 : Nat → Int → Int → Option Nat), (w (x0 + 1) = some (obT F2 P2 A2 M2 N2)) ∧ (CI mX1_isAtom K [.ref (x0 + 1), vI x1] w sz n fun r3 w3 z3 n3 => (rI r3) ∧ ((r3 = 0 → (K.S (some (vI ((-1)))) w3 z3 n3)) ∧ (¬ r3 = 0 → ((rI x2) ∧ (∃ (F6 : Nat → Int) (p6 : Nat), (w3 x0 = some (obX x0 F6 p6)) ∧ (∃ (F7 : Nat → Int) (P7 : Nat → Option Nat) (A7 : Nat → Int → Int) (M7 : Nat → Int → Int → Int) (N7 : Nat → Int → Int → Option Nat), (w3 (x0 + 1) = some (obT F7 P7 A7 M7 N7)) ∧ ((0 ≤ x1 ∧ x1 < 13) ∧ ((rI ((A7 0 x1) - 1)) ∧ (CI mX0_isIn K [vL x2, vL 0, vL ((A7 0 x1) - 1)] w3 z3 n3 fun r10 w10 z10 n10 => (rI r10) ∧ ((r10 = 0 → (K.S (some (vI ((-1)))) w10 z10 n10)) ∧ (¬ r10 = 0 → (∃ (F12 : Nat → Int) (p12 : Nat), (w10 x0 = some (obX x0 F12 p12)) ∧ (∃ (F13 : Nat → Int) (P13 : Nat → Option Nat) (A13 : Nat → Int → Int) (M13 : Nat → Int → Int → Int) (N13 : Nat → Int → Int → Option Nat), (w10 (x0 + 1) = some (obT F13 P13 A13 M13 N13)) ∧ (CI mX1_bound K [.ref (x0 + 1), vI x1, vI x2] w10 z10 n10 fun r14 w14 z14 n14 => K.S (some (vI r14)) w14 z14 n14)))))))))))))))) : VX K mX0_bond 0 [(0, .ref x0), (1, vI x1), (2, vI x2)] [] w sz n := by
  refine v_aload_n 0 dX0_bond_0 rfl (isR_ref _) ?_
  obtain ⟨F1, p1, hw1, h⟩ := h
  refine v_get (q := x0) (j := 0) (v := .ref (x0 + 1)) dX0_bond_1 fX0_365 hw1 rfl (lay_X0 _ _ _) rfl ?_
  refine v_iload_n 1 dX0_bond_4 rfl ?_
  obtain ⟨F2, P2, A2, M2, N2, hw2, h⟩ := h
  refine x_callVI K (As := [vI x1]) dX0_bond_5 LX0_496 rfl rfl (Nat.le_of_ble_eq_true rfl) (rc_of hw2 (lay_T0 _ _ _ _ _ _) rfl) h (fun r3 w3 z3 n3 h => ?_)
  obtain ⟨s4, h⟩ := h
  obtain ⟨ht, hf⟩ := h
  refine v_if_eq 44 dX0_bond_8 (by decide) s4 (fun c => ?_) (fun c => ?_)
  · have h := ht c
    refine v_iconst dX0_bond_44 ?_
    exact x_iret K dX0_bond_45 rfl h
  · have h := hf c
    refine v_iload_n 2 dX0_bond_11 rfl ?_
    obtain ⟨s5, h⟩ := h
    refine v_i2l dX0_bond_12 s5 ?_
    refine v_lconst (z := 0) dX0_bond_13 rfl ?_
    refine v_aload_n 0 dX0_bond_14 rfl (isR_ref _) ?_
    obtain ⟨F6, p6, hw6, h⟩ := h
    refine v_get (q := x0) (j := 0) (v := .ref (x0 + 1)) dX0_bond_15 fX0_365 hw6 rfl (lay_X0 _ _ _) rfl ?_
    obtain ⟨F7, P7, A7, M7, N7, hw7, h⟩ := h
    refine v_get (q := x0 + 1) (j := 0) (v := .ref (x0 + 1 + 43)) dX0_bond_18 fX0_11 hw7 rfl (lay_T0 _ _ _ _ _ _) rfl ?_
    refine v_iload_n 1 dX0_bond_21 rfl ?_
    obtain ⟨s8, h⟩ := h
    refine v_iald (q := x0 + 1) (j := 43) (f := A7 0) dX0_bond_22 hw7 rfl rfl s8 (by decide) ?_
    refine v_iconst dX0_bond_23 ?_
    refine v_isub dX0_bond_24 ?_
    obtain ⟨s9, h⟩ := h
    refine v_i2l dX0_bond_25 s9 ?_
    refine x_callSI K (As := [vL x2, vL 0, vL ((A7 0 x1) - 1)]) dX0_bond_26 LX0_142 rfl rfl (Nat.le_of_ble_eq_true rfl) h (fun r10 w10 z10 n10 h => ?_)
    obtain ⟨s11, h⟩ := h
    obtain ⟨ht, hf⟩ := h
    refine v_if_eq 44 dX0_bond_29 (by decide) s11 (fun c => ?_) (fun c => ?_)
    · have h := ht c
      refine v_iconst dX0_bond_44 ?_
      exact x_iret K dX0_bond_45 rfl h
    · have h := hf c
      refine v_aload_n 0 dX0_bond_32 rfl (isR_ref _) ?_
      obtain ⟨F12, p12, hw12, h⟩ := h
      refine v_get (q := x0) (j := 0) (v := .ref (x0 + 1)) dX0_bond_33 fX0_365 hw12 rfl (lay_X0 _ _ _) rfl ?_
      refine v_iload_n 1 dX0_bond_36 rfl ?_
      refine v_iload_n 2 dX0_bond_37 rfl ?_
      obtain ⟨F13, P13, A13, M13, N13, hw13, h⟩ := h
      refine x_callVI K (As := [vI x1, vI x2]) dX0_bond_38 LX0_513 rfl rfl (Nat.le_of_ble_eq_true rfl) (rc_of hw13 (lay_T0 _ _ _ _ _ _) rfl) h (fun r14 w14 z14 n14 h => ?_)
      refine v_goto 45 dX0_bond_41 (by decide) ?_
      exact x_iret K dX0_bond_45 rfl h
/-! BranchNames.far -/
theorem wX0_far_0 (K : KV) {x1 x2 : Int} {x0 : Nat} {w : Wd} {sz n : Nat} (h : ∃ (F1 : Nat → Int) (p1 : Nat), (w x0 = some (obX x0 F1 p1)) ∧ (∃ (F2 : Nat → Int) (P2 : Nat → Option Nat) (A2 : Nat → Int → Int) (M2 : Nat → Int → Int → Int) (N2 : Nat → Int → Int → Option Nat), (w (x0 + 1) = some (obT F2 P2 A2 M2 N2)) ∧ (CI mX1_isAtom K [.ref (x0 + 1), vI x1] w sz n fun r3 w3 z3 n3 => (rI r3) ∧ ((r3 = 0 → (K.S (some (vI ((-1)))) w3 z3 n3)) ∧ (¬ r3 = 0 → (∃ (F5 : Nat → Int) (p5 : Nat), (w3 x0 = some (obX x0 F5 p5)) ∧ (∃ (F6 : Nat → Int) (P6 : Nat → Option Nat) (A6 : Nat → Int → Int) (M6 : Nat → Int → Int → Int) (N6 : Nat → Int → Int → Option Nat), (w3 (x0 + 1) = some (obT F6 P6 A6 M6 N6)) ∧ (CI mX1_isAtom K [.ref (x0 + 1), vI x2] w3 z3 n3 fun r7 w7 z7 n7 => (rI r7) ∧ ((¬ r7 = 0 → (∃ (F9 : Nat → Int) (p9 : Nat), (w7 x0 = some (obX x0 F9 p9)) ∧ (CV mX0_measures K [.ref x0, .ref (x0 + 1)] w7 z7 n7 fun w10 z10 n10 => ∃ (F11 : Nat → Int) (p11 : Nat), (w10 x0 = some (obX x0 F11 p11)) ∧ (∃ (A12 : Nat → Int → Int) (B12 : Nat → Int → Option Nat) (M12 : Nat → Int → Int → Int), (w10 (x0 + 221) = some (obXA A12 B12 M12)) ∧ ((0 ≤ x1 ∧ x1 < 13) ∧ ((0 ≤ x2 ∧ x2 < 13) ∧ (K.S (some (vI (M12 1 x1 x2))) w10 z10 n10))))))) ∧ (r7 = 0 → (K.S (some (vI ((-1)))) w7 z7 n7))))))))))) : VX K mX0_far 0 [(0, .ref x0), (1, vI x1), (2, vI x2)] [] w sz n := by
  refine v_aload_n 0 dX0_far_0 rfl (isR_ref _) ?_
  obtain ⟨F1, p1, hw1, h⟩ := h
  refine v_get (q := x0) (j := 0) (v := .ref (x0 + 1)) dX0_far_1 fX0_365 hw1 rfl (lay_X0 _ _ _) rfl ?_
  refine v_iload_n 1 dX0_far_4 rfl ?_
  obtain ⟨F2, P2, A2, M2, N2, hw2, h⟩ := h
  refine x_callVI K (As := [vI x1]) dX0_far_5 LX0_496 rfl rfl (Nat.le_of_ble_eq_true rfl) (rc_of hw2 (lay_T0 _ _ _ _ _ _) rfl) h (fun r3 w3 z3 n3 h => ?_)
  obtain ⟨s4, h⟩ := h
  obtain ⟨ht, hf⟩ := h
  refine v_if_eq 22 dX0_far_8 (by decide) s4 (fun c => ?_) (fun c => ?_)
  · have h := ht c
    refine v_iconst dX0_far_22 ?_
    exact x_iret K dX0_far_23 rfl h
  · have h := hf c
    refine v_aload_n 0 dX0_far_11 rfl (isR_ref _) ?_
    obtain ⟨F5, p5, hw5, h⟩ := h
    refine v_get (q := x0) (j := 0) (v := .ref (x0 + 1)) dX0_far_12 fX0_365 hw5 rfl (lay_X0 _ _ _) rfl ?_
    refine v_iload_n 2 dX0_far_15 rfl ?_
    obtain ⟨F6, P6, A6, M6, N6, hw6, h⟩ := h
    refine x_callVI K (As := [vI x2]) dX0_far_16 LX0_496 rfl rfl (Nat.le_of_ble_eq_true rfl) (rc_of hw6 (lay_T0 _ _ _ _ _ _) rfl) h (fun r7 w7 z7 n7 h => ?_)
    obtain ⟨s8, h⟩ := h
    obtain ⟨ht, hf⟩ := h
    refine v_if_ne 24 dX0_far_19 (by decide) s8 (fun c => ?_) (fun c => ?_)
    · have h := ht c
      refine v_aload_n 0 dX0_far_24 rfl (isR_ref _) ?_
      refine v_aload_n 0 dX0_far_25 rfl (isR_ref _) ?_
      obtain ⟨F9, p9, hw9, h⟩ := h
      refine v_get (q := x0) (j := 0) (v := .ref (x0 + 1)) dX0_far_26 fX0_365 hw9 rfl (lay_X0 _ _ _) rfl ?_
      refine x_callVV K (As := [.ref (x0 + 1)]) dX0_far_29 LX0_54 rfl rfl (Nat.le_of_ble_eq_true rfl) (rc_of hw9 (lay_X0 _ _ _) rfl) h (fun w10 z10 n10 h => ?_)
      refine v_aload_n 0 dX0_far_32 rfl (isR_ref _) ?_
      obtain ⟨F11, p11, hw11, h⟩ := h
      refine v_get (q := x0) (j := 0) (v := .ref (x0 + 221 + 16)) dX0_far_33 fX0_37 hw11 rfl (lay_X0 _ _ _) rfl ?_
      refine v_iload_n 1 dX0_far_36 rfl ?_
      obtain ⟨A12, B12, M12, hw12, h⟩ := h
      obtain ⟨s13, h⟩ := h
      refine v_aaldR (q := x0 + 221) (j := 16) (q0 := x0 + 221 + 16 + 1) (t := 8) (by decide) dX0_far_37 hw12 rfl (lay_XA 16 rfl) s13 (by decide) ?_
      refine v_iload_n 2 dX0_far_38 rfl ?_
      obtain ⟨s14, h⟩ := h
      refine v_iald (q := x0 + 221) (j := 17 + Int.toNat x1) (f := M12 1 x1) dX0_far_39 hw12 (by omega) (lay_XAr 17 (by decide) xr_far s13) s14 (by decide) ?_
      exact x_iret K dX0_far_40 rfl h
    · have h := hf c
      refine v_iconst dX0_far_22 ?_
      exact x_iret K dX0_far_23 rfl h
/-! BranchNames.twig -/
theorem wX0_twig_0 (K : KV) {x1 x2 x3 : Int} {x0 : Nat} {w : Wd} {sz n : Nat} (h : ∃ (F1 : Nat → Int) (p1 : Nat), (w x0 = some (obX x0 F1 p1)) ∧ (∃ (F2 : Nat → Int) (P2 : Nat → Option Nat) (A2 : Nat → Int → Int) (M2 : Nat → Int → Int → Int) (N2 : Nat → Int → Int → Option Nat), (w (x0 + 1) = some (obT F2 P2 A2 M2 N2)) ∧ (CI mX1_isAtom K [.ref (x0 + 1), vI x1] w sz n fun r3 w3 z3 n3 => (rI r3) ∧ ((r3 = 0 → (K.S (some (vI ((-1)))) w3 z3 n3)) ∧ (¬ r3 = 0 → (∃ (F5 : Nat → Int) (p5 : Nat), (w3 x0 = some (obX x0 F5 p5)) ∧ (∃ (F6 : Nat → Int) (P6 : Nat → Option Nat) (A6 : Nat → Int → Int) (M6 : Nat → Int → Int → Int) (N6 : Nat → Int → Int → Option Nat), (w3 (x0 + 1) = some (obT F6 P6 A6 M6 N6)) ∧ (CI mX1_isAtom K [.ref (x0 + 1), vI x2] w3 z3 n3 fun r7 w7 z7 n7 => (rI r7) ∧ ((r7 = 0 → (K.S (some (vI ((-1)))) w7 z7 n7)) ∧ (¬ r7 = 0 → (∃ (F9 : Nat → Int) (p9 : Nat), (w7 x0 = some (obX x0 F9 p9)) ∧ (∃ (F10 : Nat → Int) (P10 : Nat → Option Nat) (A10 : Nat → Int → Int) (M10 : Nat → Int → Int → Int) (N10 : Nat → Int → Int → Option Nat), (w7 (x0 + 1) = some (obT F10 P10 A10 M10 N10)) ∧ (CI mX1_isBound K [.ref (x0 + 1), vI x1, vI x2] w7 z7 n7 fun r11 w11 z11 n11 => (rI r11) ∧ ((¬ r11 = 0 → (∃ (F13 : Nat → Int) (p13 : Nat), (w11 x0 = some (obX x0 F13 p13)) ∧ (CL mX0_codeOf K [.ref x0, .ref (x0 + 1), vI x2, vI x1, vI 0] w11 z11 n11 fun r14 w14 z14 n14 => (rI x3) ∧ ((x3 = 0 → (CI mX0_digitsOf K [vL r14] w14 z14 n14 fun r16 w16 z16 n16 => K.S (some (vI r16)) w16 z16 n16)) ∧ (x3 = 1 → (CL mX0_numberOf K [vL r14] w14 z14 n14 fun r16 w16 z16 n16 => K.S (some (vI (wI r16))) w16 z16 n16)) ∧ (x3 = 2 → (∃ (F16 : Nat → Int) (p16 : Nat), (w14 x0 = some (obX x0 F16 p16)) ∧ (CQ mX0_nameOf K [.ref x0, .ref (x0 + 1), vI x2, vI x1] w14 z14 n14 fun r17 w17 z17 n17 => ∃ (a18 : Nat), (r17 = some a18) ∧ (∃ (b19 : Nat), (w17 a18 = some (obS b19)) ∧ (CI mJ2_length K [.ref a18] w17 z17 n17 fun r20 w20 z20 n20 => K.S (some (vI r20)) w20 z20 n20))))) ∧ ((x3 < 0 ∨ 2 < x3) → ((10 ≤ x3 → (∃ (F16 : Nat → Int) (p16 : Nat), (w14 x0 = some (obX x0 F16 p16)) ∧ (CQ mX0_nameOf K [.ref x0, .ref (x0 + 1), vI x2, vI x1] w14 z14 n14 fun r17 w17 z17 n17 => CI mX0_byteOf K [va_rf r17, vI (x3 - 10)] w17 z17 n17 fun r18 w18 z18 n18 => K.S (some (vI r18)) w18 z18 n18))) ∧ (¬ 10 ≤ x3 → (K.S (some (vI ((-1)))) w14 z14 n14)))))))) ∧ (r11 = 0 → (K.S (some (vI ((-1)))) w11 z11 n11)))))))))))))))) : VX K mX0_twig 0 [(0, .ref x0), (1, vI x1), (2, vI x2), (3, vI x3)] [] w sz n := by
  refine v_aload_n 0 dX0_twig_0 rfl (isR_ref _) ?_
  obtain ⟨F1, p1, hw1, h⟩ := h
  refine v_get (q := x0) (j := 0) (v := .ref (x0 + 1)) dX0_twig_1 fX0_365 hw1 rfl (lay_X0 _ _ _) rfl ?_
  refine v_iload_n 1 dX0_twig_4 rfl ?_
  obtain ⟨F2, P2, A2, M2, N2, hw2, h⟩ := h
  refine x_callVI K (As := [vI x1]) dX0_twig_5 LX0_496 rfl rfl (Nat.le_of_ble_eq_true rfl) (rc_of hw2 (lay_T0 _ _ _ _ _ _) rfl) h (fun r3 w3 z3 n3 h => ?_)
  obtain ⟨s4, h⟩ := h
  obtain ⟨ht, hf⟩ := h
  refine v_if_eq 34 dX0_twig_8 (by decide) s4 (fun c => ?_) (fun c => ?_)
  · have h := ht c
    refine v_iconst dX0_twig_34 ?_
    exact x_iret K dX0_twig_35 rfl h
  · have h := hf c
    refine v_aload_n 0 dX0_twig_11 rfl (isR_ref _) ?_
    obtain ⟨F5, p5, hw5, h⟩ := h
    refine v_get (q := x0) (j := 0) (v := .ref (x0 + 1)) dX0_twig_12 fX0_365 hw5 rfl (lay_X0 _ _ _) rfl ?_
    refine v_iload_n 2 dX0_twig_15 rfl ?_
    obtain ⟨F6, P6, A6, M6, N6, hw6, h⟩ := h
    refine x_callVI K (As := [vI x2]) dX0_twig_16 LX0_496 rfl rfl (Nat.le_of_ble_eq_true rfl) (rc_of hw6 (lay_T0 _ _ _ _ _ _) rfl) h (fun r7 w7 z7 n7 h => ?_)
    obtain ⟨s8, h⟩ := h
    obtain ⟨ht, hf⟩ := h
    refine v_if_eq 34 dX0_twig_19 (by decide) s8 (fun c => ?_) (fun c => ?_)
    · have h := ht c
      refine v_iconst dX0_twig_34 ?_
      exact x_iret K dX0_twig_35 rfl h
    · have h := hf c
      refine v_aload_n 0 dX0_twig_22 rfl (isR_ref _) ?_
      obtain ⟨F9, p9, hw9, h⟩ := h
      refine v_get (q := x0) (j := 0) (v := .ref (x0 + 1)) dX0_twig_23 fX0_365 hw9 rfl (lay_X0 _ _ _) rfl ?_
      refine v_iload_n 1 dX0_twig_26 rfl ?_
      refine v_iload_n 2 dX0_twig_27 rfl ?_
      obtain ⟨F10, P10, A10, M10, N10, hw10, h⟩ := h
      refine x_callVI K (As := [vI x1, vI x2]) dX0_twig_28 LX0_516 rfl rfl (Nat.le_of_ble_eq_true rfl) (rc_of hw10 (lay_T0 _ _ _ _ _ _) rfl) h (fun r11 w11 z11 n11 h => ?_)
      obtain ⟨s12, h⟩ := h
      obtain ⟨ht, hf⟩ := h
      refine v_if_ne 36 dX0_twig_31 (by decide) s12 (fun c => ?_) (fun c => ?_)
      · have h := ht c
        refine v_aload_n 0 dX0_twig_36 rfl (isR_ref _) ?_
        refine v_aload_n 0 dX0_twig_37 rfl (isR_ref _) ?_
        obtain ⟨F13, p13, hw13, h⟩ := h
        refine v_get (q := x0) (j := 0) (v := .ref (x0 + 1)) dX0_twig_38 fX0_365 hw13 rfl (lay_X0 _ _ _) rfl ?_
        refine v_iload_n 2 dX0_twig_41 rfl ?_
        refine v_iload_n 1 dX0_twig_42 rfl ?_
        refine v_iconst dX0_twig_43 ?_
        refine x_callVL K (As := [.ref (x0 + 1), vI x2, vI x1, vI 0]) dX0_twig_44 LX0_21 rfl rfl (Nat.le_of_ble_eq_true rfl) (rc_of hw13 (lay_X0 _ _ _) rfl) h (fun r14 w14 z14 n14 h => ?_)
        refine v_lstore dX0_twig_47 (by decide) rfl ?_
        refine v_iload_n 4 dX0_twig_49 rfl ?_
        obtain ⟨s15, h⟩ := h
        obtain ⟨h0, h1, h2, hd⟩ := h
        by_cases c0 : x3 = 0
        · refine v_tableIn 76 dX0_twig_50 0 c0 (by decide) (by decide) (by decide) rfl (by decide) ?_
          have h := h0 c0
          refine v_lload 0 dX0_twig_76 rfl ?_
          refine x_callSI K (As := [vL r14]) dX0_twig_78 LX0_25 rfl rfl (Nat.le_of_ble_eq_true rfl) h (fun r16 w16 z16 n16 h => ?_)
          exact x_iret K dX0_twig_81 rfl h
        by_cases c1 : x3 = 1
        · refine v_tableIn 82 dX0_twig_50 1 c1 (by decide) (by decide) (by decide) rfl (by decide) ?_
          have h := h1 c1
          refine v_lload 0 dX0_twig_82 rfl ?_
          refine x_callSL K (As := [vL r14]) dX0_twig_84 LX0_33 rfl rfl (Nat.le_of_ble_eq_true rfl) h (fun r16 w16 z16 n16 h => ?_)
          refine v_l2i dX0_twig_87 ?_
          refine v_wI ?_
          exact x_iret K dX0_twig_88 rfl h
        by_cases c2 : x3 = 2
        · refine v_tableIn 89 dX0_twig_50 2 c2 (by decide) (by decide) (by decide) rfl (by decide) ?_
          have h := h2 c2
          refine v_aload_n 1 dX0_twig_89 rfl (isR_ref _) ?_
          refine v_aload_n 1 dX0_twig_90 rfl (isR_ref _) ?_
          obtain ⟨F16, p16, hw16, h⟩ := h
          refine v_get (q := x0) (j := 0) (v := .ref (x0 + 1)) dX0_twig_91 fX0_365 hw16 rfl (lay_X0 _ _ _) rfl ?_
          refine v_iload_n 3 dX0_twig_94 rfl ?_
          refine v_iload_n 2 dX0_twig_95 rfl ?_
          refine x_callVQ K (As := [.ref (x0 + 1), vI x2, vI x1]) dX0_twig_96 LX0_308 rfl rfl (Nat.le_of_ble_eq_true rfl) (rc_of hw16 (lay_X0 _ _ _) rfl) h (fun r17 w17 z17 n17 h => ?_)
          obtain ⟨a18, ea18, h⟩ := h
          rw [ea18]
          obtain ⟨b19, hw19, h⟩ := h
          refine x_callVI K (As := []) dX0_twig_99 LX0_251 rfl rfl (Nat.le_of_ble_eq_true rfl) (rc_S hw19) h (fun r20 w20 z20 n20 h => ?_)
          exact x_iret K dX0_twig_102 rfl h
        have cd : x3 < 0 ∨ 2 < x3 := by omega
        refine v_tableOut 103 dX0_twig_50 s15 cd (by decide) ?_
        have h := hd cd
        refine v_iload_n 4 dX0_twig_103 rfl ?_
        refine v_bipush dX0_twig_104 rfl ?_
        obtain ⟨ht, hf⟩ := h
        refine v_icmp_ge 113 dX0_twig_106 (by decide) s15 (by decide) (fun c => ?_) (fun c => ?_)
        · have h := ht c
          refine v_aload_n 1 dX0_twig_113 rfl (isR_ref _) ?_
          refine v_aload_n 1 dX0_twig_114 rfl (isR_ref _) ?_
          obtain ⟨F16, p16, hw16, h⟩ := h
          refine v_get (q := x0) (j := 0) (v := .ref (x0 + 1)) dX0_twig_115 fX0_365 hw16 rfl (lay_X0 _ _ _) rfl ?_
          refine v_iload_n 3 dX0_twig_118 rfl ?_
          refine v_iload_n 2 dX0_twig_119 rfl ?_
          refine x_callVQ K (As := [.ref (x0 + 1), vI x2, vI x1]) dX0_twig_120 LX0_308 rfl rfl (Nat.le_of_ble_eq_true rfl) (rc_of hw16 (lay_X0 _ _ _) rfl) h (fun r17 w17 z17 n17 h => ?_)
          refine v_iload_n 4 dX0_twig_123 rfl ?_
          refine v_bipush dX0_twig_124 rfl ?_
          refine v_isub dX0_twig_126 ?_
          refine x_callSI K (As := [va_rf r17, vI (x3 - 10)]) dX0_twig_127 LX0_519 rfl rfl (Nat.le_of_ble_eq_true rfl) h (fun r18 w18 z18 n18 h => ?_)
          exact x_iret K dX0_twig_130 rfl h
        · have h := hf c
          refine v_iconst dX0_twig_109 ?_
          refine v_goto 130 dX0_twig_110 (by decide) ?_
          exact x_iret K dX0_twig_130 rfl h
      · have h := hf c
        refine v_iconst dX0_twig_34 ?_
        exact x_iret K dX0_twig_35 rfl h
/-! BranchNames.nameOf -/
theorem wX0_nameOf_0 (K : KV) {x2 x3 : Int} {x0 q1 : Nat} {w : Wd} {sz n : Nat} (h : ∃ (F1 : Nat → Int) (P1 : Nat → Option Nat) (A1 : Nat → Int → Int) (M1 : Nat → Int → Int → Int) (N1 : Nat → Int → Int → Option Nat), (w q1 = some (obT F1 P1 A1 M1 N1)) ∧ (CI mX1_isTold K [.ref q1, vI x2, vI x3] w sz n fun r2 w2 z2 n2 => (rI r2) ∧ ((¬ r2 = 0 → (∃ (F4 : Nat → Int) (P4 : Nat → Option Nat) (A4 : Nat → Int → Int) (M4 : Nat → Int → Int → Int) (N4 : Nat → Int → Int → Option Nat), (w2 q1 = some (obT F4 P4 A4 M4 N4)) ∧ ((0 ≤ x2 ∧ x2 < 13) ∧ ((0 ≤ x3 ∧ x3 < 13) ∧ (K.S (some (va_rf (N4 0 x2 x3))) w2 z2 n2))))) ∧ (r2 = 0 → (∃ (F4 : Nat → Int) (P4 : Nat → Option Nat) (A4 : Nat → Int → Int) (M4 : Nat → Int → Int → Int) (N4 : Nat → Int → Int → Option Nat), (w2 q1 = some (obT F4 P4 A4 M4 N4)) ∧ (CI mX1_straight K [.ref q1, vI x2, vI x3] w2 z2 n2 fun r5 w5 z5 n5 => (rI r5) ∧ ((0 ≤ r5 → (∃ (F7 : Nat → Int) (p7 : Nat), (w5 x0 = some (obX x0 F7 p7)) ∧ (∃ (A8 : Nat → Int → Int) (B8 : Nat → Int → Option Nat) (M8 : Nat → Int → Int → Int), (w5 (x0 + 221) = some (obXA A8 B8 M8)) ∧ ((0 ≤ (r5 - 1) ∧ (r5 - 1) < 12) ∧ (∃ (F10 : Nat → Int) (P10 : Nat → Option Nat) (A10 : Nat → Int → Int) (M10 : Nat → Int → Int → Int) (N10 : Nat → Int → Int → Option Nat), (w5 q1 = some (obT F10 P10 A10 M10 N10)) ∧ (CV mX1_tells K [.ref q1, vI x2, vI x3, va_rf (B8 1 (r5 - 1))] w5 z5 n5 fun w11 z11 n11 => ∃ (F12 : Nat → Int) (P12 : Nat → Option Nat) (A12 : Nat → Int → Int) (M12 : Nat → Int → Int → Int) (N12 : Nat → Int → Int → Option Nat), (w11 q1 = some (obT F12 P12 A12 M12 N12)) ∧ ((0 ≤ x2 ∧ x2 < 13) ∧ ((0 ≤ x3 ∧ x3 < 13) ∧ (K.S (some (va_rf (N12 0 x2 x3))) w11 z11 n11))))))))) ∧ (¬ 0 ≤ r5 → (∃ (F7 : Nat → Int) (p7 : Nat), (w5 x0 = some (obX x0 F7 p7)) ∧ (CQ mX0_chainOf K [.ref x0, .ref q1, vI x2, vI x3] w5 z5 n5 fun r8 w8 z8 n8 => ∃ (a9 : Nat), (r8 = some a9) ∧ (∃ (F10 : Nat → Int) (P10 : Nat → Option Nat) (A10 : Nat → Int → Int), (w8 a9 = some (obW F10 P10 A10)) ∧ (∃ (F11 : Nat → Int) (P11 : Nat → Option Nat) (A11 : Nat → Int → Int) (M11 : Nat → Int → Int → Int) (N11 : Nat → Int → Int → Option Nat), (w8 q1 = some (obT F11 P11 A11 M11 N11)) ∧ (CV mX1_tells K [.ref q1, vI x2, vI x3, va_rf (P10 3)] w8 z8 n8 fun w12 z12 n12 => ∃ (F13 : Nat → Int) (P13 : Nat → Option Nat) (A13 : Nat → Int → Int) (M13 : Nat → Int → Int → Int) (N13 : Nat → Int → Int → Option Nat), (w12 q1 = some (obT F13 P13 A13 M13 N13)) ∧ ((0 ≤ x2 ∧ x2 < 13) ∧ ((0 ≤ x3 ∧ x3 < 13) ∧ (K.S (some (va_rf (N13 0 x2 x3))) w12 z12 n12)))))))))))))))) : VX K mX0_nameOf 0 [(0, .ref x0), (1, .ref q1), (2, vI x2), (3, vI x3)] [] w sz n := by
  refine v_aload_n 1 dX0_nameOf_0 rfl (isR_ref _) ?_
  refine v_iload_n 2 dX0_nameOf_1 rfl ?_
  refine v_iload_n 3 dX0_nameOf_2 rfl ?_
  obtain ⟨F1, P1, A1, M1, N1, hw1, h⟩ := h
  refine x_callVI K (As := [vI x2, vI x3]) dX0_nameOf_3 LX0_340 rfl rfl (Nat.le_of_ble_eq_true rfl) (rc_of hw1 (lay_T0 _ _ _ _ _ _) rfl) h (fun r2 w2 z2 n2 h => ?_)
  obtain ⟨s3, h⟩ := h
  obtain ⟨ht, hf⟩ := h
  refine v_if_ne 50 dX0_nameOf_6 (by decide) s3 (fun c => ?_) (fun c => ?_)
  · have h := ht c
    refine v_aload_n 1 dX0_nameOf_50 rfl (isR_ref _) ?_
    obtain ⟨F4, P4, A4, M4, N4, hw4, h⟩ := h
    refine v_get (q := q1) (j := 0) (v := .ref (q1 + 29)) dX0_nameOf_51 fX0_354 hw4 rfl (lay_T0 _ _ _ _ _ _) rfl ?_
    refine v_iload_n 2 dX0_nameOf_54 rfl ?_
    obtain ⟨s5, h⟩ := h
    refine v_aaldR (q := q1) (j := 29) (q0 := q1 + 30) (t := 10) (by decide) dX0_nameOf_55 hw4 rfl rfl s5 (by decide) ?_
    refine v_iload_n 3 dX0_nameOf_56 rfl ?_
    obtain ⟨s6, h⟩ := h
    refine v_aaldQ (q := q1) (j := 30 + Int.toNat x2) (f := N4 0 x2) (t := 3) (by decide) dX0_nameOf_57 hw4 (Nat.add_assoc _ _ _) (lay_Ts s5) s6 (by decide) ?_
    exact x_aret K (r := N4 0 x2 x3) dX0_nameOf_58 rfl (by first | exact Or.inl ⟨_, rfl⟩ | exact Or.inr ⟨_, rfl⟩) h
  · have h := hf c
    refine v_aload_n 1 dX0_nameOf_9 rfl (isR_ref _) ?_
    refine v_iload_n 2 dX0_nameOf_10 rfl ?_
    refine v_iload_n 3 dX0_nameOf_11 rfl ?_
    obtain ⟨F4, P4, A4, M4, N4, hw4, h⟩ := h
    refine x_callVI K (As := [vI x2, vI x3]) dX0_nameOf_12 LX0_344 rfl rfl (Nat.le_of_ble_eq_true rfl) (rc_of hw4 (lay_T0 _ _ _ _ _ _) rfl) h (fun r5 w5 z5 n5 h => ?_)
    refine v_istore dX0_nameOf_15 (by decide) rfl ?_
    refine v_aload_n 2 dX0_nameOf_17 rfl (isR_ref _) ?_
    refine v_iload_n 3 dX0_nameOf_18 rfl ?_
    refine v_iload_n 4 dX0_nameOf_19 rfl ?_
    refine v_iload 0 dX0_nameOf_20 rfl ?_
    obtain ⟨s6, h⟩ := h
    obtain ⟨ht, hf⟩ := h
    refine v_if_ge 38 dX0_nameOf_22 (by decide) s6 (fun c => ?_) (fun c => ?_)
    · have h := ht c
      refine v_aload_n 1 dX0_nameOf_38 rfl (isR_ref _) ?_
      obtain ⟨F7, p7, hw7, h⟩ := h
      refine v_get (q := x0) (j := 0) (v := .ref (x0 + 221 + 50)) dX0_nameOf_39 fX0_347 hw7 rfl (lay_X0 _ _ _) rfl ?_
      refine v_iload 0 dX0_nameOf_42 rfl ?_
      refine v_iconst dX0_nameOf_44 ?_
      refine v_isub dX0_nameOf_45 ?_
      obtain ⟨A8, B8, M8, hw8, h⟩ := h
      obtain ⟨s9, h⟩ := h
      refine v_aaldQ (q := x0 + 221) (j := 50) (f := B8 1) (t := 3) (by decide) dX0_nameOf_46 hw8 rfl (lay_XA 50 rfl) s9 (by decide) ?_
      obtain ⟨F10, P10, A10, M10, N10, hw10, h⟩ := h
      refine x_callVV K (As := [vI x2, vI x3, va_rf (B8 1 (r5 - 1))]) dX0_nameOf_47 LX0_350 rfl rfl (Nat.le_of_ble_eq_true rfl) (rc_of hw10 (lay_T0 _ _ _ _ _ _) rfl) h (fun w11 z11 n11 h => ?_)
      refine v_aload_n 2 dX0_nameOf_50 rfl (isR_ref _) ?_
      obtain ⟨F12, P12, A12, M12, N12, hw12, h⟩ := h
      refine v_get (q := q1) (j := 0) (v := .ref (q1 + 29)) dX0_nameOf_51 fX0_354 hw12 rfl (lay_T0 _ _ _ _ _ _) rfl ?_
      refine v_iload_n 3 dX0_nameOf_54 rfl ?_
      obtain ⟨s13, h⟩ := h
      refine v_aaldR (q := q1) (j := 29) (q0 := q1 + 30) (t := 10) (by decide) dX0_nameOf_55 hw12 rfl rfl s13 (by decide) ?_
      refine v_iload_n 4 dX0_nameOf_56 rfl ?_
      obtain ⟨s14, h⟩ := h
      refine v_aaldQ (q := q1) (j := 30 + Int.toNat x2) (f := N12 0 x2) (t := 3) (by decide) dX0_nameOf_57 hw12 (Nat.add_assoc _ _ _) (lay_Ts s13) s14 (by decide) ?_
      exact x_aret K (r := N12 0 x2 x3) dX0_nameOf_58 rfl (by first | exact Or.inl ⟨_, rfl⟩ | exact Or.inr ⟨_, rfl⟩) h
    · have h := hf c
      refine v_aload_n 1 dX0_nameOf_25 rfl (isR_ref _) ?_
      refine v_aload_n 2 dX0_nameOf_26 rfl (isR_ref _) ?_
      refine v_iload_n 3 dX0_nameOf_27 rfl ?_
      refine v_iload_n 4 dX0_nameOf_28 rfl ?_
      obtain ⟨F7, p7, hw7, h⟩ := h
      refine x_callVQ K (As := [.ref q1, vI x2, vI x3]) dX0_nameOf_29 LX0_247 rfl rfl (Nat.le_of_ble_eq_true rfl) (rc_of hw7 (lay_X0 _ _ _) rfl) h (fun r8 w8 z8 n8 h => ?_)
      obtain ⟨a9, ea9, h⟩ := h
      rw [ea9]
      obtain ⟨F10, P10, A10, hw10, h⟩ := h
      refine v_get (q := a9) (j := 0) (v := va_rf (P10 3)) dX0_nameOf_32 fX0_195 hw10 rfl (lay_W0 _ _ _ _) rfl ?_
      refine v_goto 47 dX0_nameOf_35 (by decide) ?_
      obtain ⟨F11, P11, A11, M11, N11, hw11, h⟩ := h
      refine x_callVV K (As := [vI x2, vI x3, va_rf (P10 3)]) dX0_nameOf_47 LX0_350 rfl rfl (Nat.le_of_ble_eq_true rfl) (rc_of hw11 (lay_T0 _ _ _ _ _ _) rfl) h (fun w12 z12 n12 h => ?_)
      refine v_aload_n 2 dX0_nameOf_50 rfl (isR_ref _) ?_
      obtain ⟨F13, P13, A13, M13, N13, hw13, h⟩ := h
      refine v_get (q := q1) (j := 0) (v := .ref (q1 + 29)) dX0_nameOf_51 fX0_354 hw13 rfl (lay_T0 _ _ _ _ _ _) rfl ?_
      refine v_iload_n 3 dX0_nameOf_54 rfl ?_
      obtain ⟨s14, h⟩ := h
      refine v_aaldR (q := q1) (j := 29) (q0 := q1 + 30) (t := 10) (by decide) dX0_nameOf_55 hw13 rfl rfl s14 (by decide) ?_
      refine v_iload_n 4 dX0_nameOf_56 rfl ?_
      obtain ⟨s15, h⟩ := h
      refine v_aaldQ (q := q1) (j := 30 + Int.toNat x2) (f := N13 0 x2) (t := 3) (by decide) dX0_nameOf_57 hw13 (Nat.add_assoc _ _ _) (lay_Ts s14) s15 (by decide) ?_
      exact x_aret K (r := N13 0 x2 x3) dX0_nameOf_58 rfl (by first | exact Or.inl ⟨_, rfl⟩ | exact Or.inr ⟨_, rfl⟩) h
/-! BranchNames.lambda$chainOf$0 -/
theorem wX0_lambda_chainOf_0_0 (K : KV) {x1 : Int} {q0 q2 q3 : Nat} {w : Wd} {sz n : Nat} (h : CI mX0_prefersLess K [.ref q0, vI x1, .ref q2, .ref q3] w sz n fun r1 w1 z1 n1 => K.S (some (vI r1)) w1 z1 n1) : VX K mX0_lambda_chainOf_0 0 [(0, .ref q0), (1, vI x1), (2, .ref q2), (3, .ref q3)] [] w sz n := by
  refine v_aload_n 0 dX0_lambda_chainOf_0_0 rfl (isR_ref _) ?_
  refine v_iload_n 1 dX0_lambda_chainOf_0_1 rfl ?_
  refine v_aload_n 2 dX0_lambda_chainOf_0_2 rfl (isR_ref _) ?_
  refine v_aload_n 3 dX0_lambda_chainOf_0_3 rfl (isR_ref _) ?_
  refine x_callSI K (As := [.ref q0, vI x1, .ref q2, .ref q3]) dX0_lambda_chainOf_0_4 LX0_699 rfl rfl (Nat.le_of_ble_eq_true rfl) h (fun r1 w1 z1 n1 h => ?_)
  exact x_iret K dX0_lambda_chainOf_0_7 rfl h
/-! BranchNames.prefersLess -/
theorem wX0_prefersLess_0 (K : KV) {x1 : Int} {q0 q2 q3 : Nat} {w : Wd} {sz n : Nat} (h : VX K mX0_prefersLess 3 [(0, .ref q0), (1, vI x1), (2, .ref q2), (3, .ref q3), (4, vI 0)] [] w sz n) : VX K mX0_prefersLess 0 [(0, .ref q0), (1, vI x1), (2, .ref q2), (3, .ref q3)] [] w sz n := by
  refine v_iconst dX0_prefersLess_0 ?_
  refine v_istore dX0_prefersLess_1 (by decide) rfl ?_
  refine V.sub [1, 2, 3, 4, 0] rfl ?_
  exact h
theorem wX0_prefersLess_3 (K : KV) {x1 x4 : Int} {q0 q2 q3 : Nat} {w : Wd} {sz n : Nat} (h : ∃ (F1 : Nat → Int) (P1 : Nat → Option Nat) (A1 : Nat → Int → Int), (w q2 = some (obW F1 P1 A1)) ∧ ((rI x4) ∧ ((rI (F1 1)) ∧ (((F1 1) ≤ x4 → (K.S (some (vI 0)) w sz n)) ∧ (¬ (F1 1) ≤ x4 → (CI mX0_hangsAt K [.ref q0, vI x1, .ref q2, vI x4] w sz n fun r4 w4 z4 n4 => CI mX0_hangsAt K [.ref q0, vI x1, .ref q3, vI x4] w4 z4 n4 fun r5 w5 z5 n5 => (rI (r4 - r5)) ∧ (((r4 - r5) = 0 → (VX K mX0_prefersLess 3 [(0, .ref q0), (1, vI x1), (2, .ref q2), (3, .ref q3), (4, vI (x4 + 1))] [] w5 z5 n5)) ∧ (¬ (r4 - r5) = 0 → (K.S (some (vI (r4 - r5))) w5 z5 n5))))))))) : VX K mX0_prefersLess 3 [(0, .ref q0), (1, vI x1), (2, .ref q2), (3, .ref q3), (4, vI x4)] [] w sz n := by
  refine v_iload 4 dX0_prefersLess_3 rfl ?_
  refine v_aload_n 2 dX0_prefersLess_5 rfl (isR_ref _) ?_
  obtain ⟨F1, P1, A1, hw1, h⟩ := h
  refine v_get (q := q2) (j := 0) (v := vI (F1 1)) dX0_prefersLess_6 fX0_177 hw1 rfl (lay_W0 _ _ _ _) rfl ?_
  obtain ⟨s2, h⟩ := h
  obtain ⟨s3, h⟩ := h
  obtain ⟨ht, hf⟩ := h
  refine v_icmp_ge 45 dX0_prefersLess_9 (by decide) s2 s3 (fun c => ?_) (fun c => ?_)
  · have h := ht c
    refine v_iconst dX0_prefersLess_45 ?_
    exact x_iret K dX0_prefersLess_46 rfl h
  · have h := hf c
    refine v_aload_n 0 dX0_prefersLess_12 rfl (isR_ref _) ?_
    refine v_iload_n 1 dX0_prefersLess_13 rfl ?_
    refine v_aload_n 2 dX0_prefersLess_14 rfl (isR_ref _) ?_
    refine v_iload 4 dX0_prefersLess_15 rfl ?_
    refine x_callSI K (As := [.ref q0, vI x1, .ref q2, vI x4]) dX0_prefersLess_17 LX0_191 rfl rfl (Nat.le_of_ble_eq_true rfl) h (fun r4 w4 z4 n4 h => ?_)
    refine v_aload_n 0 dX0_prefersLess_20 rfl (isR_ref _) ?_
    refine v_iload_n 1 dX0_prefersLess_21 rfl ?_
    refine v_aload_n 3 dX0_prefersLess_22 rfl (isR_ref _) ?_
    refine v_iload 4 dX0_prefersLess_23 rfl ?_
    refine x_callSI K (As := [.ref q0, vI x1, .ref q3, vI x4]) dX0_prefersLess_25 LX0_191 rfl rfl (Nat.le_of_ble_eq_true rfl) h (fun r5 w5 z5 n5 h => ?_)
    refine v_isub dX0_prefersLess_28 ?_
    refine v_istore dX0_prefersLess_29 (by decide) rfl ?_
    refine v_iload 0 dX0_prefersLess_31 rfl ?_
    obtain ⟨s6, h⟩ := h
    obtain ⟨ht, hf⟩ := h
    refine v_if_eq 39 dX0_prefersLess_33 (by decide) s6 (fun c => ?_) (fun c => ?_)
    · have h := ht c
      refine v_iinc 5 dX0_prefersLess_39 rfl (by decide) rfl ?_
      refine v_goto 3 dX0_prefersLess_42 (by decide) ?_
      refine V.sub [2, 3, 4, 5, 0] rfl ?_
      exact h
    · have h := hf c
      refine v_iload 0 dX0_prefersLess_36 rfl ?_
      exact x_iret K dX0_prefersLess_38 rfl h
/-! BranchNames.hangsAt -/
theorem wX0_hangsAt_0 (K : KV) {x1 x3 : Int} {q0 q2 : Nat} {w : Wd} {sz n : Nat} (h : VX K mX0_hangsAt 6 [(0, .ref q0), (1, vI x1), (2, .ref q2), (3, vI x3), (4, vI 0), (5, vI 0)] [] w sz n) : VX K mX0_hangsAt 0 [(0, .ref q0), (1, vI x1), (2, .ref q2), (3, vI x3)] [] w sz n := by
  refine v_iconst dX0_hangsAt_0 ?_
  refine v_istore dX0_hangsAt_1 (by decide) rfl ?_
  refine v_iconst dX0_hangsAt_3 ?_
  refine v_istore dX0_hangsAt_4 (by decide) rfl ?_
  refine V.sub [2, 3, 4, 5, 1, 0] rfl ?_
  exact h
theorem wX0_hangsAt_6 (K : KV) {x1 x3 x4 x5 : Int} {q0 q2 : Nat} {w : Wd} {sz n : Nat} (h : ∃ (F1 : Nat → Int) (P1 : Nat → Option Nat) (A1 : Nat → Int → Int) (M1 : Nat → Int → Int → Int) (N1 : Nat → Int → Int → Option Nat), (w q0 = some (obT F1 P1 A1 M1 N1)) ∧ (∃ (F2 : Nat → Int) (P2 : Nat → Option Nat) (A2 : Nat → Int → Int), (w q2 = some (obW F2 P2 A2)) ∧ ((0 ≤ x3 ∧ x3 < 13) ∧ ((0 ≤ (A2 0 x3) ∧ (A2 0 x3) < 13) ∧ ((rI x5) ∧ ((rI (A1 0 (A2 0 x3))) ∧ (((A1 0 (A2 0 x3)) ≤ x5 → (K.S (some (vI x4)) w sz n)) ∧ (¬ (A1 0 (A2 0 x3)) ≤ x5 → ((0 ≤ x5 ∧ x5 < 4) ∧ ((rI (M1 0 (A2 0 x3) x5)) ∧ ((rI x1) ∧ (((M1 0 (A2 0 x3) x5) = x1 → (VX K mX0_hangsAt 6 [(0, .ref q0), (1, vI x1), (2, .ref q2), (3, vI x3), (4, vI (x4 + 0)), (5, vI (x5 + 1))] [] w sz n)) ∧ (¬ (M1 0 (A2 0 x3) x5) = x1 → (CI mX3_isOn K [.ref q2, vI (M1 0 (A2 0 x3) x5)] w sz n fun r10 w10 z10 n10 => (rI r10) ∧ ((¬ r10 = 0 → (VX K mX0_hangsAt 6 [(0, .ref q0), (1, vI x1), (2, .ref q2), (3, vI x3), (4, vI (x4 + 0)), (5, vI (x5 + 1))] [] w10 z10 n10)) ∧ (r10 = 0 → (VX K mX0_hangsAt 6 [(0, .ref q0), (1, vI x1), (2, .ref q2), (3, vI x3), (4, vI (x4 + 1)), (5, vI (x5 + 1))] [] w10 z10 n10))))))))))))))))) : VX K mX0_hangsAt 6 [(0, .ref q0), (1, vI x1), (2, .ref q2), (3, vI x3), (4, vI x4), (5, vI x5)] [] w sz n := by
  refine v_iload 5 dX0_hangsAt_6 rfl ?_
  refine v_aload_n 0 dX0_hangsAt_8 rfl (isR_ref _) ?_
  obtain ⟨F1, P1, A1, M1, N1, hw1, h⟩ := h
  refine v_get (q := q0) (j := 0) (v := .ref (q0 + 43)) dX0_hangsAt_9 fX0_11 hw1 rfl (lay_T0 _ _ _ _ _ _) rfl ?_
  refine v_aload_n 2 dX0_hangsAt_12 rfl (isR_ref _) ?_
  obtain ⟨F2, P2, A2, hw2, h⟩ := h
  refine v_get (q := q2) (j := 0) (v := .ref (q2 + 1)) dX0_hangsAt_13 fX0_185 hw2 rfl (lay_W0 _ _ _ _) rfl ?_
  refine v_iload_n 3 dX0_hangsAt_16 rfl ?_
  obtain ⟨s3, h⟩ := h
  refine v_iald (q := q2) (j := 1) (f := A2 0) dX0_hangsAt_17 hw2 rfl (lay_W1 _ _ _ _) s3 (by decide) ?_
  obtain ⟨s4, h⟩ := h
  refine v_iald (q := q0) (j := 43) (f := A1 0) dX0_hangsAt_18 hw1 rfl rfl s4 (by decide) ?_
  obtain ⟨s5, h⟩ := h
  obtain ⟨s6, h⟩ := h
  obtain ⟨ht, hf⟩ := h
  refine v_icmp_ge 69 dX0_hangsAt_19 (by decide) s5 s6 (fun c => ?_) (fun c => ?_)
  · have h := ht c
    refine v_iload 4 dX0_hangsAt_69 rfl ?_
    exact x_iret K dX0_hangsAt_71 rfl h
  · have h := hf c
    refine v_aload_n 0 dX0_hangsAt_22 rfl (isR_ref _) ?_
    refine v_get (q := q0) (j := 0) (v := .ref (q0 + 1)) dX0_hangsAt_23 fX0_17 hw1 rfl (lay_T0 _ _ _ _ _ _) rfl ?_
    refine v_aload_n 2 dX0_hangsAt_26 rfl (isR_ref _) ?_
    refine v_get (q := q2) (j := 0) (v := .ref (q2 + 1)) dX0_hangsAt_27 fX0_185 hw2 rfl (lay_W0 _ _ _ _) rfl ?_
    refine v_iload_n 3 dX0_hangsAt_30 rfl ?_
    refine v_iald (q := q2) (j := 1) (f := A2 0) dX0_hangsAt_31 hw2 rfl (lay_W1 _ _ _ _) s3 (by decide) ?_
    refine v_aaldR (q := q0) (j := 1) (q0 := q0 + 2) (t := 8) (by decide) dX0_hangsAt_32 hw1 rfl rfl s4 (by decide) ?_
    refine v_iload 5 dX0_hangsAt_33 rfl ?_
    obtain ⟨s7, h⟩ := h
    refine v_iald (q := q0) (j := 2 + Int.toNat (A2 0 x3)) (f := M1 0 (A2 0 x3)) dX0_hangsAt_35 hw1 (Nat.add_assoc _ _ _) (lay_Tn s4) s7 (by decide) ?_
    refine v_istore dX0_hangsAt_36 (by decide) rfl ?_
    refine v_iload 5 dX0_hangsAt_38 rfl ?_
    refine v_iload 0 dX0_hangsAt_40 rfl ?_
    refine v_iload_n 2 dX0_hangsAt_42 rfl ?_
    obtain ⟨s8, h⟩ := h
    obtain ⟨s9, h⟩ := h
    obtain ⟨ht, hf⟩ := h
    refine v_icmp_eq 59 dX0_hangsAt_43 (by decide) s8 s9 (fun c => ?_) (fun c => ?_)
    · have h := ht c
      refine v_iconst dX0_hangsAt_59 ?_
      refine v_iadd dX0_hangsAt_60 ?_
      refine v_istore dX0_hangsAt_61 (by decide) rfl ?_
      refine v_iinc 6 dX0_hangsAt_63 rfl (by decide) rfl ?_
      refine v_goto 6 dX0_hangsAt_66 (by decide) ?_
      refine V.sub [3, 4, 5, 6, 1, 0] rfl ?_
      exact h
    · have h := hf c
      refine v_aload_n 3 dX0_hangsAt_46 rfl (isR_ref _) ?_
      refine v_iload 0 dX0_hangsAt_47 rfl ?_
      refine x_callVI K (As := [vI (M1 0 (A2 0 x3) x5)]) dX0_hangsAt_49 LX0_188 rfl rfl (Nat.le_of_ble_eq_true rfl) (rc_of hw2 (lay_W0 _ _ _ _) rfl) h (fun r10 w10 z10 n10 h => ?_)
      obtain ⟨s11, h⟩ := h
      obtain ⟨ht, hf⟩ := h
      refine v_if_ne 59 dX0_hangsAt_52 (by decide) s11 (fun c => ?_) (fun c => ?_)
      · have h := ht c
        refine v_iconst dX0_hangsAt_59 ?_
        refine v_iadd dX0_hangsAt_60 ?_
        refine v_istore dX0_hangsAt_61 (by decide) rfl ?_
        refine v_iinc 6 dX0_hangsAt_63 rfl (by decide) rfl ?_
        refine v_goto 6 dX0_hangsAt_66 (by decide) ?_
        refine V.sub [3, 4, 5, 6, 1, 0] rfl ?_
        exact h
      · have h := hf c
        refine v_iconst dX0_hangsAt_55 ?_
        refine v_goto 60 dX0_hangsAt_56 (by decide) ?_
        refine v_iadd dX0_hangsAt_60 ?_
        refine v_istore dX0_hangsAt_61 (by decide) rfl ?_
        refine v_iinc 6 dX0_hangsAt_63 rfl (by decide) rfl ?_
        refine v_goto 6 dX0_hangsAt_66 (by decide) ?_
        refine V.sub [3, 4, 5, 6, 1, 0] rfl ?_
        exact h
/-! BranchNames.lambda$chainOf$1 -/
theorem wX0_lambda_chainOf_1_0 (K : KV) {x2 : Int} {x0 q1 q3 q4 : Nat} {w : Wd} {sz n : Nat} (h : ∃ (F1 : Nat → Int) (p1 : Nat), (w x0 = some (obX x0 F1 p1)) ∧ (CI mX0_prefersName K [.ref x0, .ref q1, vI x2, .ref q3, .ref q4] w sz n fun r2 w2 z2 n2 => K.S (some (vI r2)) w2 z2 n2)) : VX K mX0_lambda_chainOf_1 0 [(0, .ref x0), (1, .ref q1), (2, vI x2), (3, .ref q3), (4, .ref q4)] [] w sz n := by
  refine v_aload_n 0 dX0_lambda_chainOf_1_0 rfl (isR_ref _) ?_
  refine v_aload_n 1 dX0_lambda_chainOf_1_1 rfl (isR_ref _) ?_
  refine v_iload_n 2 dX0_lambda_chainOf_1_2 rfl ?_
  refine v_aload_n 3 dX0_lambda_chainOf_1_3 rfl (isR_ref _) ?_
  refine v_aload 4 dX0_lambda_chainOf_1_4 rfl (isR_ref _) ?_
  obtain ⟨F1, p1, hw1, h⟩ := h
  refine x_callVI K (As := [.ref q1, vI x2, .ref q3, .ref q4]) dX0_lambda_chainOf_1_6 LX0_695 rfl rfl (Nat.le_of_ble_eq_true rfl) (rc_of hw1 (lay_X0 _ _ _) rfl) h (fun r2 w2 z2 n2 h => ?_)
  exact x_iret K dX0_lambda_chainOf_1_9 rfl h
/-! BranchNames.prefersName -/
theorem wX0_prefersName_0 (K : KV) {x2 : Int} {x0 q1 q3 q4 : Nat} {w : Wd} {sz n : Nat} (h : ∃ (F1 : Nat → Int) (P1 : Nat → Option Nat) (A1 : Nat → Int → Int), (w q3 = some (obW F1 P1 A1)) ∧ ((P1 3 = none → (∃ (F3 : Nat → Int) (p3 : Nat), (w x0 = some (obX x0 F3 p3)) ∧ (CQ mX0_nameBy K [.ref x0, .ref q1, vI x2, .ref q3] w sz n fun r4 w4 z4 n4 => ∃ (F5 : Nat → Int) (P5 : Nat → Option Nat) (A5 : Nat → Int → Int), (w4 q3 = some (obW F5 P5 A5)) ∧ ((K.G.base ≤ q3) ∧ (∃ (F7 : Nat → Int) (P7 : Nat → Option Nat) (A7 : Nat → Int → Int), ((wset w4 q3 (some (obW F5 (upN P5 3 r4) A5))) q4 = some (obW F7 P7 A7)) ∧ ((q4 ≠ q3) ∧ ((P7 3 = none → (∃ (F10 : Nat → Int) (p10 : Nat), ((wset w4 q3 (some (obW F5 (upN P5 3 r4) A5))) x0 = some (obX x0 F10 p10)) ∧ (CQ mX0_nameBy K [.ref x0, .ref q1, vI x2, .ref q4] (wset w4 q3 (some (obW F5 (upN P5 3 r4) A5))) z4 n4 fun r11 w11 z11 n11 => ∃ (F12 : Nat → Int) (P12 : Nat → Option Nat) (A12 : Nat → Int → Int), (w11 q4 = some (obW F12 P12 A12)) ∧ ((K.G.base ≤ q4) ∧ (∃ (F14 : Nat → Int) (P14 : Nat → Option Nat) (A14 : Nat → Int → Int), ((wset w11 q4 (some (obW F12 (upN P12 3 r11) A12))) q3 = some (obW F14 P14 A14)) ∧ (CI mX0_compared K [va_rf r11, va_rf (P14 3)] (wset w11 q4 (some (obW F12 (upN P12 3 r11) A12))) z11 n11 fun r15 w15 z15 n15 => K.S (some (vI r15)) w15 z15 n15)))))) ∧ (∀ a9 : Nat, P7 3 = some a9 → (CI mX0_compared K [va_rf (P7 3), va_rf r4] (wset w4 q3 (some (obW F5 (upN P5 3 r4) A5))) z4 n4 fun r10 w10 z10 n10 => K.S (some (vI r10)) w10 z10 n10))))))))) ∧ (∀ a2 : Nat, P1 3 = some a2 → (∃ (F3 : Nat → Int) (P3 : Nat → Option Nat) (A3 : Nat → Int → Int), (w q4 = some (obW F3 P3 A3)) ∧ ((P3 3 = none → (∃ (F5 : Nat → Int) (p5 : Nat), (w x0 = some (obX x0 F5 p5)) ∧ (CQ mX0_nameBy K [.ref x0, .ref q1, vI x2, .ref q4] w sz n fun r6 w6 z6 n6 => ∃ (F7 : Nat → Int) (P7 : Nat → Option Nat) (A7 : Nat → Int → Int), (w6 q4 = some (obW F7 P7 A7)) ∧ ((K.G.base ≤ q4) ∧ (∃ (F9 : Nat → Int) (P9 : Nat → Option Nat) (A9 : Nat → Int → Int), ((wset w6 q4 (some (obW F7 (upN P7 3 r6) A7))) q3 = some (obW F9 P9 A9)) ∧ ((q3 ≠ q4) ∧ (CI mX0_compared K [va_rf r6, va_rf (P9 3)] (wset w6 q4 (some (obW F7 (upN P7 3 r6) A7))) z6 n6 fun r11 w11 z11 n11 => K.S (some (vI r11)) w11 z11 n11))))))) ∧ (∀ a4 : Nat, P3 3 = some a4 → (CI mX0_compared K [va_rf (P3 3), va_rf (P1 3)] w sz n fun r5 w5 z5 n5 => K.S (some (vI r5)) w5 z5 n5))))))) : VX K mX0_prefersName 0 [(0, .ref x0), (1, .ref q1), (2, vI x2), (3, .ref q3), (4, .ref q4)] [] w sz n := by
  refine v_aload_n 3 dX0_prefersName_0 rfl (isR_ref _) ?_
  obtain ⟨F1, P1, A1, hw1, h⟩ := h
  refine v_get (q := q3) (j := 0) (v := va_rf (P1 3)) dX0_prefersName_1 fX0_195 hw1 rfl (lay_W0 _ _ _ _) rfl ?_
  obtain ⟨hn, hs⟩ := h
  refine v_ifnonnull (r := P1 3) 18 dX0_prefersName_4 (by decide) (fun a2 c => ?_) (fun c => ?_)
  · have h := hs _ c
    try rw [c]
    refine v_aload 4 dX0_prefersName_18 rfl (isR_ref _) ?_
    obtain ⟨F3, P3, A3, hw3, h⟩ := h
    refine v_get (q := q4) (j := 0) (v := va_rf (P3 3)) dX0_prefersName_20 fX0_195 hw3 rfl (lay_W0 _ _ _ _) rfl ?_
    obtain ⟨hn, hs⟩ := h
    refine v_ifnonnull (r := P3 3) 39 dX0_prefersName_23 (by decide) (fun a4 c => ?_) (fun c => ?_)
    · have h := hs _ c
      try rw [c]
      refine v_aload 4 dX0_prefersName_39 rfl (isR_ref _) ?_
      refine v_get (q := q4) (j := 0) (v := va_rf (P3 3)) dX0_prefersName_41 fX0_195 hw3 rfl (lay_W0 _ _ _ _) rfl ?_
      refine v_aload_n 3 dX0_prefersName_44 rfl (isR_ref _) ?_
      refine v_get (q := q3) (j := 0) (v := va_rf (P1 3)) dX0_prefersName_45 fX0_195 hw1 rfl (lay_W0 _ _ _ _) rfl ?_
      refine x_callSI K (As := [va_rf (P3 3), va_rf (P1 3)]) dX0_prefersName_48 LX0_203 rfl rfl (Nat.le_of_ble_eq_true rfl) h (fun r5 w5 z5 n5 h => ?_)
      exact x_iret K dX0_prefersName_51 rfl h
    · have h := hn c
      try rw [c]
      refine v_aload 4 dX0_prefersName_26 rfl (isR_ref _) ?_
      refine v_aload_n 0 dX0_prefersName_28 rfl (isR_ref _) ?_
      refine v_aload_n 1 dX0_prefersName_29 rfl (isR_ref _) ?_
      refine v_iload_n 2 dX0_prefersName_30 rfl ?_
      refine v_aload 4 dX0_prefersName_31 rfl (isR_ref _) ?_
      obtain ⟨F5, p5, hw5, h⟩ := h
      refine x_callVQ K (As := [.ref q1, vI x2, .ref q4]) dX0_prefersName_33 LX0_199 rfl rfl (Nat.le_of_ble_eq_true rfl) (rc_of hw5 (lay_X0 _ _ _) rfl) h (fun r6 w6 z6 n6 h => ?_)
      obtain ⟨F7, P7, A7, hw7, h⟩ := h
      obtain ⟨s8, h⟩ := h
      refine v_put (q := q4) (j := 0) (v := va_rf r6) (obW F7 (upN P7 3 r6) A7) dX0_prefersName_36 fX0_195 pf3_3 hw7 rfl (lay_W0 _ _ _ _) (Nat.le_of_ble_eq_true rfl) (nar_rf _ r6) (fit_rf _ r6) (chg_W0 rfl) s8 ?_
      refine v_aload 4 dX0_prefersName_39 rfl (isR_ref _) ?_
      refine v_get (q := q4) (j := 0) (v := va_rf r6) dX0_prefersName_41 fX0_195 (wset_eq _ _ _) rfl (lay_W0 _ _ _ _) rfl ?_
      refine v_aload_n 3 dX0_prefersName_44 rfl (isR_ref _) ?_
      obtain ⟨F9, P9, A9, hw9, h⟩ := h
      obtain ⟨s10, h⟩ := h
      refine v_get (q := q3) (j := 0) (v := va_rf (P9 3)) dX0_prefersName_45 fX0_195 hw9 rfl (lay_W0 _ _ _ _) rfl ?_
      refine x_callSI K (As := [va_rf r6, va_rf (P9 3)]) dX0_prefersName_48 LX0_203 rfl rfl (Nat.le_of_ble_eq_true rfl) h (fun r11 w11 z11 n11 h => ?_)
      exact x_iret K dX0_prefersName_51 rfl h
  · have h := hn c
    try rw [c]
    refine v_aload_n 3 dX0_prefersName_7 rfl (isR_ref _) ?_
    refine v_aload_n 0 dX0_prefersName_8 rfl (isR_ref _) ?_
    refine v_aload_n 1 dX0_prefersName_9 rfl (isR_ref _) ?_
    refine v_iload_n 2 dX0_prefersName_10 rfl ?_
    refine v_aload_n 3 dX0_prefersName_11 rfl (isR_ref _) ?_
    obtain ⟨F3, p3, hw3, h⟩ := h
    refine x_callVQ K (As := [.ref q1, vI x2, .ref q3]) dX0_prefersName_12 LX0_199 rfl rfl (Nat.le_of_ble_eq_true rfl) (rc_of hw3 (lay_X0 _ _ _) rfl) h (fun r4 w4 z4 n4 h => ?_)
    obtain ⟨F5, P5, A5, hw5, h⟩ := h
    obtain ⟨s6, h⟩ := h
    refine v_put (q := q3) (j := 0) (v := va_rf r4) (obW F5 (upN P5 3 r4) A5) dX0_prefersName_15 fX0_195 pf3_3 hw5 rfl (lay_W0 _ _ _ _) (Nat.le_of_ble_eq_true rfl) (nar_rf _ r4) (fit_rf _ r4) (chg_W0 rfl) s6 ?_
    refine v_aload 4 dX0_prefersName_18 rfl (isR_ref _) ?_
    obtain ⟨F7, P7, A7, hw7, h⟩ := h
    obtain ⟨s8, h⟩ := h
    refine v_get (q := q4) (j := 0) (v := va_rf (P7 3)) dX0_prefersName_20 fX0_195 hw7 rfl (lay_W0 _ _ _ _) rfl ?_
    obtain ⟨hn, hs⟩ := h
    refine v_ifnonnull (r := P7 3) 39 dX0_prefersName_23 (by decide) (fun a9 c => ?_) (fun c => ?_)
    · have h := hs _ c
      try rw [c]
      refine v_aload 4 dX0_prefersName_39 rfl (isR_ref _) ?_
      refine v_get (q := q4) (j := 0) (v := va_rf (P7 3)) dX0_prefersName_41 fX0_195 hw7 rfl (lay_W0 _ _ _ _) rfl ?_
      refine v_aload_n 3 dX0_prefersName_44 rfl (isR_ref _) ?_
      refine v_get (q := q3) (j := 0) (v := va_rf r4) dX0_prefersName_45 fX0_195 (wset_eq _ _ _) rfl (lay_W0 _ _ _ _) rfl ?_
      refine x_callSI K (As := [va_rf (P7 3), va_rf r4]) dX0_prefersName_48 LX0_203 rfl rfl (Nat.le_of_ble_eq_true rfl) h (fun r10 w10 z10 n10 h => ?_)
      exact x_iret K dX0_prefersName_51 rfl h
    · have h := hn c
      try rw [c]
      refine v_aload 4 dX0_prefersName_26 rfl (isR_ref _) ?_
      refine v_aload_n 0 dX0_prefersName_28 rfl (isR_ref _) ?_
      refine v_aload_n 1 dX0_prefersName_29 rfl (isR_ref _) ?_
      refine v_iload_n 2 dX0_prefersName_30 rfl ?_
      refine v_aload 4 dX0_prefersName_31 rfl (isR_ref _) ?_
      obtain ⟨F10, p10, hw10, h⟩ := h
      refine x_callVQ K (As := [.ref q1, vI x2, .ref q4]) dX0_prefersName_33 LX0_199 rfl rfl (Nat.le_of_ble_eq_true rfl) (rc_of hw10 (lay_X0 _ _ _) rfl) h (fun r11 w11 z11 n11 h => ?_)
      obtain ⟨F12, P12, A12, hw12, h⟩ := h
      obtain ⟨s13, h⟩ := h
      refine v_put (q := q4) (j := 0) (v := va_rf r11) (obW F12 (upN P12 3 r11) A12) dX0_prefersName_36 fX0_195 pf3_3 hw12 rfl (lay_W0 _ _ _ _) (Nat.le_of_ble_eq_true rfl) (nar_rf _ r11) (fit_rf _ r11) (chg_W0 rfl) s13 ?_
      refine v_aload 4 dX0_prefersName_39 rfl (isR_ref _) ?_
      refine v_get (q := q4) (j := 0) (v := va_rf r11) dX0_prefersName_41 fX0_195 (wset_eq _ _ _) rfl (lay_W0 _ _ _ _) rfl ?_
      refine v_aload_n 3 dX0_prefersName_44 rfl (isR_ref _) ?_
      obtain ⟨F14, P14, A14, hw14, h⟩ := h
      refine v_get (q := q3) (j := 0) (v := va_rf (P14 3)) dX0_prefersName_45 fX0_195 hw14 rfl (lay_W0 _ _ _ _) rfl ?_
      refine x_callSI K (As := [va_rf r11, va_rf (P14 3)]) dX0_prefersName_48 LX0_203 rfl rfl (Nat.le_of_ble_eq_true rfl) h (fun r15 w15 z15 n15 h => ?_)
      exact x_iret K dX0_prefersName_51 rfl h
/-! BranchNames.nameBy -/
theorem wX0_nameBy_0 (K : KV) {x2 : Int} {x0 q1 q3 : Nat} {w : Wd} {sz n : Nat} (h : (w sz = none) ∧ (CV mJ12_init K [.ref sz] (wset w sz (some (obR 17 nF nP))) (sz + 1) (n + 3) fun w2 z2 n2 => VX K mX0_nameBy 12 [(0, .ref x0), (1, .ref q1), (2, vI x2), (3, .ref q3), (4, .ref sz), (5, vI 0)] [] w2 z2 n2)) : VX K mX0_nameBy 0 [(0, .ref x0), (1, .ref q1), (2, vI x2), (3, .ref q3)] [] w sz n := by
  obtain ⟨s1, h⟩ := h
  refine v_new K (ci := 17) (C := RJ12) (T := TJ12) (N := 3) tyJ12 dX0_nameBy_0 (by decide) rfl in_J12 tyJ12_ok q1001 q1002 q172 nw17 s1 ?_
  refine v_dup dX0_nameBy_3 rfl ?_
  refine x_callIV K (As := []) dX0_nameBy_4 LX0_307 rfl rfl (Nat.le_of_ble_eq_true rfl) h (fun w2 z2 n2 h => ?_)
  refine v_astore dX0_nameBy_7 (by decide) (isR_ref _) rfl ?_
  refine v_iconst dX0_nameBy_9 ?_
  refine v_istore dX0_nameBy_10 (by decide) rfl ?_
  refine V.sub [2, 3, 4, 5, 1, 0] rfl ?_
  exact h
theorem wX0_nameBy_12 (K : KV) {x2 x5 : Int} {x0 q1 q3 q4 : Nat} {w : Wd} {sz n : Nat} (h : ∃ (F1 : Nat → Int) (P1 : Nat → Option Nat) (A1 : Nat → Int → Int), (w q3 = some (obW F1 P1 A1)) ∧ ((rI x5) ∧ ((rI (F1 1)) ∧ (((F1 1) ≤ x5 → ((w sz = none) ∧ (CV mJ1_init K [.ref sz] (wset w sz (some (obR 15 nF nP))) (sz + 1) (n + 4) fun w5 z5 n5 => VX K mX0_nameBy 117 [(0, .ref x0), (2, vI x2), (3, .ref q3), (4, .ref q4), (5, .ref sz), (6, vI 0)] [] w5 z5 n5))) ∧ (¬ (F1 1) ≤ x5 → ((0 ≤ x5 ∧ x5 < 13) ∧ (VX K mX0_nameBy 33 [(0, .ref x0), (1, .ref q1), (2, vI x2), (3, .ref q3), (4, .ref q4), (5, vI x5), (6, vI (A1 0 x5)), (7, vI 0)] [] w sz n))))))) : VX K mX0_nameBy 12 [(0, .ref x0), (1, .ref q1), (2, vI x2), (3, .ref q3), (4, .ref q4), (5, vI x5)] [] w sz n := by
  refine v_iload 5 dX0_nameBy_12 rfl ?_
  refine v_aload_n 3 dX0_nameBy_14 rfl (isR_ref _) ?_
  obtain ⟨F1, P1, A1, hw1, h⟩ := h
  refine v_get (q := q3) (j := 0) (v := vI (F1 1)) dX0_nameBy_15 fX0_177 hw1 rfl (lay_W0 _ _ _ _) rfl ?_
  obtain ⟨s2, h⟩ := h
  obtain ⟨s3, h⟩ := h
  obtain ⟨ht, hf⟩ := h
  refine v_icmp_ge 105 dX0_nameBy_18 (by decide) s2 s3 (fun c => ?_) (fun c => ?_)
  · have h := ht c
    obtain ⟨s4, h⟩ := h
    refine v_new K (ci := 15) (C := RJ1) (T := TJ1) (N := 4) tyJ1 dX0_nameBy_105 (by decide) rfl in_J1 tyJ1_ok q272 q273 q155 nw15 s4 ?_
    refine v_dup dX0_nameBy_108 rfl ?_
    refine x_callIV K (As := []) dX0_nameBy_109 LX0_271 rfl rfl (Nat.le_of_ble_eq_true rfl) h (fun w5 z5 n5 h => ?_)
    refine v_astore dX0_nameBy_112 (by decide) (isR_ref _) rfl ?_
    refine v_iconst dX0_nameBy_114 ?_
    refine v_istore dX0_nameBy_115 (by decide) rfl ?_
    refine V.sub [2, 4, 5, 6, 1, 0] rfl ?_
    exact h
  · have h := hf c
    refine v_aload_n 3 dX0_nameBy_21 rfl (isR_ref _) ?_
    refine v_get (q := q3) (j := 0) (v := .ref (q3 + 1)) dX0_nameBy_22 fX0_185 hw1 rfl (lay_W0 _ _ _ _) rfl ?_
    refine v_iload 5 dX0_nameBy_25 rfl ?_
    obtain ⟨s4, h⟩ := h
    refine v_iald (q := q3) (j := 1) (f := A1 0) dX0_nameBy_27 hw1 rfl (lay_W1 _ _ _ _) s4 (by decide) ?_
    refine v_istore dX0_nameBy_28 (by decide) rfl ?_
    refine v_iconst dX0_nameBy_30 ?_
    refine v_istore dX0_nameBy_31 (by decide) rfl ?_
    refine V.sub [2, 3, 4, 5, 6, 7, 1, 0] rfl ?_
    exact h
theorem wX0_nameBy_33 (K : KV) {x2 x5 x6 x7 : Int} {x0 q1 q3 q4 : Nat} {w : Wd} {sz n : Nat} (h : ∃ (F1 : Nat → Int) (P1 : Nat → Option Nat) (A1 : Nat → Int → Int) (M1 : Nat → Int → Int → Int) (N1 : Nat → Int → Int → Option Nat), (w q1 = some (obT F1 P1 A1 M1 N1)) ∧ ((0 ≤ x6 ∧ x6 < 13) ∧ ((rI x7) ∧ ((rI (A1 0 x6)) ∧ (((A1 0 x6) ≤ x7 → (VX K mX0_nameBy 12 [(0, .ref x0), (1, .ref q1), (2, vI x2), (3, .ref q3), (4, .ref q4), (5, vI (x5 + 1))] [] w sz n)) ∧ (¬ (A1 0 x6) ≤ x7 → ((0 ≤ x7 ∧ x7 < 4) ∧ ((rI (M1 0 x6 x7)) ∧ ((rI x2) ∧ (((M1 0 x6 x7) = x2 → (VX K mX0_nameBy 33 [(0, .ref x0), (1, .ref q1), (2, vI x2), (3, .ref q3), (4, .ref q4), (5, vI x5), (6, vI x6), (7, vI (x7 + 1))] [] w sz n)) ∧ (¬ (M1 0 x6 x7) = x2 → (∃ (F8 : Nat → Int) (P8 : Nat → Option Nat) (A8 : Nat → Int → Int), (w q3 = some (obW F8 P8 A8)) ∧ (CI mX3_isOn K [.ref q3, vI (M1 0 x6 x7)] w sz n fun r9 w9 z9 n9 => (rI r9) ∧ ((¬ r9 = 0 → (VX K mX0_nameBy 33 [(0, .ref x0), (1, .ref q1), (2, vI x2), (3, .ref q3), (4, .ref q4), (5, vI x5), (6, vI x6), (7, vI (x7 + 1))] [] w9 z9 n9)) ∧ (r9 = 0 → (∃ (F11 : Nat → Int) (p11 : Nat), (w9 x0 = some (obX x0 F11 p11)) ∧ (CQ mX0_nameOf K [.ref x0, .ref q1, vI (M1 0 x6 x7), vI x6] w9 z9 n9 fun r12 w12 z12 n12 => CQ mX0_partOf K [.ref q4, va_rf r12] w12 z12 n12 fun r13 w13 z13 n13 => ∃ (a14 : Nat), (r13 = some a14) ∧ (∃ (F15 : Nat → Int) (P15 : Nat → Option Nat) (A15 : Nat → Int → Int), (w13 a14 = some (obNm F15 P15 A15)) ∧ (CV mX6_comes K [.ref a14, vI (x5 + 1)] w13 z13 n13 fun w16 z16 n16 => VX K mX0_nameBy 33 [(0, .ref x0), (1, .ref q1), (2, vI x2), (3, .ref q3), (4, .ref q4), (5, vI x5), (6, vI x6), (7, vI (x7 + 1))] [] w16 z16 n16))))))))))))))))))) : VX K mX0_nameBy 33 [(0, .ref x0), (1, .ref q1), (2, vI x2), (3, .ref q3), (4, .ref q4), (5, vI x5), (6, vI x6), (7, vI x7)] [] w sz n := by
  refine v_iload 7 dX0_nameBy_33 rfl ?_
  refine v_aload_n 1 dX0_nameBy_35 rfl (isR_ref _) ?_
  obtain ⟨F1, P1, A1, M1, N1, hw1, h⟩ := h
  refine v_get (q := q1) (j := 0) (v := .ref (q1 + 43)) dX0_nameBy_36 fX0_11 hw1 rfl (lay_T0 _ _ _ _ _ _) rfl ?_
  refine v_iload 6 dX0_nameBy_39 rfl ?_
  obtain ⟨s2, h⟩ := h
  refine v_iald (q := q1) (j := 43) (f := A1 0) dX0_nameBy_41 hw1 rfl rfl s2 (by decide) ?_
  obtain ⟨s3, h⟩ := h
  obtain ⟨s4, h⟩ := h
  obtain ⟨ht, hf⟩ := h
  refine v_icmp_ge 99 dX0_nameBy_42 (by decide) s3 s4 (fun c => ?_) (fun c => ?_)
  · have h := ht c
    refine v_iinc 5 dX0_nameBy_99 rfl (by decide) rfl ?_
    refine v_goto 12 dX0_nameBy_102 (by decide) ?_
    refine V.sub [1, 2, 3, 4, 5, 0] rfl ?_
    exact h
  · have h := hf c
    refine v_aload_n 1 dX0_nameBy_45 rfl (isR_ref _) ?_
    refine v_get (q := q1) (j := 0) (v := .ref (q1 + 1)) dX0_nameBy_46 fX0_17 hw1 rfl (lay_T0 _ _ _ _ _ _) rfl ?_
    refine v_iload 6 dX0_nameBy_49 rfl ?_
    refine v_aaldR (q := q1) (j := 1) (q0 := q1 + 2) (t := 8) (by decide) dX0_nameBy_51 hw1 rfl rfl s2 (by decide) ?_
    refine v_iload 7 dX0_nameBy_52 rfl ?_
    obtain ⟨s5, h⟩ := h
    refine v_iald (q := q1) (j := 2 + Int.toNat x6) (f := M1 0 x6) dX0_nameBy_54 hw1 (Nat.add_assoc _ _ _) (lay_Tn s2) s5 (by decide) ?_
    refine v_istore dX0_nameBy_55 (by decide) rfl ?_
    refine v_iload 0 dX0_nameBy_57 rfl ?_
    refine v_iload_n 3 dX0_nameBy_59 rfl ?_
    obtain ⟨s6, h⟩ := h
    obtain ⟨s7, h⟩ := h
    obtain ⟨ht, hf⟩ := h
    refine v_icmp_eq 93 dX0_nameBy_60 (by decide) s6 s7 (fun c => ?_) (fun c => ?_)
    · have h := ht c
      refine v_iinc 8 dX0_nameBy_93 rfl (by decide) rfl ?_
      refine v_goto 33 dX0_nameBy_96 (by decide) ?_
      refine V.sub [2, 3, 4, 5, 6, 7, 8, 0] rfl ?_
      exact h
    · have h := hf c
      refine v_aload_n 4 dX0_nameBy_63 rfl (isR_ref _) ?_
      refine v_iload 0 dX0_nameBy_64 rfl ?_
      obtain ⟨F8, P8, A8, hw8, h⟩ := h
      refine x_callVI K (As := [vI (M1 0 x6 x7)]) dX0_nameBy_66 LX0_188 rfl rfl (Nat.le_of_ble_eq_true rfl) (rc_of hw8 (lay_W0 _ _ _ _) rfl) h (fun r9 w9 z9 n9 h => ?_)
      obtain ⟨s10, h⟩ := h
      obtain ⟨ht, hf⟩ := h
      refine v_if_ne 93 dX0_nameBy_69 (by decide) s10 (fun c => ?_) (fun c => ?_)
      · have h := ht c
        refine v_iinc 8 dX0_nameBy_93 rfl (by decide) rfl ?_
        refine v_goto 33 dX0_nameBy_96 (by decide) ?_
        refine V.sub [2, 3, 4, 5, 6, 7, 8, 0] rfl ?_
        exact h
      · have h := hf c
        refine v_aload 5 dX0_nameBy_72 rfl (isR_ref _) ?_
        refine v_aload_n 1 dX0_nameBy_74 rfl (isR_ref _) ?_
        refine v_aload_n 2 dX0_nameBy_75 rfl (isR_ref _) ?_
        refine v_iload 0 dX0_nameBy_76 rfl ?_
        refine v_iload 7 dX0_nameBy_78 rfl ?_
        obtain ⟨F11, p11, hw11, h⟩ := h
        refine x_callVQ K (As := [.ref q1, vI (M1 0 x6 x7), vI x6]) dX0_nameBy_80 LX0_308 rfl rfl (Nat.le_of_ble_eq_true rfl) (rc_of hw11 (lay_X0 _ _ _) rfl) h (fun r12 w12 z12 n12 h => ?_)
        refine x_callSQ K (As := [.ref q4, va_rf r12]) dX0_nameBy_83 LX0_312 rfl rfl (Nat.le_of_ble_eq_true rfl) h (fun r13 w13 z13 n13 h => ?_)
        refine v_iload 6 dX0_nameBy_86 rfl ?_
        refine v_iconst dX0_nameBy_88 ?_
        refine v_iadd dX0_nameBy_89 ?_
        obtain ⟨a14, ea14, h⟩ := h
        rw [ea14]
        obtain ⟨F15, P15, A15, hw15, h⟩ := h
        refine x_callVV K (As := [vI (x5 + 1)]) dX0_nameBy_90 LX0_316 rfl rfl (Nat.le_of_ble_eq_true rfl) (rc_of hw15 (lay_Nm0 _ _ _ _) rfl) h (fun w16 z16 n16 h => ?_)
        refine v_iinc 8 dX0_nameBy_93 rfl (by decide) rfl ?_
        refine v_goto 33 dX0_nameBy_96 (by decide) ?_
        refine V.sub [2, 3, 4, 5, 6, 7, 8, 0] rfl ?_
        exact h
theorem wX0_nameBy_117 (K : KV) (hX : XS K.G) {x2 x6 : Int} {x0 q3 q4 q5 : Nat} {w : Wd} {sz n : Nat} (h : ∃ (F1 : Nat → Int) (P1 : Nat → Option Nat), (w q4 = some (obR 17 F1 P1)) ∧ (CI mJ12_size K [.ref q4] w sz n fun r2 w2 z2 n2 => (rI x6) ∧ ((rI r2) ∧ ((r2 ≤ x6 → (∃ (F5 : Nat → Int) (p5 : Nat), (w2 x0 = some (obX x0 F5 p5)) ∧ (∃ (F6 : Nat → Int) (P6 : Nat → Option Nat) (A6 : Nat → Int → Int), (w2 q3 = some (obW F6 P6 A6)) ∧ (∃ (A7 : Nat → Int → Int) (B7 : Nat → Int → Option Nat) (M7 : Nat → Int → Int → Int), (w2 (x0 + 221) = some (obXA A7 B7 M7)) ∧ ((0 ≤ ((F6 1) - 1) ∧ ((F6 1) - 1) < 12) ∧ (∃ (F9 : Nat → Int) (P9 : Nat → Option Nat), (w2 q5 = some (obR 15 F9 P9)) ∧ (CQ mJ1_append K [.ref q5, va_rf (B7 2 ((F6 1) - 1))] w2 z2 n2 fun r10 w10 z10 n10 => (rI x2) ∧ ((0 ≤ x2 → (∃ (a12 : Nat), (r10 = some a12) ∧ (∃ (F13 : Nat → Int) (P13 : Nat → Option Nat), (w10 a12 = some (obR 15 F13 P13)) ∧ (CQ mJ1_append K [.ref a12, .ref (K.G.ad 19)] w10 z10 n10 fun r14 w14 z14 n14 => ∃ (a15 : Nat), (r14 = some a15) ∧ (∃ (F16 : Nat → Int) (P16 : Nat → Option Nat), (w14 a15 = some (obR 15 F16 P16)) ∧ (CQ mJ1_toString K [.ref a15] w14 z14 n14 fun r17 w17 z17 n17 => K.S (some (va_rf r17)) w17 z17 n17)))))) ∧ (¬ 0 ≤ x2 → (∃ (a12 : Nat), (r10 = some a12) ∧ (∃ (F13 : Nat → Int) (P13 : Nat → Option Nat), (w10 a12 = some (obR 15 F13 P13)) ∧ (CQ mJ1_append K [.ref a12, .ref (K.G.ad 21)] w10 z10 n10 fun r14 w14 z14 n14 => ∃ (a15 : Nat), (r14 = some a15) ∧ (∃ (F16 : Nat → Int) (P16 : Nat → Option Nat), (w14 a15 = some (obR 15 F16 P16)) ∧ (CQ mJ1_toString K [.ref a15] w14 z14 n14 fun r17 w17 z17 n17 => K.S (some (va_rf r17)) w17 z17 n17)))))))))))))) ∧ (¬ r2 ≤ x6 → (∃ (F5 : Nat → Int) (P5 : Nat → Option Nat), (w2 q4 = some (obR 17 F5 P5)) ∧ (CQ mJ12_get K [.ref q4, vI x6] w2 z2 n2 fun r6 w6 z6 n6 => ∃ (a7 : Nat), (r6 = some a7) ∧ (∃ (F8 : Nat → Int) (P8 : Nat → Option Nat) (A8 : Nat → Int → Int), (w6 a7 = some (obNm F8 P8 A8)) ∧ ((x6 ≤ 0 → ((rI (F8 3)) ∧ ((¬ (F8 3) = 1 → (∃ (F10 : Nat → Int) (p10 : Nat), (w6 x0 = some (obX x0 F10 p10)) ∧ (∃ (A11 : Nat → Int → Int) (B11 : Nat → Int → Option Nat) (M11 : Nat → Int → Int → Int), (w6 (x0 + 221) = some (obXA A11 B11 M11)) ∧ ((0 ≤ ((F8 3) - 2) ∧ ((F8 3) - 2) < 7) ∧ (CV mX6_spells K [.ref a7, .ref q5, va_rf (B11 3 ((F8 3) - 2))] w6 z6 n6 fun w13 z13 n13 => VX K mX0_nameBy 117 [(0, .ref x0), (2, vI x2), (3, .ref q3), (4, .ref q4), (5, .ref q5), (6, vI (x6 + 1))] [] w13 z13 n13))))) ∧ ((F8 3) = 1 → (CV mX6_spells K [.ref a7, .ref q5, .ref (K.G.ad 20)] w6 z6 n6 fun w10 z10 n10 => VX K mX0_nameBy 117 [(0, .ref x0), (2, vI x2), (3, .ref q3), (4, .ref q4), (5, .ref q5), (6, vI (x6 + 1))] [] w10 z10 n10))))) ∧ (¬ x6 ≤ 0 → (∃ (F9 : Nat → Int) (P9 : Nat → Option Nat), (w6 q5 = some (obR 15 F9 P9)) ∧ (CQ mJ1_append_2 K [.ref q5, vI 45] w6 z6 n6 fun r10 w10 z10 n10 => ∃ (F11 : Nat → Int) (P11 : Nat → Option Nat) (A11 : Nat → Int → Int), (w10 a7 = some (obNm F11 P11 A11)) ∧ ((rI (F11 3)) ∧ ((¬ (F11 3) = 1 → (∃ (F13 : Nat → Int) (p13 : Nat), (w10 x0 = some (obX x0 F13 p13)) ∧ (∃ (A14 : Nat → Int → Int) (B14 : Nat → Int → Option Nat) (M14 : Nat → Int → Int → Int), (w10 (x0 + 221) = some (obXA A14 B14 M14)) ∧ ((0 ≤ ((F11 3) - 2) ∧ ((F11 3) - 2) < 7) ∧ (CV mX6_spells K [.ref a7, .ref q5, va_rf (B14 3 ((F11 3) - 2))] w10 z10 n10 fun w16 z16 n16 => VX K mX0_nameBy 117 [(0, .ref x0), (2, vI x2), (3, .ref q3), (4, .ref q4), (5, .ref q5), (6, vI (x6 + 1))] [] w16 z16 n16))))) ∧ ((F11 3) = 1 → (CV mX6_spells K [.ref a7, .ref q5, .ref (K.G.ad 20)] w10 z10 n10 fun w13 z13 n13 => VX K mX0_nameBy 117 [(0, .ref x0), (2, vI x2), (3, .ref q3), (4, .ref q4), (5, .ref q5), (6, vI (x6 + 1))] [] w13 z13 n13)))))))))))))))) : VX K mX0_nameBy 117 [(0, .ref x0), (2, vI x2), (3, .ref q3), (4, .ref q4), (5, .ref q5), (6, vI x6)] [] w sz n := by
  refine v_iload 5 dX0_nameBy_117 rfl ?_
  refine v_aload 3 dX0_nameBy_119 rfl (isR_ref _) ?_
  obtain ⟨F1, P1, hw1, h⟩ := h
  refine x_callVI K (As := []) dX0_nameBy_121 LX0_284 rfl rfl (Nat.le_of_ble_eq_true rfl) (rc_of hw1 (lay_R0 _ _ _ (by decide)) rfl) h (fun r2 w2 z2 n2 h => ?_)
  obtain ⟨s3, h⟩ := h
  obtain ⟨s4, h⟩ := h
  obtain ⟨ht, hf⟩ := h
  refine v_icmp_ge 192 dX0_nameBy_124 (by decide) s3 s4 (fun c => ?_) (fun c => ?_)
  · have h := ht c
    refine v_aload 4 dX0_nameBy_192 rfl (isR_ref _) ?_
    refine v_aload_n 0 dX0_nameBy_194 rfl (isR_ref _) ?_
    obtain ⟨F5, p5, hw5, h⟩ := h
    refine v_get (q := x0) (j := 0) (v := .ref (x0 + 221 + 51)) dX0_nameBy_195 fX0_330 hw5 rfl (lay_X0 _ _ _) rfl ?_
    refine v_aload_n 2 dX0_nameBy_198 rfl (isR_ref _) ?_
    obtain ⟨F6, P6, A6, hw6, h⟩ := h
    refine v_get (q := q3) (j := 0) (v := vI (F6 1)) dX0_nameBy_199 fX0_177 hw6 rfl (lay_W0 _ _ _ _) rfl ?_
    refine v_iconst dX0_nameBy_202 ?_
    refine v_isub dX0_nameBy_203 ?_
    obtain ⟨A7, B7, M7, hw7, h⟩ := h
    obtain ⟨s8, h⟩ := h
    refine v_aaldQ (q := x0 + 221) (j := 51) (f := B7 2) (t := 3) (by decide) dX0_nameBy_204 hw7 rfl (lay_XA 51 rfl) s8 (by decide) ?_
    obtain ⟨F9, P9, hw9, h⟩ := h
    refine x_callVQ K (As := [va_rf (B7 2 ((F6 1) - 1))]) dX0_nameBy_205 LX0_333 rfl rfl (Nat.le_of_ble_eq_true rfl) (rc_of hw9 (lay_R0 _ _ _ (by decide)) rfl) h (fun r10 w10 z10 n10 h => ?_)
    refine v_iload_n 1 dX0_nameBy_208 rfl ?_
    obtain ⟨s11, h⟩ := h
    obtain ⟨ht, hf⟩ := h
    refine v_if_ge 218 dX0_nameBy_209 (by decide) s11 (fun c => ?_) (fun c => ?_)
    · have h := ht c
      refine v_ldcSw 19 hX dX0_nameBy_218 rfl ?_
      obtain ⟨a12, ea12, h⟩ := h
      rw [ea12]
      obtain ⟨F13, P13, hw13, h⟩ := h
      refine x_callVQ K (As := [.ref (K.G.ad 19)]) dX0_nameBy_221 LX0_333 rfl rfl (Nat.le_of_ble_eq_true rfl) (rc_of hw13 (lay_R0 _ _ _ (by decide)) rfl) h (fun r14 w14 z14 n14 h => ?_)
      obtain ⟨a15, ea15, h⟩ := h
      rw [ea15]
      obtain ⟨F16, P16, hw16, h⟩ := h
      refine x_callVQ K (As := []) dX0_nameBy_224 LX0_280 rfl rfl (Nat.le_of_ble_eq_true rfl) (rc_of hw16 (lay_R0 _ _ _ (by decide)) rfl) h (fun r17 w17 z17 n17 h => ?_)
      exact x_aret K (r := r17) dX0_nameBy_227 rfl (by first | exact Or.inl ⟨_, rfl⟩ | exact Or.inr ⟨_, rfl⟩) h
    · have h := hf c
      refine v_ldcSw 21 hX dX0_nameBy_212 rfl ?_
      refine v_goto 221 dX0_nameBy_215 (by decide) ?_
      obtain ⟨a12, ea12, h⟩ := h
      rw [ea12]
      obtain ⟨F13, P13, hw13, h⟩ := h
      refine x_callVQ K (As := [.ref (K.G.ad 21)]) dX0_nameBy_221 LX0_333 rfl rfl (Nat.le_of_ble_eq_true rfl) (rc_of hw13 (lay_R0 _ _ _ (by decide)) rfl) h (fun r14 w14 z14 n14 h => ?_)
      obtain ⟨a15, ea15, h⟩ := h
      rw [ea15]
      obtain ⟨F16, P16, hw16, h⟩ := h
      refine x_callVQ K (As := []) dX0_nameBy_224 LX0_280 rfl rfl (Nat.le_of_ble_eq_true rfl) (rc_of hw16 (lay_R0 _ _ _ (by decide)) rfl) h (fun r17 w17 z17 n17 h => ?_)
      exact x_aret K (r := r17) dX0_nameBy_227 rfl (by first | exact Or.inl ⟨_, rfl⟩ | exact Or.inr ⟨_, rfl⟩) h
  · have h := hf c
    refine v_aload 3 dX0_nameBy_127 rfl (isR_ref _) ?_
    refine v_iload 5 dX0_nameBy_129 rfl ?_
    obtain ⟨F5, P5, hw5, h⟩ := h
    refine x_callVQ K (As := [vI x6]) dX0_nameBy_131 LX0_289 rfl rfl (Nat.le_of_ble_eq_true rfl) (rc_of hw5 (lay_R0 _ _ _ (by decide)) rfl) h (fun r6 w6 z6 n6 h => ?_)
    obtain ⟨a7, ea7, h⟩ := h
    rw [ea7]
    obtain ⟨F8, P8, A8, hw8, h⟩ := h
    refine v_castS (C := "BranchNames$Named") dX0_nameBy_134 q1048 (rc_of hw8 (lay_Nm0 _ _ _ _) rfl) ?_
    refine v_astore dX0_nameBy_137 (by decide) (isR_ref _) rfl ?_
    refine v_iload 6 dX0_nameBy_139 rfl ?_
    obtain ⟨ht, hf⟩ := h
    refine v_if_le 152 dX0_nameBy_141 (by decide) s3 (fun c => ?_) (fun c => ?_)
    · have h := ht c
      refine v_aload 0 dX0_nameBy_152 rfl (isR_ref _) ?_
      refine v_aload 5 dX0_nameBy_154 rfl (isR_ref _) ?_
      refine v_aload 0 dX0_nameBy_156 rfl (isR_ref _) ?_
      refine v_get (q := a7) (j := 0) (v := vI (F8 3)) dX0_nameBy_158 fX0_319 hw8 rfl (lay_Nm0 _ _ _ _) rfl ?_
      refine v_iconst dX0_nameBy_161 ?_
      obtain ⟨s9, h⟩ := h
      obtain ⟨ht, hf⟩ := h
      refine v_icmp_ne 171 dX0_nameBy_162 (by decide) s9 (by decide) (fun c => ?_) (fun c => ?_)
      · have h := ht c
        refine v_aload_n 1 dX0_nameBy_171 rfl (isR_ref _) ?_
        obtain ⟨F10, p10, hw10, h⟩ := h
        refine v_get (q := x0) (j := 0) (v := .ref (x0 + 221 + 52)) dX0_nameBy_172 fX0_322 hw10 rfl (lay_X0 _ _ _) rfl ?_
        refine v_aload 0 dX0_nameBy_175 rfl (isR_ref _) ?_
        refine v_get (q := a7) (j := 0) (v := vI (F8 3)) dX0_nameBy_177 fX0_319 hw8 rfl (lay_Nm0 _ _ _ _) rfl ?_
        refine v_iconst dX0_nameBy_180 ?_
        refine v_isub dX0_nameBy_181 ?_
        obtain ⟨A11, B11, M11, hw11, h⟩ := h
        obtain ⟨s12, h⟩ := h
        refine v_aaldQ (q := x0 + 221) (j := 52) (f := B11 3) (t := 3) (by decide) dX0_nameBy_182 hw11 rfl (lay_XA 52 rfl) s12 (by decide) ?_
        refine x_callVV K (As := [.ref q5, va_rf (B11 3 ((F8 3) - 2))]) dX0_nameBy_183 LX0_326 rfl rfl (Nat.le_of_ble_eq_true rfl) (rc_of hw8 (lay_Nm0 _ _ _ _) rfl) h (fun w13 z13 n13 h => ?_)
        refine v_iinc 6 dX0_nameBy_186 rfl (by decide) rfl ?_
        refine v_goto 117 dX0_nameBy_189 (by decide) ?_
        refine V.sub [2, 3, 4, 5, 6, 0] rfl ?_
        exact h
      · have h := hf c
        refine v_ldcSw 20 hX dX0_nameBy_165 rfl ?_
        refine v_goto 183 dX0_nameBy_168 (by decide) ?_
        refine x_callVV K (As := [.ref q5, .ref (K.G.ad 20)]) dX0_nameBy_183 LX0_326 rfl rfl (Nat.le_of_ble_eq_true rfl) (rc_of hw8 (lay_Nm0 _ _ _ _) rfl) h (fun w10 z10 n10 h => ?_)
        refine v_iinc 6 dX0_nameBy_186 rfl (by decide) rfl ?_
        refine v_goto 117 dX0_nameBy_189 (by decide) ?_
        refine V.sub [2, 3, 4, 5, 6, 0] rfl ?_
        exact h
    · have h := hf c
      refine v_aload 5 dX0_nameBy_144 rfl (isR_ref _) ?_
      refine v_bipush dX0_nameBy_146 rfl ?_
      obtain ⟨F9, P9, hw9, h⟩ := h
      refine x_callVQ K (As := [vI 45]) dX0_nameBy_148 LX0_276 rfl rfl (Nat.le_of_ble_eq_true rfl) (rc_of hw9 (lay_R0 _ _ _ (by decide)) rfl) h (fun r10 w10 z10 n10 h => ?_)
      refine v_pop dX0_nameBy_151 (cat_rf _) ?_
      refine v_aload 0 dX0_nameBy_152 rfl (isR_ref _) ?_
      refine v_aload 5 dX0_nameBy_154 rfl (isR_ref _) ?_
      refine v_aload 0 dX0_nameBy_156 rfl (isR_ref _) ?_
      obtain ⟨F11, P11, A11, hw11, h⟩ := h
      refine v_get (q := a7) (j := 0) (v := vI (F11 3)) dX0_nameBy_158 fX0_319 hw11 rfl (lay_Nm0 _ _ _ _) rfl ?_
      refine v_iconst dX0_nameBy_161 ?_
      obtain ⟨s12, h⟩ := h
      obtain ⟨ht, hf⟩ := h
      refine v_icmp_ne 171 dX0_nameBy_162 (by decide) s12 (by decide) (fun c => ?_) (fun c => ?_)
      · have h := ht c
        refine v_aload_n 1 dX0_nameBy_171 rfl (isR_ref _) ?_
        obtain ⟨F13, p13, hw13, h⟩ := h
        refine v_get (q := x0) (j := 0) (v := .ref (x0 + 221 + 52)) dX0_nameBy_172 fX0_322 hw13 rfl (lay_X0 _ _ _) rfl ?_
        refine v_aload 0 dX0_nameBy_175 rfl (isR_ref _) ?_
        refine v_get (q := a7) (j := 0) (v := vI (F11 3)) dX0_nameBy_177 fX0_319 hw11 rfl (lay_Nm0 _ _ _ _) rfl ?_
        refine v_iconst dX0_nameBy_180 ?_
        refine v_isub dX0_nameBy_181 ?_
        obtain ⟨A14, B14, M14, hw14, h⟩ := h
        obtain ⟨s15, h⟩ := h
        refine v_aaldQ (q := x0 + 221) (j := 52) (f := B14 3) (t := 3) (by decide) dX0_nameBy_182 hw14 rfl (lay_XA 52 rfl) s15 (by decide) ?_
        refine x_callVV K (As := [.ref q5, va_rf (B14 3 ((F11 3) - 2))]) dX0_nameBy_183 LX0_326 rfl rfl (Nat.le_of_ble_eq_true rfl) (rc_of hw11 (lay_Nm0 _ _ _ _) rfl) h (fun w16 z16 n16 h => ?_)
        refine v_iinc 6 dX0_nameBy_186 rfl (by decide) rfl ?_
        refine v_goto 117 dX0_nameBy_189 (by decide) ?_
        refine V.sub [2, 3, 4, 5, 6, 0] rfl ?_
        exact h
      · have h := hf c
        refine v_ldcSw 20 hX dX0_nameBy_165 rfl ?_
        refine v_goto 183 dX0_nameBy_168 (by decide) ?_
        refine x_callVV K (As := [.ref q5, .ref (K.G.ad 20)]) dX0_nameBy_183 LX0_326 rfl rfl (Nat.le_of_ble_eq_true rfl) (rc_of hw11 (lay_Nm0 _ _ _ _) rfl) h (fun w13 z13 n13 h => ?_)
        refine v_iinc 6 dX0_nameBy_186 rfl (by decide) rfl ?_
        refine v_goto 117 dX0_nameBy_189 (by decide) ?_
        refine V.sub [2, 3, 4, 5, 6, 0] rfl ?_
        exact h
/-! BranchNames.partOf -/
theorem wX0_partOf_0 (K : KV) {q0 q1 : Nat} {w : Wd} {sz n : Nat} (h : VX K mX0_partOf 2 [(0, .ref q0), (1, .ref q1), (2, vI 0)] [] w sz n) : VX K mX0_partOf 0 [(0, .ref q0), (1, .ref q1)] [] w sz n := by
  refine v_iconst dX0_partOf_0 ?_
  refine v_istore_n dX0_partOf_1 (by decide) rfl ?_
  refine V.sub [1, 2, 0] rfl ?_
  exact h
theorem wX0_partOf_2 (K : KV) {x2 : Int} {q0 q1 : Nat} {w : Wd} {sz n : Nat} (h : ∃ (F1 : Nat → Int) (P1 : Nat → Option Nat), (w q0 = some (obR 17 F1 P1)) ∧ (CI mJ12_size K [.ref q0] w sz n fun r2 w2 z2 n2 => (rI x2) ∧ ((rI r2) ∧ ((r2 ≤ x2 → ((w2 z2 = none) ∧ (CV mX6_init K [.ref z2, .ref q1] (wset w2 z2 (some (obR 6 nF nP))) (z2 + 1) (n2 + 4) fun w6 z6 n6 => VX K mX0_partOf 54 [(0, .ref q0), (2, .ref z2), (3, vI 0)] [] w6 z6 n6))) ∧ (¬ r2 ≤ x2 → (∃ (F5 : Nat → Int) (P5 : Nat → Option Nat), (w2 q0 = some (obR 17 F5 P5)) ∧ (CQ mJ12_get K [.ref q0, vI x2] w2 z2 n2 fun r6 w6 z6 n6 => ∃ (a7 : Nat), (r6 = some a7) ∧ (∃ (F8 : Nat → Int) (P8 : Nat → Option Nat) (A8 : Nat → Int → Int), (w6 a7 = some (obNm F8 P8 A8)) ∧ (CI mX0_compared K [va_rf (P8 0), .ref q1] w6 z6 n6 fun r9 w9 z9 n9 => (rI r9) ∧ ((¬ r9 = 0 → (VX K mX0_partOf 2 [(0, .ref q0), (1, .ref q1), (2, vI (x2 + 1))] [] w9 z9 n9)) ∧ (r9 = 0 → (∃ (F11 : Nat → Int) (P11 : Nat → Option Nat), (w9 q0 = some (obR 17 F11 P11)) ∧ (CQ mJ12_get K [.ref q0, vI x2] w9 z9 n9 fun r12 w12 z12 n12 => ∃ (a13 : Nat), (r12 = some a13) ∧ (∃ (F14 : Nat → Int) (P14 : Nat → Option Nat) (A14 : Nat → Int → Int), (w12 a13 = some (obNm F14 P14 A14)) ∧ (K.S (some (va_rf (some a13))) w12 z12 n12))))))))))))))) : VX K mX0_partOf 2 [(0, .ref q0), (1, .ref q1), (2, vI x2)] [] w sz n := by
  refine v_iload_n 2 dX0_partOf_2 rfl ?_
  refine v_aload_n 0 dX0_partOf_3 rfl (isR_ref _) ?_
  obtain ⟨F1, P1, hw1, h⟩ := h
  refine x_callVI K (As := []) dX0_partOf_4 LX0_284 rfl rfl (Nat.le_of_ble_eq_true rfl) (rc_of hw1 (lay_R0 _ _ _ (by decide)) rfl) h (fun r2 w2 z2 n2 h => ?_)
  obtain ⟨s3, h⟩ := h
  obtain ⟨s4, h⟩ := h
  obtain ⟨ht, hf⟩ := h
  refine v_icmp_ge 43 dX0_partOf_7 (by decide) s3 s4 (fun c => ?_) (fun c => ?_)
  · have h := ht c
    obtain ⟨s5, h⟩ := h
    refine v_new K (ci := 6) (C := RX6) (T := TX6) (N := 4) tyX6 dX0_partOf_43 (by decide) rfl in_X6 tyX6_ok q1048 q1075 q174 nw6 s5 ?_
    refine v_dup dX0_partOf_46 rfl ?_
    refine v_aload_n 1 dX0_partOf_47 rfl (isR_ref _) ?_
    refine x_callIV K (As := [.ref q1]) dX0_partOf_48 LX0_296 rfl rfl (Nat.le_of_ble_eq_true rfl) h (fun w6 z6 n6 h => ?_)
    refine v_astore_n dX0_partOf_51 (by decide) (isR_ref _) rfl ?_
    refine v_iconst dX0_partOf_52 ?_
    refine v_istore_n dX0_partOf_53 (by decide) rfl ?_
    refine V.sub [2, 1, 0] rfl ?_
    exact h
  · have h := hf c
    refine v_aload_n 0 dX0_partOf_10 rfl (isR_ref _) ?_
    refine v_iload_n 2 dX0_partOf_11 rfl ?_
    obtain ⟨F5, P5, hw5, h⟩ := h
    refine x_callVQ K (As := [vI x2]) dX0_partOf_12 LX0_289 rfl rfl (Nat.le_of_ble_eq_true rfl) (rc_of hw5 (lay_R0 _ _ _ (by decide)) rfl) h (fun r6 w6 z6 n6 h => ?_)
    obtain ⟨a7, ea7, h⟩ := h
    rw [ea7]
    obtain ⟨F8, P8, A8, hw8, h⟩ := h
    refine v_castS (C := "BranchNames$Named") dX0_partOf_15 q1048 (rc_of hw8 (lay_Nm0 _ _ _ _) rfl) ?_
    refine v_get (q := a7) (j := 0) (v := va_rf (P8 0)) dX0_partOf_18 fX0_295 hw8 rfl (lay_Nm0 _ _ _ _) rfl ?_
    refine v_aload_n 1 dX0_partOf_21 rfl (isR_ref _) ?_
    refine x_callSI K (As := [va_rf (P8 0), .ref q1]) dX0_partOf_22 LX0_203 rfl rfl (Nat.le_of_ble_eq_true rfl) h (fun r9 w9 z9 n9 h => ?_)
    obtain ⟨s10, h⟩ := h
    obtain ⟨ht, hf⟩ := h
    refine v_if_ne 37 dX0_partOf_25 (by decide) s10 (fun c => ?_) (fun c => ?_)
    · have h := ht c
      refine v_iinc 2 dX0_partOf_37 rfl (by decide) rfl ?_
      refine v_goto 2 dX0_partOf_40 (by decide) ?_
      refine V.sub [1, 2, 0] rfl ?_
      exact h
    · have h := hf c
      refine v_aload_n 0 dX0_partOf_28 rfl (isR_ref _) ?_
      refine v_iload_n 2 dX0_partOf_29 rfl ?_
      obtain ⟨F11, P11, hw11, h⟩ := h
      refine x_callVQ K (As := [vI x2]) dX0_partOf_30 LX0_289 rfl rfl (Nat.le_of_ble_eq_true rfl) (rc_of hw11 (lay_R0 _ _ _ (by decide)) rfl) h (fun r12 w12 z12 n12 h => ?_)
      obtain ⟨a13, ea13, h⟩ := h
      rw [ea13]
      obtain ⟨F14, P14, A14, hw14, h⟩ := h
      refine v_castS (C := "BranchNames$Named") dX0_partOf_33 q1048 (rc_of hw14 (lay_Nm0 _ _ _ _) rfl) ?_
      exact x_aret K (r := some a13) dX0_partOf_36 rfl (by first | exact Or.inl ⟨_, rfl⟩ | exact Or.inr ⟨_, rfl⟩) h
theorem wX0_partOf_54 (K : KV) {x3 : Int} {q0 q2 : Nat} {w : Wd} {sz n : Nat} (h : ∃ (F1 : Nat → Int) (P1 : Nat → Option Nat), (w q0 = some (obR 17 F1 P1)) ∧ (CI mJ12_size K [.ref q0] w sz n fun r2 w2 z2 n2 => (rI x3) ∧ ((rI r2) ∧ ((r2 ≤ x3 → (∃ (F5 : Nat → Int) (P5 : Nat → Option Nat), (w2 q0 = some (obR 17 F5 P5)) ∧ (CV mJ12_add K [.ref q0, vI x3, .ref q2] w2 z2 n2 fun w6 z6 n6 => K.S (some (va_rf (some q2))) w6 z6 n6))) ∧ (¬ r2 ≤ x3 → (∃ (F5 : Nat → Int) (P5 : Nat → Option Nat), (w2 q0 = some (obR 17 F5 P5)) ∧ (CQ mJ12_get K [.ref q0, vI x3] w2 z2 n2 fun r6 w6 z6 n6 => ∃ (a7 : Nat), (r6 = some a7) ∧ (∃ (F8 : Nat → Int) (P8 : Nat → Option Nat) (A8 : Nat → Int → Int), (w6 a7 = some (obNm F8 P8 A8)) ∧ (CI mX6_behind K [.ref a7, .ref q2] w6 z6 n6 fun r9 w9 z9 n9 => (rI r9) ∧ ((0 ≤ r9 → (∃ (F11 : Nat → Int) (P11 : Nat → Option Nat), (w9 q0 = some (obR 17 F11 P11)) ∧ (CV mJ12_add K [.ref q0, vI x3, .ref q2] w9 z9 n9 fun w12 z12 n12 => K.S (some (va_rf (some q2))) w12 z12 n12))) ∧ (¬ 0 ≤ r9 → (VX K mX0_partOf 54 [(0, .ref q0), (2, .ref q2), (3, vI (x3 + 1))] [] w9 z9 n9)))))))))))) : VX K mX0_partOf 54 [(0, .ref q0), (2, .ref q2), (3, vI x3)] [] w sz n := by
  refine v_iload_n 2 dX0_partOf_54 rfl ?_
  refine v_aload_n 0 dX0_partOf_55 rfl (isR_ref _) ?_
  obtain ⟨F1, P1, hw1, h⟩ := h
  refine x_callVI K (As := []) dX0_partOf_56 LX0_284 rfl rfl (Nat.le_of_ble_eq_true rfl) (rc_of hw1 (lay_R0 _ _ _ (by decide)) rfl) h (fun r2 w2 z2 n2 h => ?_)
  obtain ⟨s3, h⟩ := h
  obtain ⟨s4, h⟩ := h
  obtain ⟨ht, hf⟩ := h
  refine v_icmp_ge 83 dX0_partOf_59 (by decide) s3 s4 (fun c => ?_) (fun c => ?_)
  · have h := ht c
    refine v_aload_n 0 dX0_partOf_83 rfl (isR_ref _) ?_
    refine v_iload_n 2 dX0_partOf_84 rfl ?_
    refine v_aload_n 1 dX0_partOf_85 rfl (isR_ref _) ?_
    obtain ⟨F5, P5, hw5, h⟩ := h
    refine x_callVV K (As := [vI x3, .ref q2]) dX0_partOf_86 LX0_303 rfl rfl (Nat.le_of_ble_eq_true rfl) (rc_of hw5 (lay_R0 _ _ _ (by decide)) rfl) h (fun w6 z6 n6 h => ?_)
    refine v_aload_n 1 dX0_partOf_89 rfl (isR_ref _) ?_
    exact x_aret K (r := some q2) dX0_partOf_90 rfl (by first | exact Or.inl ⟨_, rfl⟩ | exact Or.inr ⟨_, rfl⟩) h
  · have h := hf c
    refine v_aload_n 0 dX0_partOf_62 rfl (isR_ref _) ?_
    refine v_iload_n 2 dX0_partOf_63 rfl ?_
    obtain ⟨F5, P5, hw5, h⟩ := h
    refine x_callVQ K (As := [vI x3]) dX0_partOf_64 LX0_289 rfl rfl (Nat.le_of_ble_eq_true rfl) (rc_of hw5 (lay_R0 _ _ _ (by decide)) rfl) h (fun r6 w6 z6 n6 h => ?_)
    obtain ⟨a7, ea7, h⟩ := h
    rw [ea7]
    obtain ⟨F8, P8, A8, hw8, h⟩ := h
    refine v_castS (C := "BranchNames$Named") dX0_partOf_67 q1048 (rc_of hw8 (lay_Nm0 _ _ _ _) rfl) ?_
    refine v_aload_n 1 dX0_partOf_70 rfl (isR_ref _) ?_
    refine x_callVI K (As := [.ref q2]) dX0_partOf_71 LX0_299 rfl rfl (Nat.le_of_ble_eq_true rfl) (rc_of hw8 (lay_Nm0 _ _ _ _) rfl) h (fun r9 w9 z9 n9 h => ?_)
    obtain ⟨s10, h⟩ := h
    obtain ⟨ht, hf⟩ := h
    refine v_if_ge 83 dX0_partOf_74 (by decide) s10 (fun c => ?_) (fun c => ?_)
    · have h := ht c
      refine v_aload_n 0 dX0_partOf_83 rfl (isR_ref _) ?_
      refine v_iload_n 2 dX0_partOf_84 rfl ?_
      refine v_aload_n 1 dX0_partOf_85 rfl (isR_ref _) ?_
      obtain ⟨F11, P11, hw11, h⟩ := h
      refine x_callVV K (As := [vI x3, .ref q2]) dX0_partOf_86 LX0_303 rfl rfl (Nat.le_of_ble_eq_true rfl) (rc_of hw11 (lay_R0 _ _ _ (by decide)) rfl) h (fun w12 z12 n12 h => ?_)
      refine v_aload_n 1 dX0_partOf_89 rfl (isR_ref _) ?_
      exact x_aret K (r := some q2) dX0_partOf_90 rfl (by first | exact Or.inl ⟨_, rfl⟩ | exact Or.inr ⟨_, rfl⟩) h
    · have h := hf c
      refine v_iinc 2 dX0_partOf_77 rfl (by decide) rfl ?_
      refine v_goto 54 dX0_partOf_80 (by decide) ?_
      refine V.sub [1, 2, 0] rfl ?_
      exact h
/-! BranchNames.compared -/
theorem wX0_compared_0 (K : KV) {q0 q1 : Nat} {w : Wd} {sz n : Nat} (h : ∃ (b1 : Nat), (w q0 = some (obS b1)) ∧ (CI mJ2_length K [.ref q0] w sz n fun r2 w2 z2 n2 => ∃ (b3 : Nat), (w2 q1 = some (obS b3)) ∧ (CI mJ2_length K [.ref q1] w2 z2 n2 fun r4 w4 z4 n4 => (rI r2) ∧ ((rI r4) ∧ ((1 ≤ K.d) ∧ (VX K mX0_compared 14 [(0, .ref q0), (1, .ref q1), (2, vI (min r2 r4)), (3, vI 0)] [] w4 z4 n4)))))) : VX K mX0_compared 0 [(0, .ref q0), (1, .ref q1)] [] w sz n := by
  refine v_aload_n 0 dX0_compared_0 rfl (isR_ref _) ?_
  obtain ⟨b1, hw1, h⟩ := h
  refine x_callVI K (As := []) dX0_compared_1 LX0_251 rfl rfl (Nat.le_of_ble_eq_true rfl) (rc_S hw1) h (fun r2 w2 z2 n2 h => ?_)
  refine v_aload_n 1 dX0_compared_4 rfl (isR_ref _) ?_
  obtain ⟨b3, hw3, h⟩ := h
  refine x_callVI K (As := []) dX0_compared_5 LX0_251 rfl rfl (Nat.le_of_ble_eq_true rfl) (rc_S hw3) h (fun r4 w4 z4 n4 h => ?_)
  obtain ⟨s5, h⟩ := h
  obtain ⟨s6, h⟩ := h
  obtain ⟨s7, h⟩ := h
  refine v_mmin dX0_compared_8 q524 s5 s6 s7 (Nat.le_of_ble_eq_true rfl) ?_
  refine v_istore_n dX0_compared_11 (by decide) rfl ?_
  refine v_iconst dX0_compared_12 ?_
  refine v_istore_n dX0_compared_13 (by decide) rfl ?_
  refine V.sub [2, 3, 1, 0] rfl ?_
  exact h
theorem wX0_compared_14 (K : KV) {x2 x3 : Int} {q0 q1 : Nat} {w : Wd} {sz n : Nat} (h : (rI x3) ∧ ((rI x2) ∧ ((x2 ≤ x3 → (∃ (b3 : Nat), (w q0 = some (obS b3)) ∧ (CI mJ2_length K [.ref q0] w sz n fun r4 w4 z4 n4 => ∃ (b5 : Nat), (w4 q1 = some (obS b5)) ∧ (CI mJ2_length K [.ref q1] w4 z4 n4 fun r6 w6 z6 n6 => K.S (some (vI (r4 - r6))) w6 z6 n6)))) ∧ (¬ x2 ≤ x3 → (∃ (b3 : Nat), (w q0 = some (obS b3)) ∧ (CI mJ2_charAt K [.ref q0, vI x3] w sz n fun r4 w4 z4 n4 => ∃ (b5 : Nat), (w4 q1 = some (obS b5)) ∧ (CI mJ2_charAt K [.ref q1, vI x3] w4 z4 n4 fun r6 w6 z6 n6 => (rI r4) ∧ ((rI r6) ∧ ((r4 = r6 → (VX K mX0_compared 14 [(0, .ref q0), (1, .ref q1), (2, vI x2), (3, vI (x3 + 1))] [] w6 z6 n6)) ∧ (¬ r4 = r6 → (∃ (b9 : Nat), (w6 q0 = some (obS b9)) ∧ (CI mJ2_charAt K [.ref q0, vI x3] w6 z6 n6 fun r10 w10 z10 n10 => ∃ (b11 : Nat), (w10 q1 = some (obS b11)) ∧ (CI mJ2_charAt K [.ref q1, vI x3] w10 z10 n10 fun r12 w12 z12 n12 => K.S (some (vI (r10 - r12))) w12 z12 n12))))))))))))) : VX K mX0_compared 14 [(0, .ref q0), (1, .ref q1), (2, vI x2), (3, vI x3)] [] w sz n := by
  refine v_iload_n 3 dX0_compared_14 rfl ?_
  refine v_iload_n 2 dX0_compared_15 rfl ?_
  obtain ⟨s1, h⟩ := h
  obtain ⟨s2, h⟩ := h
  obtain ⟨ht, hf⟩ := h
  refine v_icmp_ge 50 dX0_compared_16 (by decide) s1 s2 (fun c => ?_) (fun c => ?_)
  · have h := ht c
    refine v_aload_n 0 dX0_compared_50 rfl (isR_ref _) ?_
    obtain ⟨b3, hw3, h⟩ := h
    refine x_callVI K (As := []) dX0_compared_51 LX0_251 rfl rfl (Nat.le_of_ble_eq_true rfl) (rc_S hw3) h (fun r4 w4 z4 n4 h => ?_)
    refine v_aload_n 1 dX0_compared_54 rfl (isR_ref _) ?_
    obtain ⟨b5, hw5, h⟩ := h
    refine x_callVI K (As := []) dX0_compared_55 LX0_251 rfl rfl (Nat.le_of_ble_eq_true rfl) (rc_S hw5) h (fun r6 w6 z6 n6 h => ?_)
    refine v_isub dX0_compared_58 ?_
    exact x_iret K dX0_compared_59 rfl h
  · have h := hf c
    refine v_aload_n 0 dX0_compared_19 rfl (isR_ref _) ?_
    refine v_iload_n 3 dX0_compared_20 rfl ?_
    obtain ⟨b3, hw3, h⟩ := h
    refine x_callVI K (As := [vI x3]) dX0_compared_21 LX0_257 rfl rfl (Nat.le_of_ble_eq_true rfl) (rc_S hw3) h (fun r4 w4 z4 n4 h => ?_)
    refine v_aload_n 1 dX0_compared_24 rfl (isR_ref _) ?_
    refine v_iload_n 3 dX0_compared_25 rfl ?_
    obtain ⟨b5, hw5, h⟩ := h
    refine x_callVI K (As := [vI x3]) dX0_compared_26 LX0_257 rfl rfl (Nat.le_of_ble_eq_true rfl) (rc_S hw5) h (fun r6 w6 z6 n6 h => ?_)
    obtain ⟨s7, h⟩ := h
    obtain ⟨s8, h⟩ := h
    obtain ⟨ht, hf⟩ := h
    refine v_icmp_eq 44 dX0_compared_29 (by decide) s7 s8 (fun c => ?_) (fun c => ?_)
    · have h := ht c
      refine v_iinc 3 dX0_compared_44 rfl (by decide) rfl ?_
      refine v_goto 14 dX0_compared_47 (by decide) ?_
      refine V.sub [1, 2, 3, 0] rfl ?_
      exact h
    · have h := hf c
      refine v_aload_n 0 dX0_compared_32 rfl (isR_ref _) ?_
      refine v_iload_n 3 dX0_compared_33 rfl ?_
      obtain ⟨b9, hw9, h⟩ := h
      refine x_callVI K (As := [vI x3]) dX0_compared_34 LX0_257 rfl rfl (Nat.le_of_ble_eq_true rfl) (rc_S hw9) h (fun r10 w10 z10 n10 h => ?_)
      refine v_aload_n 1 dX0_compared_37 rfl (isR_ref _) ?_
      refine v_iload_n 3 dX0_compared_38 rfl ?_
      obtain ⟨b11, hw11, h⟩ := h
      refine x_callVI K (As := [vI x3]) dX0_compared_39 LX0_257 rfl rfl (Nat.le_of_ble_eq_true rfl) (rc_S hw11) h (fun r12 w12 z12 n12 h => ?_)
      refine v_isub dX0_compared_42 ?_
      exact x_iret K dX0_compared_43 rfl h
/-! BranchNames.lettersOf -/
theorem wX0_lettersOf_0 (K : KV) {q0 : Nat} {w : Wd} {sz n : Nat} (h : (w sz = none) ∧ (CV mJ1_init K [.ref sz] (wset w sz (some (obR 15 nF nP))) (sz + 1) (n + 4) fun w2 z2 n2 => VX K mX0_lettersOf 10 [(0, .ref q0), (1, .ref sz), (2, vI 0)] [] w2 z2 n2)) : VX K mX0_lettersOf 0 [(0, .ref q0)] [] w sz n := by
  obtain ⟨s1, h⟩ := h
  refine v_new K (ci := 15) (C := RJ1) (T := TJ1) (N := 4) tyJ1 dX0_lettersOf_0 (by decide) rfl in_J1 tyJ1_ok q272 q273 q155 nw15 s1 ?_
  refine v_dup dX0_lettersOf_3 rfl ?_
  refine x_callIV K (As := []) dX0_lettersOf_4 LX0_271 rfl rfl (Nat.le_of_ble_eq_true rfl) h (fun w2 z2 n2 h => ?_)
  refine v_astore_n dX0_lettersOf_7 (by decide) (isR_ref _) rfl ?_
  refine v_iconst dX0_lettersOf_8 ?_
  refine v_istore_n dX0_lettersOf_9 (by decide) rfl ?_
  refine V.sub [2, 1, 0] rfl ?_
  exact h
theorem wX0_lettersOf_10 (K : KV) {x2 : Int} {q0 q1 : Nat} {w : Wd} {sz n : Nat} (h : ∃ (b1 : Nat), (w q0 = some (obS b1)) ∧ (CI mJ2_length K [.ref q0] w sz n fun r2 w2 z2 n2 => (rI x2) ∧ ((rI r2) ∧ ((r2 ≤ x2 → (∃ (F5 : Nat → Int) (P5 : Nat → Option Nat), (w2 q1 = some (obR 15 F5 P5)) ∧ (CQ mJ1_toString K [.ref q1] w2 z2 n2 fun r6 w6 z6 n6 => K.S (some (va_rf r6)) w6 z6 n6))) ∧ (¬ r2 ≤ x2 → (∃ (b5 : Nat), (w2 q0 = some (obS b5)) ∧ (CI mJ2_charAt K [.ref q0, vI x2] w2 z2 n2 fun r6 w6 z6 n6 => CI mX0_isLetter K [vI r6] w6 z6 n6 fun r7 w7 z7 n7 => (rI r7) ∧ ((r7 = 0 → (VX K mX0_lettersOf 10 [(0, .ref q0), (1, .ref q1), (2, vI (x2 + 1))] [] w7 z7 n7)) ∧ (¬ r7 = 0 → (∃ (b9 : Nat), (w7 q0 = some (obS b9)) ∧ (CI mJ2_charAt K [.ref q0, vI x2] w7 z7 n7 fun r10 w10 z10 n10 => ∃ (F11 : Nat → Int) (P11 : Nat → Option Nat), (w10 q1 = some (obR 15 F11 P11)) ∧ (CQ mJ1_append_2 K [.ref q1, vI r10] w10 z10 n10 fun r12 w12 z12 n12 => VX K mX0_lettersOf 10 [(0, .ref q0), (1, .ref q1), (2, vI (x2 + 1))] [] w12 z12 n12)))))))))))) : VX K mX0_lettersOf 10 [(0, .ref q0), (1, .ref q1), (2, vI x2)] [] w sz n := by
  refine v_iload_n 2 dX0_lettersOf_10 rfl ?_
  refine v_aload_n 0 dX0_lettersOf_11 rfl (isR_ref _) ?_
  obtain ⟨b1, hw1, h⟩ := h
  refine x_callVI K (As := []) dX0_lettersOf_12 LX0_251 rfl rfl (Nat.le_of_ble_eq_true rfl) (rc_S hw1) h (fun r2 w2 z2 n2 h => ?_)
  obtain ⟨s3, h⟩ := h
  obtain ⟨s4, h⟩ := h
  obtain ⟨ht, hf⟩ := h
  refine v_icmp_ge 45 dX0_lettersOf_15 (by decide) s3 s4 (fun c => ?_) (fun c => ?_)
  · have h := ht c
    refine v_aload_n 1 dX0_lettersOf_45 rfl (isR_ref _) ?_
    obtain ⟨F5, P5, hw5, h⟩ := h
    refine x_callVQ K (As := []) dX0_lettersOf_46 LX0_280 rfl rfl (Nat.le_of_ble_eq_true rfl) (rc_of hw5 (lay_R0 _ _ _ (by decide)) rfl) h (fun r6 w6 z6 n6 h => ?_)
    exact x_aret K (r := r6) dX0_lettersOf_49 rfl (by first | exact Or.inl ⟨_, rfl⟩ | exact Or.inr ⟨_, rfl⟩) h
  · have h := hf c
    refine v_aload_n 0 dX0_lettersOf_18 rfl (isR_ref _) ?_
    refine v_iload_n 2 dX0_lettersOf_19 rfl ?_
    obtain ⟨b5, hw5, h⟩ := h
    refine x_callVI K (As := [vI x2]) dX0_lettersOf_20 LX0_257 rfl rfl (Nat.le_of_ble_eq_true rfl) (rc_S hw5) h (fun r6 w6 z6 n6 h => ?_)
    refine x_callSI K (As := [vI r6]) dX0_lettersOf_23 LX0_273 rfl rfl (Nat.le_of_ble_eq_true rfl) h (fun r7 w7 z7 n7 h => ?_)
    obtain ⟨s8, h⟩ := h
    obtain ⟨ht, hf⟩ := h
    refine v_if_eq 39 dX0_lettersOf_26 (by decide) s8 (fun c => ?_) (fun c => ?_)
    · have h := ht c
      refine v_iinc 2 dX0_lettersOf_39 rfl (by decide) rfl ?_
      refine v_goto 10 dX0_lettersOf_42 (by decide) ?_
      refine V.sub [1, 2, 0] rfl ?_
      exact h
    · have h := hf c
      refine v_aload_n 1 dX0_lettersOf_29 rfl (isR_ref _) ?_
      refine v_aload_n 0 dX0_lettersOf_30 rfl (isR_ref _) ?_
      refine v_iload_n 2 dX0_lettersOf_31 rfl ?_
      obtain ⟨b9, hw9, h⟩ := h
      refine x_callVI K (As := [vI x2]) dX0_lettersOf_32 LX0_257 rfl rfl (Nat.le_of_ble_eq_true rfl) (rc_S hw9) h (fun r10 w10 z10 n10 h => ?_)
      obtain ⟨F11, P11, hw11, h⟩ := h
      refine x_callVQ K (As := [vI r10]) dX0_lettersOf_35 LX0_276 rfl rfl (Nat.le_of_ble_eq_true rfl) (rc_of hw11 (lay_R0 _ _ _ (by decide)) rfl) h (fun r12 w12 z12 n12 h => ?_)
      refine v_pop dX0_lettersOf_38 (cat_rf _) ?_
      refine v_iinc 2 dX0_lettersOf_39 rfl (by decide) rfl ?_
      refine v_goto 10 dX0_lettersOf_42 (by decide) ?_
      refine V.sub [1, 2, 0] rfl ?_
      exact h
/-! BranchNames.isLetter -/
theorem wX0_isLetter_0 (K : KV) {x0 : Int} {w : Wd} {sz n : Nat} (h : (rI x0) ∧ (CI mX0_isIn K [vL x0, vL 97, vL 122] w sz n fun r2 w2 z2 n2 => (r2 = 0 ∨ r2 = 1) ∧ (K.S (some (vI r2)) w2 z2 n2))) : VX K mX0_isLetter 0 [(0, vI x0)] [] w sz n := by
  refine v_iload_n 0 dX0_isLetter_0 rfl ?_
  obtain ⟨s1, h⟩ := h
  refine v_i2l dX0_isLetter_1 s1 ?_
  refine v_ldc2 (z := 97) dX0_isLetter_2 q1086 ?_
  refine v_ldc2 (z := 122) dX0_isLetter_5 q1087 ?_
  refine x_callSI K (As := [vL x0, vL 97, vL 122]) dX0_isLetter_8 LX0_142 rfl rfl (Nat.le_of_ble_eq_true rfl) h (fun r2 w2 z2 n2 h => ?_)
  obtain ⟨s3, h⟩ := h
  exact x_zret K dX0_isLetter_11 rfl s3 h
/-! BranchNames.isDigit -/
theorem wX0_isDigit_0 (K : KV) {x0 : Int} {w : Wd} {sz n : Nat} (h : (rI x0) ∧ (CI mX0_isIn K [vL x0, vL 48, vL 57] w sz n fun r2 w2 z2 n2 => (r2 = 0 ∨ r2 = 1) ∧ (K.S (some (vI r2)) w2 z2 n2))) : VX K mX0_isDigit 0 [(0, vI x0)] [] w sz n := by
  refine v_iload_n 0 dX0_isDigit_0 rfl ?_
  obtain ⟨s1, h⟩ := h
  refine v_i2l dX0_isDigit_1 s1 ?_
  refine v_ldc2 (z := 48) dX0_isDigit_2 q1219 ?_
  refine v_ldc2 (z := 57) dX0_isDigit_5 q1220 ?_
  refine x_callSI K (As := [vL x0, vL 48, vL 57]) dX0_isDigit_8 LX0_142 rfl rfl (Nat.le_of_ble_eq_true rfl) h (fun r2 w2 z2 n2 h => ?_)
  obtain ⟨s3, h⟩ := h
  exact x_zret K dX0_isDigit_11 rfl s3 h
/-! BranchNames.byteOf -/
theorem wX0_byteOf_0 (K : KV) {x1 : Int} {q0 : Nat} {w : Wd} {sz n : Nat} (h : (rI x1) ∧ (∃ (b2 : Nat), (w q0 = some (obS b2)) ∧ (CI mJ2_length K [.ref q0] w sz n fun r3 w3 z3 n3 => (rI (r3 - 1)) ∧ (CI mX0_isIn K [vL x1, vL 0, vL (r3 - 1)] w3 z3 n3 fun r5 w5 z5 n5 => (rI r5) ∧ ((r5 = 0 → (K.S (some (vI ((-1)))) w5 z5 n5)) ∧ (¬ r5 = 0 → (∃ (b7 : Nat), (w5 q0 = some (obS b7)) ∧ (CI mJ2_charAt K [.ref q0, vI x1] w5 z5 n5 fun r8 w8 z8 n8 => K.S (some (vI r8)) w8 z8 n8)))))))) : VX K mX0_byteOf 0 [(0, .ref q0), (1, vI x1)] [] w sz n := by
  refine v_iload_n 1 dX0_byteOf_0 rfl ?_
  obtain ⟨s1, h⟩ := h
  refine v_i2l dX0_byteOf_1 s1 ?_
  refine v_lconst (z := 0) dX0_byteOf_2 rfl ?_
  refine v_aload_n 0 dX0_byteOf_3 rfl (isR_ref _) ?_
  obtain ⟨b2, hw2, h⟩ := h
  refine x_callVI K (As := []) dX0_byteOf_4 LX0_251 rfl rfl (Nat.le_of_ble_eq_true rfl) (rc_S hw2) h (fun r3 w3 z3 n3 h => ?_)
  refine v_iconst dX0_byteOf_7 ?_
  refine v_isub dX0_byteOf_8 ?_
  obtain ⟨s4, h⟩ := h
  refine v_i2l dX0_byteOf_9 s4 ?_
  refine x_callSI K (As := [vL x1, vL 0, vL (r3 - 1)]) dX0_byteOf_10 LX0_142 rfl rfl (Nat.le_of_ble_eq_true rfl) h (fun r5 w5 z5 n5 h => ?_)
  obtain ⟨s6, h⟩ := h
  obtain ⟨ht, hf⟩ := h
  refine v_if_eq 24 dX0_byteOf_13 (by decide) s6 (fun c => ?_) (fun c => ?_)
  · have h := ht c
    refine v_iconst dX0_byteOf_24 ?_
    exact x_iret K dX0_byteOf_25 rfl h
  · have h := hf c
    refine v_aload_n 0 dX0_byteOf_16 rfl (isR_ref _) ?_
    refine v_iload_n 1 dX0_byteOf_17 rfl ?_
    obtain ⟨b7, hw7, h⟩ := h
    refine x_callVI K (As := [vI x1]) dX0_byteOf_18 LX0_257 rfl rfl (Nat.le_of_ble_eq_true rfl) (rc_S hw7) h (fun r8 w8 z8 n8 h => ?_)
    refine v_goto 25 dX0_byteOf_21 (by decide) ?_
    exact x_iret K dX0_byteOf_25 rfl h
