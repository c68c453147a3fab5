set_option maxRecDepth 100000
/-! BranchNames$Tree.frees -/
theorem wX1_frees_0 (K : KV) {x1 x2 : Int} {x0 : Nat} {w : Wd} {sz n : Nat} (h : ∃ (F1 : Nat → Int) (P1 : Nat → Option Nat) (A1 : Nat → Int → Int) (M1 : Nat → Int → Int → Int) (N1 : Nat → Int → Int → Option Nat), (w x0 = some (obT F1 P1 A1 M1 N1)) ∧ ((0 ≤ x1 ∧ x1 < 13) ∧ ((K.G.base ≤ x0) ∧ (CI mX1_bondTo2 K [.ref x0, vI x1, vI x2] (wset w x0 (some (obT F1 P1 (upA A1 0 x1 ((A1 0 x1) - 1)) M1 N1))) sz n fun r4 w4 z4 n4 => ∃ (F5 : Nat → Int) (P5 : Nat → Option Nat) (A5 : Nat → Int → Int) (M5 : Nat → Int → Int → Int) (N5 : Nat → Int → Int → Option Nat), (w4 x0 = some (obT F5 P5 A5 M5 N5)) ∧ ((0 ≤ (A5 0 x1) ∧ (A5 0 x1) < 4) ∧ ((0 ≤ r4 ∧ r4 < 4) ∧ (K.S none (wset w4 x0 (some (obT F5 P5 A5 (upM M5 0 x1 r4 (M5 0 x1 (A5 0 x1))) N5))) z4 n4))))))) : VX K mX1_frees 0 [(0, .ref x0), (1, vI x1), (2, vI x2)] [] w sz n := by
  refine v_aload_n 0 dX1_frees_0 rfl (isR_ref _) ?_
  obtain ⟨F1, P1, A1, M1, N1, hw1, h⟩ := h
  refine v_get (q := x0) (j := 0) (v := .ref (x0 + 43)) dX1_frees_1 fX1_24 hw1 rfl (lay_T0 _ _ _ _ _ _) rfl ?_
  refine v_iload_n 1 dX1_frees_4 rfl ?_
  refine v_dup2 dX1_frees_5 rfl rfl ?_
  obtain ⟨s2, h⟩ := h
  refine v_iald (q := x0) (j := 43) (f := A1 0) dX1_frees_6 hw1 rfl rfl s2 (by decide) ?_
  refine v_iconst dX1_frees_7 ?_
  refine v_isub dX1_frees_8 ?_
  obtain ⟨s3, h⟩ := h
  refine v_iast (q := x0) (j := 43) (f := A1 0) (obT F1 P1 (upA A1 0 x1 ((A1 0 x1) - 1)) M1 N1) dX1_frees_9 hw1 rfl rfl s2 (by decide) (chg_Tb _ _) s3 ?_
  refine v_aload_n 0 dX1_frees_10 rfl (isR_ref _) ?_
  refine v_get (q := x0) (j := 0) (v := .ref (x0 + 1)) dX1_frees_11 fX1_11 (wset_eq _ _ _) rfl (lay_T0 _ _ _ _ _ _) rfl ?_
  refine v_iload_n 1 dX1_frees_14 rfl ?_
  refine v_aaldR (q := x0) (j := 1) (q0 := x0 + 2) (t := 8) (by decide) dX1_frees_15 (wset_eq _ _ _) rfl rfl s2 (by decide) ?_
  refine v_aload_n 0 dX1_frees_16 rfl (isR_ref _) ?_
  refine v_iload_n 1 dX1_frees_17 rfl ?_
  refine v_iload_n 2 dX1_frees_18 rfl ?_
  refine x_callVI K (As := [vI x1, vI x2]) dX1_frees_19 LX1_57 rfl rfl (Nat.le_of_ble_eq_true rfl) (rc_of (wset_eq _ _ _) (lay_T0 _ _ _ _ _ _) rfl) h (fun r4 w4 z4 n4 h => ?_)
  refine v_aload_n 0 dX1_frees_22 rfl (isR_ref _) ?_
  obtain ⟨F5, P5, A5, M5, N5, hw5, h⟩ := h
  refine v_get (q := x0) (j := 0) (v := .ref (x0 + 1)) dX1_frees_23 fX1_11 hw5 rfl (lay_T0 _ _ _ _ _ _) rfl ?_
  refine v_iload_n 1 dX1_frees_26 rfl ?_
  refine v_aaldR (q := x0) (j := 1) (q0 := x0 + 2) (t := 8) (by decide) dX1_frees_27 hw5 rfl rfl s2 (by decide) ?_
  refine v_aload_n 0 dX1_frees_28 rfl (isR_ref _) ?_
  refine v_get (q := x0) (j := 0) (v := .ref (x0 + 43)) dX1_frees_29 fX1_24 hw5 rfl (lay_T0 _ _ _ _ _ _) rfl ?_
  refine v_iload_n 1 dX1_frees_32 rfl ?_
  refine v_iald (q := x0) (j := 43) (f := A5 0) dX1_frees_33 hw5 rfl rfl s2 (by decide) ?_
  obtain ⟨s6, h⟩ := h
  refine v_iald (q := x0) (j := 2 + Int.toNat x1) (f := M5 0 x1) dX1_frees_34 hw5 (Nat.add_assoc _ _ _) (lay_Tn s2) s6 (by decide) ?_
  obtain ⟨s7, h⟩ := h
  refine v_iast (q := x0) (j := 2 + Int.toNat x1) (f := M5 0 x1) (obT F5 P5 A5 (upM M5 0 x1 r4 (M5 0 x1 (A5 0 x1))) N5) dX1_frees_35 hw5 (Nat.add_assoc _ _ _) (lay_Tn s2) s7 (by decide) (chg_Tn _ _ s2) s3 ?_
  exact v_vret dX1_frees_36 rfl h
/-! BranchNames$Tree.bondTo2 -/
theorem wX1_bondTo2_0 (K : KV) {x1 x2 : Int} {x0 : Nat} {w : Wd} {sz n : Nat} (h : VX K mX1_bondTo2 2 [(0, .ref x0), (1, vI x1), (2, vI x2), (3, vI 0)] [] w sz n) : VX K mX1_bondTo2 0 [(0, .ref x0), (1, vI x1), (2, vI x2)] [] w sz n := by
  refine v_iconst dX1_bondTo2_0 ?_
  refine v_istore_n dX1_bondTo2_1 (by decide) rfl ?_
  refine V.sub [1, 2, 3, 0] rfl ?_
  exact h
theorem wX1_bondTo2_2 (K : KV) {x1 x2 x3 : Int} {x0 : Nat} {w : Wd} {sz n : Nat} (h : ∃ (F1 : Nat → Int) (P1 : Nat → Option Nat) (A1 : Nat → Int → Int) (M1 : Nat → Int → Int → Int) (N1 : Nat → Int → Int → Option Nat), (w x0 = some (obT F1 P1 A1 M1 N1)) ∧ ((0 ≤ x1 ∧ x1 < 13) ∧ ((0 ≤ x3 ∧ x3 < 4) ∧ ((rI (M1 0 x1 x3)) ∧ ((rI x2) ∧ (((M1 0 x1 x3) = x2 → (K.S (some (vI x3)) w sz n)) ∧ (¬ (M1 0 x1 x3) = x2 → (VX K mX1_bondTo2 2 [(0, .ref x0), (1, vI x1), (2, vI x2), (3, vI (x3 + 1))] [] w sz n)))))))) : VX K mX1_bondTo2 2 [(0, .ref x0), (1, vI x1), (2, vI x2), (3, vI x3)] [] w sz n := by
  refine v_aload_n 0 dX1_bondTo2_2 rfl (isR_ref _) ?_
  obtain ⟨F1, P1, A1, M1, N1, hw1, h⟩ := h
  refine v_get (q := x0) (j := 0) (v := .ref (x0 + 1)) dX1_bondTo2_3 fX1_11 hw1 rfl (lay_T0 _ _ _ _ _ _) rfl ?_
  refine v_iload_n 1 dX1_bondTo2_6 rfl ?_
  obtain ⟨s2, h⟩ := h
  refine v_aaldR (q := x0) (j := 1) (q0 := x0 + 2) (t := 8) (by decide) dX1_bondTo2_7 hw1 rfl rfl s2 (by decide) ?_
  refine v_iload_n 3 dX1_bondTo2_8 rfl ?_
  obtain ⟨s3, h⟩ := h
  refine v_iald (q := x0) (j := 2 + Int.toNat x1) (f := M1 0 x1) dX1_bondTo2_9 hw1 (Nat.add_assoc _ _ _) (lay_Tn s2) s3 (by decide) ?_
  refine v_iload_n 2 dX1_bondTo2_10 rfl ?_
  obtain ⟨s4, h⟩ := h
  obtain ⟨s5, h⟩ := h
  obtain ⟨ht, hf⟩ := h
  refine v_icmp_eq 20 dX1_bondTo2_11 (by decide) s4 s5 (fun c => ?_) (fun c => ?_)
  · have h := ht c
    refine v_iload_n 3 dX1_bondTo2_20 rfl ?_
    exact x_iret K dX1_bondTo2_21 rfl h
  · have h := hf c
    refine v_iinc 3 dX1_bondTo2_14 rfl (by decide) rfl ?_
    refine v_goto 2 dX1_bondTo2_17 (by decide) ?_
    refine V.sub [1, 2, 3, 0] rfl ?_
    exact h
/-! BranchNames$Tree.bondTo -/
theorem wX1_bondTo_0 (K : KV) {x1 x2 : Int} {x0 : Nat} {w : Wd} {sz n : Nat} (h : VX K mX1_bondTo 2 [(0, .ref x0), (1, vI x1), (2, vI x2), (3, vI 0)] [] w sz n) : VX K mX1_bondTo 0 [(0, .ref x0), (1, vI x1), (2, vI x2)] [] w sz n := by
  refine v_iconst dX1_bondTo_0 ?_
  refine v_istore_n dX1_bondTo_1 (by decide) rfl ?_
  refine V.sub [1, 2, 3, 0] rfl ?_
  exact h
theorem wX1_bondTo_2 (K : KV) {x1 x2 x3 : Int} {x0 : Nat} {w : Wd} {sz n : Nat} (h : ∃ (F1 : Nat → Int) (P1 : Nat → Option Nat) (A1 : Nat → Int → Int) (M1 : Nat → Int → Int → Int) (N1 : Nat → Int → Int → Option Nat), (w x0 = some (obT F1 P1 A1 M1 N1)) ∧ ((0 ≤ x1 ∧ x1 < 13) ∧ ((rI x3) ∧ ((rI (A1 0 x1)) ∧ (((A1 0 x1) ≤ x3 → (K.S (some (vI x3)) w sz n)) ∧ (¬ (A1 0 x1) ≤ x3 → ((0 ≤ x3 ∧ x3 < 4) ∧ ((rI (M1 0 x1 x3)) ∧ ((rI x2) ∧ (((M1 0 x1 x3) = x2 → (K.S (some (vI x3)) w sz n)) ∧ (¬ (M1 0 x1 x3) = x2 → (VX K mX1_bondTo 2 [(0, .ref x0), (1, vI x1), (2, vI x2), (3, vI (x3 + 1))] [] w sz n)))))))))))) : VX K mX1_bondTo 2 [(0, .ref x0), (1, vI x1), (2, vI x2), (3, vI x3)] [] w sz n := by
  refine v_iload_n 3 dX1_bondTo_2 rfl ?_
  refine v_aload_n 0 dX1_bondTo_3 rfl (isR_ref _) ?_
  obtain ⟨F1, P1, A1, M1, N1, hw1, h⟩ := h
  refine v_get (q := x0) (j := 0) (v := .ref (x0 + 43)) dX1_bondTo_4 fX1_24 hw1 rfl (lay_T0 _ _ _ _ _ _) rfl ?_
  refine v_iload_n 1 dX1_bondTo_7 rfl ?_
  obtain ⟨s2, h⟩ := h
  refine v_iald (q := x0) (j := 43) (f := A1 0) dX1_bondTo_8 hw1 rfl rfl s2 (by decide) ?_
  obtain ⟨s3, h⟩ := h
  obtain ⟨s4, h⟩ := h
  obtain ⟨ht, hf⟩ := h
  refine v_icmp_ge 30 dX1_bondTo_9 (by decide) s3 s4 (fun c => ?_) (fun c => ?_)
  · have h := ht c
    refine v_iload_n 3 dX1_bondTo_30 rfl ?_
    exact x_iret K dX1_bondTo_31 rfl h
  · have h := hf c
    refine v_aload_n 0 dX1_bondTo_12 rfl (isR_ref _) ?_
    refine v_get (q := x0) (j := 0) (v := .ref (x0 + 1)) dX1_bondTo_13 fX1_11 hw1 rfl (lay_T0 _ _ _ _ _ _) rfl ?_
    refine v_iload_n 1 dX1_bondTo_16 rfl ?_
    refine v_aaldR (q := x0) (j := 1) (q0 := x0 + 2) (t := 8) (by decide) dX1_bondTo_17 hw1 rfl rfl s2 (by decide) ?_
    refine v_iload_n 3 dX1_bondTo_18 rfl ?_
    obtain ⟨s5, h⟩ := h
    refine v_iald (q := x0) (j := 2 + Int.toNat x1) (f := M1 0 x1) dX1_bondTo_19 hw1 (Nat.add_assoc _ _ _) (lay_Tn s2) s5 (by decide) ?_
    refine v_iload_n 2 dX1_bondTo_20 rfl ?_
    obtain ⟨s6, h⟩ := h
    obtain ⟨s7, h⟩ := h
    obtain ⟨ht, hf⟩ := h
    refine v_icmp_eq 30 dX1_bondTo_21 (by decide) s6 s7 (fun c => ?_) (fun c => ?_)
    · have h := ht c
      refine v_iload_n 3 dX1_bondTo_30 rfl ?_
      exact x_iret K dX1_bondTo_31 rfl h
    · have h := hf c
      refine v_iinc 3 dX1_bondTo_24 rfl (by decide) rfl ?_
      refine v_goto 2 dX1_bondTo_27 (by decide) ?_
      refine V.sub [1, 2, 3, 0] rfl ?_
      exact h
/-! BranchNames$Tree.bound -/
theorem wX1_bound_0 (K : KV) {x1 x2 : Int} {x0 : Nat} {w : Wd} {sz n : Nat} (h : VX K mX1_bound 5 [(0, .ref x0), (1, vI x1), (3, vI x2), (4, vI 0)] [] w sz n) : VX K mX1_bound 0 [(0, .ref x0), (1, vI x1), (2, vI x2)] [] w sz n := by
  refine v_iload_n 2 dX1_bound_0 rfl ?_
  refine v_istore_n dX1_bound_1 (by decide) rfl ?_
  refine v_iconst dX1_bound_2 ?_
  refine v_istore dX1_bound_3 (by decide) rfl ?_
  refine V.sub [2, 3, 1, 0] rfl ?_
  exact h
theorem wX1_bound_5 (K : KV) {x1 x3 x4 : Int} {x0 : Nat} {w : Wd} {sz n : Nat} (h : ∃ (F1 : Nat → Int) (P1 : Nat → Option Nat) (A1 : Nat → Int → Int) (M1 : Nat → Int → Int → Int) (N1 : Nat → Int → Int → Option Nat), (w x0 = some (obT F1 P1 A1 M1 N1)) ∧ ((rI x4) ∧ ((rI (F1 4)) ∧ (((F1 4) ≤ x4 → (K.S (some (vI ((-1)))) w sz n)) ∧ (¬ (F1 4) ≤ x4 → (CI mX1_isBound K [.ref x0, vI x1, vI x4] w sz n fun r4 w4 z4 n4 => (rI r4) ∧ ((¬ r4 = 0 → ((rI x3) ∧ ((¬ x3 = 0 → (VX K mX1_bound 5 [(0, .ref x0), (1, vI x1), (3, vI (x3 + (-1))), (4, vI (x4 + 1))] [] w4 z4 n4)) ∧ (x3 = 0 → (K.S (some (vI x4)) w4 z4 n4))))) ∧ (r4 = 0 → (VX K mX1_bound 5 [(0, .ref x0), (1, vI x1), (3, vI x3), (4, vI (x4 + 1))] [] w4 z4 n4))))))))) : VX K mX1_bound 5 [(0, .ref x0), (1, vI x1), (3, vI x3), (4, vI x4)] [] w sz n := by
  refine v_iload 3 dX1_bound_5 rfl ?_
  refine v_aload_n 0 dX1_bound_7 rfl (isR_ref _) ?_
  obtain ⟨F1, P1, A1, M1, N1, hw1, h⟩ := h
  refine v_get (q := x0) (j := 0) (v := vI (F1 4)) dX1_bound_8 fX1_31 hw1 rfl (lay_T0 _ _ _ _ _ _) rfl ?_
  obtain ⟨s2, h⟩ := h
  obtain ⟨s3, h⟩ := h
  obtain ⟨ht, hf⟩ := h
  refine v_icmp_ge 43 dX1_bound_11 (by decide) s2 s3 (fun c => ?_) (fun c => ?_)
  · have h := ht c
    refine v_iconst dX1_bound_43 ?_
    exact x_iret K dX1_bound_44 rfl h
  · have h := hf c
    refine v_aload_n 0 dX1_bound_14 rfl (isR_ref _) ?_
    refine v_iload_n 1 dX1_bound_15 rfl ?_
    refine v_iload 3 dX1_bound_16 rfl ?_
    refine x_callVI K (As := [vI x1, vI x4]) dX1_bound_18 LX1_67 rfl rfl (Nat.le_of_ble_eq_true rfl) (rc_of hw1 (lay_T0 _ _ _ _ _ _) rfl) h (fun r4 w4 z4 n4 h => ?_)
    obtain ⟨s5, h⟩ := h
    obtain ⟨ht, hf⟩ := h
    refine v_if_ne 27 dX1_bound_21 (by decide) s5 (fun c => ?_) (fun c => ?_)
    · have h := ht c
      refine v_iload_n 2 dX1_bound_27 rfl ?_
      obtain ⟨s6, h⟩ := h
      obtain ⟨ht, hf⟩ := h
      refine v_if_ne 34 dX1_bound_28 (by decide) s6 (fun c => ?_) (fun c => ?_)
      · have h := ht c
        refine v_iinc 2 dX1_bound_34 rfl (by decide) rfl ?_
        refine v_iinc 3 dX1_bound_37 rfl (by decide) rfl ?_
        refine v_goto 5 dX1_bound_40 (by decide) ?_
        refine V.sub [2, 3, 1, 0] rfl ?_
        exact h
      · have h := hf c
        refine v_iload 3 dX1_bound_31 rfl ?_
        exact x_iret K dX1_bound_33 rfl h
    · have h := hf c
      refine v_goto 37 dX1_bound_24 (by decide) ?_
      refine v_iinc 3 dX1_bound_37 rfl (by decide) rfl ?_
      refine v_goto 5 dX1_bound_40 (by decide) ?_
      refine V.sub [1, 2, 3, 0] rfl ?_
      exact h
/-! BranchNames$Tree.isBound -/
theorem wX1_isBound_0 (K : KV) {x1 x2 : Int} {x0 : Nat} {w : Wd} {sz n : Nat} (h : ∃ (F1 : Nat → Int) (P1 : Nat → Option Nat) (A1 : Nat → Int → Int) (M1 : Nat → Int → Int → Int) (N1 : Nat → Int → Int → Option Nat), (w x0 = some (obT F1 P1 A1 M1 N1)) ∧ (CI mX1_bondTo K [.ref x0, vI x1, vI x2] w sz n fun r2 w2 z2 n2 => ∃ (F3 : Nat → Int) (P3 : Nat → Option Nat) (A3 : Nat → Int → Int) (M3 : Nat → Int → Int → Int) (N3 : Nat → Int → Int → Option Nat), (w2 x0 = some (obT F3 P3 A3 M3 N3)) ∧ ((0 ≤ x1 ∧ x1 < 13) ∧ ((rI r2) ∧ ((rI (A3 0 x1)) ∧ (((A3 0 x1) ≤ r2 → (K.S (some (vI 0)) w2 z2 n2)) ∧ (¬ (A3 0 x1) ≤ r2 → (K.S (some (vI 1)) w2 z2 n2)))))))) : VX K mX1_isBound 0 [(0, .ref x0), (1, vI x1), (2, vI x2)] [] w sz n := by
  refine v_aload_n 0 dX1_isBound_0 rfl (isR_ref _) ?_
  refine v_iload_n 1 dX1_isBound_1 rfl ?_
  refine v_iload_n 2 dX1_isBound_2 rfl ?_
  obtain ⟨F1, P1, A1, M1, N1, hw1, h⟩ := h
  refine x_callVI K (As := [vI x1, vI x2]) dX1_isBound_3 LX1_53 rfl rfl (Nat.le_of_ble_eq_true rfl) (rc_of hw1 (lay_T0 _ _ _ _ _ _) rfl) h (fun r2 w2 z2 n2 h => ?_)
  refine v_aload_n 0 dX1_isBound_6 rfl (isR_ref _) ?_
  obtain ⟨F3, P3, A3, M3, N3, hw3, h⟩ := h
  refine v_get (q := x0) (j := 0) (v := .ref (x0 + 43)) dX1_isBound_7 fX1_24 hw3 rfl (lay_T0 _ _ _ _ _ _) rfl ?_
  refine v_iload_n 1 dX1_isBound_10 rfl ?_
  obtain ⟨s4, h⟩ := h
  refine v_iald (q := x0) (j := 43) (f := A3 0) dX1_isBound_11 hw3 rfl rfl s4 (by decide) ?_
  obtain ⟨s5, h⟩ := h
  obtain ⟨s6, h⟩ := h
  obtain ⟨ht, hf⟩ := h
  refine v_icmp_ge 19 dX1_isBound_12 (by decide) s5 s6 (fun c => ?_) (fun c => ?_)
  · have h := ht c
    refine v_iconst dX1_isBound_19 ?_
    exact x_zret K dX1_isBound_20 rfl (by decide) h
  · have h := hf c
    refine v_iconst dX1_isBound_15 ?_
    refine v_goto 20 dX1_isBound_16 (by decide) ?_
    exact x_zret K dX1_isBound_20 rfl (by decide) h
/-! BranchNames$Tree.isTold -/
theorem wX1_isTold_0 (K : KV) {x1 x2 : Int} {x0 : Nat} {w : Wd} {sz n : Nat} (h : ∃ (F1 : Nat → Int) (P1 : Nat → Option Nat) (A1 : Nat → Int → Int) (M1 : Nat → Int → Int → Int) (N1 : Nat → Int → Int → Option Nat), (w x0 = some (obT F1 P1 A1 M1 N1)) ∧ ((0 ≤ x1 ∧ x1 < 13) ∧ ((0 ≤ x2 ∧ x2 < 13) ∧ ((rI (M1 1 x1 x2)) ∧ ((rI (F1 5)) ∧ ((¬ (M1 1 x1 x2) = (F1 5) → (K.S (some (vI 0)) w sz n)) ∧ ((M1 1 x1 x2) = (F1 5) → (K.S (some (vI 1)) w sz n)))))))) : VX K mX1_isTold 0 [(0, .ref x0), (1, vI x1), (2, vI x2)] [] w sz n := by
  refine v_aload_n 0 dX1_isTold_0 rfl (isR_ref _) ?_
  obtain ⟨F1, P1, A1, M1, N1, hw1, h⟩ := h
  refine v_get (q := x0) (j := 0) (v := .ref (x0 + 15)) dX1_isTold_1 fX1_16 hw1 rfl (lay_T0 _ _ _ _ _ _) rfl ?_
  refine v_iload_n 1 dX1_isTold_4 rfl ?_
  obtain ⟨s2, h⟩ := h
  refine v_aaldR (q := x0) (j := 15) (q0 := x0 + 16) (t := 8) (by decide) dX1_isTold_5 hw1 rfl rfl s2 (by decide) ?_
  refine v_iload_n 2 dX1_isTold_6 rfl ?_
  obtain ⟨s3, h⟩ := h
  refine v_iald (q := x0) (j := 16 + Int.toNat x1) (f := M1 1 x1) dX1_isTold_7 hw1 (Nat.add_assoc _ _ _) (lay_Td s2) s3 (by decide) ?_
  refine v_aload_n 0 dX1_isTold_8 rfl (isR_ref _) ?_
  refine v_get (q := x0) (j := 0) (v := vI (F1 5)) dX1_isTold_9 fX1_38 hw1 rfl (lay_T0 _ _ _ _ _ _) rfl ?_
  obtain ⟨s4, h⟩ := h
  obtain ⟨s5, h⟩ := h
  obtain ⟨ht, hf⟩ := h
  refine v_icmp_ne 19 dX1_isTold_12 (by decide) s4 s5 (fun c => ?_) (fun c => ?_)
  · have h := ht c
    refine v_iconst dX1_isTold_19 ?_
    exact x_zret K dX1_isTold_20 rfl (by decide) h
  · have h := hf c
    refine v_iconst dX1_isTold_15 ?_
    refine v_goto 20 dX1_isTold_16 (by decide) ?_
    exact x_zret K dX1_isTold_20 rfl (by decide) h
/-! BranchNames$Tree.straight -/
theorem wX1_straight_0 (K : KV) {x1 x2 : Int} {x0 : Nat} {w : Wd} {sz n : Nat} (h : VX K mX1_straight 8 [(0, .ref x0), (3, vI 1), (4, vI x2), (5, vI x1)] [] w sz n) : VX K mX1_straight 0 [(0, .ref x0), (1, vI x1), (2, vI x2)] [] w sz n := by
  refine v_iconst dX1_straight_0 ?_
  refine v_istore_n dX1_straight_1 (by decide) rfl ?_
  refine v_iload_n 3 dX1_straight_2 rfl ?_
  refine v_istore dX1_straight_3 (by decide) rfl ?_
  refine v_iload_n 3 dX1_straight_5 rfl ?_
  refine v_istore dX1_straight_6 (by decide) rfl ?_
  refine V.sub [3, 2, 1, 0] rfl ?_
  exact h
theorem wX1_straight_8 (K : KV) {x3 x4 x5 : Int} {x0 : Nat} {w : Wd} {sz n : Nat} (h : ∃ (F1 : Nat → Int) (P1 : Nat → Option Nat) (A1 : Nat → Int → Int) (M1 : Nat → Int → Int → Int) (N1 : Nat → Int → Int → Option Nat), (w x0 = some (obT F1 P1 A1 M1 N1)) ∧ ((0 ≤ x5 ∧ x5 < 13) ∧ ((rI (A1 0 x5)) ∧ ((¬ (A1 0 x5) = 2 → ((¬ (A1 0 x5) = 1 → (K.S (some (vI ((-1)))) w sz n)) ∧ ((A1 0 x5) = 1 → (K.S (some (vI x3)) w sz n)))) ∧ ((A1 0 x5) = 2 → ((rI (M1 0 x5 0)) ∧ ((rI x4) ∧ ((¬ (M1 0 x5 0) = x4 → (VX K mX1_straight 8 [(0, .ref x0), (3, vI (x3 + 1)), (4, vI x5), (5, vI (M1 0 x5 0))] [] w sz n)) ∧ ((M1 0 x5 0) = x4 → (VX K mX1_straight 8 [(0, .ref x0), (3, vI (x3 + 1)), (4, vI x5), (5, vI (M1 0 x5 1))] [] w sz n)))))))))) : VX K mX1_straight 8 [(0, .ref x0), (3, vI x3), (4, vI x4), (5, vI x5)] [] w sz n := by
  refine v_aload_n 0 dX1_straight_8 rfl (isR_ref _) ?_
  obtain ⟨F1, P1, A1, M1, N1, hw1, h⟩ := h
  refine v_get (q := x0) (j := 0) (v := .ref (x0 + 43)) dX1_straight_9 fX1_24 hw1 rfl (lay_T0 _ _ _ _ _ _) rfl ?_
  refine v_iload 3 dX1_straight_12 rfl ?_
  obtain ⟨s2, h⟩ := h
  refine v_iald (q := x0) (j := 43) (f := A1 0) dX1_straight_14 hw1 rfl rfl s2 (by decide) ?_
  refine v_iconst dX1_straight_15 ?_
  obtain ⟨s3, h⟩ := h
  obtain ⟨ht, hf⟩ := h
  refine v_icmp_ne 62 dX1_straight_16 (by decide) s3 (by decide) (fun c => ?_) (fun c => ?_)
  · have h := ht c
    refine v_aload_n 0 dX1_straight_62 rfl (isR_ref _) ?_
    refine v_get (q := x0) (j := 0) (v := .ref (x0 + 43)) dX1_straight_63 fX1_24 hw1 rfl (lay_T0 _ _ _ _ _ _) rfl ?_
    refine v_iload 3 dX1_straight_66 rfl ?_
    refine v_iald (q := x0) (j := 43) (f := A1 0) dX1_straight_68 hw1 rfl rfl s2 (by decide) ?_
    refine v_iconst dX1_straight_69 ?_
    obtain ⟨ht, hf⟩ := h
    refine v_icmp_ne 77 dX1_straight_70 (by decide) s3 (by decide) (fun c => ?_) (fun c => ?_)
    · have h := ht c
      refine v_iconst dX1_straight_77 ?_
      exact x_iret K dX1_straight_78 rfl h
    · have h := hf c
      refine v_iload_n 1 dX1_straight_73 rfl ?_
      refine v_goto 78 dX1_straight_74 (by decide) ?_
      exact x_iret K dX1_straight_78 rfl h
  · have h := hf c
    refine v_aload_n 0 dX1_straight_19 rfl (isR_ref _) ?_
    refine v_get (q := x0) (j := 0) (v := .ref (x0 + 1)) dX1_straight_20 fX1_11 hw1 rfl (lay_T0 _ _ _ _ _ _) rfl ?_
    refine v_iload 3 dX1_straight_23 rfl ?_
    refine v_aaldR (q := x0) (j := 1) (q0 := x0 + 2) (t := 8) (by decide) dX1_straight_25 hw1 rfl rfl s2 (by decide) ?_
    refine v_aload_n 0 dX1_straight_26 rfl (isR_ref _) ?_
    refine v_get (q := x0) (j := 0) (v := .ref (x0 + 1)) dX1_straight_27 fX1_11 hw1 rfl (lay_T0 _ _ _ _ _ _) rfl ?_
    refine v_iload 3 dX1_straight_30 rfl ?_
    refine v_aaldR (q := x0) (j := 1) (q0 := x0 + 2) (t := 8) (by decide) dX1_straight_32 hw1 rfl rfl s2 (by decide) ?_
    refine v_iconst dX1_straight_33 ?_
    refine v_iald (q := x0) (j := 2 + Int.toNat x5) (f := M1 0 x5) dX1_straight_34 hw1 (Nat.add_assoc _ _ _) (lay_Tn s2) (by decide) (by decide) ?_
    refine v_iload 2 dX1_straight_35 rfl ?_
    obtain ⟨s4, h⟩ := h
    obtain ⟨s5, h⟩ := h
    obtain ⟨ht, hf⟩ := h
    refine v_icmp_ne 44 dX1_straight_37 (by decide) s4 s5 (fun c => ?_) (fun c => ?_)
    · have h := ht c
      refine v_iconst dX1_straight_44 ?_
      refine v_iald (q := x0) (j := 2 + Int.toNat x5) (f := M1 0 x5) dX1_straight_45 hw1 (Nat.add_assoc _ _ _) (lay_Tn s2) (by decide) (by decide) ?_
      refine v_istore dX1_straight_46 (by decide) rfl ?_
      refine v_iload 4 dX1_straight_48 rfl ?_
      refine v_istore dX1_straight_50 (by decide) rfl ?_
      refine v_iload 1 dX1_straight_52 rfl ?_
      refine v_istore dX1_straight_54 (by decide) rfl ?_
      refine v_iinc 4 dX1_straight_56 rfl (by decide) rfl ?_
      refine v_goto 8 dX1_straight_59 (by decide) ?_
      refine V.sub [4, 0, 2, 1] rfl ?_
      exact h
    · have h := hf c
      refine v_iconst dX1_straight_40 ?_
      refine v_goto 45 dX1_straight_41 (by decide) ?_
      refine v_iald (q := x0) (j := 2 + Int.toNat x5) (f := M1 0 x5) dX1_straight_45 hw1 (Nat.add_assoc _ _ _) (lay_Tn s2) (by decide) (by decide) ?_
      refine v_istore dX1_straight_46 (by decide) rfl ?_
      refine v_iload 4 dX1_straight_48 rfl ?_
      refine v_istore dX1_straight_50 (by decide) rfl ?_
      refine v_iload 1 dX1_straight_52 rfl ?_
      refine v_istore dX1_straight_54 (by decide) rfl ?_
      refine v_iinc 4 dX1_straight_56 rfl (by decide) rfl ?_
      refine v_goto 8 dX1_straight_59 (by decide) ?_
      refine V.sub [4, 0, 2, 1] rfl ?_
      exact h
/-! BranchNames$Tree.tells -/
theorem wX1_tells_0 (K : KV) {x1 x2 : Int} {x0 q3 : Nat} {w : Wd} {sz n : Nat} (h : ∃ (F1 : Nat → Int) (P1 : Nat → Option Nat) (A1 : Nat → Int → Int) (M1 : Nat → Int → Int → Int) (N1 : Nat → Int → Int → Option Nat), (w x0 = some (obT F1 P1 A1 M1 N1)) ∧ ((0 ≤ x1 ∧ x1 < 13) ∧ ((0 ≤ x2 ∧ x2 < 13) ∧ ((K.G.base ≤ x0) ∧ ((Sto K.G w 3 (some q3)) ∧ (K.S none (wset w x0 (some (obT F1 P1 A1 (upM M1 1 x1 x2 (F1 5)) (upM N1 0 x1 x2 (some q3))))) sz n)))))) : VX K mX1_tells 0 [(0, .ref x0), (1, vI x1), (2, vI x2), (3, .ref q3)] [] w sz n := by
  refine v_aload_n 0 dX1_tells_0 rfl (isR_ref _) ?_
  obtain ⟨F1, P1, A1, M1, N1, hw1, h⟩ := h
  refine v_get (q := x0) (j := 0) (v := .ref (x0 + 29)) dX1_tells_1 fX1_21 hw1 rfl (lay_T0 _ _ _ _ _ _) rfl ?_
  refine v_iload_n 1 dX1_tells_4 rfl ?_
  obtain ⟨s2, h⟩ := h
  refine v_aaldR (q := x0) (j := 29) (q0 := x0 + 30) (t := 10) (by decide) dX1_tells_5 hw1 rfl rfl s2 (by decide) ?_
  refine v_iload_n 2 dX1_tells_6 rfl ?_
  refine v_aload_n 3 dX1_tells_7 rfl (isR_ref _) ?_
  obtain ⟨s3, h⟩ := h
  obtain ⟨s4, h⟩ := h
  obtain ⟨s5, h⟩ := h
  refine v_aast (q := x0) (j := 30 + Int.toNat x1) (f := N1 0 x1) (t := 3) (by decide) (obT F1 P1 A1 M1 (upM N1 0 x1 x2 (some q3))) (r := some q3) dX1_tells_8 hw1 (Nat.add_assoc _ _ _) (lay_Ts s2) s3 (by decide) s5 (chg_Ts _ _ s2) s4 ?_
  refine v_aload_n 0 dX1_tells_9 rfl (isR_ref _) ?_
  refine v_get (q := x0) (j := 0) (v := .ref (x0 + 15)) dX1_tells_10 fX1_16 (wset_eq _ _ _) rfl (lay_T0 _ _ _ _ _ _) rfl ?_
  refine v_iload_n 1 dX1_tells_13 rfl ?_
  refine v_aaldR (q := x0) (j := 15) (q0 := x0 + 16) (t := 8) (by decide) dX1_tells_14 (wset_eq _ _ _) rfl rfl s2 (by decide) ?_
  refine v_iload_n 2 dX1_tells_15 rfl ?_
  refine v_aload_n 0 dX1_tells_16 rfl (isR_ref _) ?_
  refine v_get (q := x0) (j := 0) (v := vI (F1 5)) dX1_tells_17 fX1_38 (wset_eq _ _ _) rfl (lay_T0 _ _ _ _ _ _) rfl ?_
  refine v_iast (q := x0) (j := 16 + Int.toNat x1) (f := M1 1 x1) (obT F1 P1 A1 (upM M1 1 x1 x2 (F1 5)) (upM N1 0 x1 x2 (some q3))) dX1_tells_20 (wset_eq _ _ _) (Nat.add_assoc _ _ _) (lay_Td s2) s3 (by decide) (chg_Td _ _ s2) s4 ?_
  rw [wset_wset]
  exact v_vret dX1_tells_21 rfl h
/-! BranchNames$Tree.becomesChain -/
theorem wX1_becomesChain_0 (K : KV) {x1 : Int} {x0 : Nat} {w : Wd} {sz n : Nat} (h : ∃ (F1 : Nat → Int) (P1 : Nat → Option Nat) (A1 : Nat → Int → Int) (M1 : Nat → Int → Int → Int) (N1 : Nat → Int → Int → Option Nat), (w x0 = some (obT F1 P1 A1 M1 N1)) ∧ (CV mX1_begins K [.ref x0] w sz n fun w2 z2 n2 => VX K mX1_becomesChain 6 [(0, .ref x0), (1, vI x1), (2, vI 1)] [] w2 z2 n2)) : VX K mX1_becomesChain 0 [(0, .ref x0), (1, vI x1)] [] w sz n := by
  refine v_aload_n 0 dX1_becomesChain_0 rfl (isR_ref _) ?_
  obtain ⟨F1, P1, A1, M1, N1, hw1, h⟩ := h
  refine x_callVV K (As := []) dX1_becomesChain_1 LX1_28 rfl rfl (Nat.le_of_ble_eq_true rfl) (rc_of hw1 (lay_T0 _ _ _ _ _ _) rfl) h (fun w2 z2 n2 h => ?_)
  refine v_iconst dX1_becomesChain_4 ?_
  refine v_istore_n dX1_becomesChain_5 (by decide) rfl ?_
  refine V.sub [1, 2, 0] rfl ?_
  exact h
theorem wX1_becomesChain_6 (K : KV) {x1 x2 : Int} {x0 : Nat} {w : Wd} {sz n : Nat} (h : (rI x2) ∧ ((rI x1) ∧ ((x1 ≤ x2 → (K.S none w sz n)) ∧ (¬ x1 ≤ x2 → (∃ (F3 : Nat → Int) (P3 : Nat → Option Nat) (A3 : Nat → Int → Int) (M3 : Nat → Int → Int → Int) (N3 : Nat → Int → Int → Option Nat), (w x0 = some (obT F3 P3 A3 M3 N3)) ∧ (CI mX1_grows K [.ref x0, vI (x2 - 1)] w sz n fun r4 w4 z4 n4 => VX K mX1_becomesChain 6 [(0, .ref x0), (1, vI x1), (2, vI (x2 + 1))] [] w4 z4 n4)))))) : VX K mX1_becomesChain 6 [(0, .ref x0), (1, vI x1), (2, vI x2)] [] w sz n := by
  refine v_iload_n 2 dX1_becomesChain_6 rfl ?_
  refine v_iload_n 1 dX1_becomesChain_7 rfl ?_
  obtain ⟨s1, h⟩ := h
  obtain ⟨s2, h⟩ := h
  obtain ⟨ht, hf⟩ := h
  refine v_icmp_ge 25 dX1_becomesChain_8 (by decide) s1 s2 (fun c => ?_) (fun c => ?_)
  · have h := ht c
    exact v_vret dX1_becomesChain_25 rfl h
  · have h := hf c
    refine v_aload_n 0 dX1_becomesChain_11 rfl (isR_ref _) ?_
    refine v_iload_n 2 dX1_becomesChain_12 rfl ?_
    refine v_iconst dX1_becomesChain_13 ?_
    refine v_isub dX1_becomesChain_14 ?_
    obtain ⟨F3, P3, A3, M3, N3, hw3, h⟩ := h
    refine x_callVI K (As := [vI (x2 - 1)]) dX1_becomesChain_15 LX1_63 rfl rfl (Nat.le_of_ble_eq_true rfl) (rc_of hw3 (lay_T0 _ _ _ _ _ _) rfl) h (fun r4 w4 z4 n4 h => ?_)
    refine v_pop dX1_becomesChain_18 rfl ?_
    refine v_iinc 2 dX1_becomesChain_19 rfl (by decide) rfl ?_
    refine v_goto 6 dX1_becomesChain_22 (by decide) ?_
    refine V.sub [1, 2, 0] rfl ?_
    exact h
/-! BranchNames$Tree.takes -/
theorem wX1_takes_0 (K : KV) {x2 : Int} {x0 q1 : Nat} {w : Wd} {sz n : Nat} (h : ∃ (F1 : Nat → Int) (P1 : Nat → Option Nat) (A1 : Nat → Int → Int) (M1 : Nat → Int → Int → Int) (N1 : Nat → Int → Int → Option Nat), (w x0 = some (obT F1 P1 A1 M1 N1)) ∧ (∃ (F2 : Nat → Int) (P2 : Nat → Option Nat) (A2 : Nat → Int → Int) (M2 : Nat → Int → Int → Int) (N2 : Nat → Int → Int → Option Nat), (w q1 = some (obT F2 P2 A2 M2 N2)) ∧ ((K.G.base ≤ x0) ∧ (VX K mX1_takes 21 [(0, .ref x0), (1, .ref q1), (2, vI x2), (3, vI (F1 4)), (4, vI 0)] [] (wset w x0 (some (obT (upN F1 4 ((F1 4) + (F2 4))) P1 A1 M1 N1))) sz n)))) : VX K mX1_takes 0 [(0, .ref x0), (1, .ref q1), (2, vI x2)] [] w sz n := by
  refine v_aload_n 0 dX1_takes_0 rfl (isR_ref _) ?_
  obtain ⟨F1, P1, A1, M1, N1, hw1, h⟩ := h
  refine v_get (q := x0) (j := 0) (v := vI (F1 4)) dX1_takes_1 fX1_31 hw1 rfl (lay_T0 _ _ _ _ _ _) rfl ?_
  refine v_istore_n dX1_takes_4 (by decide) rfl ?_
  refine v_aload_n 1 dX1_takes_5 rfl (isR_ref _) ?_
  refine v_dup dX1_takes_6 rfl ?_
  refine v_get (q := x0) (j := 0) (v := vI (F1 4)) dX1_takes_7 fX1_31 hw1 rfl (lay_T0 _ _ _ _ _ _) rfl ?_
  refine v_aload_n 2 dX1_takes_10 rfl (isR_ref _) ?_
  obtain ⟨F2, P2, A2, M2, N2, hw2, h⟩ := h
  refine v_get (q := q1) (j := 0) (v := vI (F2 4)) dX1_takes_11 fX1_31 hw2 rfl (lay_T0 _ _ _ _ _ _) rfl ?_
  refine v_iadd dX1_takes_14 ?_
  obtain ⟨s3, h⟩ := h
  refine v_put (q := x0) (j := 0) (v := vI ((F1 4) + (F2 4))) (obT (upN F1 4 ((F1 4) + (F2 4))) P1 A1 M1 N1) dX1_takes_15 fX1_31 pf1_4 hw1 rfl (lay_T0 _ _ _ _ _ _) (Nat.le_of_ble_eq_true rfl) rfl rfl (chg_T0 rfl) s3 ?_
  refine v_iconst dX1_takes_18 ?_
  refine v_istore dX1_takes_19 (by decide) rfl ?_
  refine V.sub [2, 3, 4, 1, 0] rfl ?_
  exact h
theorem wX1_takes_21 (K : KV) {x2 x3 x4 : Int} {x0 q1 : Nat} {w : Wd} {sz n : Nat} (h : ∃ (F1 : Nat → Int) (P1 : Nat → Option Nat) (A1 : Nat → Int → Int) (M1 : Nat → Int → Int → Int) (N1 : Nat → Int → Int → Option Nat), (w q1 = some (obT F1 P1 A1 M1 N1)) ∧ ((rI x4) ∧ ((rI (F1 4)) ∧ (((F1 4) ≤ x4 → (∃ (F4 : Nat → Int) (P4 : Nat → Option Nat) (A4 : Nat → Int → Int) (M4 : Nat → Int → Int → Int) (N4 : Nat → Int → Int → Option Nat), (w x0 = some (obT F4 P4 A4 M4 N4)) ∧ (CV mX1_binds K [.ref x0, vI x2, vI x3] w sz n fun w5 z5 n5 => K.S none w5 z5 n5))) ∧ (¬ (F1 4) ≤ x4 → (∃ (F4 : Nat → Int) (P4 : Nat → Option Nat) (A4 : Nat → Int → Int) (M4 : Nat → Int → Int → Int) (N4 : Nat → Int → Int → Option Nat), (w x0 = some (obT F4 P4 A4 M4 N4)) ∧ ((0 ≤ x4 ∧ x4 < 13) ∧ ((0 ≤ (x3 + x4) ∧ (x3 + x4) < 13) ∧ ((K.G.base ≤ x0) ∧ (VX K mX1_takes 49 [(0, .ref x0), (1, .ref q1), (2, vI x2), (3, vI x3), (4, vI x4), (5, vI 0)] [] (wset w x0 (some (obT F4 P4 (upA A4 0 (x3 + x4) (A1 0 x4)) M4 N4))) sz n)))))))))) : VX K mX1_takes 21 [(0, .ref x0), (1, .ref q1), (2, vI x2), (3, vI x3), (4, vI x4)] [] w sz n := by
  refine v_iload 4 dX1_takes_21 rfl ?_
  refine v_aload_n 1 dX1_takes_23 rfl (isR_ref _) ?_
  obtain ⟨F1, P1, A1, M1, N1, hw1, h⟩ := h
  refine v_get (q := q1) (j := 0) (v := vI (F1 4)) dX1_takes_24 fX1_31 hw1 rfl (lay_T0 _ _ _ _ _ _) rfl ?_
  obtain ⟨s2, h⟩ := h
  obtain ⟨s3, h⟩ := h
  obtain ⟨ht, hf⟩ := h
  refine v_icmp_ge 97 dX1_takes_27 (by decide) s2 s3 (fun c => ?_) (fun c => ?_)
  · have h := ht c
    refine v_aload_n 0 dX1_takes_97 rfl (isR_ref _) ?_
    refine v_iload_n 2 dX1_takes_98 rfl ?_
    refine v_iload_n 3 dX1_takes_99 rfl ?_
    obtain ⟨F4, P4, A4, M4, N4, hw4, h⟩ := h
    refine x_callVV K (As := [vI x2, vI x3]) dX1_takes_100 LX1_49 rfl rfl (Nat.le_of_ble_eq_true rfl) (rc_of hw4 (lay_T0 _ _ _ _ _ _) rfl) h (fun w5 z5 n5 h => ?_)
    exact v_vret dX1_takes_103 rfl h
  · have h := hf c
    refine v_aload_n 0 dX1_takes_30 rfl (isR_ref _) ?_
    obtain ⟨F4, P4, A4, M4, N4, hw4, h⟩ := h
    refine v_get (q := x0) (j := 0) (v := .ref (x0 + 43)) dX1_takes_31 fX1_24 hw4 rfl (lay_T0 _ _ _ _ _ _) rfl ?_
    refine v_iload_n 3 dX1_takes_34 rfl ?_
    refine v_iload 4 dX1_takes_35 rfl ?_
    refine v_iadd dX1_takes_37 ?_
    refine v_aload_n 1 dX1_takes_38 rfl (isR_ref _) ?_
    refine v_get (q := q1) (j := 0) (v := .ref (q1 + 43)) dX1_takes_39 fX1_24 hw1 rfl (lay_T0 _ _ _ _ _ _) rfl ?_
    refine v_iload 4 dX1_takes_42 rfl ?_
    obtain ⟨s5, h⟩ := h
    refine v_iald (q := q1) (j := 43) (f := A1 0) dX1_takes_44 hw1 rfl rfl s5 (by decide) ?_
    obtain ⟨s6, h⟩ := h
    obtain ⟨s7, h⟩ := h
    refine v_iast (q := x0) (j := 43) (f := A4 0) (obT F4 P4 (upA A4 0 (x3 + x4) (A1 0 x4)) M4 N4) dX1_takes_45 hw4 rfl rfl s6 (by decide) (chg_Tb _ _) s7 ?_
    refine v_iconst dX1_takes_46 ?_
    refine v_istore dX1_takes_47 (by decide) rfl ?_
    refine V.sub [1, 2, 3, 4, 5, 0] rfl ?_
    exact h
theorem wX1_takes_49 (K : KV) {x2 x3 x4 x5 : Int} {x0 q1 : Nat} {w : Wd} {sz n : Nat} (h : ∃ (F1 : Nat → Int) (P1 : Nat → Option Nat) (A1 : Nat → Int → Int) (M1 : Nat → Int → Int → Int) (N1 : Nat → Int → Int → Option Nat), (w q1 = some (obT F1 P1 A1 M1 N1)) ∧ ((0 ≤ x4 ∧ x4 < 13) ∧ ((rI x5) ∧ ((rI (A1 0 x4)) ∧ (((A1 0 x4) ≤ x5 → (VX K mX1_takes 21 [(0, .ref x0), (1, .ref q1), (2, vI x2), (3, vI x3), (4, vI (x4 + 1))] [] w sz n)) ∧ (¬ (A1 0 x4) ≤ x5 → (∃ (F5 : Nat → Int) (P5 : Nat → Option Nat) (A5 : Nat → Int → Int) (M5 : Nat → Int → Int → Int) (N5 : Nat → Int → Int → Option Nat), (w x0 = some (obT F5 P5 A5 M5 N5)) ∧ ((0 ≤ (x3 + x4) ∧ (x3 + x4) < 13) ∧ ((0 ≤ x5 ∧ x5 < 4) ∧ ((K.G.base ≤ x0) ∧ (VX K mX1_takes 49 [(0, .ref x0), (1, .ref q1), (2, vI x2), (3, vI x3), (4, vI x4), (5, vI (x5 + 1))] [] (wset w x0 (some (obT F5 P5 A5 (upM M5 0 (x3 + x4) x5 (x3 + (M1 0 x4 x5))) N5))) sz n))))))))))) : VX K mX1_takes 49 [(0, .ref x0), (1, .ref q1), (2, vI x2), (3, vI x3), (4, vI x4), (5, vI x5)] [] w sz n := by
  refine v_iload 5 dX1_takes_49 rfl ?_
  refine v_aload_n 1 dX1_takes_51 rfl (isR_ref _) ?_
  obtain ⟨F1, P1, A1, M1, N1, hw1, h⟩ := h
  refine v_get (q := q1) (j := 0) (v := .ref (q1 + 43)) dX1_takes_52 fX1_24 hw1 rfl (lay_T0 _ _ _ _ _ _) rfl ?_
  refine v_iload 4 dX1_takes_55 rfl ?_
  obtain ⟨s2, h⟩ := h
  refine v_iald (q := q1) (j := 43) (f := A1 0) dX1_takes_57 hw1 rfl rfl s2 (by decide) ?_
  obtain ⟨s3, h⟩ := h
  obtain ⟨s4, h⟩ := h
  obtain ⟨ht, hf⟩ := h
  refine v_icmp_ge 91 dX1_takes_58 (by decide) s3 s4 (fun c => ?_) (fun c => ?_)
  · have h := ht c
    refine v_iinc 4 dX1_takes_91 rfl (by decide) rfl ?_
    refine v_goto 21 dX1_takes_94 (by decide) ?_
    refine V.sub [1, 2, 3, 4, 0] rfl ?_
    exact h
  · have h := hf c
    refine v_aload_n 0 dX1_takes_61 rfl (isR_ref _) ?_
    obtain ⟨F5, P5, A5, M5, N5, hw5, h⟩ := h
    refine v_get (q := x0) (j := 0) (v := .ref (x0 + 1)) dX1_takes_62 fX1_11 hw5 rfl (lay_T0 _ _ _ _ _ _) rfl ?_
    refine v_iload_n 3 dX1_takes_65 rfl ?_
    refine v_iload 4 dX1_takes_66 rfl ?_
    refine v_iadd dX1_takes_68 ?_
    obtain ⟨s6, h⟩ := h
    refine v_aaldR (q := x0) (j := 1) (q0 := x0 + 2) (t := 8) (by decide) dX1_takes_69 hw5 rfl rfl s6 (by decide) ?_
    refine v_iload 5 dX1_takes_70 rfl ?_
    refine v_iload_n 3 dX1_takes_72 rfl ?_
    refine v_aload_n 1 dX1_takes_73 rfl (isR_ref _) ?_
    refine v_get (q := q1) (j := 0) (v := .ref (q1 + 1)) dX1_takes_74 fX1_11 hw1 rfl (lay_T0 _ _ _ _ _ _) rfl ?_
    refine v_iload 4 dX1_takes_77 rfl ?_
    refine v_aaldR (q := q1) (j := 1) (q0 := q1 + 2) (t := 8) (by decide) dX1_takes_79 hw1 rfl rfl s2 (by decide) ?_
    refine v_iload 5 dX1_takes_80 rfl ?_
    obtain ⟨s7, h⟩ := h
    refine v_iald (q := q1) (j := 2 + Int.toNat x4) (f := M1 0 x4) dX1_takes_82 hw1 (Nat.add_assoc _ _ _) (lay_Tn s2) s7 (by decide) ?_
    refine v_iadd dX1_takes_83 ?_
    obtain ⟨s8, h⟩ := h
    refine v_iast (q := x0) (j := 2 + Int.toNat (x3 + x4)) (f := M5 0 (x3 + x4)) (obT F5 P5 A5 (upM M5 0 (x3 + x4) x5 (x3 + (M1 0 x4 x5))) N5) dX1_takes_84 hw5 (Nat.add_assoc _ _ _) (lay_Tn s6) s7 (by decide) (chg_Tn _ _ s6) s8 ?_
    refine v_iinc 5 dX1_takes_85 rfl (by decide) rfl ?_
    refine v_goto 49 dX1_takes_88 (by decide) ?_
    refine V.sub [1, 2, 3, 4, 5, 0] rfl ?_
    exact h
/-! BranchNames$Wrong.<init> -/
theorem wX10_init_0 (K : KV) {x0 q1 : Nat} {w : Wd} {sz n : Nat} (h : CV mJ15_init K [.ref x0, .null, .ref q1, vI 0, vI 0] w sz n fun w1 z1 n1 => K.S none w1 z1 n1) : VX K mX10_init 0 [(0, .ref x0), (1, .ref q1)] [] w sz n := by
  refine v_aload_n 0 dX10_init_0 rfl (isR_ref _) ?_
  refine v_null dX10_init_1 ?_
  refine v_aload_n 1 dX10_init_2 rfl (isR_ref _) ?_
  refine v_iconst dX10_init_3 ?_
  refine v_iconst dX10_init_4 ?_
  refine x_callIV K (As := [.null, .ref q1, vI 0, vI 0]) dX10_init_5 LX10_1 rfl rfl (Nat.le_of_ble_eq_true rfl) h (fun w1 z1 n1 h => ?_)
  exact v_vret dX10_init_8 rfl h
/-! BranchNames$Unread.<init> -/
theorem wX11_init_0 (K : KV) {x1 : Int} {x0 : Nat} {w : Wd} {sz n : Nat} (h : CV mX10_init K [.ref x0, .null] w sz n fun w1 z1 n1 => ∃ (F2 : Nat → Int) (P2 : Nat → Option Nat), (w1 x0 = some (obR 10 F2 P2)) ∧ ((K.G.base ≤ x0) ∧ (K.S none (wset w1 x0 (some (obR 10 (upN F2 6 x1) P2))) z1 n1))) : VX K mX11_init 0 [(0, .ref x0), (1, vI x1)] [] w sz n := by
  refine v_aload_n 0 dX11_init_0 rfl (isR_ref _) ?_
  refine v_null dX11_init_1 ?_
  refine x_callIV K (As := [.null]) dX11_init_2 LX11_1 rfl rfl (Nat.le_of_ble_eq_true rfl) h (fun w1 z1 n1 h => ?_)
  refine v_aload_n 0 dX11_init_5 rfl (isR_ref _) ?_
  refine v_iload_n 1 dX11_init_6 rfl ?_
  obtain ⟨F2, P2, hw2, h⟩ := h
  obtain ⟨s3, h⟩ := h
  refine v_putF (q := x0) (j := 0) (v := vI x1) (obR 10 (upN F2 6 x1) P2) dX11_init_7 foX11_7 pfF10_6 rfl hw2 rfl (lay_R0 _ _ _ (by decide)) (Nat.le_of_ble_eq_true rfl) rfl rfl (chg_raw rfl rfl rfl) s3 ?_
  exact v_vret dX11_init_10 rfl h
/-! BranchNames$Unread.told -/
theorem wX11_told_0 (K : KV) {x0 : Nat} {w : Wd} {sz n : Nat} (h : ∃ (F1 : Nat → Int) (P1 : Nat → Option Nat), (w x0 = some (obR 10 F1 P1)) ∧ (K.S (some (vI (((-100)) - (F1 6)))) w sz n)) : VX K mX11_told 0 [(0, .ref x0)] [] w sz n := by
  refine v_bipush dX11_told_0 rfl ?_
  refine v_aload_n 0 dX11_told_2 rfl (isR_ref _) ?_
  obtain ⟨F1, P1, hw1, h⟩ := h
  refine v_get (q := x0) (j := 0) (v := vI (F1 6)) dX11_told_3 fX11_7 hw1 rfl (lay_R0 _ _ _ (by decide)) rfl ?_
  refine v_isub dX11_told_6 ?_
  exact x_iret K dX11_told_7 rfl h
/-! BranchNames$Trouble.<init> -/
theorem wX12_init_0 (K : KV) {x1 x2 : Int} {x0 q3 : Nat} {w : Wd} {sz n : Nat} (h : CV mX10_init K [.ref x0, .ref q3] w sz n fun w1 z1 n1 => ∃ (F2 : Nat → Int) (P2 : Nat → Option Nat), (w1 x0 = some (obR 11 F2 P2)) ∧ ((K.G.base ≤ x0) ∧ (K.S none (wset w1 x0 (some (obR 11 (upN (upN F2 6 x1) 7 x2) P2))) z1 n1))) : VX K mX12_init 0 [(0, .ref x0), (1, vI x1), (2, vI x2), (3, .ref q3)] [] w sz n := by
  refine v_aload_n 0 dX12_init_0 rfl (isR_ref _) ?_
  refine v_aload_n 3 dX12_init_1 rfl (isR_ref _) ?_
  refine x_callIV K (As := [.ref q3]) dX12_init_2 LX12_1 rfl rfl (Nat.le_of_ble_eq_true rfl) h (fun w1 z1 n1 h => ?_)
  refine v_aload_n 0 dX12_init_5 rfl (isR_ref _) ?_
  refine v_iload_n 1 dX12_init_6 rfl ?_
  obtain ⟨F2, P2, hw2, h⟩ := h
  obtain ⟨s3, h⟩ := h
  refine v_putF (q := x0) (j := 0) (v := vI x1) (obR 11 (upN F2 6 x1) P2) dX12_init_7 foX12_7 pfF11_6 rfl hw2 rfl (lay_R0 _ _ _ (by decide)) (Nat.le_of_ble_eq_true rfl) rfl rfl (chg_raw rfl rfl rfl) s3 ?_
  refine v_aload_n 0 dX12_init_10 rfl (isR_ref _) ?_
  refine v_iload_n 2 dX12_init_11 rfl ?_
  refine v_putF (q := x0) (j := 0) (v := vI x2) (obR 11 (upN (upN F2 6 x1) 7 x2) P2) dX12_init_12 foX12_13 pfF11_7 rfl (wset_eq _ _ _) rfl (lay_R0 _ _ _ (by decide)) (Nat.le_of_ble_eq_true rfl) rfl rfl (chg_raw rfl rfl rfl) s3 ?_
  rw [wset_wset]
  exact v_vret dX12_init_15 rfl h
/-! BranchNames$Trouble.told -/
theorem wX12_told_0 (K : KV) {x0 : Nat} {w : Wd} {sz n : Nat} (h : K.S (some (vI ((-20)))) w sz n) : VX K mX12_told 0 [(0, .ref x0)] [] w sz n := by
  refine v_bipush dX12_told_0 rfl ?_
  exact x_iret K dX12_told_2 rfl h
/-! BranchNames$2.<init> -/
theorem wX13_init_0 (K : KV) {x1 : Int} {x0 : Nat} {w : Wd} {sz n : Nat} (h : ∃ (F1 : Nat → Int) (P1 : Nat → Option Nat), (w x0 = some (obR 12 F1 P1)) ∧ ((K.G.base ≤ x0) ∧ ((1 ≤ K.d) ∧ (((wset w x0 (some (obR 12 (upN F1 1 x1) P1))) sz = none) ∧ ((0 ≤ x1 ∧ x1 ≤ 20000) ∧ (K.S none (wset (wset w x0 (some (obR 12 (upN F1 1 x1) (upN P1 0 (some sz))))) sz (some (obA 0 ((Int.toNat x1)) ((fun _ => 0))))) (sz + 1) (n + Int.toNat x1))))))) : VX K mX13_init 0 [(0, .ref x0), (1, vI x1)] [] w sz n := by
  refine v_aload_n 0 dX13_init_0 rfl (isR_ref _) ?_
  refine v_iload_n 1 dX13_init_1 rfl ?_
  obtain ⟨F1, P1, hw1, h⟩ := h
  obtain ⟨s2, h⟩ := h
  refine v_putF (q := x0) (j := 0) (v := vI x1) (obR 12 (upN F1 1 x1) P1) dX13_init_2 foX13_1 pfF12_1 rfl hw1 rfl (lay_R0 _ _ _ (by decide)) (Nat.le_of_ble_eq_true rfl) rfl rfl (chg_raw rfl rfl rfl) s2 ?_
  refine v_aload_n 0 dX13_init_5 rfl (isR_ref _) ?_
  obtain ⟨s3, h⟩ := h
  refine v_objInit dX13_init_6 q1596 q192 q193 s3 (Nat.le_of_ble_eq_true rfl) ?_
  refine v_aload_n 0 dX13_init_9 rfl (isR_ref _) ?_
  refine v_aload_n 0 dX13_init_10 rfl (isR_ref _) ?_
  refine v_get (q := x0) (j := 0) (v := vI x1) dX13_init_11 fX13_1 (wset_eq _ _ _) rfl (lay_R0 _ _ _ (by decide)) rfl ?_
  obtain ⟨s4, h⟩ := h
  obtain ⟨s5, h⟩ := h
  refine x_newI K dX13_init_14 s5 s4 ?_
  refine v_putF (q := x0) (j := 0) (v := va_rf (some sz)) (obR 12 (upN F1 1 x1) (upN P1 0 (some sz))) dX13_init_16 foX13_13 pfF12_0 rfl (ws_ne (wset_eq _ _ _) (wf_ne (wset_eq _ _ _) s4)) rfl (lay_R0 _ _ _ (by decide)) (Nat.le_of_ble_eq_true rfl) (nar_rfA _ (some sz)) (fit_rfA _ (some sz)) (chg_raw rfl rfl rfl) s2 ?_
  rw [wset_comm _ _ _ (Ne.symm (wf_ne (wset_eq _ _ _) s4))]
  rw [wset_wset]
  exact v_vret dX13_init_19 rfl h
/-! BranchNames$2.many -/
theorem wX13_many_0 (K : KV) {x0 : Nat} {w : Wd} {sz n : Nat} (h : ∃ (F1 : Nat → Int) (P1 : Nat → Option Nat), (w x0 = some (obR 12 F1 P1)) ∧ (∃ (a2 : Nat), (P1 0 = some a2) ∧ (∃ (l3 : Nat) (f3 : Int → Int), (w a2 = some (obA 0 l3 f3)) ∧ (K.S (some (vI (((l3 : Nat) : Int)))) w sz n)))) : VX K mX13_many 0 [(0, .ref x0)] [] w sz n := by
  refine v_aload_n 0 dX13_many_0 rfl (isR_ref _) ?_
  obtain ⟨F1, P1, hw1, h⟩ := h
  refine v_get (q := x0) (j := 0) (v := va_rf (P1 0)) dX13_many_1 fX13_13 hw1 rfl (lay_R0 _ _ _ (by decide)) rfl ?_
  obtain ⟨a2, ea2, h⟩ := h
  rw [ea2]
  obtain ⟨l3, f3, hw3, h⟩ := h
  refine v_alen (q := a2) (j := 0) dX13_many_4 hw3 rfl (lay_AI _ _ _) (by decide) ?_
  exact x_iret K dX13_many_5 rfl h
/-! BranchNames$2.lays -/
theorem wX13_lays_0 (K : KV) {x1 x2 : Int} {x0 : Nat} {w : Wd} {sz n : Nat} (h : ∃ (F1 : Nat → Int) (P1 : Nat → Option Nat), (w x0 = some (obR 12 F1 P1)) ∧ (∃ (a2 : Nat), (P1 0 = some a2) ∧ (∃ (l3 : Nat) (f3 : Int → Int), (w a2 = some (obA 0 l3 f3)) ∧ ((0 ≤ x1 ∧ x1 < ((l3 : Nat) : Int)) ∧ ((l3 < 2147483648) ∧ ((K.G.base ≤ a2) ∧ (K.S none (wset w a2 (some (obA 0 l3 (upZ f3 x1 (wI x2))))) sz n))))))) : VX K mX13_lays 0 [(0, .ref x0), (1, vI x1), (2, vL x2)] [] w sz n := by
  refine v_aload_n 0 dX13_lays_0 rfl (isR_ref _) ?_
  obtain ⟨F1, P1, hw1, h⟩ := h
  refine v_get (q := x0) (j := 0) (v := va_rf (P1 0)) dX13_lays_1 fX13_13 hw1 rfl (lay_R0 _ _ _ (by decide)) rfl ?_
  refine v_iload_n 1 dX13_lays_4 rfl ?_
  refine v_lload_n 2 dX13_lays_5 rfl ?_
  refine v_l2i dX13_lays_6 ?_
  refine v_wI ?_
  obtain ⟨a2, ea2, h⟩ := h
  rw [ea2]
  obtain ⟨l3, f3, hw3, h⟩ := h
  obtain ⟨s4, h⟩ := h
  obtain ⟨s5, h⟩ := h
  obtain ⟨s6, h⟩ := h
  refine v_iast (q := a2) (j := 0) (f := f3) (obA 0 l3 (upZ f3 x1 (wI x2))) dX13_lays_7 hw3 rfl (lay_AI _ _ _) s4 s5 (chg_raw rfl rfl rfl) s6 ?_
  exact v_vret dX13_lays_8 rfl h
/-! BranchNames$2.at -/
theorem wX13_at_0 (K : KV) {x1 : Int} {x0 : Nat} {w : Wd} {sz n : Nat} (h : ∃ (F1 : Nat → Int) (P1 : Nat → Option Nat), (w x0 = some (obR 12 F1 P1)) ∧ (∃ (a2 : Nat), (P1 0 = some a2) ∧ (∃ (l3 : Nat) (f3 : Int → Int), (w a2 = some (obA 0 l3 f3)) ∧ ((0 ≤ x1 ∧ x1 < ((l3 : Nat) : Int)) ∧ ((l3 < 2147483648) ∧ ((rI (f3 x1)) ∧ (K.S (some (vL (f3 x1))) w sz n))))))) : VX K mX13_at 0 [(0, .ref x0), (1, vI x1)] [] w sz n := by
  refine v_aload_n 0 dX13_at_0 rfl (isR_ref _) ?_
  obtain ⟨F1, P1, hw1, h⟩ := h
  refine v_get (q := x0) (j := 0) (v := va_rf (P1 0)) dX13_at_1 fX13_13 hw1 rfl (lay_R0 _ _ _ (by decide)) rfl ?_
  refine v_iload_n 1 dX13_at_4 rfl ?_
  obtain ⟨a2, ea2, h⟩ := h
  rw [ea2]
  obtain ⟨l3, f3, hw3, h⟩ := h
  obtain ⟨s4, h⟩ := h
  obtain ⟨s5, h⟩ := h
  refine v_iald (q := a2) (j := 0) (f := f3) dX13_at_5 hw3 rfl (lay_AI _ _ _) s4 s5 ?_
  obtain ⟨s6, h⟩ := h
  refine v_i2l dX13_at_6 s6 ?_
  exact v_lret dX13_at_7 rfl h
/-! BranchNames$2.sort -/
theorem wX13_sort_0 (K : KV) {x0 : Nat} {w : Wd} {sz n : Nat} (h : K.S (some (vI 0)) w sz n) : VX K mX13_sort 0 [(0, .ref x0)] [] w sz n := by
  refine v_iconst dX13_sort_0 ?_
  exact x_iret K dX13_sort_1 rfl h
/-! BranchNames$3.<init> -/
theorem wX14_init_0 (K : KV) {x1 : Int} {x0 : Nat} {w : Wd} {sz n : Nat} (h : ∃ (F1 : Nat → Int) (P1 : Nat → Option Nat), (w x0 = some (obR 13 F1 P1)) ∧ ((K.G.base ≤ x0) ∧ ((1 ≤ K.d) ∧ (((wset w x0 (some (obR 13 (upN F1 1 x1) P1))) sz = none) ∧ ((0 ≤ x1 ∧ x1 ≤ 20000) ∧ (K.S none (wset (wset w x0 (some (obR 13 (upN F1 1 x1) (upN P1 0 (some sz))))) sz (some (obA 1 ((Int.toNat x1)) ((fun _ => 0))))) (sz + 1) (n + Int.toNat x1))))))) : VX K mX14_init 0 [(0, .ref x0), (1, vI x1)] [] w sz n := by
  refine v_aload_n 0 dX14_init_0 rfl (isR_ref _) ?_
  refine v_iload_n 1 dX14_init_1 rfl ?_
  obtain ⟨F1, P1, hw1, h⟩ := h
  obtain ⟨s2, h⟩ := h
  refine v_putF (q := x0) (j := 0) (v := vI x1) (obR 13 (upN F1 1 x1) P1) dX14_init_2 foX14_1 pfF13_1 rfl hw1 rfl (lay_R0 _ _ _ (by decide)) (Nat.le_of_ble_eq_true rfl) rfl rfl (chg_raw rfl rfl rfl) s2 ?_
  refine v_aload_n 0 dX14_init_5 rfl (isR_ref _) ?_
  obtain ⟨s3, h⟩ := h
  refine v_objInit dX14_init_6 q1612 q192 q193 s3 (Nat.le_of_ble_eq_true rfl) ?_
  refine v_aload_n 0 dX14_init_9 rfl (isR_ref _) ?_
  refine v_aload_n 0 dX14_init_10 rfl (isR_ref _) ?_
  refine v_get (q := x0) (j := 0) (v := vI x1) dX14_init_11 fX14_1 (wset_eq _ _ _) rfl (lay_R0 _ _ _ (by decide)) rfl ?_
  obtain ⟨s4, h⟩ := h
  obtain ⟨s5, h⟩ := h
  refine x_newL K dX14_init_14 s5 s4 ?_
  refine v_putF (q := x0) (j := 0) (v := va_rf (some sz)) (obR 13 (upN F1 1 x1) (upN P1 0 (some sz))) dX14_init_16 foX14_13 pfF13_0 rfl (ws_ne (wset_eq _ _ _) (wf_ne (wset_eq _ _ _) s4)) rfl (lay_R0 _ _ _ (by decide)) (Nat.le_of_ble_eq_true rfl) (nar_rfA _ (some sz)) (fit_rfA _ (some sz)) (chg_raw rfl rfl rfl) s2 ?_
  rw [wset_comm _ _ _ (Ne.symm (wf_ne (wset_eq _ _ _) s4))]
  rw [wset_wset]
  exact v_vret dX14_init_19 rfl h
/-! BranchNames$3.many -/
theorem wX14_many_0 (K : KV) {x0 : Nat} {w : Wd} {sz n : Nat} (h : ∃ (F1 : Nat → Int) (P1 : Nat → Option Nat), (w x0 = some (obR 13 F1 P1)) ∧ (∃ (a2 : Nat), (P1 0 = some a2) ∧ (∃ (l3 : Nat) (f3 : Int → Int), (w a2 = some (obA 1 l3 f3)) ∧ (K.S (some (vI (((l3 : Nat) : Int)))) w sz n)))) : VX K mX14_many 0 [(0, .ref x0)] [] w sz n := by
  refine v_aload_n 0 dX14_many_0 rfl (isR_ref _) ?_
  obtain ⟨F1, P1, hw1, h⟩ := h
  refine v_get (q := x0) (j := 0) (v := va_rf (P1 0)) dX14_many_1 fX14_13 hw1 rfl (lay_R0 _ _ _ (by decide)) rfl ?_
  obtain ⟨a2, ea2, h⟩ := h
  rw [ea2]
  obtain ⟨l3, f3, hw3, h⟩ := h
  refine v_alen (q := a2) (j := 0) dX14_many_4 hw3 rfl (lay_AL _ _ _) (by decide) ?_
  exact x_iret K dX14_many_5 rfl h
/-! BranchNames$3.lays -/
theorem wX14_lays_0 (K : KV) {x1 x2 : Int} {x0 : Nat} {w : Wd} {sz n : Nat} (h : ∃ (F1 : Nat → Int) (P1 : Nat → Option Nat), (w x0 = some (obR 13 F1 P1)) ∧ (∃ (a2 : Nat), (P1 0 = some a2) ∧ (∃ (l3 : Nat) (f3 : Int → Int), (w a2 = some (obA 1 l3 f3)) ∧ ((0 ≤ x1 ∧ x1 < ((l3 : Nat) : Int)) ∧ ((l3 < 2147483648) ∧ ((K.G.base ≤ a2) ∧ (K.S none (wset w a2 (some (obA 1 l3 (upZ f3 x1 x2)))) sz n))))))) : VX K mX14_lays 0 [(0, .ref x0), (1, vI x1), (2, vL x2)] [] w sz n := by
  refine v_aload_n 0 dX14_lays_0 rfl (isR_ref _) ?_
  obtain ⟨F1, P1, hw1, h⟩ := h
  refine v_get (q := x0) (j := 0) (v := va_rf (P1 0)) dX14_lays_1 fX14_13 hw1 rfl (lay_R0 _ _ _ (by decide)) rfl ?_
  refine v_iload_n 1 dX14_lays_4 rfl ?_
  refine v_lload_n 2 dX14_lays_5 rfl ?_
  obtain ⟨a2, ea2, h⟩ := h
  rw [ea2]
  obtain ⟨l3, f3, hw3, h⟩ := h
  obtain ⟨s4, h⟩ := h
  obtain ⟨s5, h⟩ := h
  obtain ⟨s6, h⟩ := h
  refine v_last (q := a2) (j := 0) (f := f3) (obA 1 l3 (upZ f3 x1 x2)) dX14_lays_6 hw3 rfl (lay_AL _ _ _) s4 s5 (chg_raw rfl rfl rfl) s6 ?_
  exact v_vret dX14_lays_7 rfl h
/-! BranchNames$3.at -/
theorem wX14_at_0 (K : KV) {x1 : Int} {x0 : Nat} {w : Wd} {sz n : Nat} (h : ∃ (F1 : Nat → Int) (P1 : Nat → Option Nat), (w x0 = some (obR 13 F1 P1)) ∧ (∃ (a2 : Nat), (P1 0 = some a2) ∧ (∃ (l3 : Nat) (f3 : Int → Int), (w a2 = some (obA 1 l3 f3)) ∧ ((0 ≤ x1 ∧ x1 < ((l3 : Nat) : Int)) ∧ ((l3 < 2147483648) ∧ (K.S (some (vL (f3 x1))) w sz n)))))) : VX K mX14_at 0 [(0, .ref x0), (1, vI x1)] [] w sz n := by
  refine v_aload_n 0 dX14_at_0 rfl (isR_ref _) ?_
  obtain ⟨F1, P1, hw1, h⟩ := h
  refine v_get (q := x0) (j := 0) (v := va_rf (P1 0)) dX14_at_1 fX14_13 hw1 rfl (lay_R0 _ _ _ (by decide)) rfl ?_
  refine v_iload_n 1 dX14_at_4 rfl ?_
  obtain ⟨a2, ea2, h⟩ := h
  rw [ea2]
  obtain ⟨l3, f3, hw3, h⟩ := h
  obtain ⟨s4, h⟩ := h
  obtain ⟨s5, h⟩ := h
  refine v_lald (q := a2) (j := 0) (f := f3) dX14_at_5 hw3 rfl (lay_AL _ _ _) s4 s5 ?_
  exact v_lret dX14_at_6 rfl h
/-! BranchNames$3.sort -/
theorem wX14_sort_0 (K : KV) {x0 : Nat} {w : Wd} {sz n : Nat} (h : K.S (some (vI 1)) w sz n) : VX K mX14_sort 0 [(0, .ref x0)] [] w sz n := by
  refine v_iconst dX14_sort_0 ?_
  exact x_iret K dX14_sort_1 rfl h
/-! BranchNames$4.<init> -/
theorem wX15_init_0 (K : KV) {x1 : Int} {x0 : Nat} {w : Wd} {sz n : Nat} (h : ∃ (F1 : Nat → Int) (P1 : Nat → Option Nat), (w x0 = some (obR 14 F1 P1)) ∧ ((K.G.base ≤ x0) ∧ ((1 ≤ K.d) ∧ (((wset w x0 (some (obR 14 (upN F1 1 x1) P1))) sz = none) ∧ ((0 ≤ x1 ∧ x1 ≤ 20000) ∧ (K.S none (wset (wset w x0 (some (obR 14 (upN F1 1 x1) (upN P1 0 (some sz))))) sz (some (obA 2 ((Int.toNat x1)) ((fun _ => 0))))) (sz + 1) (n + Int.toNat x1))))))) : VX K mX15_init 0 [(0, .ref x0), (1, vI x1)] [] w sz n := by
  refine v_aload_n 0 dX15_init_0 rfl (isR_ref _) ?_
  refine v_iload_n 1 dX15_init_1 rfl ?_
  obtain ⟨F1, P1, hw1, h⟩ := h
  obtain ⟨s2, h⟩ := h
  refine v_putF (q := x0) (j := 0) (v := vI x1) (obR 14 (upN F1 1 x1) P1) dX15_init_2 foX15_1 pfF14_1 rfl hw1 rfl (lay_R0 _ _ _ (by decide)) (Nat.le_of_ble_eq_true rfl) rfl rfl (chg_raw rfl rfl rfl) s2 ?_
  refine v_aload_n 0 dX15_init_5 rfl (isR_ref _) ?_
  obtain ⟨s3, h⟩ := h
  refine v_objInit dX15_init_6 q1628 q192 q193 s3 (Nat.le_of_ble_eq_true rfl) ?_
  refine v_aload_n 0 dX15_init_9 rfl (isR_ref _) ?_
  refine v_aload_n 0 dX15_init_10 rfl (isR_ref _) ?_
  refine v_get (q := x0) (j := 0) (v := vI x1) dX15_init_11 fX15_1 (wset_eq _ _ _) rfl (lay_R0 _ _ _ (by decide)) rfl ?_
  obtain ⟨s4, h⟩ := h
  obtain ⟨s5, h⟩ := h
  refine x_newB K dX15_init_14 s5 s4 ?_
  refine v_putF (q := x0) (j := 0) (v := va_rf (some sz)) (obR 14 (upN F1 1 x1) (upN P1 0 (some sz))) dX15_init_16 foX15_13 pfF14_0 rfl (ws_ne (wset_eq _ _ _) (wf_ne (wset_eq _ _ _) s4)) rfl (lay_R0 _ _ _ (by decide)) (Nat.le_of_ble_eq_true rfl) (nar_rfA _ (some sz)) (fit_rfA _ (some sz)) (chg_raw rfl rfl rfl) s2 ?_
  rw [wset_comm _ _ _ (Ne.symm (wf_ne (wset_eq _ _ _) s4))]
  rw [wset_wset]
  exact v_vret dX15_init_19 rfl h
/-! BranchNames$4.many -/
theorem wX15_many_0 (K : KV) {x0 : Nat} {w : Wd} {sz n : Nat} (h : ∃ (F1 : Nat → Int) (P1 : Nat → Option Nat), (w x0 = some (obR 14 F1 P1)) ∧ (∃ (a2 : Nat), (P1 0 = some a2) ∧ (∃ (l3 : Nat) (f3 : Int → Int), (w a2 = some (obA 2 l3 f3)) ∧ (K.S (some (vI (((l3 : Nat) : Int)))) w sz n)))) : VX K mX15_many 0 [(0, .ref x0)] [] w sz n := by
  refine v_aload_n 0 dX15_many_0 rfl (isR_ref _) ?_
  obtain ⟨F1, P1, hw1, h⟩ := h
  refine v_get (q := x0) (j := 0) (v := va_rf (P1 0)) dX15_many_1 fX15_13 hw1 rfl (lay_R0 _ _ _ (by decide)) rfl ?_
  obtain ⟨a2, ea2, h⟩ := h
  rw [ea2]
  obtain ⟨l3, f3, hw3, h⟩ := h
  refine v_alen (q := a2) (j := 0) dX15_many_4 hw3 rfl (lay_AB _ _ _) (by decide) ?_
  exact x_iret K dX15_many_5 rfl h
/-! BranchNames$4.lays -/
theorem wX15_lays_0 (K : KV) {x1 x2 : Int} {x0 : Nat} {w : Wd} {sz n : Nat} (h : ∃ (F1 : Nat → Int) (P1 : Nat → Option Nat), (w x0 = some (obR 14 F1 P1)) ∧ (∃ (a2 : Nat), (P1 0 = some a2) ∧ (∃ (l3 : Nat) (f3 : Int → Int), (w a2 = some (obA 2 l3 f3)) ∧ ((0 ≤ x1 ∧ x1 < ((l3 : Nat) : Int)) ∧ ((l3 < 2147483648) ∧ ((K.G.base ≤ a2) ∧ ((-128 ≤ (i2b (wI x2)) ∧ (i2b (wI x2)) ≤ 127) ∧ (K.S none (wset w a2 (some (obA 2 l3 (upZ f3 x1 (i2b (wI x2)))))) sz n)))))))) : VX K mX15_lays 0 [(0, .ref x0), (1, vI x1), (2, vL x2)] [] w sz n := by
  refine v_aload_n 0 dX15_lays_0 rfl (isR_ref _) ?_
  obtain ⟨F1, P1, hw1, h⟩ := h
  refine v_get (q := x0) (j := 0) (v := va_rf (P1 0)) dX15_lays_1 fX15_13 hw1 rfl (lay_R0 _ _ _ (by decide)) rfl ?_
  refine v_iload_n 1 dX15_lays_4 rfl ?_
  refine v_lload_n 2 dX15_lays_5 rfl ?_
  refine v_l2i dX15_lays_6 ?_
  refine v_wI ?_
  refine v_i2b dX15_lays_7 ?_
  obtain ⟨a2, ea2, h⟩ := h
  rw [ea2]
  obtain ⟨l3, f3, hw3, h⟩ := h
  obtain ⟨s4, h⟩ := h
  obtain ⟨s5, h⟩ := h
  obtain ⟨s6, h⟩ := h
  obtain ⟨s7, h⟩ := h
  refine v_bast (q := a2) (j := 0) (f := f3) (obA 2 l3 (upZ f3 x1 (i2b (wI x2)))) dX15_lays_8 hw3 rfl (lay_AB _ _ _) s4 s5 s7 (chg_raw rfl rfl rfl) s6 ?_
  exact v_vret dX15_lays_9 rfl h
/-! BranchNames$4.at -/
theorem wX15_at_0 (K : KV) {x1 : Int} {x0 : Nat} {w : Wd} {sz n : Nat} (h : ∃ (F1 : Nat → Int) (P1 : Nat → Option Nat), (w x0 = some (obR 14 F1 P1)) ∧ (∃ (a2 : Nat), (P1 0 = some a2) ∧ (∃ (l3 : Nat) (f3 : Int → Int), (w a2 = some (obA 2 l3 f3)) ∧ ((0 ≤ x1 ∧ x1 < ((l3 : Nat) : Int)) ∧ ((l3 < 2147483648) ∧ ((rI (f3 x1)) ∧ (K.S (some (vL (f3 x1))) w sz n))))))) : VX K mX15_at 0 [(0, .ref x0), (1, vI x1)] [] w sz n := by
  refine v_aload_n 0 dX15_at_0 rfl (isR_ref _) ?_
  obtain ⟨F1, P1, hw1, h⟩ := h
  refine v_get (q := x0) (j := 0) (v := va_rf (P1 0)) dX15_at_1 fX15_13 hw1 rfl (lay_R0 _ _ _ (by decide)) rfl ?_
  refine v_iload_n 1 dX15_at_4 rfl ?_
  obtain ⟨a2, ea2, h⟩ := h
  rw [ea2]
  obtain ⟨l3, f3, hw3, h⟩ := h
  obtain ⟨s4, h⟩ := h
  obtain ⟨s5, h⟩ := h
  refine v_bald (q := a2) (j := 0) (f := f3) dX15_at_5 hw3 rfl (lay_AB _ _ _) s4 s5 ?_
  obtain ⟨s6, h⟩ := h
  refine v_i2l dX15_at_6 s6 ?_
  exact v_lret dX15_at_7 rfl h
/-! BranchNames$4.sort -/
theorem wX15_sort_0 (K : KV) {x0 : Nat} {w : Wd} {sz n : Nat} (h : K.S (some (vI 2)) w sz n) : VX K mX15_sort 0 [(0, .ref x0)] [] w sz n := by
  refine v_iconst dX15_sort_0 ?_
  exact x_iret K dX15_sort_1 rfl h
/-! BranchNames$1.<init> -/
theorem wX2_init_0 (K : KV) {x0 q1 : Nat} {w : Wd} {sz n : Nat} (h : ∃ (F1 : Nat → Int) (P1 : Nat → Option Nat), (w x0 = some (obR 2 F1 P1)) ∧ ((K.G.base ≤ x0) ∧ ((1 ≤ K.d) ∧ (((wset w x0 (some (obR 2 F1 (upN P1 1 (some q1))))) sz = none) ∧ (CV mX3_init K [.ref sz] (wset (wset w x0 (some (obR 2 F1 (upN P1 1 (some q1))))) sz (some (obR 3 nF nP))) (sz + 1) (n + 4) fun w5 z5 n5 => ∃ (F6 : Nat → Int) (P6 : Nat → Option Nat), (w5 x0 = some (obR 2 F6 P6)) ∧ (K.S none (wset w5 x0 (some (obR 2 F6 (upN P6 0 (some sz))))) z5 n5)))))) : VX K mX2_init 0 [(0, .ref x0), (1, .ref q1)] [] w sz n := by
  refine v_aload_n 0 dX2_init_0 rfl (isR_ref _) ?_
  refine v_aload_n 1 dX2_init_1 rfl (isR_ref _) ?_
  obtain ⟨F1, P1, hw1, h⟩ := h
  obtain ⟨s2, h⟩ := h
  refine v_putF (q := x0) (j := 0) (v := va_rf (some q1)) (obR 2 F1 (upN P1 1 (some q1))) dX2_init_2 foX2_1 pfF2_1 rfl hw1 rfl (lay_R0 _ _ _ (by decide)) (Nat.le_of_ble_eq_true rfl) (nar_rfA _ (some q1)) (fit_rfA _ (some q1)) (chg_raw rfl rfl rfl) s2 ?_
  refine v_aload_n 0 dX2_init_5 rfl (isR_ref _) ?_
  obtain ⟨s3, h⟩ := h
  refine v_objInit dX2_init_6 q612 q192 q193 s3 (Nat.le_of_ble_eq_true rfl) ?_
  refine v_aload_n 0 dX2_init_9 rfl (isR_ref _) ?_
  obtain ⟨s4, h⟩ := h
  refine v_new K (ci := 3) (C := RX3) (T := TX3) (N := 4) tyX3 dX2_init_10 (by decide) rfl in_X3 tyX3_ok q613 q614 q165 nw3 s4 ?_
  refine v_dup dX2_init_13 rfl ?_
  refine x_callINV K (As := []) dX2_init_14 LX2_15 rfl rfl (Nat.le_of_ble_eq_true rfl) h (fun w5 z5 n5 h => ?_)
  obtain ⟨F6, P6, hw6, h⟩ := h
  refine v_putF (q := x0) (j := 0) (v := va_rf (some sz)) (obR 2 F6 (upN P6 0 (some sz))) dX2_init_17 foX2_16 pfF2_0 rfl hw6 rfl (lay_R0 _ _ _ (by decide)) (Nat.le_of_ble_eq_true rfl) (nar_rf _ (some sz)) (fit_rf _ (some sz)) (chg_raw rfl rfl rfl) s2 ?_
  exact v_vret dX2_init_20 rfl h
/-! BranchNames$1.sees -/
theorem wX2_sees_0 (K : KV) {x0 q1 : Nat} {w : Wd} {sz n : Nat} (h : ∃ (F1 : Nat → Int) (P1 : Nat → Option Nat) (A1 : Nat → Int → Int), (w q1 = some (obW F1 P1 A1)) ∧ ((K.G.base ≤ q1) ∧ (∃ (F3 : Nat → Int) (P3 : Nat → Option Nat), ((wset w q1 (some (obW F1 (upN P1 3 none) A1))) x0 = some (obR 2 F3 P3)) ∧ (∃ (a4 : Nat), (P3 0 = some a4) ∧ (∃ (F5 : Nat → Int) (P5 : Nat → Option Nat) (A5 : Nat → Int → Int), ((wset w q1 (some (obW F1 (upN P1 3 none) A1))) a4 = some (obW F5 P5 A5)) ∧ ((a4 ≠ q1) ∧ ((rI (F5 1)) ∧ (((F5 1) = 0 → (∃ (a8 : Nat), (P3 0 = some a8) ∧ (∃ (F9 : Nat → Int) (P9 : Nat → Option Nat) (A9 : Nat → Int → Int), ((wset w q1 (some (obW F1 (upN P1 3 none) A1))) a8 = some (obW F9 P9 A9)) ∧ ((a8 ≠ q1) ∧ (CV mX3_becomes K [.ref a8, .ref q1] (wset w q1 (some (obW F1 (upN P1 3 none) A1))) sz n fun w11 z11 n11 => K.S none w11 z11 n11))))) ∧ (¬ (F5 1) = 0 → (CI mX2_isBetter K [.ref x0, .ref q1] (wset w q1 (some (obW F1 (upN P1 3 none) A1))) sz n fun r8 w8 z8 n8 => (rI r8) ∧ ((r8 = 0 → (K.S none w8 z8 n8)) ∧ (¬ r8 = 0 → (∃ (F10 : Nat → Int) (P10 : Nat → Option Nat), (w8 x0 = some (obR 2 F10 P10)) ∧ (∃ (a11 : Nat), (P10 0 = some a11) ∧ (∃ (F12 : Nat → Int) (P12 : Nat → Option Nat) (A12 : Nat → Int → Int), (w8 a11 = some (obW F12 P12 A12)) ∧ (CV mX3_becomes K [.ref a11, .ref q1] w8 z8 n8 fun w13 z13 n13 => K.S none w13 z13 n13)))))))))))))))) : VX K mX2_sees 0 [(0, .ref x0), (1, .ref q1)] [] w sz n := by
  refine v_aload_n 1 dX2_sees_0 rfl (isR_ref _) ?_
  refine v_null dX2_sees_1 ?_
  obtain ⟨F1, P1, A1, hw1, h⟩ := h
  obtain ⟨s2, h⟩ := h
  refine v_put (q := q1) (j := 0) (v := va_rf none) (obW F1 (upN P1 3 none) A1) dX2_sees_2 fX2_26 pf3_3 hw1 rfl (lay_W0 _ _ _ _) (Nat.le_of_ble_eq_true rfl) (nar_rf _ none) (fit_rf _ none) (chg_W0 rfl) s2 ?_
  refine v_aload_n 0 dX2_sees_5 rfl (isR_ref _) ?_
  obtain ⟨F3, P3, hw3, h⟩ := h
  refine v_get (q := x0) (j := 0) (v := va_rf (P3 0)) dX2_sees_6 fX2_16 hw3 rfl (lay_R0 _ _ _ (by decide)) rfl ?_
  obtain ⟨a4, ea4, h⟩ := h
  rw [ea4]
  obtain ⟨F5, P5, A5, hw5, h⟩ := h
  obtain ⟨s6, h⟩ := h
  refine v_get (q := a4) (j := 0) (v := vI (F5 1)) dX2_sees_9 fX2_30 hw5 rfl (lay_W0 _ _ _ _) rfl ?_
  obtain ⟨s7, h⟩ := h
  obtain ⟨ht, hf⟩ := h
  refine v_if_eq 23 dX2_sees_12 (by decide) s7 (fun c => ?_) (fun c => ?_)
  · have h := ht c
    refine v_aload_n 0 dX2_sees_23 rfl (isR_ref _) ?_
    refine v_get (q := x0) (j := 0) (v := va_rf (P3 0)) dX2_sees_24 fX2_16 hw3 rfl (lay_R0 _ _ _ (by decide)) rfl ?_
    refine v_aload_n 1 dX2_sees_27 rfl (isR_ref _) ?_
    obtain ⟨a8, ea8, h⟩ := h
    rw [ea8]
    obtain ⟨F9, P9, A9, hw9, h⟩ := h
    obtain ⟨s10, h⟩ := h
    refine x_callVV K (As := [.ref q1]) dX2_sees_28 LX2_38 rfl rfl (Nat.le_of_ble_eq_true rfl) (rc_of hw9 (lay_W0 _ _ _ _) rfl) h (fun w11 z11 n11 h => ?_)
    exact v_vret dX2_sees_31 rfl h
  · have h := hf c
    refine v_aload_n 0 dX2_sees_15 rfl (isR_ref _) ?_
    refine v_aload_n 1 dX2_sees_16 rfl (isR_ref _) ?_
    refine x_callVI K (As := [.ref q1]) dX2_sees_17 LX2_34 rfl rfl (Nat.le_of_ble_eq_true rfl) (rc_of hw3 (lay_R0 _ _ _ (by decide)) rfl) h (fun r8 w8 z8 n8 h => ?_)
    obtain ⟨s9, h⟩ := h
    obtain ⟨ht, hf⟩ := h
    refine v_if_eq 31 dX2_sees_20 (by decide) s9 (fun c => ?_) (fun c => ?_)
    · have h := ht c
      exact v_vret dX2_sees_31 rfl h
    · have h := hf c
      refine v_aload_n 0 dX2_sees_23 rfl (isR_ref _) ?_
      obtain ⟨F10, P10, hw10, h⟩ := h
      refine v_get (q := x0) (j := 0) (v := va_rf (P10 0)) dX2_sees_24 fX2_16 hw10 rfl (lay_R0 _ _ _ (by decide)) rfl ?_
      refine v_aload_n 1 dX2_sees_27 rfl (isR_ref _) ?_
      obtain ⟨a11, ea11, h⟩ := h
      rw [ea11]
      obtain ⟨F12, P12, A12, hw12, h⟩ := h
      refine x_callVV K (As := [.ref q1]) dX2_sees_28 LX2_38 rfl rfl (Nat.le_of_ble_eq_true rfl) (rc_of hw12 (lay_W0 _ _ _ _) rfl) h (fun w13 z13 n13 h => ?_)
      exact v_vret dX2_sees_31 rfl h
/-! BranchNames$1.isBetter -/
theorem wX2_isBetter_0 (K : KV) {x0 q1 : Nat} {w : Wd} {sz n : Nat} (h : VX K mX2_isBetter 2 [(0, .ref x0), (1, .ref q1), (2, vI 0)] [] w sz n) : VX K mX2_isBetter 0 [(0, .ref x0), (1, .ref q1)] [] w sz n := by
  refine v_iconst dX2_isBetter_0 ?_
  refine v_istore_n dX2_isBetter_1 (by decide) rfl ?_
  refine V.sub [1, 2, 0] rfl ?_
  exact h
theorem wX2_isBetter_2 (K : KV) {x2 : Int} {x0 q1 : Nat} {w : Wd} {sz n : Nat} (h : ∃ (F1 : Nat → Int) (P1 : Nat → Option Nat), (w x0 = some (obR 2 F1 P1)) ∧ (∃ (a2 : Nat), (P1 1 = some a2) ∧ (∃ (l3 : Nat) (g3 : Int → Option Nat), (w a2 = some (obQ 6 l3 g3)) ∧ ((rI x2) ∧ ((rI (((l3 : Nat) : Int))) ∧ (((((l3 : Nat) : Int)) ≤ x2 → (K.S (some (vI 0)) w sz n)) ∧ (¬ (((l3 : Nat) : Int)) ≤ x2 → (∃ (a6 : Nat), (P1 1 = some a6) ∧ (∃ (l7 : Nat) (g7 : Int → Option Nat), (w a6 = some (obQ 6 l7 g7)) ∧ ((0 ≤ x2 ∧ x2 < ((l7 : Nat) : Int)) ∧ ((l7 < 2147483648) ∧ (∃ (a10 : Nat), (g7 x2 = some a10) ∧ (CFI ({ cls := "BranchNames$Prefers", name := "prefers", desc := "(LBranchNames$Way;LBranchNames$Way;)I" } : MethodName) 2 K [.ref a10, .ref q1, va_rf (P1 0)] w sz n fun r11 w11 z11 n11 => (rI r11) ∧ ((r11 = 0 → (VX K mX2_isBetter 2 [(0, .ref x0), (1, .ref q1), (2, vI (x2 + 1))] [] w11 z11 n11)) ∧ (¬ r11 = 0 → ((r11 ≤ 0 → (K.S (some (vI 0)) w11 z11 n11)) ∧ (¬ r11 ≤ 0 → (K.S (some (vI 1)) w11 z11 n11)))))))))))))))))) : VX K mX2_isBetter 2 [(0, .ref x0), (1, .ref q1), (2, vI x2)] [] w sz n := by
  refine v_iload_n 2 dX2_isBetter_2 rfl ?_
  refine v_aload_n 0 dX2_isBetter_3 rfl (isR_ref _) ?_
  obtain ⟨F1, P1, hw1, h⟩ := h
  refine v_get (q := x0) (j := 0) (v := va_rf (P1 1)) dX2_isBetter_4 fX2_1 hw1 rfl (lay_R0 _ _ _ (by decide)) rfl ?_
  obtain ⟨a2, ea2, h⟩ := h
  rw [ea2]
  obtain ⟨l3, g3, hw3, h⟩ := h
  refine v_alen (q := a2) (j := 0) dX2_isBetter_7 hw3 rfl (lay_Q6 _ _ _) (by decide) ?_
  obtain ⟨s4, h⟩ := h
  obtain ⟨s5, h⟩ := h
  obtain ⟨ht, hf⟩ := h
  refine v_icmp_ge 48 dX2_isBetter_8 (by decide) s4 s5 (fun c => ?_) (fun c => ?_)
  · have h := ht c
    refine v_iconst dX2_isBetter_48 ?_
    exact x_zret K dX2_isBetter_49 rfl (by decide) h
  · have h := hf c
    refine v_aload_n 0 dX2_isBetter_11 rfl (isR_ref _) ?_
    refine v_get (q := x0) (j := 0) (v := va_rf (P1 1)) dX2_isBetter_12 fX2_1 hw1 rfl (lay_R0 _ _ _ (by decide)) rfl ?_
    refine v_iload_n 2 dX2_isBetter_15 rfl ?_
    obtain ⟨a6, ea6, h⟩ := h
    rw [ea6]
    obtain ⟨l7, g7, hw7, h⟩ := h
    obtain ⟨s8, h⟩ := h
    obtain ⟨s9, h⟩ := h
    refine v_aaldQ (q := a6) (j := 0) (f := g7) (t := 6) (by decide) dX2_isBetter_16 hw7 rfl (lay_Q6 _ _ _) s8 s9 ?_
    refine v_aload_n 1 dX2_isBetter_17 rfl (isR_ref _) ?_
    refine v_aload_n 0 dX2_isBetter_18 rfl (isR_ref _) ?_
    refine v_get (q := x0) (j := 0) (v := va_rf (P1 0)) dX2_isBetter_19 fX2_16 hw1 rfl (lay_R0 _ _ _ (by decide)) rfl ?_
    obtain ⟨a10, ea10, h⟩ := h
    rw [ea10]
    refine x_callFI K (As := [.ref q1, va_rf (P1 0)]) dX2_isBetter_22 q701 rfl rfl (Nat.le_of_ble_eq_true rfl) h (fun r11 w11 z11 n11 h => ?_)
    refine v_istore_n dX2_isBetter_27 (by decide) rfl ?_
    refine v_iload_n 0 dX2_isBetter_28 rfl ?_
    obtain ⟨s12, h⟩ := h
    obtain ⟨ht, hf⟩ := h
    refine v_if_eq 42 dX2_isBetter_29 (by decide) s12 (fun c => ?_) (fun c => ?_)
    · have h := ht c
      refine v_iinc 3 dX2_isBetter_42 rfl (by decide) rfl ?_
      refine v_goto 2 dX2_isBetter_45 (by decide) ?_
      refine V.sub [2, 3, 0] rfl ?_
      exact h
    · have h := hf c
      refine v_iload_n 0 dX2_isBetter_32 rfl ?_
      obtain ⟨ht, hf⟩ := h
      refine v_if_le 40 dX2_isBetter_33 (by decide) s12 (fun c => ?_) (fun c => ?_)
      · have h := ht c
        refine v_iconst dX2_isBetter_40 ?_
        exact x_zret K dX2_isBetter_41 rfl (by decide) h
      · have h := hf c
        refine v_iconst dX2_isBetter_36 ?_
        refine v_goto 41 dX2_isBetter_37 (by decide) ?_
        exact x_zret K dX2_isBetter_41 rfl (by decide) h
/-! BranchNames$1.chosen -/
theorem wX2_chosen_0 (K : KV) {x0 : Nat} {w : Wd} {sz n : Nat} (h : ∃ (F1 : Nat → Int) (P1 : Nat → Option Nat), (w x0 = some (obR 2 F1 P1)) ∧ (K.S (some (va_rf (P1 0))) w sz n)) : VX K mX2_chosen 0 [(0, .ref x0)] [] w sz n := by
  refine v_aload_n 0 dX2_chosen_0 rfl (isR_ref _) ?_
  obtain ⟨F1, P1, hw1, h⟩ := h
  refine v_get (q := x0) (j := 0) (v := va_rf (P1 0)) dX2_chosen_1 fX2_16 hw1 rfl (lay_R0 _ _ _ (by decide)) rfl ?_
  exact x_aret K (r := P1 0) dX2_chosen_4 rfl (by first | exact Or.inl ⟨_, rfl⟩ | exact Or.inr ⟨_, rfl⟩) h
/-! BranchNames$Way.<init> -/
theorem wX3_init_0 (K : KV) {x0 : Nat} {w : Wd} {sz n : Nat} (h : (1 ≤ K.d) ∧ ((w sz = none) ∧ (∃ (F3 : Nat → Int) (P3 : Nat → Option Nat), ((wset w sz (some (obA 0 ((Int.toNat 13)) ((fun _ => 0))))) x0 = some (obR 3 F3 P3)) ∧ ((K.G.base ≤ x0) ∧ ((sz = x0 + 1) ∧ (K.S none (wset (wset (wset (wset w sz (some (obA 0 ((Int.toNat 13)) ((fun _ => 0))))) x0 (some (obR 3 F3 (upN P3 0 (some sz))))) x0 (some (obW F3 (upN P3 0 (some sz)) (fun _ => (fun _ => 0))))) (x0 + 1) none) (sz + 1) (n + Int.toNat 13))))))) : VX K mX3_init 0 [(0, .ref x0)] [] w sz n := by
  refine v_aload_n 0 dX3_init_0 rfl (isR_ref _) ?_
  obtain ⟨s1, h⟩ := h
  refine v_objInit dX3_init_1 q618 q192 q193 s1 (Nat.le_of_ble_eq_true rfl) ?_
  refine v_aload_n 0 dX3_init_4 rfl (isR_ref _) ?_
  refine v_bipush dX3_init_5 rfl ?_
  obtain ⟨s2, h⟩ := h
  refine x_newI K dX3_init_7 (by decide) s2 ?_
  obtain ⟨F3, P3, hw3, h⟩ := h
  obtain ⟨s4, h⟩ := h
  refine v_putF (q := x0) (j := 0) (v := va_rf (some sz)) (obR 3 F3 (upN P3 0 (some sz))) dX3_init_9 foX3_9 pfF3_0 rfl hw3 rfl (lay_R0 _ _ _ (by decide)) (Nat.le_of_ble_eq_true rfl) (nar_rfA _ (some sz)) (fit_rfA _ (some sz)) (chg_raw rfl rfl rfl) s4 ?_
  obtain ⟨s5, h⟩ := h
  have h77 := h
  subst s5
  refine V.world (fuse2 (q := x0) (o := obW F3 (upN P3 0 (some (x0 + 1))) (fun _ => (fun _ => 0))) (wset_eq _ _ _) (ws_ne (wset_eq _ _ _) (Ne.symm (wk_ne hw3 (wset_eq _ _ _) (show (3 : Nat) ≠ 60 by decide)))) rfl rfl rfl (fun e h => h) (fun e h => h)) ?_
  exact v_vret dX3_init_12 rfl h77
/-! BranchNames$Way.isOn -/
theorem wX3_isOn_0 (K : KV) {x1 : Int} {x0 : Nat} {w : Wd} {sz n : Nat} (h : VX K mX3_isOn 2 [(0, .ref x0), (1, vI x1), (2, vI 0)] [] w sz n) : VX K mX3_isOn 0 [(0, .ref x0), (1, vI x1)] [] w sz n := by
  refine v_iconst dX3_isOn_0 ?_
  refine v_istore_n dX3_isOn_1 (by decide) rfl ?_
  refine V.sub [1, 2, 0] rfl ?_
  exact h
theorem wX3_isOn_2 (K : KV) {x1 x2 : Int} {x0 : Nat} {w : Wd} {sz n : Nat} (h : ∃ (F1 : Nat → Int) (P1 : Nat → Option Nat) (A1 : Nat → Int → Int), (w x0 = some (obW F1 P1 A1)) ∧ ((rI x2) ∧ ((rI (F1 1)) ∧ (((F1 1) ≤ x2 → (K.S (some (vI 0)) w sz n)) ∧ (¬ (F1 1) ≤ x2 → ((0 ≤ x2 ∧ x2 < 13) ∧ ((rI (A1 0 x2)) ∧ ((rI x1) ∧ ((¬ (A1 0 x2) = x1 → (VX K mX3_isOn 2 [(0, .ref x0), (1, vI x1), (2, vI (x2 + 1))] [] w sz n)) ∧ ((A1 0 x2) = x1 → (K.S (some (vI 1)) w sz n))))))))))) : VX K mX3_isOn 2 [(0, .ref x0), (1, vI x1), (2, vI x2)] [] w sz n := by
  refine v_iload_n 2 dX3_isOn_2 rfl ?_
  refine v_aload_n 0 dX3_isOn_3 rfl (isR_ref _) ?_
  obtain ⟨F1, P1, A1, hw1, h⟩ := h
  refine v_get (q := x0) (j := 0) (v := vI (F1 1)) dX3_isOn_4 fX3_15 hw1 rfl (lay_W0 _ _ _ _) rfl ?_
  obtain ⟨s2, h⟩ := h
  obtain ⟨s3, h⟩ := h
  obtain ⟨ht, hf⟩ := h
  refine v_icmp_ge 28 dX3_isOn_7 (by decide) s2 s3 (fun c => ?_) (fun c => ?_)
  · have h := ht c
    refine v_iconst dX3_isOn_28 ?_
    exact x_zret K dX3_isOn_29 rfl (by decide) h
  · have h := hf c
    refine v_aload_n 0 dX3_isOn_10 rfl (isR_ref _) ?_
    refine v_get (q := x0) (j := 0) (v := .ref (x0 + 1)) dX3_isOn_11 fX3_9 hw1 rfl (lay_W0 _ _ _ _) rfl ?_
    refine v_iload_n 2 dX3_isOn_14 rfl ?_
    obtain ⟨s4, h⟩ := h
    refine v_iald (q := x0) (j := 1) (f := A1 0) dX3_isOn_15 hw1 rfl (lay_W1 _ _ _ _) s4 (by decide) ?_
    refine v_iload_n 1 dX3_isOn_16 rfl ?_
    obtain ⟨s5, h⟩ := h
    obtain ⟨s6, h⟩ := h
    obtain ⟨ht, hf⟩ := h
    refine v_icmp_ne 22 dX3_isOn_17 (by decide) s5 s6 (fun c => ?_) (fun c => ?_)
    · have h := ht c
      refine v_iinc 2 dX3_isOn_22 rfl (by decide) rfl ?_
      refine v_goto 2 dX3_isOn_25 (by decide) ?_
      refine V.sub [1, 2, 0] rfl ?_
      exact h
    · have h := hf c
      refine v_iconst dX3_isOn_20 ?_
      exact x_zret K dX3_isOn_21 rfl (by decide) h
/-! BranchNames$Way.becomes -/
theorem wX3_becomes_0 (K : KV) {x0 q1 : Nat} {w : Wd} {sz n : Nat} (h : ∃ (F1 : Nat → Int) (P1 : Nat → Option Nat) (A1 : Nat → Int → Int), (w q1 = some (obW F1 P1 A1)) ∧ (∃ (F2 : Nat → Int) (P2 : Nat → Option Nat) (A2 : Nat → Int → Int), (w x0 = some (obW F2 P2 A2)) ∧ ((K.G.base ≤ x0) ∧ ((q1 ≠ x0) ∧ (VX K mX3_becomes 26 [(0, .ref x0), (1, .ref q1), (2, vI 0)] [] (wset w x0 (some (obW (upN (upN F2 1 (F1 1)) 2 (F1 2)) (upN P2 3 (P1 3)) A2))) sz n))))) : VX K mX3_becomes 0 [(0, .ref x0), (1, .ref q1)] [] w sz n := by
  refine v_aload_n 0 dX3_becomes_0 rfl (isR_ref _) ?_
  refine v_aload_n 1 dX3_becomes_1 rfl (isR_ref _) ?_
  obtain ⟨F1, P1, A1, hw1, h⟩ := h
  refine v_get (q := q1) (j := 0) (v := vI (F1 1)) dX3_becomes_2 fX3_15 hw1 rfl (lay_W0 _ _ _ _) rfl ?_
  obtain ⟨F2, P2, A2, hw2, h⟩ := h
  obtain ⟨s3, h⟩ := h
  refine v_put (q := x0) (j := 0) (v := vI (F1 1)) (obW (upN F2 1 (F1 1)) P2 A2) dX3_becomes_5 fX3_15 pf3_1 hw2 rfl (lay_W0 _ _ _ _) (Nat.le_of_ble_eq_true rfl) rfl rfl (chg_W0 rfl) s3 ?_
  refine v_aload_n 0 dX3_becomes_8 rfl (isR_ref _) ?_
  refine v_aload_n 1 dX3_becomes_9 rfl (isR_ref _) ?_
  obtain ⟨s4, h⟩ := h
  refine v_get (q := q1) (j := 0) (v := vI (F1 2)) dX3_becomes_10 fX3_19 (ws_ne hw1 s4) rfl (lay_W0 _ _ _ _) rfl ?_
  refine v_put (q := x0) (j := 0) (v := vI (F1 2)) (obW (upN (upN F2 1 (F1 1)) 2 (F1 2)) P2 A2) dX3_becomes_13 fX3_19 pf3_2 (wset_eq _ _ _) rfl (lay_W0 _ _ _ _) (Nat.le_of_ble_eq_true rfl) rfl rfl (chg_W0 rfl) s3 ?_
  rw [wset_wset]
  refine v_aload_n 0 dX3_becomes_16 rfl (isR_ref _) ?_
  refine v_aload_n 1 dX3_becomes_17 rfl (isR_ref _) ?_
  refine v_get (q := q1) (j := 0) (v := va_rf (P1 3)) dX3_becomes_18 fX3_22 (ws_ne hw1 s4) rfl (lay_W0 _ _ _ _) rfl ?_
  refine v_put (q := x0) (j := 0) (v := va_rf (P1 3)) (obW (upN (upN F2 1 (F1 1)) 2 (F1 2)) (upN P2 3 (P1 3)) A2) dX3_becomes_21 fX3_22 pf3_3 (wset_eq _ _ _) rfl (lay_W0 _ _ _ _) (Nat.le_of_ble_eq_true rfl) (nar_rf _ (P1 3)) (fit_rf _ (P1 3)) (chg_W0 rfl) s3 ?_
  rw [wset_wset]
  refine v_iconst dX3_becomes_24 ?_
  refine v_istore_n dX3_becomes_25 (by decide) rfl ?_
  refine V.sub [1, 2, 0] rfl ?_
  exact h
theorem wX3_becomes_26 (K : KV) {x2 : Int} {x0 q1 : Nat} {w : Wd} {sz n : Nat} (h : ∃ (F1 : Nat → Int) (P1 : Nat → Option Nat) (A1 : Nat → Int → Int), (w x0 = some (obW F1 P1 A1)) ∧ ((rI x2) ∧ ((rI (F1 1)) ∧ (((F1 1) ≤ x2 → (K.S none w sz n)) ∧ (¬ (F1 1) ≤ x2 → (∃ (F4 : Nat → Int) (P4 : Nat → Option Nat) (A4 : Nat → Int → Int), (w q1 = some (obW F4 P4 A4)) ∧ ((0 ≤ x2 ∧ x2 < 13) ∧ ((K.G.base ≤ x0) ∧ (VX K mX3_becomes 26 [(0, .ref x0), (1, .ref q1), (2, vI (x2 + 1))] [] (wset w x0 (some (obW F1 P1 (upA A1 0 x2 (A4 0 x2))))) sz n))))))))) : VX K mX3_becomes 26 [(0, .ref x0), (1, .ref q1), (2, vI x2)] [] w sz n := by
  refine v_iload_n 2 dX3_becomes_26 rfl ?_
  refine v_aload_n 0 dX3_becomes_27 rfl (isR_ref _) ?_
  obtain ⟨F1, P1, A1, hw1, h⟩ := h
  refine v_get (q := x0) (j := 0) (v := vI (F1 1)) dX3_becomes_28 fX3_15 hw1 rfl (lay_W0 _ _ _ _) rfl ?_
  obtain ⟨s2, h⟩ := h
  obtain ⟨s3, h⟩ := h
  obtain ⟨ht, hf⟩ := h
  refine v_icmp_ge 52 dX3_becomes_31 (by decide) s2 s3 (fun c => ?_) (fun c => ?_)
  · have h := ht c
    exact v_vret dX3_becomes_52 rfl h
  · have h := hf c
    refine v_aload_n 0 dX3_becomes_34 rfl (isR_ref _) ?_
    refine v_get (q := x0) (j := 0) (v := .ref (x0 + 1)) dX3_becomes_35 fX3_9 hw1 rfl (lay_W0 _ _ _ _) rfl ?_
    refine v_iload_n 2 dX3_becomes_38 rfl ?_
    refine v_aload_n 1 dX3_becomes_39 rfl (isR_ref _) ?_
    obtain ⟨F4, P4, A4, hw4, h⟩ := h
    refine v_get (q := q1) (j := 0) (v := .ref (q1 + 1)) dX3_becomes_40 fX3_9 hw4 rfl (lay_W0 _ _ _ _) rfl ?_
    refine v_iload_n 2 dX3_becomes_43 rfl ?_
    obtain ⟨s5, h⟩ := h
    refine v_iald (q := q1) (j := 1) (f := A4 0) dX3_becomes_44 hw4 rfl (lay_W1 _ _ _ _) s5 (by decide) ?_
    obtain ⟨s6, h⟩ := h
    refine v_iast (q := x0) (j := 1) (f := A1 0) (obW F1 P1 (upA A1 0 x2 (A4 0 x2))) dX3_becomes_45 hw1 rfl (lay_W1 _ _ _ _) s5 (by decide) (chg_W1 _ _) s6 ?_
    refine v_iinc 2 dX3_becomes_46 rfl (by decide) rfl ?_
    refine v_goto 26 dX3_becomes_49 (by decide) ?_
    refine V.sub [1, 2, 0] rfl ?_
    exact h
/-! BranchNames$Seeker.<init> -/
theorem wX4_init_0 (K : KV) {x2 : Int} {x0 q1 : Nat} {w : Wd} {sz n : Nat} (h : (1 ≤ K.d) ∧ ((w sz = none) ∧ (CV mX3_init K [.ref sz] (wset w sz (some (obR 3 nF nP))) (sz + 1) (n + 4) fun w3 z3 n3 => ∃ (F4 : Nat → Int) (P4 : Nat → Option Nat), (w3 x0 = some (obR 4 F4 P4)) ∧ ((K.G.base ≤ x0) ∧ (K.S none (wset w3 x0 (some (obR 4 (upN F4 1 x2) (upN (upN P4 2 (some sz)) 0 (some q1))))) z3 n3))))) : VX K mX4_init 0 [(0, .ref x0), (1, .ref q1), (2, vI x2)] [] w sz n := by
  refine v_aload_n 0 dX4_init_0 rfl (isR_ref _) ?_
  obtain ⟨s1, h⟩ := h
  refine v_objInit dX4_init_1 q657 q192 q193 s1 (Nat.le_of_ble_eq_true rfl) ?_
  refine v_aload_n 0 dX4_init_4 rfl (isR_ref _) ?_
  obtain ⟨s2, h⟩ := h
  refine v_new K (ci := 3) (C := RX3) (T := TX3) (N := 4) tyX3 dX4_init_5 (by decide) rfl in_X3 tyX3_ok q658 q614 q165 nw3 s2 ?_
  refine v_dup dX4_init_8 rfl ?_
  refine x_callINV K (As := []) dX4_init_9 LX4_9 rfl rfl (Nat.le_of_ble_eq_true rfl) h (fun w3 z3 n3 h => ?_)
  obtain ⟨F4, P4, hw4, h⟩ := h
  obtain ⟨s5, h⟩ := h
  refine v_putF (q := x0) (j := 0) (v := va_rf (some sz)) (obR 4 F4 (upN P4 2 (some sz))) dX4_init_12 foX4_10 pfF4_2 rfl hw4 rfl (lay_R0 _ _ _ (by decide)) (Nat.le_of_ble_eq_true rfl) (nar_rf _ (some sz)) (fit_rf _ (some sz)) (chg_raw rfl rfl rfl) s5 ?_
  refine v_aload_n 0 dX4_init_15 rfl (isR_ref _) ?_
  refine v_aload_n 1 dX4_init_16 rfl (isR_ref _) ?_
  refine v_putF (q := x0) (j := 0) (v := va_rf (some q1)) (obR 4 F4 (upN (upN P4 2 (some sz)) 0 (some q1))) dX4_init_17 foX4_16 pfF4_0 rfl (wset_eq _ _ _) rfl (lay_R0 _ _ _ (by decide)) (Nat.le_of_ble_eq_true rfl) (nar_rf _ (some q1)) (fit_rf _ (some q1)) (chg_raw rfl rfl rfl) s5 ?_
  rw [wset_wset]
  refine v_aload_n 0 dX4_init_20 rfl (isR_ref _) ?_
  refine v_iload_n 2 dX4_init_21 rfl ?_
  refine v_putF (q := x0) (j := 0) (v := vI x2) (obR 4 (upN F4 1 x2) (upN (upN P4 2 (some sz)) 0 (some q1))) dX4_init_22 foX4_20 pfF4_1 rfl (wset_eq _ _ _) rfl (lay_R0 _ _ _ (by decide)) (Nat.le_of_ble_eq_true rfl) rfl rfl (chg_raw rfl rfl rfl) s5 ?_
  rw [wset_wset]
  exact v_vret dX4_init_25 rfl h
/-! BranchNames$Seeker.seeks -/
theorem wX4_seeks_0 (K : KV) {x1 x2 : Int} {x0 q3 : Nat} {w : Wd} {sz n : Nat} (h : ∃ (F1 : Nat → Int) (P1 : Nat → Option Nat), (w x0 = some (obR 4 F1 P1)) ∧ (∃ (a2 : Nat), (P1 2 = some a2) ∧ (∃ (F3 : Nat → Int) (P3 : Nat → Option Nat) (A3 : Nat → Int → Int), (w a2 = some (obW F3 P3 A3)) ∧ (∃ (a4 : Nat), (P1 2 = some a4) ∧ (∃ (F5 : Nat → Int) (P5 : Nat → Option Nat) (A5 : Nat → Int → Int), (w a4 = some (obW F5 P5 A5)) ∧ ((0 ≤ (F5 1) ∧ (F5 1) < 13) ∧ ((K.G.base ≤ a2) ∧ (∃ (a8 : Nat), (P1 2 = some a8) ∧ (∃ (F9 : Nat → Int) (P9 : Nat → Option Nat) (A9 : Nat → Int → Int), ((wset w a2 (some (obW F3 P3 (upA A3 0 (F5 1) x1)))) a8 = some (obW F9 P9 A9)) ∧ ((a8 ≠ a2) ∧ ((K.G.base ≤ a8) ∧ (∃ (a12 : Nat), (P1 2 = some a12) ∧ (∃ (F13 : Nat → Int) (P13 : Nat → Option Nat) (A13 : Nat → Int → Int), ((wset (wset w a2 (some (obW F3 P3 (upA A3 0 (F5 1) x1)))) a8 (some (obW (upN F9 1 ((F9 1) + 1)) P9 A9))) a12 = some (obW F13 P13 A13)) ∧ ((a12 ≠ a2) ∧ ((a12 ≠ a8) ∧ ((K.G.base ≤ a12) ∧ (VX K mX4_seeks 40 [(0, .ref x0), (1, vI x1), (2, vI x2), (3, .ref q3), (4, vI 0)] [] (wset (wset (wset w a2 (some (obW F3 P3 (upA A3 0 (F5 1) x1)))) a8 (some (obW (upN F9 1 ((F9 1) + 1)) P9 A9))) a12 (some (obW (upN F13 2 0) P13 A13))) sz n))))))))))))))))) : VX K mX4_seeks 0 [(0, .ref x0), (1, vI x1), (2, vI x2), (3, .ref q3)] [] w sz n := by
  refine v_aload_n 0 dX4_seeks_0 rfl (isR_ref _) ?_
  obtain ⟨F1, P1, hw1, h⟩ := h
  refine v_get (q := x0) (j := 0) (v := va_rf (P1 2)) dX4_seeks_1 fX4_10 hw1 rfl (lay_R0 _ _ _ (by decide)) rfl ?_
  obtain ⟨a2, ea2, h⟩ := h
  rw [ea2]
  obtain ⟨F3, P3, A3, hw3, h⟩ := h
  refine v_get (q := a2) (j := 0) (v := .ref (a2 + 1)) dX4_seeks_4 fX4_42 hw3 rfl (lay_W0 _ _ _ _) rfl ?_
  refine v_aload_n 0 dX4_seeks_7 rfl (isR_ref _) ?_
  refine v_get (q := x0) (j := 0) (v := va_rf (P1 2)) dX4_seeks_8 fX4_10 hw1 rfl (lay_R0 _ _ _ (by decide)) rfl ?_
  obtain ⟨a4, ea4, h⟩ := h
  rw [ea4]
  obtain ⟨F5, P5, A5, hw5, h⟩ := h
  refine v_get (q := a4) (j := 0) (v := vI (F5 1)) dX4_seeks_11 fX4_45 hw5 rfl (lay_W0 _ _ _ _) rfl ?_
  refine v_iload_n 1 dX4_seeks_14 rfl ?_
  obtain ⟨s6, h⟩ := h
  obtain ⟨s7, h⟩ := h
  refine v_iast (q := a2) (j := 1) (f := A3 0) (obW F3 P3 (upA A3 0 (F5 1) x1)) dX4_seeks_15 hw3 rfl (lay_W1 _ _ _ _) s6 (by decide) (chg_W1 _ _) s7 ?_
  refine v_aload_n 0 dX4_seeks_16 rfl (isR_ref _) ?_
  refine v_get (q := x0) (j := 0) (v := va_rf (P1 2)) dX4_seeks_17 fX4_10 (ws_ne hw1 (wk_ne hw1 hw3 (show (4 : Nat) ≠ 82 by decide))) rfl (lay_R0 _ _ _ (by decide)) rfl ?_
  refine v_dup dX4_seeks_20 (cat_rf _) ?_
  obtain ⟨a8, ea8, h⟩ := h
  rw [ea8]
  obtain ⟨F9, P9, A9, hw9, h⟩ := h
  obtain ⟨s10, h⟩ := h
  refine v_get (q := a8) (j := 0) (v := vI (F9 1)) dX4_seeks_21 fX4_45 hw9 rfl (lay_W0 _ _ _ _) rfl ?_
  refine v_iconst dX4_seeks_24 ?_
  refine v_iadd dX4_seeks_25 ?_
  obtain ⟨s11, h⟩ := h
  refine v_put (q := a8) (j := 0) (v := vI ((F9 1) + 1)) (obW (upN F9 1 ((F9 1) + 1)) P9 A9) dX4_seeks_26 fX4_45 pf3_1 hw9 rfl (lay_W0 _ _ _ _) (Nat.le_of_ble_eq_true rfl) rfl rfl (chg_W0 rfl) s11 ?_
  refine v_aload_n 0 dX4_seeks_29 rfl (isR_ref _) ?_
  refine v_get (q := x0) (j := 0) (v := va_rf (P1 2)) dX4_seeks_30 fX4_10 (ws_ne (ws_ne hw1 (wk_ne hw1 hw3 (show (4 : Nat) ≠ 82 by decide))) (wk_ne (ws_ne hw1 (wk_ne hw1 hw3 (show (4 : Nat) ≠ 82 by decide))) hw9 (show (4 : Nat) ≠ 82 by decide))) rfl (lay_R0 _ _ _ (by decide)) rfl ?_
  refine v_iconst dX4_seeks_33 ?_
  obtain ⟨a12, ea12, h⟩ := h
  rw [ea12]
  obtain ⟨F13, P13, A13, hw13, h⟩ := h
  obtain ⟨s14, h⟩ := h
  obtain ⟨s15, h⟩ := h
  obtain ⟨s16, h⟩ := h
  refine v_put (q := a12) (j := 0) (v := vI 0) (obW (upN F13 2 0) P13 A13) dX4_seeks_34 fX4_48 pf3_2 hw13 rfl (lay_W0 _ _ _ _) (Nat.le_of_ble_eq_true rfl) rfl rfl (chg_W0 rfl) s16 ?_
  refine v_iconst dX4_seeks_37 ?_
  refine v_istore dX4_seeks_38 (by decide) rfl ?_
  refine V.sub [1, 2, 3, 4, 0] rfl ?_
  exact h
theorem wX4_seeks_40 (K : KV) {x1 x2 x4 : Int} {x0 q3 : Nat} {w : Wd} {sz n : Nat} (h : ∃ (F1 : Nat → Int) (P1 : Nat → Option Nat), (w x0 = some (obR 4 F1 P1)) ∧ (∃ (a2 : Nat), (P1 2 = some a2) ∧ (∃ (F3 : Nat → Int) (P3 : Nat → Option Nat) (A3 : Nat → Int → Int), (w a2 = some (obW F3 P3 A3)) ∧ ((rI x4) ∧ ((rI (F3 1)) ∧ (((F3 1) ≤ x4 → (CFV ({ cls := "BranchNames$Sees", name := "sees", desc := "(LBranchNames$Way;)V" } : MethodName) 1 K [.ref q3, va_rf (P1 2)] w sz n fun w6 z6 n6 => VX K mX4_seeks 97 [(0, .ref x0), (1, vI x1), (2, vI x2), (3, .ref q3), (4, vI 0)] [] w6 z6 n6)) ∧ (¬ (F3 1) ≤ x4 → (∃ (a6 : Nat), (P1 2 = some a6) ∧ (∃ (F7 : Nat → Int) (P7 : Nat → Option Nat) (A7 : Nat → Int → Int), (w a6 = some (obW F7 P7 A7)) ∧ (∃ (a8 : Nat), (P1 2 = some a8) ∧ (∃ (F9 : Nat → Int) (P9 : Nat → Option Nat) (A9 : Nat → Int → Int), (w a8 = some (obW F9 P9 A9)) ∧ ((0 ≤ x4 ∧ x4 < 13) ∧ (CI mX4_hanging K [.ref x0, vI (A9 0 x4)] w sz n fun r11 w11 z11 n11 => ∃ (F12 : Nat → Int) (P12 : Nat → Option Nat) (A12 : Nat → Int → Int), (w11 a6 = some (obW F12 P12 A12)) ∧ ((K.G.base ≤ a6) ∧ (VX K mX4_seeks 40 [(0, .ref x0), (1, vI x1), (2, vI x2), (3, .ref q3), (4, vI (x4 + 1))] [] (wset w11 a6 (some (obW (upN F12 2 ((F7 2) + r11)) P12 A12))) z11 n11))))))))))))))) : VX K mX4_seeks 40 [(0, .ref x0), (1, vI x1), (2, vI x2), (3, .ref q3), (4, vI x4)] [] w sz n := by
  refine v_iload 4 dX4_seeks_40 rfl ?_
  refine v_aload_n 0 dX4_seeks_42 rfl (isR_ref _) ?_
  obtain ⟨F1, P1, hw1, h⟩ := h
  refine v_get (q := x0) (j := 0) (v := va_rf (P1 2)) dX4_seeks_43 fX4_10 hw1 rfl (lay_R0 _ _ _ (by decide)) rfl ?_
  obtain ⟨a2, ea2, h⟩ := h
  rw [ea2]
  obtain ⟨F3, P3, A3, hw3, h⟩ := h
  refine v_get (q := a2) (j := 0) (v := vI (F3 1)) dX4_seeks_46 fX4_45 hw3 rfl (lay_W0 _ _ _ _) rfl ?_
  obtain ⟨s4, h⟩ := h
  obtain ⟨s5, h⟩ := h
  obtain ⟨ht, hf⟩ := h
  refine v_icmp_ge 84 dX4_seeks_49 (by decide) s4 s5 (fun c => ?_) (fun c => ?_)
  · have h := ht c
    refine v_aload_n 3 dX4_seeks_84 rfl (isR_ref _) ?_
    refine v_aload_n 0 dX4_seeks_85 rfl (isR_ref _) ?_
    refine v_get (q := x0) (j := 0) (v := va_rf (P1 2)) dX4_seeks_86 fX4_10 hw1 rfl (lay_R0 _ _ _ (by decide)) rfl ?_
    refine x_callFV K (As := [va_rf (P1 2)]) dX4_seeks_89 q687 rfl rfl (Nat.le_of_ble_eq_true rfl) h (fun w6 z6 n6 h => ?_)
    refine v_iconst dX4_seeks_94 ?_
    refine v_istore dX4_seeks_95 (by decide) rfl ?_
    refine V.sub [1, 2, 3, 4, 0] rfl ?_
    exact h
  · have h := hf c
    refine v_aload_n 0 dX4_seeks_52 rfl (isR_ref _) ?_
    refine v_get (q := x0) (j := 0) (v := va_rf (P1 2)) dX4_seeks_53 fX4_10 hw1 rfl (lay_R0 _ _ _ (by decide)) rfl ?_
    refine v_dup dX4_seeks_56 (cat_rf _) ?_
    obtain ⟨a6, ea6, h⟩ := h
    rw [ea6]
    obtain ⟨F7, P7, A7, hw7, h⟩ := h
    refine v_get (q := a6) (j := 0) (v := vI (F7 2)) dX4_seeks_57 fX4_48 hw7 rfl (lay_W0 _ _ _ _) rfl ?_
    refine v_aload_n 0 dX4_seeks_60 rfl (isR_ref _) ?_
    refine v_aload_n 0 dX4_seeks_61 rfl (isR_ref _) ?_
    refine v_get (q := x0) (j := 0) (v := va_rf (P1 2)) dX4_seeks_62 fX4_10 hw1 rfl (lay_R0 _ _ _ (by decide)) rfl ?_
    obtain ⟨a8, ea8, h⟩ := h
    rw [ea8]
    obtain ⟨F9, P9, A9, hw9, h⟩ := h
    refine v_get (q := a8) (j := 0) (v := .ref (a8 + 1)) dX4_seeks_65 fX4_42 hw9 rfl (lay_W0 _ _ _ _) rfl ?_
    refine v_iload 4 dX4_seeks_68 rfl ?_
    obtain ⟨s10, h⟩ := h
    refine v_iald (q := a8) (j := 1) (f := A9 0) dX4_seeks_70 hw9 rfl (lay_W1 _ _ _ _) s10 (by decide) ?_
    refine x_callVI K (As := [vI (A9 0 x4)]) dX4_seeks_71 LX4_51 rfl rfl (Nat.le_of_ble_eq_true rfl) (rc_of hw1 (lay_R0 _ _ _ (by decide)) rfl) h (fun r11 w11 z11 n11 h => ?_)
    refine v_iadd dX4_seeks_74 ?_
    obtain ⟨F12, P12, A12, hw12, h⟩ := h
    obtain ⟨s13, h⟩ := h
    refine v_put (q := a6) (j := 0) (v := vI ((F7 2) + r11)) (obW (upN F12 2 ((F7 2) + r11)) P12 A12) dX4_seeks_75 fX4_48 pf3_2 hw12 rfl (lay_W0 _ _ _ _) (Nat.le_of_ble_eq_true rfl) rfl rfl (chg_W0 rfl) s13 ?_
    refine v_iinc 4 dX4_seeks_78 rfl (by decide) rfl ?_
    refine v_goto 40 dX4_seeks_81 (by decide) ?_
    refine V.sub [1, 2, 3, 4, 0] rfl ?_
    exact h
theorem wX4_seeks_97 (K : KV) {x1 x2 x4 : Int} {x0 q3 : Nat} {w : Wd} {sz n : Nat} (h : ∃ (F1 : Nat → Int) (P1 : Nat → Option Nat), (w x0 = some (obR 4 F1 P1)) ∧ (∃ (a2 : Nat), (P1 0 = some a2) ∧ (∃ (F3 : Nat → Int) (P3 : Nat → Option Nat) (A3 : Nat → Int → Int) (M3 : Nat → Int → Int → Int) (N3 : Nat → Int → Int → Option Nat), (w a2 = some (obT F3 P3 A3 M3 N3)) ∧ ((0 ≤ x1 ∧ x1 < 13) ∧ ((rI x4) ∧ ((rI (A3 0 x1)) ∧ (((A3 0 x1) ≤ x4 → (∃ (a7 : Nat), (P1 2 = some a7) ∧ (∃ (F8 : Nat → Int) (P8 : Nat → Option Nat) (A8 : Nat → Int → Int), (w a7 = some (obW F8 P8 A8)) ∧ ((K.G.base ≤ a7) ∧ (K.S none (wset w a7 (some (obW (upN F8 1 ((F8 1) - 1)) P8 A8))) sz n))))) ∧ (¬ (A3 0 x1) ≤ x4 → (∃ (a7 : Nat), (P1 0 = some a7) ∧ (∃ (F8 : Nat → Int) (P8 : Nat → Option Nat) (A8 : Nat → Int → Int) (M8 : Nat → Int → Int → Int) (N8 : Nat → Int → Int → Option Nat), (w a7 = some (obT F8 P8 A8 M8 N8)) ∧ ((0 ≤ x4 ∧ x4 < 4) ∧ ((rI (M8 0 x1 x4)) ∧ ((rI x2) ∧ (((M8 0 x1 x4) = x2 → (VX K mX4_seeks 97 [(0, .ref x0), (1, vI x1), (2, vI x2), (3, .ref q3), (4, vI (x4 + 1))] [] w sz n)) ∧ (¬ (M8 0 x1 x4) = x2 → (∃ (a12 : Nat), (P1 0 = some a12) ∧ (∃ (F13 : Nat → Int) (P13 : Nat → Option Nat) (A13 : Nat → Int → Int) (M13 : Nat → Int → Int → Int) (N13 : Nat → Int → Int → Option Nat), (w a12 = some (obT F13 P13 A13 M13 N13)) ∧ (CV mX4_seeks K [.ref x0, vI (M13 0 x1 x4), vI x1, .ref q3] w sz n fun w14 z14 n14 => VX K mX4_seeks 97 [(0, .ref x0), (1, vI x1), (2, vI x2), (3, .ref q3), (4, vI (x4 + 1))] [] w14 z14 n14)))))))))))))))))) : VX K mX4_seeks 97 [(0, .ref x0), (1, vI x1), (2, vI x2), (3, .ref q3), (4, vI x4)] [] w sz n := by
  refine v_iload 4 dX4_seeks_97 rfl ?_
  refine v_aload_n 0 dX4_seeks_99 rfl (isR_ref _) ?_
  obtain ⟨F1, P1, hw1, h⟩ := h
  refine v_get (q := x0) (j := 0) (v := va_rf (P1 0)) dX4_seeks_100 fX4_16 hw1 rfl (lay_R0 _ _ _ (by decide)) rfl ?_
  obtain ⟨a2, ea2, h⟩ := h
  rw [ea2]
  obtain ⟨F3, P3, A3, M3, N3, hw3, h⟩ := h
  refine v_get (q := a2) (j := 0) (v := .ref (a2 + 43)) dX4_seeks_103 fX4_24 hw3 rfl (lay_T0 _ _ _ _ _ _) rfl ?_
  refine v_iload_n 1 dX4_seeks_106 rfl ?_
  obtain ⟨s4, h⟩ := h
  refine v_iald (q := a2) (j := 43) (f := A3 0) dX4_seeks_107 hw3 rfl rfl s4 (by decide) ?_
  obtain ⟨s5, h⟩ := h
  obtain ⟨s6, h⟩ := h
  obtain ⟨ht, hf⟩ := h
  refine v_icmp_ge 151 dX4_seeks_108 (by decide) s5 s6 (fun c => ?_) (fun c => ?_)
  · have h := ht c
    refine v_aload_n 0 dX4_seeks_151 rfl (isR_ref _) ?_
    refine v_get (q := x0) (j := 0) (v := va_rf (P1 2)) dX4_seeks_152 fX4_10 hw1 rfl (lay_R0 _ _ _ (by decide)) rfl ?_
    refine v_dup dX4_seeks_155 (cat_rf _) ?_
    obtain ⟨a7, ea7, h⟩ := h
    rw [ea7]
    obtain ⟨F8, P8, A8, hw8, h⟩ := h
    refine v_get (q := a7) (j := 0) (v := vI (F8 1)) dX4_seeks_156 fX4_45 hw8 rfl (lay_W0 _ _ _ _) rfl ?_
    refine v_iconst dX4_seeks_159 ?_
    refine v_isub dX4_seeks_160 ?_
    obtain ⟨s9, h⟩ := h
    refine v_put (q := a7) (j := 0) (v := vI ((F8 1) - 1)) (obW (upN F8 1 ((F8 1) - 1)) P8 A8) dX4_seeks_161 fX4_45 pf3_1 hw8 rfl (lay_W0 _ _ _ _) (Nat.le_of_ble_eq_true rfl) rfl rfl (chg_W0 rfl) s9 ?_
    exact v_vret dX4_seeks_164 rfl h
  · have h := hf c
    refine v_aload_n 0 dX4_seeks_111 rfl (isR_ref _) ?_
    refine v_get (q := x0) (j := 0) (v := va_rf (P1 0)) dX4_seeks_112 fX4_16 hw1 rfl (lay_R0 _ _ _ (by decide)) rfl ?_
    obtain ⟨a7, ea7, h⟩ := h
    rw [ea7]
    obtain ⟨F8, P8, A8, M8, N8, hw8, h⟩ := h
    refine v_get (q := a7) (j := 0) (v := .ref (a7 + 1)) dX4_seeks_115 fX4_30 hw8 rfl (lay_T0 _ _ _ _ _ _) rfl ?_
    refine v_iload_n 1 dX4_seeks_118 rfl ?_
    refine v_aaldR (q := a7) (j := 1) (q0 := a7 + 2) (t := 8) (by decide) dX4_seeks_119 hw8 rfl rfl s4 (by decide) ?_
    refine v_iload 4 dX4_seeks_120 rfl ?_
    obtain ⟨s9, h⟩ := h
    refine v_iald (q := a7) (j := 2 + Int.toNat x1) (f := M8 0 x1) dX4_seeks_122 hw8 (Nat.add_assoc _ _ _) (lay_Tn s4) s9 (by decide) ?_
    refine v_iload_n 2 dX4_seeks_123 rfl ?_
    obtain ⟨s10, h⟩ := h
    obtain ⟨s11, h⟩ := h
    obtain ⟨ht, hf⟩ := h
    refine v_icmp_eq 145 dX4_seeks_124 (by decide) s10 s11 (fun c => ?_) (fun c => ?_)
    · have h := ht c
      refine v_iinc 4 dX4_seeks_145 rfl (by decide) rfl ?_
      refine v_goto 97 dX4_seeks_148 (by decide) ?_
      refine V.sub [1, 2, 3, 4, 0] rfl ?_
      exact h
    · have h := hf c
      refine v_aload_n 0 dX4_seeks_127 rfl (isR_ref _) ?_
      refine v_aload_n 0 dX4_seeks_128 rfl (isR_ref _) ?_
      refine v_get (q := x0) (j := 0) (v := va_rf (P1 0)) dX4_seeks_129 fX4_16 hw1 rfl (lay_R0 _ _ _ (by decide)) rfl ?_
      obtain ⟨a12, ea12, h⟩ := h
      rw [ea12]
      obtain ⟨F13, P13, A13, M13, N13, hw13, h⟩ := h
      refine v_get (q := a12) (j := 0) (v := .ref (a12 + 1)) dX4_seeks_132 fX4_30 hw13 rfl (lay_T0 _ _ _ _ _ _) rfl ?_
      refine v_iload_n 1 dX4_seeks_135 rfl ?_
      refine v_aaldR (q := a12) (j := 1) (q0 := a12 + 2) (t := 8) (by decide) dX4_seeks_136 hw13 rfl rfl s4 (by decide) ?_
      refine v_iload 4 dX4_seeks_137 rfl ?_
      refine v_iald (q := a12) (j := 2 + Int.toNat x1) (f := M13 0 x1) dX4_seeks_139 hw13 (Nat.add_assoc _ _ _) (lay_Tn s4) s9 (by decide) ?_
      refine v_iload_n 1 dX4_seeks_140 rfl ?_
      refine v_aload_n 3 dX4_seeks_141 rfl (isR_ref _) ?_
      refine x_callVV K (As := [vI (M13 0 x1 x4), vI x1, .ref q3]) dX4_seeks_142 LX4_61 rfl rfl (Nat.le_of_ble_eq_true rfl) (rc_of hw1 (lay_R0 _ _ _ (by decide)) rfl) h (fun w14 z14 n14 h => ?_)
      refine v_iinc 4 dX4_seeks_145 rfl (by decide) rfl ?_
      refine v_goto 97 dX4_seeks_148 (by decide) ?_
      refine V.sub [1, 2, 3, 4, 0] rfl ?_
      exact h
/-! BranchNames$Seeker.hanging -/
theorem wX4_hanging_0 (K : KV) {x1 : Int} {x0 : Nat} {w : Wd} {sz n : Nat} (h : VX K mX4_hanging 4 [(0, .ref x0), (1, vI x1), (2, vI 0), (3, vI 0)] [] w sz n) : VX K mX4_hanging 0 [(0, .ref x0), (1, vI x1)] [] w sz n := by
  refine v_iconst dX4_hanging_0 ?_
  refine v_istore_n dX4_hanging_1 (by decide) rfl ?_
  refine v_iconst dX4_hanging_2 ?_
  refine v_istore_n dX4_hanging_3 (by decide) rfl ?_
  refine V.sub [2, 3, 1, 0] rfl ?_
  exact h
theorem wX4_hanging_4 (K : KV) {x1 x2 x3 : Int} {x0 : Nat} {w : Wd} {sz n : Nat} (h : ∃ (F1 : Nat → Int) (P1 : Nat → Option Nat), (w x0 = some (obR 4 F1 P1)) ∧ (∃ (a2 : Nat), (P1 0 = some a2) ∧ (∃ (F3 : Nat → Int) (P3 : Nat → Option Nat) (A3 : Nat → Int → Int) (M3 : Nat → Int → Int → Int) (N3 : Nat → Int → Int → Option Nat), (w a2 = some (obT F3 P3 A3 M3 N3)) ∧ ((0 ≤ x1 ∧ x1 < 13) ∧ ((rI x3) ∧ ((rI (A3 0 x1)) ∧ (((A3 0 x1) ≤ x3 → (K.S (some (vI x2)) w sz n)) ∧ (¬ (A3 0 x1) ≤ x3 → (∃ (a7 : Nat), (P1 0 = some a7) ∧ (∃ (F8 : Nat → Int) (P8 : Nat → Option Nat) (A8 : Nat → Int → Int) (M8 : Nat → Int → Int → Int) (N8 : Nat → Int → Int → Option Nat), (w a7 = some (obT F8 P8 A8 M8 N8)) ∧ ((0 ≤ x3 ∧ x3 < 4) ∧ (CI mX4_isBranch K [.ref x0, vI x1, vI (M8 0 x1 x3)] w sz n fun r10 w10 z10 n10 => (rI r10) ∧ ((r10 = 0 → (VX K mX4_hanging 4 [(0, .ref x0), (1, vI x1), (2, vI (x2 + 0)), (3, vI (x3 + 1))] [] w10 z10 n10)) ∧ (¬ r10 = 0 → (VX K mX4_hanging 4 [(0, .ref x0), (1, vI x1), (2, vI (x2 + 1)), (3, vI (x3 + 1))] [] w10 z10 n10))))))))))))))) : VX K mX4_hanging 4 [(0, .ref x0), (1, vI x1), (2, vI x2), (3, vI x3)] [] w sz n := by
  refine v_iload_n 3 dX4_hanging_4 rfl ?_
  refine v_aload_n 0 dX4_hanging_5 rfl (isR_ref _) ?_
  obtain ⟨F1, P1, hw1, h⟩ := h
  refine v_get (q := x0) (j := 0) (v := va_rf (P1 0)) dX4_hanging_6 fX4_16 hw1 rfl (lay_R0 _ _ _ (by decide)) rfl ?_
  obtain ⟨a2, ea2, h⟩ := h
  rw [ea2]
  obtain ⟨F3, P3, A3, M3, N3, hw3, h⟩ := h
  refine v_get (q := a2) (j := 0) (v := .ref (a2 + 43)) dX4_hanging_9 fX4_24 hw3 rfl (lay_T0 _ _ _ _ _ _) rfl ?_
  refine v_iload_n 1 dX4_hanging_12 rfl ?_
  obtain ⟨s4, h⟩ := h
  refine v_iald (q := a2) (j := 43) (f := A3 0) dX4_hanging_13 hw3 rfl rfl s4 (by decide) ?_
  obtain ⟨s5, h⟩ := h
  obtain ⟨s6, h⟩ := h
  obtain ⟨ht, hf⟩ := h
  refine v_icmp_ge 50 dX4_hanging_14 (by decide) s5 s6 (fun c => ?_) (fun c => ?_)
  · have h := ht c
    refine v_iload_n 2 dX4_hanging_50 rfl ?_
    exact x_iret K dX4_hanging_51 rfl h
  · have h := hf c
    refine v_iload_n 2 dX4_hanging_17 rfl ?_
    refine v_aload_n 0 dX4_hanging_18 rfl (isR_ref _) ?_
    refine v_iload_n 1 dX4_hanging_19 rfl ?_
    refine v_aload_n 0 dX4_hanging_20 rfl (isR_ref _) ?_
    refine v_get (q := x0) (j := 0) (v := va_rf (P1 0)) dX4_hanging_21 fX4_16 hw1 rfl (lay_R0 _ _ _ (by decide)) rfl ?_
    obtain ⟨a7, ea7, h⟩ := h
    rw [ea7]
    obtain ⟨F8, P8, A8, M8, N8, hw8, h⟩ := h
    refine v_get (q := a7) (j := 0) (v := .ref (a7 + 1)) dX4_hanging_24 fX4_30 hw8 rfl (lay_T0 _ _ _ _ _ _) rfl ?_
    refine v_iload_n 1 dX4_hanging_27 rfl ?_
    refine v_aaldR (q := a7) (j := 1) (q0 := a7 + 2) (t := 8) (by decide) dX4_hanging_28 hw8 rfl rfl s4 (by decide) ?_
    refine v_iload_n 3 dX4_hanging_29 rfl ?_
    obtain ⟨s9, h⟩ := h
    refine v_iald (q := a7) (j := 2 + Int.toNat x1) (f := M8 0 x1) dX4_hanging_30 hw8 (Nat.add_assoc _ _ _) (lay_Tn s4) s9 (by decide) ?_
    refine x_callVI K (As := [vI x1, vI (M8 0 x1 x3)]) dX4_hanging_31 LX4_34 rfl rfl (Nat.le_of_ble_eq_true rfl) (rc_of hw1 (lay_R0 _ _ _ (by decide)) rfl) h (fun r10 w10 z10 n10 h => ?_)
    obtain ⟨s11, h⟩ := h
    obtain ⟨ht, hf⟩ := h
    refine v_if_eq 41 dX4_hanging_34 (by decide) s11 (fun c => ?_) (fun c => ?_)
    · have h := ht c
      refine v_iconst dX4_hanging_41 ?_
      refine v_iadd dX4_hanging_42 ?_
      refine v_istore_n dX4_hanging_43 (by decide) rfl ?_
      refine v_iinc 3 dX4_hanging_44 rfl (by decide) rfl ?_
      refine v_goto 4 dX4_hanging_47 (by decide) ?_
      refine V.sub [2, 3, 1, 0] rfl ?_
      exact h
    · have h := hf c
      refine v_iconst dX4_hanging_37 ?_
      refine v_goto 42 dX4_hanging_38 (by decide) ?_
      refine v_iadd dX4_hanging_42 ?_
      refine v_istore_n dX4_hanging_43 (by decide) rfl ?_
      refine v_iinc 3 dX4_hanging_44 rfl (by decide) rfl ?_
      refine v_goto 4 dX4_hanging_47 (by decide) ?_
      refine V.sub [2, 3, 1, 0] rfl ?_
      exact h
/-! BranchNames$Seeker.isBranch -/
theorem wX4_isBranch_0 (K : KV) {x1 x2 : Int} {x0 : Nat} {w : Wd} {sz n : Nat} (h : ∃ (F1 : Nat → Int) (P1 : Nat → Option Nat), (w x0 = some (obR 4 F1 P1)) ∧ ((rI x2) ∧ ((rI (F1 1)) ∧ ((x2 = (F1 1) → (K.S (some (vI 0)) w sz n)) ∧ (¬ x2 = (F1 1) → (∃ (a4 : Nat), (P1 2 = some a4) ∧ (∃ (F5 : Nat → Int) (P5 : Nat → Option Nat) (A5 : Nat → Int → Int), (w a4 = some (obW F5 P5 A5)) ∧ (CI mX3_isOn K [.ref a4, vI x2] w sz n fun r6 w6 z6 n6 => (rI r6) ∧ ((¬ r6 = 0 → (K.S (some (vI 0)) w6 z6 n6)) ∧ (r6 = 0 → (K.S (some (vI 1)) w6 z6 n6))))))))))) : VX K mX4_isBranch 0 [(0, .ref x0), (1, vI x1), (2, vI x2)] [] w sz n := by
  refine v_iload_n 2 dX4_isBranch_0 rfl ?_
  refine v_aload_n 0 dX4_isBranch_1 rfl (isR_ref _) ?_
  obtain ⟨F1, P1, hw1, h⟩ := h
  refine v_get (q := x0) (j := 0) (v := vI (F1 1)) dX4_isBranch_2 fX4_20 hw1 rfl (lay_R0 _ _ _ (by decide)) rfl ?_
  obtain ⟨s2, h⟩ := h
  obtain ⟨s3, h⟩ := h
  obtain ⟨ht, hf⟩ := h
  refine v_icmp_eq 23 dX4_isBranch_5 (by decide) s2 s3 (fun c => ?_) (fun c => ?_)
  · have h := ht c
    refine v_iconst dX4_isBranch_23 ?_
    exact x_zret K dX4_isBranch_24 rfl (by decide) h
  · have h := hf c
    refine v_aload_n 0 dX4_isBranch_8 rfl (isR_ref _) ?_
    refine v_get (q := x0) (j := 0) (v := va_rf (P1 2)) dX4_isBranch_9 fX4_10 hw1 rfl (lay_R0 _ _ _ (by decide)) rfl ?_
    refine v_iload_n 2 dX4_isBranch_12 rfl ?_
    obtain ⟨a4, ea4, h⟩ := h
    rw [ea4]
    obtain ⟨F5, P5, A5, hw5, h⟩ := h
    refine x_callVI K (As := [vI x2]) dX4_isBranch_13 LX4_38 rfl rfl (Nat.le_of_ble_eq_true rfl) (rc_of hw5 (lay_W0 _ _ _ _) rfl) h (fun r6 w6 z6 n6 h => ?_)
    obtain ⟨s7, h⟩ := h
    obtain ⟨ht, hf⟩ := h
    refine v_if_ne 23 dX4_isBranch_16 (by decide) s7 (fun c => ?_) (fun c => ?_)
    · have h := ht c
      refine v_iconst dX4_isBranch_23 ?_
      exact x_zret K dX4_isBranch_24 rfl (by decide) h
    · have h := hf c
      refine v_iconst dX4_isBranch_19 ?_
      refine v_goto 24 dX4_isBranch_20 (by decide) ?_
      exact x_zret K dX4_isBranch_24 rfl (by decide) h
/-! BranchNames$Named.<init> -/
theorem wX6_init_0 (K : KV) {x0 q1 : Nat} {w : Wd} {sz n : Nat} (h : (1 ≤ K.d) ∧ ((w sz = none) ∧ (∃ (F3 : Nat → Int) (P3 : Nat → Option Nat), ((wset w sz (some (obA 0 ((Int.toNat 12)) ((fun _ => 0))))) x0 = some (obR 6 F3 P3)) ∧ ((K.G.base ≤ x0) ∧ (CQ mX0_lettersOf K [.ref q1] (wset (wset w sz (some (obA 0 ((Int.toNat 12)) ((fun _ => 0))))) x0 (some (obR 6 F3 (upN (upN P3 2 (some sz)) 0 (some q1))))) (sz + 1) (n + Int.toNat 12) fun r5 w5 z5 n5 => ∃ (F6 : Nat → Int) (P6 : Nat → Option Nat), (w5 x0 = some (obR 6 F6 P6)) ∧ ((sz = x0 + 1) ∧ (∃ (l8 : Nat) (f8 : Int → Int), ((wset w5 x0 (some (obR 6 F6 (upN P6 1 r5)))) sz = some (obA 0 l8 f8)) ∧ ((l8 = 12) ∧ ((upN P6 1 r5 2 = some sz) ∧ (K.S none (wset (wset (wset w5 x0 (some (obR 6 F6 (upN P6 1 r5)))) x0 (some (obNm F6 (upN P6 1 r5) (fun _ => f8)))) (x0 + 1) none) z5 n5)))))))))) : VX K mX6_init 0 [(0, .ref x0), (1, .ref q1)] [] w sz n := by
  refine v_aload_n 0 dX6_init_0 rfl (isR_ref _) ?_
  obtain ⟨s1, h⟩ := h
  refine v_objInit dX6_init_1 q1079 q192 q193 s1 (Nat.le_of_ble_eq_true rfl) ?_
  refine v_aload_n 0 dX6_init_4 rfl (isR_ref _) ?_
  refine v_bipush dX6_init_5 rfl ?_
  obtain ⟨s2, h⟩ := h
  refine x_newI K dX6_init_7 (by decide) s2 ?_
  obtain ⟨F3, P3, hw3, h⟩ := h
  obtain ⟨s4, h⟩ := h
  refine v_putF (q := x0) (j := 0) (v := va_rf (some sz)) (obR 6 F3 (upN P3 2 (some sz))) dX6_init_9 foX6_9 pfF6_2 rfl hw3 rfl (lay_R0 _ _ _ (by decide)) (Nat.le_of_ble_eq_true rfl) (nar_rfA _ (some sz)) (fit_rfA _ (some sz)) (chg_raw rfl rfl rfl) s4 ?_
  refine v_aload_n 0 dX6_init_12 rfl (isR_ref _) ?_
  refine v_aload_n 1 dX6_init_13 rfl (isR_ref _) ?_
  refine v_putF (q := x0) (j := 0) (v := va_rf (some q1)) (obR 6 F3 (upN (upN P3 2 (some sz)) 0 (some q1))) dX6_init_14 foX6_15 pfF6_0 rfl (wset_eq _ _ _) rfl (lay_R0 _ _ _ (by decide)) (Nat.le_of_ble_eq_true rfl) (nar_rf _ (some q1)) (fit_rf _ (some q1)) (chg_raw rfl rfl rfl) s4 ?_
  rw [wset_wset]
  refine v_aload_n 0 dX6_init_17 rfl (isR_ref _) ?_
  refine v_aload_n 1 dX6_init_18 rfl (isR_ref _) ?_
  refine x_callSNQ K (As := [.ref q1]) dX6_init_19 LX6_19 rfl rfl (Nat.le_of_ble_eq_true rfl) h (fun r5 w5 z5 n5 h => ?_)
  obtain ⟨F6, P6, hw6, h⟩ := h
  refine v_putF (q := x0) (j := 0) (v := va_rf r5) (obR 6 F6 (upN P6 1 r5)) dX6_init_22 foX6_23 pfF6_1 rfl hw6 rfl (lay_R0 _ _ _ (by decide)) (Nat.le_of_ble_eq_true rfl) (nar_rf _ r5) (fit_rf _ r5) (chg_raw rfl rfl rfl) s4 ?_
  obtain ⟨s7, h⟩ := h
  obtain ⟨l8, f8, hw8, h⟩ := h
  obtain ⟨s9, h⟩ := h
  obtain ⟨s10, h⟩ := h
  have h77 := h
  subst s7
  refine V.world (fuse2 (q := x0) (o := obNm F6 (upN P6 1 r5) (fun _ => f8)) (wset_eq _ _ _) hw8 rfl rfl rfl (fun e h => (congrArg (fun z => some (cO 6 [va_rf ((upN P6 1 r5) 0), va_rf ((upN P6 1 r5) 1), va_rf z, vI (F6 3)])) (show (upN P6 1 r5) 2 = some (x0 + 1) from s10)).trans h) (fun e h => by subst s9; exact h)) ?_
  exact v_vret dX6_init_25 rfl h77
/-! BranchNames$Named.behind -/
theorem wX6_behind_0 (K : KV) {x0 q1 : Nat} {w : Wd} {sz n : Nat} (h : ∃ (F1 : Nat → Int) (P1 : Nat → Option Nat) (A1 : Nat → Int → Int), (w x0 = some (obNm F1 P1 A1)) ∧ (∃ (F2 : Nat → Int) (P2 : Nat → Option Nat) (A2 : Nat → Int → Int), (w q1 = some (obNm F2 P2 A2)) ∧ (CI mX0_compared K [va_rf (P1 1), va_rf (P2 1)] w sz n fun r3 w3 z3 n3 => (rI r3) ∧ ((r3 = 0 → (∃ (F5 : Nat → Int) (P5 : Nat → Option Nat) (A5 : Nat → Int → Int), (w3 x0 = some (obNm F5 P5 A5)) ∧ (∃ (F6 : Nat → Int) (P6 : Nat → Option Nat) (A6 : Nat → Int → Int), (w3 q1 = some (obNm F6 P6 A6)) ∧ (CI mX0_compared K [va_rf (P5 0), va_rf (P6 0)] w3 z3 n3 fun r7 w7 z7 n7 => K.S (some (vI r7)) w7 z7 n7)))) ∧ (¬ r3 = 0 → (K.S (some (vI r3)) w3 z3 n3)))))) : VX K mX6_behind 0 [(0, .ref x0), (1, .ref q1)] [] w sz n := by
  refine v_aload_n 0 dX6_behind_0 rfl (isR_ref _) ?_
  obtain ⟨F1, P1, A1, hw1, h⟩ := h
  refine v_get (q := x0) (j := 0) (v := va_rf (P1 1)) dX6_behind_1 fX6_23 hw1 rfl (lay_Nm0 _ _ _ _) rfl ?_
  refine v_aload_n 1 dX6_behind_4 rfl (isR_ref _) ?_
  obtain ⟨F2, P2, A2, hw2, h⟩ := h
  refine v_get (q := q1) (j := 0) (v := va_rf (P2 1)) dX6_behind_5 fX6_23 hw2 rfl (lay_Nm0 _ _ _ _) rfl ?_
  refine x_callSNI K (As := [va_rf (P1 1), va_rf (P2 1)]) dX6_behind_8 LX6_30 rfl rfl (Nat.le_of_ble_eq_true rfl) h (fun r3 w3 z3 n3 h => ?_)
  refine v_istore_n dX6_behind_11 (by decide) rfl ?_
  refine v_iload_n 0 dX6_behind_12 rfl ?_
  obtain ⟨s4, h⟩ := h
  obtain ⟨ht, hf⟩ := h
  refine v_if_eq 20 dX6_behind_13 (by decide) s4 (fun c => ?_) (fun c => ?_)
  · have h := ht c
    refine v_aload_n 1 dX6_behind_20 rfl (isR_ref _) ?_
    obtain ⟨F5, P5, A5, hw5, h⟩ := h
    refine v_get (q := x0) (j := 0) (v := va_rf (P5 0)) dX6_behind_21 fX6_15 hw5 rfl (lay_Nm0 _ _ _ _) rfl ?_
    refine v_aload_n 2 dX6_behind_24 rfl (isR_ref _) ?_
    obtain ⟨F6, P6, A6, hw6, h⟩ := h
    refine v_get (q := q1) (j := 0) (v := va_rf (P6 0)) dX6_behind_25 fX6_15 hw6 rfl (lay_Nm0 _ _ _ _) rfl ?_
    refine x_callSNI K (As := [va_rf (P5 0), va_rf (P6 0)]) dX6_behind_28 LX6_30 rfl rfl (Nat.le_of_ble_eq_true rfl) h (fun r7 w7 z7 n7 h => ?_)
    exact x_iret K dX6_behind_31 rfl h
  · have h := hf c
    refine v_iload_n 0 dX6_behind_16 rfl ?_
    refine v_goto 31 dX6_behind_17 (by decide) ?_
    exact x_iret K dX6_behind_31 rfl h
/-! BranchNames$Named.comes -/
theorem wX6_comes_0 (K : KV) {x1 : Int} {x0 : Nat} {w : Wd} {sz n : Nat} (h : ∃ (F1 : Nat → Int) (P1 : Nat → Option Nat) (A1 : Nat → Int → Int), (w x0 = some (obNm F1 P1 A1)) ∧ ((0 ≤ (F1 3) ∧ (F1 3) < 12) ∧ ((K.G.base ≤ x0) ∧ (K.S none (wset w x0 (some (obNm (upN F1 3 ((F1 3) + 1)) P1 (upA A1 0 (F1 3) x1)))) sz n)))) : VX K mX6_comes 0 [(0, .ref x0), (1, vI x1)] [] w sz n := by
  refine v_aload_n 0 dX6_comes_0 rfl (isR_ref _) ?_
  obtain ⟨F1, P1, A1, hw1, h⟩ := h
  refine v_get (q := x0) (j := 0) (v := .ref (x0 + 1)) dX6_comes_1 fX6_9 hw1 rfl (lay_Nm0 _ _ _ _) rfl ?_
  refine v_aload_n 0 dX6_comes_4 rfl (isR_ref _) ?_
  refine v_get (q := x0) (j := 0) (v := vI (F1 3)) dX6_comes_5 fX6_26 hw1 rfl (lay_Nm0 _ _ _ _) rfl ?_
  refine v_iload_n 1 dX6_comes_8 rfl ?_
  obtain ⟨s2, h⟩ := h
  obtain ⟨s3, h⟩ := h
  refine v_iast (q := x0) (j := 1) (f := A1 0) (obNm F1 P1 (upA A1 0 (F1 3) x1)) dX6_comes_9 hw1 rfl (lay_Nm1 _ _ _ _) s2 (by decide) (chg_Nm1 _ _) s3 ?_
  refine v_aload_n 0 dX6_comes_10 rfl (isR_ref _) ?_
  refine v_dup dX6_comes_11 rfl ?_
  refine v_get (q := x0) (j := 0) (v := vI (F1 3)) dX6_comes_12 fX6_26 (wset_eq _ _ _) rfl (lay_Nm0 _ _ _ _) rfl ?_
  refine v_iconst dX6_comes_15 ?_
  refine v_iadd dX6_comes_16 ?_
  refine v_put (q := x0) (j := 0) (v := vI ((F1 3) + 1)) (obNm (upN F1 3 ((F1 3) + 1)) P1 (upA A1 0 (F1 3) x1)) dX6_comes_17 fX6_26 pf6_3 (wset_eq _ _ _) rfl (lay_Nm0 _ _ _ _) (Nat.le_of_ble_eq_true rfl) rfl rfl (chg_Nm0 rfl) s3 ?_
  rw [wset_wset]
  exact v_vret dX6_comes_20 rfl h
/-! BranchNames$Named.spells -/
theorem wX6_spells_0 (K : KV) {x0 q1 q2 : Nat} {w : Wd} {sz n : Nat} (h : VX K mX6_spells 2 [(0, .ref x0), (1, .ref q1), (2, .ref q2), (3, vI 0)] [] w sz n) : VX K mX6_spells 0 [(0, .ref x0), (1, .ref q1), (2, .ref q2)] [] w sz n := by
  refine v_iconst dX6_spells_0 ?_
  refine v_istore_n dX6_spells_1 (by decide) rfl ?_
  refine V.sub [1, 2, 3, 0] rfl ?_
  exact h
theorem wX6_spells_2 (K : KV) (hX : XS K.G) {x3 : Int} {x0 q1 q2 : Nat} {w : Wd} {sz n : Nat} (h : ∃ (F1 : Nat → Int) (P1 : Nat → Option Nat) (A1 : Nat → Int → Int), (w x0 = some (obNm F1 P1 A1)) ∧ ((rI x3) ∧ ((rI (F1 3)) ∧ (((F1 3) ≤ x3 → (∃ (F4 : Nat → Int) (P4 : Nat → Option Nat), (w q1 = some (obR 15 F4 P4)) ∧ (CQ mJ1_append_2 K [.ref q1, vI 45] w sz n fun r5 w5 z5 n5 => ∃ (a6 : Nat), (r5 = some a6) ∧ (∃ (F7 : Nat → Int) (P7 : Nat → Option Nat), (w5 a6 = some (obR 15 F7 P7)) ∧ (CQ mJ1_append K [.ref a6, .ref q2] w5 z5 n5 fun r8 w8 z8 n8 => ∃ (F9 : Nat → Int) (P9 : Nat → Option Nat) (A9 : Nat → Int → Int), (w8 x0 = some (obNm F9 P9 A9)) ∧ (CI mX6_isBracketed K [.ref x0] w8 z8 n8 fun r10 w10 z10 n10 => (rI r10) ∧ ((r10 = 0 → (∃ (F12 : Nat → Int) (P12 : Nat → Option Nat) (A12 : Nat → Int → Int), (w10 x0 = some (obNm F12 P12 A12)) ∧ (∃ (F13 : Nat → Int) (P13 : Nat → Option Nat), (w10 q1 = some (obR 15 F13 P13)) ∧ (CQ mJ1_append K [.ref q1, va_rf (P12 0)] w10 z10 n10 fun r14 w14 z14 n14 => K.S none w14 z14 n14)))) ∧ (¬ r10 = 0 → (∃ (F12 : Nat → Int) (P12 : Nat → Option Nat), (w10 q1 = some (obR 15 F12 P12)) ∧ (CQ mJ1_append_2 K [.ref q1, vI 40] w10 z10 n10 fun r13 w13 z13 n13 => ∃ (F14 : Nat → Int) (P14 : Nat → Option Nat) (A14 : Nat → Int → Int), (w13 x0 = some (obNm F14 P14 A14)) ∧ (∃ (a15 : Nat), (r13 = some a15) ∧ (∃ (F16 : Nat → Int) (P16 : Nat → Option Nat), (w13 a15 = some (obR 15 F16 P16)) ∧ (CQ mJ1_append K [.ref a15, va_rf (P14 0)] w13 z13 n13 fun r17 w17 z17 n17 => ∃ (a18 : Nat), (r17 = some a18) ∧ (∃ (F19 : Nat → Int) (P19 : Nat → Option Nat), (w17 a18 = some (obR 15 F19 P19)) ∧ (CQ mJ1_append_2 K [.ref a18, vI 41] w17 z17 n17 fun r20 w20 z20 n20 => K.S none w20 z20 n20))))))))))))))) ∧ (¬ (F1 3) ≤ x3 → ((x3 ≤ 0 → (∃ (F4 : Nat → Int) (P4 : Nat → Option Nat), (w q1 = some (obR 15 F4 P4)) ∧ (CQ mJ1_append K [.ref q1, .ref (K.G.ad 28)] w sz n fun r5 w5 z5 n5 => ∃ (F6 : Nat → Int) (P6 : Nat → Option Nat) (A6 : Nat → Int → Int), (w5 x0 = some (obNm F6 P6 A6)) ∧ ((0 ≤ x3 ∧ x3 < 12) ∧ (∃ (a8 : Nat), (r5 = some a8) ∧ (∃ (F9 : Nat → Int) (P9 : Nat → Option Nat), (w5 a8 = some (obR 15 F9 P9)) ∧ (CQ mJ1_append_3 K [.ref a8, vI (A6 0 x3)] w5 z5 n5 fun r10 w10 z10 n10 => VX K mX6_spells 2 [(0, .ref x0), (1, .ref q1), (2, .ref q2), (3, vI (x3 + 1))] [] w10 z10 n10))))))) ∧ (¬ x3 ≤ 0 → (∃ (F4 : Nat → Int) (P4 : Nat → Option Nat), (w q1 = some (obR 15 F4 P4)) ∧ (CQ mJ1_append K [.ref q1, .ref (K.G.ad 27)] w sz n fun r5 w5 z5 n5 => ∃ (F6 : Nat → Int) (P6 : Nat → Option Nat) (A6 : Nat → Int → Int), (w5 x0 = some (obNm F6 P6 A6)) ∧ ((0 ≤ x3 ∧ x3 < 12) ∧ (∃ (a8 : Nat), (r5 = some a8) ∧ (∃ (F9 : Nat → Int) (P9 : Nat → Option Nat), (w5 a8 = some (obR 15 F9 P9)) ∧ (CQ mJ1_append_3 K [.ref a8, vI (A6 0 x3)] w5 z5 n5 fun r10 w10 z10 n10 => VX K mX6_spells 2 [(0, .ref x0), (1, .ref q1), (2, .ref q2), (3, vI (x3 + 1))] [] w10 z10 n10))))))))))))) : VX K mX6_spells 2 [(0, .ref x0), (1, .ref q1), (2, .ref q2), (3, vI x3)] [] w sz n := by
  refine v_iload_n 3 dX6_spells_2 rfl ?_
  refine v_aload_n 0 dX6_spells_3 rfl (isR_ref _) ?_
  obtain ⟨F1, P1, A1, hw1, h⟩ := h
  refine v_get (q := x0) (j := 0) (v := vI (F1 3)) dX6_spells_4 fX6_26 hw1 rfl (lay_Nm0 _ _ _ _) rfl ?_
  obtain ⟨s2, h⟩ := h
  obtain ⟨s3, h⟩ := h
  obtain ⟨ht, hf⟩ := h
  refine v_icmp_ge 41 dX6_spells_7 (by decide) s2 s3 (fun c => ?_) (fun c => ?_)
  · have h := ht c
    refine v_aload_n 1 dX6_spells_41 rfl (isR_ref _) ?_
    refine v_bipush dX6_spells_42 rfl ?_
    obtain ⟨F4, P4, hw4, h⟩ := h
    refine x_callVQ K (As := [vI 45]) dX6_spells_44 LX6_61 rfl rfl (Nat.le_of_ble_eq_true rfl) (rc_of hw4 (lay_R0 _ _ _ (by decide)) rfl) h (fun r5 w5 z5 n5 h => ?_)
    refine v_aload_n 2 dX6_spells_47 rfl (isR_ref _) ?_
    obtain ⟨a6, ea6, h⟩ := h
    rw [ea6]
    obtain ⟨F7, P7, hw7, h⟩ := h
    refine x_callVQ K (As := [.ref q2]) dX6_spells_48 LX6_52 rfl rfl (Nat.le_of_ble_eq_true rfl) (rc_of hw7 (lay_R0 _ _ _ (by decide)) rfl) h (fun r8 w8 z8 n8 h => ?_)
    refine v_pop dX6_spells_51 (cat_rf _) ?_
    refine v_aload_n 0 dX6_spells_52 rfl (isR_ref _) ?_
    obtain ⟨F9, P9, A9, hw9, h⟩ := h
    refine x_callVI K (As := []) dX6_spells_53 LX6_64 rfl rfl (Nat.le_of_ble_eq_true rfl) (rc_of hw9 (lay_Nm0 _ _ _ _) rfl) h (fun r10 w10 z10 n10 h => ?_)
    obtain ⟨s11, h⟩ := h
    obtain ⟨ht, hf⟩ := h
    refine v_if_eq 81 dX6_spells_56 (by decide) s11 (fun c => ?_) (fun c => ?_)
    · have h := ht c
      refine v_aload_n 1 dX6_spells_81 rfl (isR_ref _) ?_
      refine v_aload_n 0 dX6_spells_82 rfl (isR_ref _) ?_
      obtain ⟨F12, P12, A12, hw12, h⟩ := h
      refine v_get (q := x0) (j := 0) (v := va_rf (P12 0)) dX6_spells_83 fX6_15 hw12 rfl (lay_Nm0 _ _ _ _) rfl ?_
      obtain ⟨F13, P13, hw13, h⟩ := h
      refine x_callVQ K (As := [va_rf (P12 0)]) dX6_spells_86 LX6_52 rfl rfl (Nat.le_of_ble_eq_true rfl) (rc_of hw13 (lay_R0 _ _ _ (by decide)) rfl) h (fun r14 w14 z14 n14 h => ?_)
      refine v_pop dX6_spells_89 (cat_rf _) ?_
      exact v_vret dX6_spells_90 rfl h
    · have h := hf c
      refine v_aload_n 1 dX6_spells_59 rfl (isR_ref _) ?_
      refine v_bipush dX6_spells_60 rfl ?_
      obtain ⟨F12, P12, hw12, h⟩ := h
      refine x_callVQ K (As := [vI 40]) dX6_spells_62 LX6_61 rfl rfl (Nat.le_of_ble_eq_true rfl) (rc_of hw12 (lay_R0 _ _ _ (by decide)) rfl) h (fun r13 w13 z13 n13 h => ?_)
      refine v_aload_n 0 dX6_spells_65 rfl (isR_ref _) ?_
      obtain ⟨F14, P14, A14, hw14, h⟩ := h
      refine v_get (q := x0) (j := 0) (v := va_rf (P14 0)) dX6_spells_66 fX6_15 hw14 rfl (lay_Nm0 _ _ _ _) rfl ?_
      obtain ⟨a15, ea15, h⟩ := h
      rw [ea15]
      obtain ⟨F16, P16, hw16, h⟩ := h
      refine x_callVQ K (As := [va_rf (P14 0)]) dX6_spells_69 LX6_52 rfl rfl (Nat.le_of_ble_eq_true rfl) (rc_of hw16 (lay_R0 _ _ _ (by decide)) rfl) h (fun r17 w17 z17 n17 h => ?_)
      refine v_bipush dX6_spells_72 rfl ?_
      obtain ⟨a18, ea18, h⟩ := h
      rw [ea18]
      obtain ⟨F19, P19, hw19, h⟩ := h
      refine x_callVQ K (As := [vI 41]) dX6_spells_74 LX6_61 rfl rfl (Nat.le_of_ble_eq_true rfl) (rc_of hw19 (lay_R0 _ _ _ (by decide)) rfl) h (fun r20 w20 z20 n20 h => ?_)
      refine v_pop dX6_spells_77 (cat_rf _) ?_
      refine v_goto 90 dX6_spells_78 (by decide) ?_
      exact v_vret dX6_spells_90 rfl h
  · have h := hf c
    refine v_aload_n 1 dX6_spells_10 rfl (isR_ref _) ?_
    refine v_iload_n 3 dX6_spells_11 rfl ?_
    obtain ⟨ht, hf⟩ := h
    refine v_if_le 20 dX6_spells_12 (by decide) s2 (fun c => ?_) (fun c => ?_)
    · have h := ht c
      refine v_ldcS 28 hX dX6_spells_20 rfl ?_
      obtain ⟨F4, P4, hw4, h⟩ := h
      refine x_callVQ K (As := [.ref (K.G.ad 28)]) dX6_spells_22 LX6_52 rfl rfl (Nat.le_of_ble_eq_true rfl) (rc_of hw4 (lay_R0 _ _ _ (by decide)) rfl) h (fun r5 w5 z5 n5 h => ?_)
      refine v_aload_n 0 dX6_spells_25 rfl (isR_ref _) ?_
      obtain ⟨F6, P6, A6, hw6, h⟩ := h
      refine v_get (q := x0) (j := 0) (v := .ref (x0 + 1)) dX6_spells_26 fX6_9 hw6 rfl (lay_Nm0 _ _ _ _) rfl ?_
      refine v_iload_n 3 dX6_spells_29 rfl ?_
      obtain ⟨s7, h⟩ := h
      refine v_iald (q := x0) (j := 1) (f := A6 0) dX6_spells_30 hw6 rfl (lay_Nm1 _ _ _ _) s7 (by decide) ?_
      obtain ⟨a8, ea8, h⟩ := h
      rw [ea8]
      obtain ⟨F9, P9, hw9, h⟩ := h
      refine x_callVQ K (As := [vI (A6 0 x3)]) dX6_spells_31 LX6_58 rfl rfl (Nat.le_of_ble_eq_true rfl) (rc_of hw9 (lay_R0 _ _ _ (by decide)) rfl) h (fun r10 w10 z10 n10 h => ?_)
      refine v_pop dX6_spells_34 (cat_rf _) ?_
      refine v_iinc 3 dX6_spells_35 rfl (by decide) rfl ?_
      refine v_goto 2 dX6_spells_38 (by decide) ?_
      refine V.sub [1, 2, 3, 0] rfl ?_
      exact h
    · have h := hf c
      refine v_ldcS 27 hX dX6_spells_15 rfl ?_
      refine v_goto 22 dX6_spells_17 (by decide) ?_
      obtain ⟨F4, P4, hw4, h⟩ := h
      refine x_callVQ K (As := [.ref (K.G.ad 27)]) dX6_spells_22 LX6_52 rfl rfl (Nat.le_of_ble_eq_true rfl) (rc_of hw4 (lay_R0 _ _ _ (by decide)) rfl) h (fun r5 w5 z5 n5 h => ?_)
      refine v_aload_n 0 dX6_spells_25 rfl (isR_ref _) ?_
      obtain ⟨F6, P6, A6, hw6, h⟩ := h
      refine v_get (q := x0) (j := 0) (v := .ref (x0 + 1)) dX6_spells_26 fX6_9 hw6 rfl (lay_Nm0 _ _ _ _) rfl ?_
      refine v_iload_n 3 dX6_spells_29 rfl ?_
      obtain ⟨s7, h⟩ := h
      refine v_iald (q := x0) (j := 1) (f := A6 0) dX6_spells_30 hw6 rfl (lay_Nm1 _ _ _ _) s7 (by decide) ?_
      obtain ⟨a8, ea8, h⟩ := h
      rw [ea8]
      obtain ⟨F9, P9, hw9, h⟩ := h
      refine x_callVQ K (As := [vI (A6 0 x3)]) dX6_spells_31 LX6_58 rfl rfl (Nat.le_of_ble_eq_true rfl) (rc_of hw9 (lay_R0 _ _ _ (by decide)) rfl) h (fun r10 w10 z10 n10 h => ?_)
      refine v_pop dX6_spells_34 (cat_rf _) ?_
      refine v_iinc 3 dX6_spells_35 rfl (by decide) rfl ?_
      refine v_goto 2 dX6_spells_38 (by decide) ?_
      refine V.sub [1, 2, 3, 0] rfl ?_
      exact h
/-! BranchNames$Named.isBracketed -/
theorem wX6_isBracketed_0 (K : KV) {x0 : Nat} {w : Wd} {sz n : Nat} (h : VX K mX6_isBracketed 2 [(0, .ref x0), (1, vI 0)] [] w sz n) : VX K mX6_isBracketed 0 [(0, .ref x0)] [] w sz n := by
  refine v_iconst dX6_isBracketed_0 ?_
  refine v_istore_n dX6_isBracketed_1 (by decide) rfl ?_
  refine V.sub [1, 0] rfl ?_
  exact h
theorem wX6_isBracketed_2 (K : KV) {x1 : Int} {x0 : Nat} {w : Wd} {sz n : Nat} (h : ∃ (F1 : Nat → Int) (P1 : Nat → Option Nat) (A1 : Nat → Int → Int), (w x0 = some (obNm F1 P1 A1)) ∧ (∃ (a2 : Nat), (P1 0 = some a2) ∧ (∃ (b3 : Nat), (w a2 = some (obS b3)) ∧ (CI mJ2_length K [.ref a2] w sz n fun r4 w4 z4 n4 => (rI x1) ∧ ((rI r4) ∧ ((r4 ≤ x1 → (K.S (some (vI 0)) w4 z4 n4)) ∧ (¬ r4 ≤ x1 → (∃ (F7 : Nat → Int) (P7 : Nat → Option Nat) (A7 : Nat → Int → Int), (w4 x0 = some (obNm F7 P7 A7)) ∧ (∃ (a8 : Nat), (P7 0 = some a8) ∧ (∃ (b9 : Nat), (w4 a8 = some (obS b9)) ∧ (CI mJ2_charAt K [.ref a8, vI x1] w4 z4 n4 fun r10 w10 z10 n10 => CI mX0_isDigit K [vI r10] w10 z10 n10 fun r11 w11 z11 n11 => (rI r11) ∧ ((r11 = 0 → (VX K mX6_isBracketed 2 [(0, .ref x0), (1, vI (x1 + 1))] [] w11 z11 n11)) ∧ (¬ r11 = 0 → (K.S (some (vI 1)) w11 z11 n11)))))))))))))) : VX K mX6_isBracketed 2 [(0, .ref x0), (1, vI x1)] [] w sz n := by
  refine v_iload_n 1 dX6_isBracketed_2 rfl ?_
  refine v_aload_n 0 dX6_isBracketed_3 rfl (isR_ref _) ?_
  obtain ⟨F1, P1, A1, hw1, h⟩ := h
  refine v_get (q := x0) (j := 0) (v := va_rf (P1 0)) dX6_isBracketed_4 fX6_15 hw1 rfl (lay_Nm0 _ _ _ _) rfl ?_
  obtain ⟨a2, ea2, h⟩ := h
  rw [ea2]
  obtain ⟨b3, hw3, h⟩ := h
  refine x_callVI K (As := []) dX6_isBracketed_7 LX6_34 rfl rfl (Nat.le_of_ble_eq_true rfl) (rc_S hw3) h (fun r4 w4 z4 n4 h => ?_)
  obtain ⟨s5, h⟩ := h
  obtain ⟨s6, h⟩ := h
  obtain ⟨ht, hf⟩ := h
  refine v_icmp_ge 35 dX6_isBracketed_10 (by decide) s5 s6 (fun c => ?_) (fun c => ?_)
  · have h := ht c
    refine v_iconst dX6_isBracketed_35 ?_
    exact x_zret K dX6_isBracketed_36 rfl (by decide) h
  · have h := hf c
    refine v_aload_n 0 dX6_isBracketed_13 rfl (isR_ref _) ?_
    obtain ⟨F7, P7, A7, hw7, h⟩ := h
    refine v_get (q := x0) (j := 0) (v := va_rf (P7 0)) dX6_isBracketed_14 fX6_15 hw7 rfl (lay_Nm0 _ _ _ _) rfl ?_
    refine v_iload_n 1 dX6_isBracketed_17 rfl ?_
    obtain ⟨a8, ea8, h⟩ := h
    rw [ea8]
    obtain ⟨b9, hw9, h⟩ := h
    refine x_callVI K (As := [vI x1]) dX6_isBracketed_18 LX6_40 rfl rfl (Nat.le_of_ble_eq_true rfl) (rc_S hw9) h (fun r10 w10 z10 n10 h => ?_)
    refine x_callSNI K (As := [vI r10]) dX6_isBracketed_21 LX6_44 rfl rfl (Nat.le_of_ble_eq_true rfl) h (fun r11 w11 z11 n11 h => ?_)
    obtain ⟨s12, h⟩ := h
    obtain ⟨ht, hf⟩ := h
    refine v_if_eq 29 dX6_isBracketed_24 (by decide) s12 (fun c => ?_) (fun c => ?_)
    · have h := ht c
      refine v_iinc 1 dX6_isBracketed_29 rfl (by decide) rfl ?_
      refine v_goto 2 dX6_isBracketed_32 (by decide) ?_
      refine V.sub [1, 0] rfl ?_
      exact h
    · have h := hf c
      refine v_iconst dX6_isBracketed_27 ?_
      exact x_zret K dX6_isBracketed_28 rfl (by decide) h
/-! BranchNames$Reader.<init> -/
theorem wX7_init_0 (K : KV) {x0 q1 : Nat} {w : Wd} {sz n : Nat} (h : ∃ (F1 : Nat → Int) (P1 : Nat → Option Nat), (w x0 = some (obR 7 F1 P1)) ∧ ((K.G.base ≤ x0) ∧ ((1 ≤ K.d) ∧ (K.S none (wset w x0 (some (obR 7 F1 (upN P1 2 (some q1))))) sz n)))) : VX K mX7_init 0 [(0, .ref x0), (1, .ref q1)] [] w sz n := by
  refine v_aload_n 0 dX7_init_0 rfl (isR_ref _) ?_
  refine v_aload_n 1 dX7_init_1 rfl (isR_ref _) ?_
  obtain ⟨F1, P1, hw1, h⟩ := h
  obtain ⟨s2, h⟩ := h
  refine v_putF (q := x0) (j := 0) (v := va_rf (some q1)) (obR 7 F1 (upN P1 2 (some q1))) dX7_init_2 foX7_3 pfF7_2 rfl hw1 rfl (lay_R0 _ _ _ (by decide)) (Nat.le_of_ble_eq_true rfl) (nar_rf _ (some q1)) (fit_rf _ (some q1)) (chg_raw rfl rfl rfl) s2 ?_
  refine v_aload_n 0 dX7_init_5 rfl (isR_ref _) ?_
  obtain ⟨s3, h⟩ := h
  refine v_objInit dX7_init_6 q1305 q192 q193 s3 (Nat.le_of_ble_eq_true rfl) ?_
  exact v_vret dX7_init_9 rfl h
/-! BranchNames$Reader.here -/
theorem wX7_here_0 (K : KV) {x0 : Nat} {w : Wd} {sz n : Nat} (h : ∃ (F1 : Nat → Int) (P1 : Nat → Option Nat), (w x0 = some (obR 7 F1 P1)) ∧ (∃ (a2 : Nat), (P1 2 = some a2) ∧ (∃ (F3 : Nat → Int) (p3 : Nat), (w a2 = some (obX a2 F3 p3)) ∧ ((rI (F1 0)) ∧ ((rI (F3 27)) ∧ (((F3 27) ≤ (F1 0) → (K.S (some (vI ((-1)))) w sz n)) ∧ (¬ (F3 27) ≤ (F1 0) → (∃ (a6 : Nat), (P1 2 = some a6) ∧ (∃ (F7 : Nat → Int) (p7 : Nat), (w a6 = some (obX a6 F7 p7)) ∧ (∃ (A8 : Nat → Int → Int) (B8 : Nat → Int → Option Nat) (M8 : Nat → Int → Int → Int), (w (a6 + 221) = some (obXA A8 B8 M8)) ∧ ((0 ≤ (F1 0) ∧ (F1 0) < 80) ∧ (K.S (some (vI (A8 7 (F1 0)))) w sz n)))))))))))) : VX K mX7_here 0 [(0, .ref x0)] [] w sz n := by
  refine v_aload_n 0 dX7_here_0 rfl (isR_ref _) ?_
  obtain ⟨F1, P1, hw1, h⟩ := h
  refine v_get (q := x0) (j := 0) (v := vI (F1 0)) dX7_here_1 fX7_15 hw1 rfl (lay_R0 _ _ _ (by decide)) rfl ?_
  refine v_aload_n 0 dX7_here_4 rfl (isR_ref _) ?_
  refine v_get (q := x0) (j := 0) (v := va_rf (P1 2)) dX7_here_5 fX7_3 hw1 rfl (lay_R0 _ _ _ (by decide)) rfl ?_
  obtain ⟨a2, ea2, h⟩ := h
  rw [ea2]
  obtain ⟨F3, p3, hw3, h⟩ := h
  refine v_get (q := a2) (j := 0) (v := vI (F3 27)) dX7_here_8 fX7_19 hw3 rfl (lay_X0 _ _ _) rfl ?_
  obtain ⟨s4, h⟩ := h
  obtain ⟨s5, h⟩ := h
  obtain ⟨ht, hf⟩ := h
  refine v_icmp_ge 29 dX7_here_11 (by decide) s4 s5 (fun c => ?_) (fun c => ?_)
  · have h := ht c
    refine v_iconst dX7_here_29 ?_
    exact x_iret K dX7_here_30 rfl h
  · have h := hf c
    refine v_aload_n 0 dX7_here_14 rfl (isR_ref _) ?_
    refine v_get (q := x0) (j := 0) (v := va_rf (P1 2)) dX7_here_15 fX7_3 hw1 rfl (lay_R0 _ _ _ (by decide)) rfl ?_
    obtain ⟨a6, ea6, h⟩ := h
    rw [ea6]
    obtain ⟨F7, p7, hw7, h⟩ := h
    refine v_get (q := a6) (j := 0) (v := .ref (a6 + 221 + 63)) dX7_here_18 fX7_22 hw7 rfl (lay_X0 _ _ _) rfl ?_
    refine v_aload_n 0 dX7_here_21 rfl (isR_ref _) ?_
    refine v_get (q := x0) (j := 0) (v := vI (F1 0)) dX7_here_22 fX7_15 hw1 rfl (lay_R0 _ _ _ (by decide)) rfl ?_
    obtain ⟨A8, B8, M8, hw8, h⟩ := h
    obtain ⟨s9, h⟩ := h
    refine v_bald (q := a6 + 221) (j := 63) (f := A8 7) dX7_here_25 hw8 rfl (lay_XA 63 rfl) s9 (by decide) ?_
    refine v_goto 30 dX7_here_26 (by decide) ?_
    exact x_iret K dX7_here_30 rfl h
/-! BranchNames$Reader.parts -/
theorem wX7_parts_0 (K : KV) {x0 : Nat} {w : Wd} {sz n : Nat} (h : (w sz = none) ∧ (CV mX8_init K [.ref sz] (wset w sz (some (obR 8 nF nP))) (sz + 1) (n + 3) fun w2 z2 n2 => ∃ (F3 : Nat → Int) (P3 : Nat → Option Nat), (w2 sz = some (obR 8 F3 P3)) ∧ (∃ (F4 : Nat → Int) (P4 : Nat → Option Nat), (w2 x0 = some (obR 7 F4 P4)) ∧ (CQ mX7_part K [.ref x0] w2 z2 n2 fun r5 w5 z5 n5 => ∃ (a6 : Nat), (P3 0 = some a6) ∧ (∃ (F7 : Nat → Int) (P7 : Nat → Option Nat), (w5 a6 = some (obR 17 F7 P7)) ∧ (CI mJ12_add_2 K [.ref a6, va_rf r5] w5 z5 n5 fun r8 w8 z8 n8 => VX K mX7_parts 20 [(0, .ref x0), (1, .ref sz)] [] w8 z8 n8)))))) : VX K mX7_parts 0 [(0, .ref x0)] [] w sz n := by
  obtain ⟨s1, h⟩ := h
  refine v_new K (ci := 8) (C := RX8) (T := TX8) (N := 3) tyX8 dX7_parts_0 (by decide) rfl in_X8 tyX8_ok q1331 q1332 q176 nw8 s1 ?_
  refine v_dup dX7_parts_3 rfl ?_
  refine x_callINV K (As := []) dX7_parts_4 LX7_104 rfl rfl (Nat.le_of_ble_eq_true rfl) h (fun w2 z2 n2 h => ?_)
  refine v_astore_n dX7_parts_7 (by decide) (isR_ref _) rfl ?_
  refine v_aload_n 0 dX7_parts_8 rfl (isR_ref _) ?_
  obtain ⟨F3, P3, hw3, h⟩ := h
  refine v_get (q := sz) (j := 0) (v := va_rf (P3 0)) dX7_parts_9 fX7_126 hw3 rfl (lay_R0 _ _ _ (by decide)) rfl ?_
  refine v_aload_n 1 dX7_parts_12 rfl (isR_ref _) ?_
  obtain ⟨F4, P4, hw4, h⟩ := h
  refine x_callVQ K (As := []) dX7_parts_13 LX7_129 rfl rfl (by simp only [List.map_cons, List.map_nil, List.sum_cons, List.sum_nil, cat_rf]; exact Nat.le_of_ble_eq_true rfl) (rc_of hw4 (lay_R0 _ _ _ (by decide)) rfl) h (fun r5 w5 z5 n5 h => ?_)
  obtain ⟨a6, ea6, h⟩ := h
  rw [ea6]
  obtain ⟨F7, P7, hw7, h⟩ := h
  refine x_callVI K (As := [va_rf r5]) dX7_parts_16 LX7_133 rfl rfl (Nat.le_of_ble_eq_true rfl) (rc_of hw7 (lay_R0 _ _ _ (by decide)) rfl) h (fun r8 w8 z8 n8 h => ?_)
  refine v_pop dX7_parts_19 rfl ?_
  refine V.sub [1, 0] rfl ?_
  exact h
theorem wX7_parts_20 (K : KV) {x0 q1 : Nat} {w : Wd} {sz n : Nat} (h : ∃ (F1 : Nat → Int) (P1 : Nat → Option Nat), (w x0 = some (obR 7 F1 P1)) ∧ (CI mX7_isSign K [.ref x0, vI 45] w sz n fun r2 w2 z2 n2 => (rI r2) ∧ ((r2 = 0 → (K.S (some (va_rf (some q1))) w2 z2 n2)) ∧ (¬ r2 = 0 → (∃ (F4 : Nat → Int) (P4 : Nat → Option Nat), (w2 x0 = some (obR 7 F4 P4)) ∧ ((K.G.base ≤ x0) ∧ (∃ (F6 : Nat → Int) (P6 : Nat → Option Nat), ((wset w2 x0 (some (obR 7 (upN F4 0 ((F4 0) + 1)) P4))) q1 = some (obR 8 F6 P6)) ∧ (CQ mX7_part K [.ref x0] (wset w2 x0 (some (obR 7 (upN F4 0 ((F4 0) + 1)) P4))) z2 n2 fun r7 w7 z7 n7 => ∃ (a8 : Nat), (P6 0 = some a8) ∧ (∃ (F9 : Nat → Int) (P9 : Nat → Option Nat), (w7 a8 = some (obR 17 F9 P9)) ∧ (CI mJ12_add_2 K [.ref a8, va_rf r7] w7 z7 n7 fun r10 w10 z10 n10 => VX K mX7_parts 20 [(0, .ref x0), (1, .ref q1)] [] w10 z10 n10)))))))))) : VX K mX7_parts 20 [(0, .ref x0), (1, .ref q1)] [] w sz n := by
  refine v_aload_n 0 dX7_parts_20 rfl (isR_ref _) ?_
  refine v_bipush dX7_parts_21 rfl ?_
  obtain ⟨F1, P1, hw1, h⟩ := h
  refine x_callVI K (As := [vI 45]) dX7_parts_23 LX7_30 rfl rfl (Nat.le_of_ble_eq_true rfl) (rc_of hw1 (lay_R0 _ _ _ (by decide)) rfl) h (fun r2 w2 z2 n2 h => ?_)
  obtain ⟨s3, h⟩ := h
  obtain ⟨ht, hf⟩ := h
  refine v_if_eq 54 dX7_parts_26 (by decide) s3 (fun c => ?_) (fun c => ?_)
  · have h := ht c
    refine v_aload_n 1 dX7_parts_54 rfl (isR_ref _) ?_
    exact x_aret K (r := some q1) dX7_parts_55 rfl (by first | exact Or.inl ⟨_, rfl⟩ | exact Or.inr ⟨_, rfl⟩) h
  · have h := hf c
    refine v_aload_n 0 dX7_parts_29 rfl (isR_ref _) ?_
    refine v_dup dX7_parts_30 rfl ?_
    obtain ⟨F4, P4, hw4, h⟩ := h
    refine v_get (q := x0) (j := 0) (v := vI (F4 0)) dX7_parts_31 fX7_15 hw4 rfl (lay_R0 _ _ _ (by decide)) rfl ?_
    refine v_iconst dX7_parts_34 ?_
    refine v_iadd dX7_parts_35 ?_
    obtain ⟨s5, h⟩ := h
    refine v_put (q := x0) (j := 0) (v := vI ((F4 0) + 1)) (obR 7 (upN F4 0 ((F4 0) + 1)) P4) dX7_parts_36 fX7_15 pf7_0 hw4 rfl (lay_R0 _ _ _ (by decide)) (Nat.le_of_ble_eq_true rfl) rfl rfl (chg_raw rfl rfl rfl) s5 ?_
    refine v_aload_n 1 dX7_parts_39 rfl (isR_ref _) ?_
    obtain ⟨F6, P6, hw6, h⟩ := h
    refine v_get (q := q1) (j := 0) (v := va_rf (P6 0)) dX7_parts_40 fX7_126 hw6 rfl (lay_R0 _ _ _ (by decide)) rfl ?_
    refine v_aload_n 0 dX7_parts_43 rfl (isR_ref _) ?_
    refine x_callVQ K (As := []) dX7_parts_44 LX7_129 rfl rfl (by simp only [List.map_cons, List.map_nil, List.sum_cons, List.sum_nil, cat_rf]; exact Nat.le_of_ble_eq_true rfl) (rc_of (wset_eq _ _ _) (lay_R0 _ _ _ (by decide)) rfl) h (fun r7 w7 z7 n7 h => ?_)
    obtain ⟨a8, ea8, h⟩ := h
    rw [ea8]
    obtain ⟨F9, P9, hw9, h⟩ := h
    refine x_callVI K (As := [va_rf r7]) dX7_parts_47 LX7_133 rfl rfl (Nat.le_of_ble_eq_true rfl) (rc_of hw9 (lay_R0 _ _ _ (by decide)) rfl) h (fun r10 w10 z10 n10 h => ?_)
    refine v_pop dX7_parts_50 rfl ?_
    refine v_goto 20 dX7_parts_51 (by decide) ?_
    exact h
/-! BranchNames$Reader.part -/
theorem wX7_part_0 (K : KV) {x0 : Nat} {w : Wd} {sz n : Nat} (h : (w sz = none) ∧ (∃ (F2 : Nat → Int) (P2 : Nat → Option Nat), ((wset w sz (some (obR 9 nF nP))) x0 = some (obR 7 F2 P2)) ∧ (CV mX9_init K [.ref sz, vI (F2 0)] (wset w sz (some (obR 9 nF nP))) (sz + 1) (n + 5) fun w3 z3 n3 => ∃ (F4 : Nat → Int) (P4 : Nat → Option Nat), (w3 x0 = some (obR 7 F4 P4)) ∧ (CI mX7_number K [.ref x0] w3 z3 n3 fun r5 w5 z5 n5 => ∃ (F6 : Nat → Int) (P6 : Nat → Option Nat) (A6 : Nat → Int → Int), (w5 sz = some (obPt F6 P6 A6)) ∧ (CV mX9_comes K [.ref sz, vI r5] w5 z5 n5 fun w7 z7 n7 => VX K mX7_part 20 [(0, .ref x0), (1, .ref sz)] [] w7 z7 n7))))) : VX K mX7_part 0 [(0, .ref x0)] [] w sz n := by
  obtain ⟨s1, h⟩ := h
  refine v_new K (ci := 9) (C := RX9) (T := TX9) (N := 5) tyX9 dX7_part_0 (by decide) rfl in_X9 tyX9_ok q1357 q1358 q177 nw9 s1 ?_
  refine v_dup dX7_part_3 rfl ?_
  refine v_aload_n 0 dX7_part_4 rfl (isR_ref _) ?_
  obtain ⟨F2, P2, hw2, h⟩ := h
  refine v_get (q := x0) (j := 0) (v := vI (F2 0)) dX7_part_5 fX7_15 hw2 rfl (lay_R0 _ _ _ (by decide)) rfl ?_
  refine x_callIV K (As := [vI (F2 0)]) dX7_part_8 LX7_107 rfl rfl (Nat.le_of_ble_eq_true rfl) h (fun w3 z3 n3 h => ?_)
  refine v_astore_n dX7_part_11 (by decide) (isR_ref _) rfl ?_
  refine v_aload_n 0 dX7_part_12 rfl (isR_ref _) ?_
  refine v_aload_n 1 dX7_part_13 rfl (isR_ref _) ?_
  obtain ⟨F4, P4, hw4, h⟩ := h
  refine x_callVI K (As := []) dX7_part_14 LX7_108 rfl rfl (Nat.le_of_ble_eq_true rfl) (rc_of hw4 (lay_R0 _ _ _ (by decide)) rfl) h (fun r5 w5 z5 n5 h => ?_)
  obtain ⟨F6, P6, A6, hw6, h⟩ := h
  refine x_callVV K (As := [vI r5]) dX7_part_17 LX7_111 rfl rfl (Nat.le_of_ble_eq_true rfl) (rc_of hw6 (lay_Pt0 _ _ _ _) rfl) h (fun w7 z7 n7 h => ?_)
  refine V.sub [1, 0] rfl ?_
  exact h
theorem wX7_part_20 (K : KV) {x0 q1 : Nat} {w : Wd} {sz n : Nat} (h : ∃ (F1 : Nat → Int) (P1 : Nat → Option Nat), (w x0 = some (obR 7 F1 P1)) ∧ (CI mX7_isSign K [.ref x0, vI 44] w sz n fun r2 w2 z2 n2 => (rI r2) ∧ ((r2 = 0 → (∃ (F4 : Nat → Int) (P4 : Nat → Option Nat), (w2 x0 = some (obR 7 F4 P4)) ∧ (CV mX7_must K [.ref x0, vI 45] w2 z2 n2 fun w5 z5 n5 => ∃ (F6 : Nat → Int) (P6 : Nat → Option Nat), (w5 x0 = some (obR 7 F6 P6)) ∧ ((K.G.base ≤ x0) ∧ (∃ (a8 : Nat), (P6 2 = some a8) ∧ (∃ (F9 : Nat → Int) (p9 : Nat), ((wset w5 x0 (some (obR 7 (upN F6 1 (F6 0)) P6))) a8 = some (obX a8 F9 p9)) ∧ (CI mX7_wordOf K [.ref x0, .ref (a8 + 221 + 52)] (wset w5 x0 (some (obR 7 (upN F6 1 (F6 0)) P6))) z5 n5 fun r10 w10 z10 n10 => (rI r10) ∧ ((r10 < 0 → (∃ (F12 : Nat → Int) (P12 : Nat → Option Nat), (w10 x0 = some (obR 7 F12 P12)) ∧ (CQ mX7_branch K [.ref x0] w10 z10 n10 fun r13 w13 z13 n13 => ∃ (F14 : Nat → Int) (P14 : Nat → Option Nat) (A14 : Nat → Int → Int), (w13 q1 = some (obPt F14 P14 A14)) ∧ ((K.G.base ≤ q1) ∧ (K.S (some (va_rf (some q1))) (wset w13 q1 (some (obPt F14 (upN P14 4 r13) A14))) z13 n13))))) ∧ (¬ r10 < 0 → (∃ (F12 : Nat → Int) (P12 : Nat → Option Nat) (A12 : Nat → Int → Int), (w10 q1 = some (obPt F12 P12 A12)) ∧ ((K.G.base ≤ q1) ∧ (∃ (F14 : Nat → Int) (P14 : Nat → Option Nat), ((wset w10 q1 (some (obPt (upN F12 3 (r10 + 2)) P12 A12))) x0 = some (obR 7 F14 P14)) ∧ (CQ mX7_branch K [.ref x0] (wset (wset w10 q1 (some (obPt (upN F12 3 (r10 + 2)) P12 A12))) x0 (some (obR 7 (upN F14 1 (F14 0)) P14))) z10 n10 fun r15 w15 z15 n15 => ∃ (F16 : Nat → Int) (P16 : Nat → Option Nat) (A16 : Nat → Int → Int), (w15 q1 = some (obPt F16 P16 A16)) ∧ (K.S (some (va_rf (some q1))) (wset w15 q1 (some (obPt F16 (upN P16 4 r15) A16))) z15 n15)))))))))))))) ∧ (¬ r2 = 0 → (∃ (F4 : Nat → Int) (P4 : Nat → Option Nat), (w2 x0 = some (obR 7 F4 P4)) ∧ ((K.G.base ≤ x0) ∧ (CI mX7_number K [.ref x0] (wset w2 x0 (some (obR 7 (upN F4 0 ((F4 0) + 1)) P4))) z2 n2 fun r6 w6 z6 n6 => ∃ (F7 : Nat → Int) (P7 : Nat → Option Nat) (A7 : Nat → Int → Int), (w6 q1 = some (obPt F7 P7 A7)) ∧ (CV mX9_comes K [.ref q1, vI r6] w6 z6 n6 fun w8 z8 n8 => VX K mX7_part 20 [(0, .ref x0), (1, .ref q1)] [] w8 z8 n8)))))))) : VX K mX7_part 20 [(0, .ref x0), (1, .ref q1)] [] w sz n := by
  refine v_aload_n 0 dX7_part_20 rfl (isR_ref _) ?_
  refine v_bipush dX7_part_21 rfl ?_
  obtain ⟨F1, P1, hw1, h⟩ := h
  refine x_callVI K (As := [vI 44]) dX7_part_23 LX7_30 rfl rfl (Nat.le_of_ble_eq_true rfl) (rc_of hw1 (lay_R0 _ _ _ (by decide)) rfl) h (fun r2 w2 z2 n2 h => ?_)
  obtain ⟨s3, h⟩ := h
  obtain ⟨ht, hf⟩ := h
  refine v_if_eq 50 dX7_part_26 (by decide) s3 (fun c => ?_) (fun c => ?_)
  · have h := ht c
    refine v_aload_n 0 dX7_part_50 rfl (isR_ref _) ?_
    refine v_bipush dX7_part_51 rfl ?_
    obtain ⟨F4, P4, hw4, h⟩ := h
    refine x_callVV K (As := [vI 45]) dX7_part_53 LX7_80 rfl rfl (Nat.le_of_ble_eq_true rfl) (rc_of hw4 (lay_R0 _ _ _ (by decide)) rfl) h (fun w5 z5 n5 h => ?_)
    refine v_aload_n 0 dX7_part_56 rfl (isR_ref _) ?_
    refine v_aload_n 0 dX7_part_57 rfl (isR_ref _) ?_
    obtain ⟨F6, P6, hw6, h⟩ := h
    refine v_get (q := x0) (j := 0) (v := vI (F6 0)) dX7_part_58 fX7_15 hw6 rfl (lay_R0 _ _ _ (by decide)) rfl ?_
    obtain ⟨s7, h⟩ := h
    refine v_put (q := x0) (j := 0) (v := vI (F6 0)) (obR 7 (upN F6 1 (F6 0)) P6) dX7_part_61 fX7_52 pf7_1 hw6 rfl (lay_R0 _ _ _ (by decide)) (Nat.le_of_ble_eq_true rfl) rfl rfl (chg_raw rfl rfl rfl) s7 ?_
    refine v_aload_n 0 dX7_part_64 rfl (isR_ref _) ?_
    refine v_aload_n 0 dX7_part_65 rfl (isR_ref _) ?_
    refine v_get (q := x0) (j := 0) (v := va_rf (P6 2)) dX7_part_66 fX7_3 (wset_eq _ _ _) rfl (lay_R0 _ _ _ (by decide)) rfl ?_
    obtain ⟨a8, ea8, h⟩ := h
    rw [ea8]
    obtain ⟨F9, p9, hw9, h⟩ := h
    refine v_get (q := a8) (j := 0) (v := .ref (a8 + 221 + 52)) dX7_part_69 fX7_114 hw9 rfl (lay_X0 _ _ _) rfl ?_
    refine x_callVI K (As := [.ref (a8 + 221 + 52)]) dX7_part_72 LX7_65 rfl rfl (Nat.le_of_ble_eq_true rfl) (rc_of (wset_eq _ _ _) (lay_R0 _ _ _ (by decide)) rfl) h (fun r10 w10 z10 n10 h => ?_)
    refine v_istore_n dX7_part_75 (by decide) rfl ?_
    refine v_iload_n 0 dX7_part_76 rfl ?_
    obtain ⟨s11, h⟩ := h
    obtain ⟨ht, hf⟩ := h
    refine v_if_lt 95 dX7_part_77 (by decide) s11 (fun c => ?_) (fun c => ?_)
    · have h := ht c
      refine v_aload_n 2 dX7_part_95 rfl (isR_ref _) ?_
      refine v_aload_n 1 dX7_part_96 rfl (isR_ref _) ?_
      obtain ⟨F12, P12, hw12, h⟩ := h
      refine x_callVQ K (As := []) dX7_part_97 LX7_120 rfl rfl (Nat.le_of_ble_eq_true rfl) (rc_of hw12 (lay_R0 _ _ _ (by decide)) rfl) h (fun r13 w13 z13 n13 h => ?_)
      obtain ⟨F14, P14, A14, hw14, h⟩ := h
      obtain ⟨s15, h⟩ := h
      refine v_put (q := q1) (j := 0) (v := va_rf r13) (obPt F14 (upN P14 4 r13) A14) dX7_part_100 fX7_123 pf9_4 hw14 rfl (lay_Pt0 _ _ _ _) (Nat.le_of_ble_eq_true rfl) (nar_rf _ r13) (fit_rf _ r13) (chg_Pt0 rfl) s15 ?_
      refine v_aload_n 2 dX7_part_103 rfl (isR_ref _) ?_
      exact x_aret K (r := some q1) dX7_part_104 rfl (by first | exact Or.inl ⟨_, rfl⟩ | exact Or.inr ⟨_, rfl⟩) h
    · have h := hf c
      refine v_aload_n 2 dX7_part_80 rfl (isR_ref _) ?_
      refine v_iload_n 0 dX7_part_81 rfl ?_
      refine v_iconst dX7_part_82 ?_
      refine v_iadd dX7_part_83 ?_
      obtain ⟨F12, P12, A12, hw12, h⟩ := h
      obtain ⟨s13, h⟩ := h
      refine v_put (q := q1) (j := 0) (v := vI (r10 + 2)) (obPt (upN F12 3 (r10 + 2)) P12 A12) dX7_part_84 fX7_117 pf9_3 hw12 rfl (lay_Pt0 _ _ _ _) (Nat.le_of_ble_eq_true rfl) rfl rfl (chg_Pt0 rfl) s13 ?_
      refine v_aload_n 1 dX7_part_87 rfl (isR_ref _) ?_
      refine v_aload_n 1 dX7_part_88 rfl (isR_ref _) ?_
      obtain ⟨F14, P14, hw14, h⟩ := h
      refine v_get (q := x0) (j := 0) (v := vI (F14 0)) dX7_part_89 fX7_15 hw14 rfl (lay_R0 _ _ _ (by decide)) rfl ?_
      refine v_put (q := x0) (j := 0) (v := vI (F14 0)) (obR 7 (upN F14 1 (F14 0)) P14) dX7_part_92 fX7_52 pf7_1 hw14 rfl (lay_R0 _ _ _ (by decide)) (Nat.le_of_ble_eq_true rfl) rfl rfl (chg_raw rfl rfl rfl) s7 ?_
      refine v_aload_n 2 dX7_part_95 rfl (isR_ref _) ?_
      refine v_aload_n 1 dX7_part_96 rfl (isR_ref _) ?_
      refine x_callVQ K (As := []) dX7_part_97 LX7_120 rfl rfl (Nat.le_of_ble_eq_true rfl) (rc_of (wset_eq _ _ _) (lay_R0 _ _ _ (by decide)) rfl) h (fun r15 w15 z15 n15 h => ?_)
      obtain ⟨F16, P16, A16, hw16, h⟩ := h
      refine v_put (q := q1) (j := 0) (v := va_rf r15) (obPt F16 (upN P16 4 r15) A16) dX7_part_100 fX7_123 pf9_4 hw16 rfl (lay_Pt0 _ _ _ _) (Nat.le_of_ble_eq_true rfl) (nar_rf _ r15) (fit_rf _ r15) (chg_Pt0 rfl) s13 ?_
      refine v_aload_n 2 dX7_part_103 rfl (isR_ref _) ?_
      exact x_aret K (r := some q1) dX7_part_104 rfl (by first | exact Or.inl ⟨_, rfl⟩ | exact Or.inr ⟨_, rfl⟩) h
  · have h := hf c
    refine v_aload_n 0 dX7_part_29 rfl (isR_ref _) ?_
    refine v_dup dX7_part_30 rfl ?_
    obtain ⟨F4, P4, hw4, h⟩ := h
    refine v_get (q := x0) (j := 0) (v := vI (F4 0)) dX7_part_31 fX7_15 hw4 rfl (lay_R0 _ _ _ (by decide)) rfl ?_
    refine v_iconst dX7_part_34 ?_
    refine v_iadd dX7_part_35 ?_
    obtain ⟨s5, h⟩ := h
    refine v_put (q := x0) (j := 0) (v := vI ((F4 0) + 1)) (obR 7 (upN F4 0 ((F4 0) + 1)) P4) dX7_part_36 fX7_15 pf7_0 hw4 rfl (lay_R0 _ _ _ (by decide)) (Nat.le_of_ble_eq_true rfl) rfl rfl (chg_raw rfl rfl rfl) s5 ?_
    refine v_aload_n 1 dX7_part_39 rfl (isR_ref _) ?_
    refine v_aload_n 0 dX7_part_40 rfl (isR_ref _) ?_
    refine x_callVI K (As := []) dX7_part_41 LX7_108 rfl rfl (Nat.le_of_ble_eq_true rfl) (rc_of (wset_eq _ _ _) (lay_R0 _ _ _ (by decide)) rfl) h (fun r6 w6 z6 n6 h => ?_)
    obtain ⟨F7, P7, A7, hw7, h⟩ := h
    refine x_callVV K (As := [vI r6]) dX7_part_44 LX7_111 rfl rfl (Nat.le_of_ble_eq_true rfl) (rc_of hw7 (lay_Pt0 _ _ _ _) rfl) h (fun w8 z8 n8 h => ?_)
    refine v_goto 20 dX7_part_47 (by decide) ?_
    exact h
/-! BranchNames$Reader.isSign -/
theorem wX7_isSign_0 (K : KV) {x1 : Int} {x0 : Nat} {w : Wd} {sz n : Nat} (h : ∃ (F1 : Nat → Int) (P1 : Nat → Option Nat), (w x0 = some (obR 7 F1 P1)) ∧ (CI mX7_here K [.ref x0] w sz n fun r2 w2 z2 n2 => (rI r2) ∧ ((rI x1) ∧ ((¬ r2 = x1 → (K.S (some (vI 0)) w2 z2 n2)) ∧ (r2 = x1 → (K.S (some (vI 1)) w2 z2 n2)))))) : VX K mX7_isSign 0 [(0, .ref x0), (1, vI x1)] [] w sz n := by
  refine v_aload_n 0 dX7_isSign_0 rfl (isR_ref _) ?_
  obtain ⟨F1, P1, hw1, h⟩ := h
  refine x_callVI K (As := []) dX7_isSign_1 LX7_26 rfl rfl (Nat.le_of_ble_eq_true rfl) (rc_of hw1 (lay_R0 _ _ _ (by decide)) rfl) h (fun r2 w2 z2 n2 h => ?_)
  refine v_iload_n 1 dX7_isSign_4 rfl ?_
  obtain ⟨s3, h⟩ := h
  obtain ⟨s4, h⟩ := h
  obtain ⟨ht, hf⟩ := h
  refine v_icmp_ne 12 dX7_isSign_5 (by decide) s3 s4 (fun c => ?_) (fun c => ?_)
  · have h := ht c
    refine v_iconst dX7_isSign_12 ?_
    exact x_zret K dX7_isSign_13 rfl (by decide) h
  · have h := hf c
    refine v_iconst dX7_isSign_8 ?_
    refine v_goto 13 dX7_isSign_9 (by decide) ?_
    exact x_zret K dX7_isSign_13 rfl (by decide) h
/-! BranchNames$Reader.wordOf -/
theorem wX7_wordOf_0 (K : KV) {x0 q1 : Nat} {w : Wd} {sz n : Nat} (h : VX K mX7_wordOf 2 [(0, .ref x0), (1, .ref q1), (2, vI 0)] [] w sz n) : VX K mX7_wordOf 0 [(0, .ref x0), (1, .ref q1)] [] w sz n := by
  refine v_iconst dX7_wordOf_0 ?_
  refine v_istore_n dX7_wordOf_1 (by decide) rfl ?_
  refine V.sub [1, 2, 0] rfl ?_
  exact h
theorem wX7_wordOf_2 (K : KV) {x2 : Int} {x0 q1 : Nat} {w : Wd} {sz n : Nat} (h : ∃ (l1 : Nat) (g1 : Int → Option Nat), (w q1 = some (obQ 3 l1 g1)) ∧ ((rI x2) ∧ ((rI (((l1 : Nat) : Int))) ∧ (((((l1 : Nat) : Int)) ≤ x2 → (K.S (some (vI ((-1)))) w sz n)) ∧ (¬ (((l1 : Nat) : Int)) ≤ x2 → ((0 ≤ x2 ∧ x2 < ((l1 : Nat) : Int)) ∧ ((l1 < 2147483648) ∧ (∃ (F6 : Nat → Int) (P6 : Nat → Option Nat), (w x0 = some (obR 7 F6 P6)) ∧ (CI mX7_alongside K [.ref x0, va_rf (g1 x2)] w sz n fun r7 w7 z7 n7 => ∃ (F8 : Nat → Int) (P8 : Nat → Option Nat), (w7 x0 = some (obR 7 F8 P8)) ∧ ((rI (F8 1)) ∧ ((rI ((F8 0) + r7)) ∧ ((1 ≤ K.d) ∧ ((K.G.base ≤ x0) ∧ (∃ (l13 : Nat) (g13 : Int → Option Nat), ((wset w7 x0 (some (obR 7 (upN F8 1 (max (F8 1) ((F8 0) + r7))) P8))) q1 = some (obQ 3 l13 g13)) ∧ ((0 ≤ x2 ∧ x2 < ((l13 : Nat) : Int)) ∧ ((l13 < 2147483648) ∧ (∃ (a16 : Nat), (g13 x2 = some a16) ∧ (∃ (b17 : Nat), ((wset w7 x0 (some (obR 7 (upN F8 1 (max (F8 1) ((F8 0) + r7))) P8))) a16 = some (obS b17)) ∧ (CI mJ2_length K [.ref a16] (wset w7 x0 (some (obR 7 (upN F8 1 (max (F8 1) ((F8 0) + r7))) P8))) z7 n7 fun r18 w18 z18 n18 => (rI r7) ∧ ((rI r18) ∧ ((r18 ≤ r7 → (∃ (F21 : Nat → Int) (P21 : Nat → Option Nat), (w18 x0 = some (obR 7 F21 P21)) ∧ (K.S (some (vI x2)) (wset w18 x0 (some (obR 7 (upN F21 0 ((F21 0) + r7)) P21))) z18 n18))) ∧ (¬ r18 ≤ r7 → (VX K mX7_wordOf 2 [(0, .ref x0), (1, .ref q1), (2, vI (x2 + 1))] [] w18 z18 n18))))))))))))))))))))))) : VX K mX7_wordOf 2 [(0, .ref x0), (1, .ref q1), (2, vI x2)] [] w sz n := by
  refine v_iload_n 2 dX7_wordOf_2 rfl ?_
  refine v_aload_n 1 dX7_wordOf_3 rfl (isR_ref _) ?_
  obtain ⟨l1, g1, hw1, h⟩ := h
  refine v_alen (q := q1) (j := 0) dX7_wordOf_4 hw1 rfl (lay_Q3 _ _ _) (by decide) ?_
  obtain ⟨s2, h⟩ := h
  obtain ⟨s3, h⟩ := h
  obtain ⟨ht, hf⟩ := h
  refine v_icmp_ge 64 dX7_wordOf_5 (by decide) s2 s3 (fun c => ?_) (fun c => ?_)
  · have h := ht c
    refine v_iconst dX7_wordOf_64 ?_
    exact x_iret K dX7_wordOf_65 rfl h
  · have h := hf c
    refine v_aload_n 0 dX7_wordOf_8 rfl (isR_ref _) ?_
    refine v_aload_n 1 dX7_wordOf_9 rfl (isR_ref _) ?_
    refine v_iload_n 2 dX7_wordOf_10 rfl ?_
    obtain ⟨s4, h⟩ := h
    obtain ⟨s5, h⟩ := h
    refine v_aaldQ (q := q1) (j := 0) (f := g1) (t := 3) (by decide) dX7_wordOf_11 hw1 rfl (lay_Q3 _ _ _) s4 s5 ?_
    obtain ⟨F6, P6, hw6, h⟩ := h
    refine x_callVI K (As := [va_rf (g1 x2)]) dX7_wordOf_12 LX7_48 rfl rfl (Nat.le_of_ble_eq_true rfl) (rc_of hw6 (lay_R0 _ _ _ (by decide)) rfl) h (fun r7 w7 z7 n7 h => ?_)
    refine v_istore_n dX7_wordOf_15 (by decide) rfl ?_
    refine v_aload_n 1 dX7_wordOf_16 rfl (isR_ref _) ?_
    refine v_aload_n 1 dX7_wordOf_17 rfl (isR_ref _) ?_
    obtain ⟨F8, P8, hw8, h⟩ := h
    refine v_get (q := x0) (j := 0) (v := vI (F8 1)) dX7_wordOf_18 fX7_52 hw8 rfl (lay_R0 _ _ _ (by decide)) rfl ?_
    refine v_aload_n 1 dX7_wordOf_21 rfl (isR_ref _) ?_
    refine v_get (q := x0) (j := 0) (v := vI (F8 0)) dX7_wordOf_22 fX7_15 hw8 rfl (lay_R0 _ _ _ (by decide)) rfl ?_
    refine v_iload_n 0 dX7_wordOf_25 rfl ?_
    refine v_iadd dX7_wordOf_26 ?_
    obtain ⟨s9, h⟩ := h
    obtain ⟨s10, h⟩ := h
    obtain ⟨s11, h⟩ := h
    refine v_mmax dX7_wordOf_27 q1478 s9 s10 s11 (Nat.le_of_ble_eq_true rfl) ?_
    obtain ⟨s12, h⟩ := h
    refine v_put (q := x0) (j := 0) (v := vI (max (F8 1) ((F8 0) + r7))) (obR 7 (upN F8 1 (max (F8 1) ((F8 0) + r7))) P8) dX7_wordOf_30 fX7_52 pf7_1 hw8 rfl (lay_R0 _ _ _ (by decide)) (Nat.le_of_ble_eq_true rfl) rfl rfl (chg_raw rfl rfl rfl) s12 ?_
    refine v_iload_n 0 dX7_wordOf_33 rfl ?_
    refine v_aload_n 2 dX7_wordOf_34 rfl (isR_ref _) ?_
    refine v_iload_n 3 dX7_wordOf_35 rfl ?_
    obtain ⟨l13, g13, hw13, h⟩ := h
    obtain ⟨s14, h⟩ := h
    obtain ⟨s15, h⟩ := h
    refine v_aaldQ (q := q1) (j := 0) (f := g13) (t := 3) (by decide) dX7_wordOf_36 hw13 rfl (lay_Q3 _ _ _) s14 s15 ?_
    obtain ⟨a16, ea16, h⟩ := h
    rw [ea16]
    obtain ⟨b17, hw17, h⟩ := h
    refine x_callVI K (As := []) dX7_wordOf_37 LX7_39 rfl rfl (Nat.le_of_ble_eq_true rfl) (rc_S hw17) h (fun r18 w18 z18 n18 h => ?_)
    obtain ⟨s19, h⟩ := h
    obtain ⟨s20, h⟩ := h
    obtain ⟨ht, hf⟩ := h
    refine v_icmp_ge 46 dX7_wordOf_40 (by decide) s19 s20 (fun c => ?_) (fun c => ?_)
    · have h := ht c
      refine v_aload_n 1 dX7_wordOf_46 rfl (isR_ref _) ?_
      refine v_dup dX7_wordOf_47 rfl ?_
      obtain ⟨F21, P21, hw21, h⟩ := h
      refine v_get (q := x0) (j := 0) (v := vI (F21 0)) dX7_wordOf_48 fX7_15 hw21 rfl (lay_R0 _ _ _ (by decide)) rfl ?_
      refine v_iload_n 0 dX7_wordOf_51 rfl ?_
      refine v_iadd dX7_wordOf_52 ?_
      refine v_put (q := x0) (j := 0) (v := vI ((F21 0) + r7)) (obR 7 (upN F21 0 ((F21 0) + r7)) P21) dX7_wordOf_53 fX7_15 pf7_0 hw21 rfl (lay_R0 _ _ _ (by decide)) (Nat.le_of_ble_eq_true rfl) rfl rfl (chg_raw rfl rfl rfl) s12 ?_
      refine v_iload_n 3 dX7_wordOf_56 rfl ?_
      exact x_iret K dX7_wordOf_57 rfl h
    · have h := hf c
      refine v_goto 58 dX7_wordOf_43 (by decide) ?_
      refine v_iinc 3 dX7_wordOf_58 rfl (by decide) rfl ?_
      refine v_goto 2 dX7_wordOf_61 (by decide) ?_
      refine V.sub [2, 3, 0] rfl ?_
      exact h
/-! BranchNames$Reader.alongside -/
theorem wX7_alongside_0 (K : KV) {x0 q1 : Nat} {w : Wd} {sz n : Nat} (h : VX K mX7_alongside 2 [(0, .ref x0), (1, .ref q1), (2, vI 0)] [] w sz n) : VX K mX7_alongside 0 [(0, .ref x0), (1, .ref q1)] [] w sz n := by
  refine v_iconst dX7_alongside_0 ?_
  refine v_istore_n dX7_alongside_1 (by decide) rfl ?_
  refine V.sub [1, 2, 0] rfl ?_
  exact h
theorem wX7_alongside_2 (K : KV) {x2 : Int} {x0 q1 : Nat} {w : Wd} {sz n : Nat} (h : ∃ (b1 : Nat), (w q1 = some (obS b1)) ∧ (CI mJ2_length K [.ref q1] w sz n fun r2 w2 z2 n2 => (rI x2) ∧ ((rI r2) ∧ ((r2 ≤ x2 → (K.S (some (vI x2)) w2 z2 n2)) ∧ (¬ r2 ≤ x2 → (∃ (F5 : Nat → Int) (P5 : Nat → Option Nat), (w2 x0 = some (obR 7 F5 P5)) ∧ (∃ (a6 : Nat), (P5 2 = some a6) ∧ (∃ (F7 : Nat → Int) (p7 : Nat), (w2 a6 = some (obX a6 F7 p7)) ∧ ((rI ((F5 0) + x2)) ∧ ((rI (F7 27)) ∧ (((F7 27) ≤ ((F5 0) + x2) → (K.S (some (vI x2)) w2 z2 n2)) ∧ (¬ (F7 27) ≤ ((F5 0) + x2) → (∃ (a10 : Nat), (P5 2 = some a10) ∧ (∃ (F11 : Nat → Int) (p11 : Nat), (w2 a10 = some (obX a10 F11 p11)) ∧ (∃ (A12 : Nat → Int → Int) (B12 : Nat → Int → Option Nat) (M12 : Nat → Int → Int → Int), (w2 (a10 + 221) = some (obXA A12 B12 M12)) ∧ ((0 ≤ ((F5 0) + x2) ∧ ((F5 0) + x2) < 80) ∧ (∃ (b14 : Nat), (w2 q1 = some (obS b14)) ∧ (CI mJ2_charAt K [.ref q1, vI x2] w2 z2 n2 fun r15 w15 z15 n15 => (rI (A12 7 ((F5 0) + x2))) ∧ ((rI r15) ∧ ((¬ (A12 7 ((F5 0) + x2)) = r15 → (K.S (some (vI x2)) w15 z15 n15)) ∧ ((A12 7 ((F5 0) + x2)) = r15 → (VX K mX7_alongside 2 [(0, .ref x0), (1, .ref q1), (2, vI (x2 + 1))] [] w15 z15 n15)))))))))))))))))))))) : VX K mX7_alongside 2 [(0, .ref x0), (1, .ref q1), (2, vI x2)] [] w sz n := by
  refine v_iload_n 2 dX7_alongside_2 rfl ?_
  refine v_aload_n 1 dX7_alongside_3 rfl (isR_ref _) ?_
  obtain ⟨b1, hw1, h⟩ := h
  refine x_callVI K (As := []) dX7_alongside_4 LX7_39 rfl rfl (Nat.le_of_ble_eq_true rfl) (rc_S hw1) h (fun r2 w2 z2 n2 h => ?_)
  obtain ⟨s3, h⟩ := h
  obtain ⟨s4, h⟩ := h
  obtain ⟨ht, hf⟩ := h
  refine v_icmp_ge 54 dX7_alongside_7 (by decide) s3 s4 (fun c => ?_) (fun c => ?_)
  · have h := ht c
    refine v_iload_n 2 dX7_alongside_54 rfl ?_
    exact x_iret K dX7_alongside_55 rfl h
  · have h := hf c
    refine v_aload_n 0 dX7_alongside_10 rfl (isR_ref _) ?_
    obtain ⟨F5, P5, hw5, h⟩ := h
    refine v_get (q := x0) (j := 0) (v := vI (F5 0)) dX7_alongside_11 fX7_15 hw5 rfl (lay_R0 _ _ _ (by decide)) rfl ?_
    refine v_iload_n 2 dX7_alongside_14 rfl ?_
    refine v_iadd dX7_alongside_15 ?_
    refine v_aload_n 0 dX7_alongside_16 rfl (isR_ref _) ?_
    refine v_get (q := x0) (j := 0) (v := va_rf (P5 2)) dX7_alongside_17 fX7_3 hw5 rfl (lay_R0 _ _ _ (by decide)) rfl ?_
    obtain ⟨a6, ea6, h⟩ := h
    rw [ea6]
    obtain ⟨F7, p7, hw7, h⟩ := h
    refine v_get (q := a6) (j := 0) (v := vI (F7 27)) dX7_alongside_20 fX7_19 hw7 rfl (lay_X0 _ _ _) rfl ?_
    obtain ⟨s8, h⟩ := h
    obtain ⟨s9, h⟩ := h
    obtain ⟨ht, hf⟩ := h
    refine v_icmp_ge 54 dX7_alongside_23 (by decide) s8 s9 (fun c => ?_) (fun c => ?_)
    · have h := ht c
      refine v_iload_n 2 dX7_alongside_54 rfl ?_
      exact x_iret K dX7_alongside_55 rfl h
    · have h := hf c
      refine v_aload_n 0 dX7_alongside_26 rfl (isR_ref _) ?_
      refine v_get (q := x0) (j := 0) (v := va_rf (P5 2)) dX7_alongside_27 fX7_3 hw5 rfl (lay_R0 _ _ _ (by decide)) rfl ?_
      obtain ⟨a10, ea10, h⟩ := h
      rw [ea10]
      obtain ⟨F11, p11, hw11, h⟩ := h
      refine v_get (q := a10) (j := 0) (v := .ref (a10 + 221 + 63)) dX7_alongside_30 fX7_22 hw11 rfl (lay_X0 _ _ _) rfl ?_
      refine v_aload_n 0 dX7_alongside_33 rfl (isR_ref _) ?_
      refine v_get (q := x0) (j := 0) (v := vI (F5 0)) dX7_alongside_34 fX7_15 hw5 rfl (lay_R0 _ _ _ (by decide)) rfl ?_
      refine v_iload_n 2 dX7_alongside_37 rfl ?_
      refine v_iadd dX7_alongside_38 ?_
      obtain ⟨A12, B12, M12, hw12, h⟩ := h
      obtain ⟨s13, h⟩ := h
      refine v_bald (q := a10 + 221) (j := 63) (f := A12 7) dX7_alongside_39 hw12 rfl (lay_XA 63 rfl) s13 (by decide) ?_
      refine v_aload_n 1 dX7_alongside_40 rfl (isR_ref _) ?_
      refine v_iload_n 2 dX7_alongside_41 rfl ?_
      obtain ⟨b14, hw14, h⟩ := h
      refine x_callVI K (As := [vI x2]) dX7_alongside_42 LX7_44 rfl rfl (Nat.le_of_ble_eq_true rfl) (rc_S hw14) h (fun r15 w15 z15 n15 h => ?_)
      obtain ⟨s16, h⟩ := h
      obtain ⟨s17, h⟩ := h
      obtain ⟨ht, hf⟩ := h
      refine v_icmp_ne 54 dX7_alongside_45 (by decide) s16 s17 (fun c => ?_) (fun c => ?_)
      · have h := ht c
        refine v_iload_n 2 dX7_alongside_54 rfl ?_
        exact x_iret K dX7_alongside_55 rfl h
      · have h := hf c
        refine v_iinc 2 dX7_alongside_48 rfl (by decide) rfl ?_
        refine v_goto 2 dX7_alongside_51 (by decide) ?_
        refine V.sub [1, 2, 0] rfl ?_
        exact h
/-! BranchNames$Reader.branch -/
theorem wX7_branch_0 (K : KV) {x0 : Nat} {w : Wd} {sz n : Nat} (h : ∃ (F1 : Nat → Int) (P1 : Nat → Option Nat), (w x0 = some (obR 7 F1 P1)) ∧ (CI mX7_isSign K [.ref x0, vI 40] w sz n fun r2 w2 z2 n2 => (rI r2) ∧ ((r2 = 0 → ((w2 z2 = none) ∧ (CV mX8_init K [.ref z2] (wset w2 z2 (some (obR 8 nF nP))) (z2 + 1) (n2 + 3) fun w5 z5 n5 => ∃ (F6 : Nat → Int) (P6 : Nat → Option Nat), (w5 x0 = some (obR 7 F6 P6)) ∧ (CI mX7_stem K [.ref x0] w5 z5 n5 fun r7 w7 z7 n7 => ∃ (F8 : Nat → Int) (P8 : Nat → Option Nat), (w7 z2 = some (obR 8 F8 P8)) ∧ ((K.G.base ≤ z2) ∧ (∃ (F10 : Nat → Int) (P10 : Nat → Option Nat), ((wset w7 z2 (some (obR 8 (upN F8 1 r7) P8))) x0 = some (obR 7 F10 P10)) ∧ (CV mX7_must K [.ref x0, vI 121] (wset w7 z2 (some (obR 8 (upN F8 1 r7) P8))) z7 n7 fun w11 z11 n11 => ∃ (F12 : Nat → Int) (P12 : Nat → Option Nat), (w11 x0 = some (obR 7 F12 P12)) ∧ (CV mX7_must K [.ref x0, vI 108] w11 z11 n11 fun w13 z13 n13 => K.S (some (va_rf (some z2))) w13 z13 n13)))))))) ∧ (¬ r2 = 0 → (∃ (F4 : Nat → Int) (P4 : Nat → Option Nat), (w2 x0 = some (obR 7 F4 P4)) ∧ (CQ mX7_bracket K [.ref x0] w2 z2 n2 fun r5 w5 z5 n5 => K.S (some (va_rf r5)) w5 z5 n5)))))) : VX K mX7_branch 0 [(0, .ref x0)] [] w sz n := by
  refine v_aload_n 0 dX7_branch_0 rfl (isR_ref _) ?_
  refine v_bipush dX7_branch_1 rfl ?_
  obtain ⟨F1, P1, hw1, h⟩ := h
  refine x_callVI K (As := [vI 40]) dX7_branch_3 LX7_30 rfl rfl (Nat.le_of_ble_eq_true rfl) (rc_of hw1 (lay_R0 _ _ _ (by decide)) rfl) h (fun r2 w2 z2 n2 h => ?_)
  obtain ⟨s3, h⟩ := h
  obtain ⟨ht, hf⟩ := h
  refine v_if_eq 14 dX7_branch_6 (by decide) s3 (fun c => ?_) (fun c => ?_)
  · have h := ht c
    obtain ⟨s4, h⟩ := h
    refine v_new K (ci := 8) (C := RX8) (T := TX8) (N := 3) tyX8 dX7_branch_14 (by decide) rfl in_X8 tyX8_ok q1331 q1332 q176 nw8 s4 ?_
    refine v_dup dX7_branch_17 rfl ?_
    refine x_callINV K (As := []) dX7_branch_18 LX7_104 rfl rfl (Nat.le_of_ble_eq_true rfl) h (fun w5 z5 n5 h => ?_)
    refine v_astore_n dX7_branch_21 (by decide) (isR_ref _) rfl ?_
    refine v_aload_n 0 dX7_branch_22 rfl (isR_ref _) ?_
    refine v_aload_n 1 dX7_branch_23 rfl (isR_ref _) ?_
    obtain ⟨F6, P6, hw6, h⟩ := h
    refine x_callVI K (As := []) dX7_branch_24 LX7_99 rfl rfl (Nat.le_of_ble_eq_true rfl) (rc_of hw6 (lay_R0 _ _ _ (by decide)) rfl) h (fun r7 w7 z7 n7 h => ?_)
    obtain ⟨F8, P8, hw8, h⟩ := h
    obtain ⟨s9, h⟩ := h
    refine v_put (q := z2) (j := 0) (v := vI r7) (obR 8 (upN F8 1 r7) P8) dX7_branch_27 fX7_96 pf8_1 hw8 rfl (lay_R0 _ _ _ (by decide)) (Nat.le_of_ble_eq_true rfl) rfl rfl (chg_raw rfl rfl rfl) s9 ?_
    refine v_aload_n 1 dX7_branch_30 rfl (isR_ref _) ?_
    refine v_bipush dX7_branch_31 rfl ?_
    obtain ⟨F10, P10, hw10, h⟩ := h
    refine x_callVV K (As := [vI 121]) dX7_branch_33 LX7_80 rfl rfl (Nat.le_of_ble_eq_true rfl) (rc_of hw10 (lay_R0 _ _ _ (by decide)) rfl) h (fun w11 z11 n11 h => ?_)
    refine v_aload_n 1 dX7_branch_36 rfl (isR_ref _) ?_
    refine v_bipush dX7_branch_37 rfl ?_
    obtain ⟨F12, P12, hw12, h⟩ := h
    refine x_callVV K (As := [vI 108]) dX7_branch_39 LX7_80 rfl rfl (Nat.le_of_ble_eq_true rfl) (rc_of hw12 (lay_R0 _ _ _ (by decide)) rfl) h (fun w13 z13 n13 h => ?_)
    refine v_aload_n 0 dX7_branch_42 rfl (isR_ref _) ?_
    exact x_aret K (r := some z2) dX7_branch_43 rfl (by first | exact Or.inl ⟨_, rfl⟩ | exact Or.inr ⟨_, rfl⟩) h
  · have h := hf c
    refine v_aload_n 0 dX7_branch_9 rfl (isR_ref _) ?_
    obtain ⟨F4, P4, hw4, h⟩ := h
    refine x_callVQ K (As := []) dX7_branch_10 LX7_101 rfl rfl (Nat.le_of_ble_eq_true rfl) (rc_of hw4 (lay_R0 _ _ _ (by decide)) rfl) h (fun r5 w5 z5 n5 h => ?_)
    exact x_aret K (r := r5) dX7_branch_13 rfl (by first | exact Or.inl ⟨_, rfl⟩ | exact Or.inr ⟨_, rfl⟩) h
/-! BranchNames$Reader.bracket -/
theorem wX7_bracket_0 (K : KV) {x0 : Nat} {w : Wd} {sz n : Nat} (h : ∃ (F1 : Nat → Int) (P1 : Nat → Option Nat), (w x0 = some (obR 7 F1 P1)) ∧ (CV mX7_must K [.ref x0, vI 40] w sz n fun w2 z2 n2 => ∃ (F3 : Nat → Int) (P3 : Nat → Option Nat), (w2 x0 = some (obR 7 F3 P3)) ∧ (CQ mX7_parts K [.ref x0] w2 z2 n2 fun r4 w4 z4 n4 => ∃ (a5 : Nat), (r4 = some a5) ∧ (∃ (F6 : Nat → Int) (P6 : Nat → Option Nat), (w4 a5 = some (obR 8 F6 P6)) ∧ ((K.G.base ≤ a5) ∧ (∃ (F8 : Nat → Int) (P8 : Nat → Option Nat), ((wset w4 a5 (some (obR 8 (upN F6 2 1) P6))) x0 = some (obR 7 F8 P8)) ∧ (CI mX7_stemBehind K [.ref x0] (wset w4 a5 (some (obR 8 (upN F6 2 1) P6))) z4 n4 fun r9 w9 z9 n9 => ∃ (F10 : Nat → Int) (P10 : Nat → Option Nat), (w9 a5 = some (obR 8 F10 P10)) ∧ (∃ (F11 : Nat → Int) (P11 : Nat → Option Nat), ((wset w9 a5 (some (obR 8 (upN F10 1 r9) P10))) x0 = some (obR 7 F11 P11)) ∧ (CV mX7_must K [.ref x0, vI 121] (wset w9 a5 (some (obR 8 (upN F10 1 r9) P10))) z9 n9 fun w12 z12 n12 => ∃ (F13 : Nat → Int) (P13 : Nat → Option Nat), (w12 x0 = some (obR 7 F13 P13)) ∧ (CV mX7_must K [.ref x0, vI 108] w12 z12 n12 fun w14 z14 n14 => ∃ (F15 : Nat → Int) (P15 : Nat → Option Nat), (w14 x0 = some (obR 7 F15 P15)) ∧ (CV mX7_must K [.ref x0, vI 41] w14 z14 n14 fun w16 z16 n16 => K.S (some (va_rf (some a5))) w16 z16 n16))))))))))) : VX K mX7_bracket 0 [(0, .ref x0)] [] w sz n := by
  refine v_aload_n 0 dX7_bracket_0 rfl (isR_ref _) ?_
  refine v_bipush dX7_bracket_1 rfl ?_
  obtain ⟨F1, P1, hw1, h⟩ := h
  refine x_callVV K (As := [vI 40]) dX7_bracket_3 LX7_80 rfl rfl (Nat.le_of_ble_eq_true rfl) (rc_of hw1 (lay_R0 _ _ _ (by decide)) rfl) h (fun w2 z2 n2 h => ?_)
  refine v_aload_n 0 dX7_bracket_6 rfl (isR_ref _) ?_
  obtain ⟨F3, P3, hw3, h⟩ := h
  refine x_callVQ K (As := []) dX7_bracket_7 LX7_83 rfl rfl (Nat.le_of_ble_eq_true rfl) (rc_of hw3 (lay_R0 _ _ _ (by decide)) rfl) h (fun r4 w4 z4 n4 h => ?_)
  refine v_astore_n dX7_bracket_10 (by decide) (isR_rf _) rfl ?_
  refine v_aload_n 0 dX7_bracket_11 rfl (isR_rf _) ?_
  refine v_iconst dX7_bracket_12 ?_
  obtain ⟨a5, ea5, h⟩ := h
  rw [ea5]
  obtain ⟨F6, P6, hw6, h⟩ := h
  obtain ⟨s7, h⟩ := h
  refine v_put (q := a5) (j := 0) (v := vI 1) (obR 8 (upN F6 2 1) P6) dX7_bracket_13 fX7_87 pf8_2 hw6 rfl (lay_R0 _ _ _ (by decide)) (Nat.le_of_ble_eq_true rfl) rfl rfl (chg_raw rfl rfl rfl) s7 ?_
  refine v_aload_n 0 dX7_bracket_16 rfl (isR_ref _) ?_
  refine v_aload_n 1 dX7_bracket_17 rfl (isR_ref _) ?_
  obtain ⟨F8, P8, hw8, h⟩ := h
  refine x_callVI K (As := []) dX7_bracket_18 LX7_93 rfl rfl (Nat.le_of_ble_eq_true rfl) (rc_of hw8 (lay_R0 _ _ _ (by decide)) rfl) h (fun r9 w9 z9 n9 h => ?_)
  obtain ⟨F10, P10, hw10, h⟩ := h
  refine v_put (q := a5) (j := 0) (v := vI r9) (obR 8 (upN F10 1 r9) P10) dX7_bracket_21 fX7_96 pf8_1 hw10 rfl (lay_R0 _ _ _ (by decide)) (Nat.le_of_ble_eq_true rfl) rfl rfl (chg_raw rfl rfl rfl) s7 ?_
  refine v_aload_n 1 dX7_bracket_24 rfl (isR_ref _) ?_
  refine v_bipush dX7_bracket_25 rfl ?_
  obtain ⟨F11, P11, hw11, h⟩ := h
  refine x_callVV K (As := [vI 121]) dX7_bracket_27 LX7_80 rfl rfl (Nat.le_of_ble_eq_true rfl) (rc_of hw11 (lay_R0 _ _ _ (by decide)) rfl) h (fun w12 z12 n12 h => ?_)
  refine v_aload_n 1 dX7_bracket_30 rfl (isR_ref _) ?_
  refine v_bipush dX7_bracket_31 rfl ?_
  obtain ⟨F13, P13, hw13, h⟩ := h
  refine x_callVV K (As := [vI 108]) dX7_bracket_33 LX7_80 rfl rfl (Nat.le_of_ble_eq_true rfl) (rc_of hw13 (lay_R0 _ _ _ (by decide)) rfl) h (fun w14 z14 n14 h => ?_)
  refine v_aload_n 1 dX7_bracket_36 rfl (isR_ref _) ?_
  refine v_bipush dX7_bracket_37 rfl ?_
  obtain ⟨F15, P15, hw15, h⟩ := h
  refine x_callVV K (As := [vI 41]) dX7_bracket_39 LX7_80 rfl rfl (Nat.le_of_ble_eq_true rfl) (rc_of hw15 (lay_R0 _ _ _ (by decide)) rfl) h (fun w16 z16 n16 h => ?_)
  refine v_aload_n 0 dX7_bracket_42 rfl (isR_ref _) ?_
  exact x_aret K (r := some a5) dX7_bracket_43 rfl (by first | exact Or.inl ⟨_, rfl⟩ | exact Or.inr ⟨_, rfl⟩) h
/-! BranchNames$Reader.stemBehind -/
theorem wX7_stemBehind_0 (K : KV) {x0 : Nat} {w : Wd} {sz n : Nat} (h : ∃ (F1 : Nat → Int) (P1 : Nat → Option Nat), (w x0 = some (obR 7 F1 P1)) ∧ ((K.G.base ≤ x0) ∧ (CI mX7_stem K [.ref x0] (wset w x0 (some (obR 7 (upN F1 1 (F1 0)) P1))) sz n fun r3 w3 z3 n3 => K.S (some (vI r3)) w3 z3 n3))) : VX K mX7_stemBehind 0 [(0, .ref x0)] [] w sz n := by
  refine v_aload_n 0 dX7_stemBehind_0 rfl (isR_ref _) ?_
  refine v_aload_n 0 dX7_stemBehind_1 rfl (isR_ref _) ?_
  obtain ⟨F1, P1, hw1, h⟩ := h
  refine v_get (q := x0) (j := 0) (v := vI (F1 0)) dX7_stemBehind_2 fX7_15 hw1 rfl (lay_R0 _ _ _ (by decide)) rfl ?_
  obtain ⟨s2, h⟩ := h
  refine v_put (q := x0) (j := 0) (v := vI (F1 0)) (obR 7 (upN F1 1 (F1 0)) P1) dX7_stemBehind_5 fX7_52 pf7_1 hw1 rfl (lay_R0 _ _ _ (by decide)) (Nat.le_of_ble_eq_true rfl) rfl rfl (chg_raw rfl rfl rfl) s2 ?_
  refine v_aload_n 0 dX7_stemBehind_8 rfl (isR_ref _) ?_
  refine x_callVI K (As := []) dX7_stemBehind_9 LX7_99 rfl rfl (Nat.le_of_ble_eq_true rfl) (rc_of (wset_eq _ _ _) (lay_R0 _ _ _ (by decide)) rfl) h (fun r3 w3 z3 n3 h => ?_)
  exact x_iret K dX7_stemBehind_12 rfl h
/-! BranchNames$Branch.<init> -/
theorem wX8_init_0 (K : KV) {x0 : Nat} {w : Wd} {sz n : Nat} (h : (1 ≤ K.d) ∧ ((w sz = none) ∧ (CV mJ12_init K [.ref sz] (wset w sz (some (obR 17 nF nP))) (sz + 1) (n + 3) fun w3 z3 n3 => ∃ (F4 : Nat → Int) (P4 : Nat → Option Nat), (w3 x0 = some (obR 8 F4 P4)) ∧ ((K.G.base ≤ x0) ∧ (K.S none (wset w3 x0 (some (obR 8 F4 (upN P4 0 (some sz))))) z3 n3))))) : VX K mX8_init 0 [(0, .ref x0)] [] w sz n := by
  refine v_aload_n 0 dX8_init_0 rfl (isR_ref _) ?_
  obtain ⟨s1, h⟩ := h
  refine v_objInit dX8_init_1 q1336 q192 q193 s1 (Nat.le_of_ble_eq_true rfl) ?_
  refine v_aload_n 0 dX8_init_4 rfl (isR_ref _) ?_
  obtain ⟨s2, h⟩ := h
  refine v_new K (ci := 17) (C := RJ12) (T := TJ12) (N := 3) tyJ12 dX8_init_5 (by decide) rfl in_J12 tyJ12_ok q1337 q1002 q172 nw17 s2 ?_
  refine v_dup dX8_init_8 rfl ?_
  refine x_callIV K (As := []) dX8_init_9 LX8_9 rfl rfl (Nat.le_of_ble_eq_true rfl) h (fun w3 z3 n3 h => ?_)
  obtain ⟨F4, P4, hw4, h⟩ := h
  obtain ⟨s5, h⟩ := h
  refine v_putF (q := x0) (j := 0) (v := va_rf (some sz)) (obR 8 F4 (upN P4 0 (some sz))) dX8_init_12 foX8_10 pfF8_0 rfl hw4 rfl (lay_R0 _ _ _ (by decide)) (Nat.le_of_ble_eq_true rfl) (nar_rf _ (some sz)) (fit_rf _ (some sz)) (chg_raw rfl rfl rfl) s5 ?_
  exact v_vret dX8_init_15 rfl h
/-! BranchNames$Part.<init> -/
theorem wX9_init_0 (K : KV) {x1 : Int} {x0 : Nat} {w : Wd} {sz n : Nat} (h : (1 ≤ K.d) ∧ ((w sz = none) ∧ (∃ (F3 : Nat → Int) (P3 : Nat → Option Nat), ((wset w sz (some (obA 0 ((Int.toNat 80)) ((fun _ => 0))))) x0 = some (obR 9 F3 P3)) ∧ ((K.G.base ≤ x0) ∧ ((sz = x0 + 1) ∧ (K.S none (wset (wset (wset (wset w sz (some (obA 0 ((Int.toNat 80)) ((fun _ => 0))))) x0 (some (obR 9 (upN (upN F3 3 1) 0 x1) (upN P3 1 (some sz))))) x0 (some (obPt (upN (upN F3 3 1) 0 x1) (upN P3 1 (some sz)) (fun _ => (fun _ => 0))))) (x0 + 1) none) (sz + 1) (n + Int.toNat 80))))))) : VX K mX9_init 0 [(0, .ref x0), (1, vI x1)] [] w sz n := by
  refine v_aload_n 0 dX9_init_0 rfl (isR_ref _) ?_
  obtain ⟨s1, h⟩ := h
  refine v_objInit dX9_init_1 q1362 q192 q193 s1 (Nat.le_of_ble_eq_true rfl) ?_
  refine v_aload_n 0 dX9_init_4 rfl (isR_ref _) ?_
  refine v_bipush dX9_init_5 rfl ?_
  obtain ⟨s2, h⟩ := h
  refine x_newI K dX9_init_7 (by decide) s2 ?_
  obtain ⟨F3, P3, hw3, h⟩ := h
  obtain ⟨s4, h⟩ := h
  refine v_putF (q := x0) (j := 0) (v := va_rf (some sz)) (obR 9 F3 (upN P3 1 (some sz))) dX9_init_9 foX9_9 pfF9_1 rfl hw3 rfl (lay_R0 _ _ _ (by decide)) (Nat.le_of_ble_eq_true rfl) (nar_rfA _ (some sz)) (fit_rfA _ (some sz)) (chg_raw rfl rfl rfl) s4 ?_
  refine v_aload_n 0 dX9_init_12 rfl (isR_ref _) ?_
  refine v_iconst dX9_init_13 ?_
  refine v_put (q := x0) (j := 0) (v := vI 1) (obR 9 (upN F3 3 1) (upN P3 1 (some sz))) dX9_init_14 fX9_15 pf9_3 (wset_eq _ _ _) rfl (lay_R0 _ _ _ (by decide)) (Nat.le_of_ble_eq_true rfl) rfl rfl (chg_raw rfl rfl rfl) s4 ?_
  rw [wset_wset]
  refine v_aload_n 0 dX9_init_17 rfl (isR_ref _) ?_
  refine v_iload_n 1 dX9_init_18 rfl ?_
  refine v_putF (q := x0) (j := 0) (v := vI x1) (obR 9 (upN (upN F3 3 1) 0 x1) (upN P3 1 (some sz))) dX9_init_19 foX9_19 pfF9_0 rfl (wset_eq _ _ _) rfl (lay_R0 _ _ _ (by decide)) (Nat.le_of_ble_eq_true rfl) rfl rfl (chg_raw rfl rfl rfl) s4 ?_
  rw [wset_wset]
  obtain ⟨s5, h⟩ := h
  have h77 := h
  subst s5
  refine V.world (fuse2 (q := x0) (o := obPt (upN (upN F3 3 1) 0 x1) (upN P3 1 (some (x0 + 1))) (fun _ => (fun _ => 0))) (wset_eq _ _ _) (ws_ne (wset_eq _ _ _) (Ne.symm (wk_ne hw3 (wset_eq _ _ _) (show (9 : Nat) ≠ 60 by decide)))) rfl rfl rfl (fun e h => h) (fun e h => h)) ?_
  exact v_vret dX9_init_22 rfl h77
/-! BranchNames$Part.comes -/
theorem wX9_comes_0 (K : KV) {x1 : Int} {x0 : Nat} {w : Wd} {sz n : Nat} (h : ∃ (F1 : Nat → Int) (P1 : Nat → Option Nat) (A1 : Nat → Int → Int), (w x0 = some (obPt F1 P1 A1)) ∧ ((0 ≤ (F1 2) ∧ (F1 2) < 80) ∧ ((K.G.base ≤ x0) ∧ (K.S none (wset w x0 (some (obPt (upN F1 2 ((F1 2) + 1)) P1 (upA A1 0 (F1 2) x1)))) sz n)))) : VX K mX9_comes 0 [(0, .ref x0), (1, vI x1)] [] w sz n := by
  refine v_aload_n 0 dX9_comes_0 rfl (isR_ref _) ?_
  obtain ⟨F1, P1, A1, hw1, h⟩ := h
  refine v_get (q := x0) (j := 0) (v := .ref (x0 + 1)) dX9_comes_1 fX9_9 hw1 rfl (lay_Pt0 _ _ _ _) rfl ?_
  refine v_aload_n 0 dX9_comes_4 rfl (isR_ref _) ?_
  refine v_get (q := x0) (j := 0) (v := vI (F1 2)) dX9_comes_5 fX9_22 hw1 rfl (lay_Pt0 _ _ _ _) rfl ?_
  refine v_iload_n 1 dX9_comes_8 rfl ?_
  obtain ⟨s2, h⟩ := h
  obtain ⟨s3, h⟩ := h
  refine v_iast (q := x0) (j := 1) (f := A1 0) (obPt F1 P1 (upA A1 0 (F1 2) x1)) dX9_comes_9 hw1 rfl (lay_Pt1 _ _ _ _) s2 (by decide) (chg_Pt1 _ _) s3 ?_
  refine v_aload_n 0 dX9_comes_10 rfl (isR_ref _) ?_
  refine v_dup dX9_comes_11 rfl ?_
  refine v_get (q := x0) (j := 0) (v := vI (F1 2)) dX9_comes_12 fX9_22 (wset_eq _ _ _) rfl (lay_Pt0 _ _ _ _) rfl ?_
  refine v_iconst dX9_comes_15 ?_
  refine v_iadd dX9_comes_16 ?_
  refine v_put (q := x0) (j := 0) (v := vI ((F1 2) + 1)) (obPt (upN F1 2 ((F1 2) + 1)) P1 (upA A1 0 (F1 2) x1)) dX9_comes_17 fX9_22 pf9_2 (wset_eq _ _ _) rfl (lay_Pt0 _ _ _ _) (Nat.le_of_ble_eq_true rfl) rfl rfl (chg_Pt0 rfl) s3 ?_
  rw [wset_wset]
  exact v_vret dX9_comes_20 rfl h
