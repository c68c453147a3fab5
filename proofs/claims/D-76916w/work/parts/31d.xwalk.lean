set_option maxRecDepth 100000
/-! BranchNames.measure -/
theorem wX0_measure_0 (K : KV) {x1 : Int} {x0 : Nat} {w : Wd} {sz n : Nat} (h : (rI x1) ∧ (CI mX0_isIn K [vL x1, vL 0, vL 10] w sz n fun r2 w2 z2 n2 => (rI r2) ∧ ((r2 = 0 → (K.S (some (vI ((-1)))) w2 z2 n2)) ∧ (¬ r2 = 0 → (∃ (F4 : Nat → Int) (p4 : Nat), (w2 x0 = some (obX x0 F4 p4)) ∧ (∃ (l5 : Nat) (g5 : Int → Option Nat), (w2 p4 = some (obQ 5 l5 g5)) ∧ ((0 ≤ x1 ∧ x1 < ((l5 : Nat) : Int)) ∧ ((l5 < 2147483648) ∧ (∃ (a8 : Nat), (g5 x1 = some a8) ∧ (CFI ({ cls := "BranchNames$Measure", name := "of", desc := "(LBranchNames$Tree;)I" } : MethodName) 1 K [.ref a8, .ref (x0 + 1)] w2 z2 n2 fun r9 w9 z9 n9 => K.S (some (vI r9)) w9 z9 n9)))))))))) : VX K mX0_measure 0 [(0, .ref x0), (1, vI x1)] [] w sz n := by
  refine v_iload_n 1 dX0_measure_0 rfl ?_
  obtain ⟨s1, h⟩ := h
  refine v_i2l dX0_measure_1 s1 ?_
  refine v_lconst (z := 0) dX0_measure_2 rfl ?_
  refine v_ldc2 (z := 10) dX0_measure_3 q925 ?_
  refine x_callSI K (As := [vL x1, vL 0, vL 10]) dX0_measure_6 LX0_142 rfl rfl (Nat.le_of_ble_eq_true rfl) h (fun r2 w2 z2 n2 h => ?_)
  obtain ⟨s3, h⟩ := h
  obtain ⟨ht, hf⟩ := h
  refine v_if_eq 30 dX0_measure_9 (by decide) s3 (fun c => ?_) (fun c => ?_)
  · have h := ht c
    refine v_iconst dX0_measure_30 ?_
    exact x_iret K dX0_measure_31 rfl h
  · have h := hf c
    refine v_aload_n 0 dX0_measure_12 rfl (isR_ref _) ?_
    obtain ⟨F4, p4, hw4, h⟩ := h
    refine v_get (q := x0) (j := 0) (v := .ref p4) dX0_measure_13 fX0_467 hw4 rfl (lay_X0 _ _ _) rfl ?_
    refine v_iload_n 1 dX0_measure_16 rfl ?_
    obtain ⟨l5, g5, hw5, h⟩ := h
    obtain ⟨s6, h⟩ := h
    obtain ⟨s7, h⟩ := h
    refine v_aaldQ (q := p4) (j := 0) (f := g5) (t := 5) (by decide) dX0_measure_17 hw5 rfl (lay_Q5 _ _ _) s6 s7 ?_
    refine v_aload_n 0 dX0_measure_18 rfl (isR_ref _) ?_
    refine v_get (q := x0) (j := 0) (v := .ref (x0 + 1)) dX0_measure_19 fX0_365 hw4 rfl (lay_X0 _ _ _) rfl ?_
    obtain ⟨a8, ea8, h⟩ := h
    rw [ea8]
    refine x_callFI K (As := [.ref (x0 + 1)]) dX0_measure_22 q1234 rfl rfl (Nat.le_of_ble_eq_true rfl) h (fun r9 w9 z9 n9 h => ?_)
    refine v_goto 31 dX0_measure_27 (by decide) ?_
    exact x_iret K dX0_measure_31 rfl h
/-! BranchNames.list -/
theorem wX0_list_0 (K : KV) {x1 : Int} {x0 : Nat} {w : Wd} {sz n : Nat} (h : ∃ (F1 : Nat → Int) (p1 : Nat), (w x0 = some (obX x0 F1 p1)) ∧ (CI mX0_isList K [.ref x0, vI x1] w sz n fun r2 w2 z2 n2 => (rI r2) ∧ ((r2 = 0 → (K.S (some (vI ((-1)))) w2 z2 n2)) ∧ (¬ r2 = 0 → (∃ (F4 : Nat → Int) (p4 : Nat), (w2 x0 = some (obX x0 F4 p4)) ∧ (∃ (A5 : Nat → Int → Int) (B5 : Nat → Int → Option Nat) (M5 : Nat → Int → Int → Int), (w2 (x0 + 221) = some (obXA A5 B5 M5)) ∧ ((0 ≤ x1 ∧ x1 < 11) ∧ (∃ (a7 : Nat), (B5 0 x1 = some a7) ∧ (∃ (l8 : Nat) (f8 : Int → Int), (w2 a7 = some (obA 0 l8 f8)) ∧ (K.S (some (vI (((l8 : Nat) : Int)))) w2 z2 n2)))))))))) : VX K mX0_list 0 [(0, .ref x0), (1, vI x1)] [] w sz n := by
  refine v_aload_n 0 dX0_list_0 rfl (isR_ref _) ?_
  refine v_iload_n 1 dX0_list_1 rfl ?_
  obtain ⟨F1, p1, hw1, h⟩ := h
  refine x_callVI K (As := [vI x1]) dX0_list_2 LX0_146 rfl rfl (Nat.le_of_ble_eq_true rfl) (rc_of hw1 (lay_X0 _ _ _) rfl) h (fun r2 w2 z2 n2 h => ?_)
  obtain ⟨s3, h⟩ := h
  obtain ⟨ht, hf⟩ := h
  refine v_if_eq 18 dX0_list_5 (by decide) s3 (fun c => ?_) (fun c => ?_)
  · have h := ht c
    refine v_iconst dX0_list_18 ?_
    exact x_iret K dX0_list_19 rfl h
  · have h := hf c
    refine v_aload_n 0 dX0_list_8 rfl (isR_ref _) ?_
    obtain ⟨F4, p4, hw4, h⟩ := h
    refine v_get (q := x0) (j := 0) (v := .ref (x0 + 221 + 31)) dX0_list_9 fX0_108 hw4 rfl (lay_X0 _ _ _) rfl ?_
    refine v_iload_n 1 dX0_list_12 rfl ?_
    obtain ⟨A5, B5, M5, hw5, h⟩ := h
    obtain ⟨s6, h⟩ := h
    refine v_aaldQ (q := x0 + 221) (j := 31) (f := B5 0) (t := 8) (by decide) dX0_list_13 hw5 rfl (lay_XA 31 rfl) s6 (by decide) ?_
    obtain ⟨a7, ea7, h⟩ := h
    rw [ea7]
    obtain ⟨l8, f8, hw8, h⟩ := h
    refine v_alen (q := a7) (j := 0) dX0_list_14 hw8 rfl (lay_AI _ _ _) (by decide) ?_
    refine v_goto 19 dX0_list_15 (by decide) ?_
    exact x_iret K dX0_list_19 rfl h
/-! BranchNames.key -/
theorem wX0_key_0 (K : KV) {x1 x2 : Int} {x0 : Nat} {w : Wd} {sz n : Nat} (h : ∃ (F1 : Nat → Int) (p1 : Nat), (w x0 = some (obX x0 F1 p1)) ∧ (CI mX0_isListed K [.ref x0, vI x1, vI x2] w sz n fun r2 w2 z2 n2 => (rI r2) ∧ ((r2 = 0 → (K.S (some (vI ((-1)))) w2 z2 n2)) ∧ (¬ r2 = 0 → (∃ (F4 : Nat → Int) (p4 : Nat), (w2 x0 = some (obX x0 F4 p4)) ∧ (∃ (A5 : Nat → Int → Int) (B5 : Nat → Int → Option Nat) (M5 : Nat → Int → Int → Int), (w2 (x0 + 221) = some (obXA A5 B5 M5)) ∧ ((0 ≤ x1 ∧ x1 < 11) ∧ (∃ (a7 : Nat), (B5 0 x1 = some a7) ∧ (∃ (l8 : Nat) (f8 : Int → Int), (w2 a7 = some (obA 0 l8 f8)) ∧ ((0 ≤ x2 ∧ x2 < ((l8 : Nat) : Int)) ∧ ((l8 < 2147483648) ∧ (K.S (some (vI (f8 x2))) w2 z2 n2)))))))))))) : VX K mX0_key 0 [(0, .ref x0), (1, vI x1), (2, vI x2)] [] w sz n := by
  refine v_aload_n 0 dX0_key_0 rfl (isR_ref _) ?_
  refine v_iload_n 1 dX0_key_1 rfl ?_
  refine v_iload_n 2 dX0_key_2 rfl ?_
  obtain ⟨F1, p1, hw1, h⟩ := h
  refine x_callVI K (As := [vI x1, vI x2]) dX0_key_3 LX0_502 rfl rfl (Nat.le_of_ble_eq_true rfl) (rc_of hw1 (lay_X0 _ _ _) rfl) h (fun r2 w2 z2 n2 h => ?_)
  obtain ⟨s3, h⟩ := h
  obtain ⟨ht, hf⟩ := h
  refine v_if_eq 20 dX0_key_6 (by decide) s3 (fun c => ?_) (fun c => ?_)
  · have h := ht c
    refine v_iconst dX0_key_20 ?_
    exact x_iret K dX0_key_21 rfl h
  · have h := hf c
    refine v_aload_n 0 dX0_key_9 rfl (isR_ref _) ?_
    obtain ⟨F4, p4, hw4, h⟩ := h
    refine v_get (q := x0) (j := 0) (v := .ref (x0 + 221 + 31)) dX0_key_10 fX0_108 hw4 rfl (lay_X0 _ _ _) rfl ?_
    refine v_iload_n 1 dX0_key_13 rfl ?_
    obtain ⟨A5, B5, M5, hw5, h⟩ := h
    obtain ⟨s6, h⟩ := h
    refine v_aaldQ (q := x0 + 221) (j := 31) (f := B5 0) (t := 8) (by decide) dX0_key_14 hw5 rfl (lay_XA 31 rfl) s6 (by decide) ?_
    refine v_iload_n 2 dX0_key_15 rfl ?_
    obtain ⟨a7, ea7, h⟩ := h
    rw [ea7]
    obtain ⟨l8, f8, hw8, h⟩ := h
    obtain ⟨s9, h⟩ := h
    obtain ⟨s10, h⟩ := h
    refine v_iald (q := a7) (j := 0) (f := f8) dX0_key_16 hw8 rfl (lay_AI _ _ _) s9 s10 ?_
    refine v_goto 21 dX0_key_17 (by decide) ?_
    exact x_iret K dX0_key_21 rfl h
/-! BranchNames.ranked -/
theorem wX0_ranked_0 (K : KV) {x1 x2 x3 : Int} {x0 : Nat} {w : Wd} {sz n : Nat} (h : ∃ (F1 : Nat → Int) (p1 : Nat), (w x0 = some (obX x0 F1 p1)) ∧ (CI mX0_isListed K [.ref x0, vI x1, vI x3] w sz n fun r2 w2 z2 n2 => (rI r2) ∧ ((r2 = 0 → (K.S (some (vI ((-1)))) w2 z2 n2)) ∧ (¬ r2 = 0 → ((rI x2) ∧ (CI mX0_isIn K [vL x2, vL 0, vL 10] w2 z2 n2 fun r5 w5 z5 n5 => (rI r5) ∧ ((r5 = 0 → (K.S (some (vI ((-1)))) w5 z5 n5)) ∧ (¬ r5 = 0 → (∃ (F7 : Nat → Int) (p7 : Nat), (w5 x0 = some (obX x0 F7 p7)) ∧ (CQ mX0_orderOf K [.ref x0, vI x1, vI x2] w5 z5 n5 fun r8 w8 z8 n8 => ∃ (a9 : Nat), (r8 = some a9) ∧ (∃ (l10 : Nat) (f10 : Int → Int), (w8 a9 = some (obA 0 l10 f10)) ∧ ((0 ≤ x3 ∧ x3 < ((l10 : Nat) : Int)) ∧ ((l10 < 2147483648) ∧ (K.S (some (vI (f10 x3))) w8 z8 n8)))))))))))))) : VX K mX0_ranked 0 [(0, .ref x0), (1, vI x1), (2, vI x2), (3, vI x3)] [] w sz n := by
  refine v_aload_n 0 dX0_ranked_0 rfl (isR_ref _) ?_
  refine v_iload_n 1 dX0_ranked_1 rfl ?_
  refine v_iload_n 3 dX0_ranked_2 rfl ?_
  obtain ⟨F1, p1, hw1, h⟩ := h
  refine x_callVI K (As := [vI x1, vI x3]) dX0_ranked_3 LX0_502 rfl rfl (Nat.le_of_ble_eq_true rfl) (rc_of hw1 (lay_X0 _ _ _) rfl) h (fun r2 w2 z2 n2 h => ?_)
  obtain ⟨s3, h⟩ := h
  obtain ⟨ht, hf⟩ := h
  refine v_if_eq 32 dX0_ranked_6 (by decide) s3 (fun c => ?_) (fun c => ?_)
  · have h := ht c
    refine v_iconst dX0_ranked_32 ?_
    exact x_iret K dX0_ranked_33 rfl h
  · have h := hf c
    refine v_iload_n 2 dX0_ranked_9 rfl ?_
    obtain ⟨s4, h⟩ := h
    refine v_i2l dX0_ranked_10 s4 ?_
    refine v_lconst (z := 0) dX0_ranked_11 rfl ?_
    refine v_ldc2 (z := 10) dX0_ranked_12 q925 ?_
    refine x_callSI K (As := [vL x2, vL 0, vL 10]) dX0_ranked_15 LX0_142 rfl rfl (Nat.le_of_ble_eq_true rfl) h (fun r5 w5 z5 n5 h => ?_)
    obtain ⟨s6, h⟩ := h
    obtain ⟨ht, hf⟩ := h
    refine v_if_eq 32 dX0_ranked_18 (by decide) s6 (fun c => ?_) (fun c => ?_)
    · have h := ht c
      refine v_iconst dX0_ranked_32 ?_
      exact x_iret K dX0_ranked_33 rfl h
    · have h := hf c
      refine v_aload_n 0 dX0_ranked_21 rfl (isR_ref _) ?_
      refine v_iload_n 1 dX0_ranked_22 rfl ?_
      refine v_iload_n 2 dX0_ranked_23 rfl ?_
      obtain ⟨F7, p7, hw7, h⟩ := h
      refine x_callVQ K (As := [vI x1, vI x2]) dX0_ranked_24 LX0_526 rfl rfl (Nat.le_of_ble_eq_true rfl) (rc_of hw7 (lay_X0 _ _ _) rfl) h (fun r8 w8 z8 n8 h => ?_)
      refine v_iload_n 3 dX0_ranked_27 rfl ?_
      obtain ⟨a9, ea9, h⟩ := h
      rw [ea9]
      obtain ⟨l10, f10, hw10, h⟩ := h
      obtain ⟨s11, h⟩ := h
      obtain ⟨s12, h⟩ := h
      refine v_iald (q := a9) (j := 0) (f := f10) dX0_ranked_28 hw10 rfl (lay_AI _ _ _) s11 s12 ?_
      refine v_goto 33 dX0_ranked_29 (by decide) ?_
      exact x_iret K dX0_ranked_33 rfl h
/-! BranchNames.orderOf -/
theorem wX0_orderOf_0 (K : KV) {x1 x2 : Int} {x0 : Nat} {w : Wd} {sz n : Nat} (h : ∃ (F1 : Nat → Int) (p1 : Nat), (w x0 = some (obX x0 F1 p1)) ∧ (∃ (A2 : Nat → Int → Int) (B2 : Nat → Int → Option Nat) (M2 : Nat → Int → Int → Int), (w (x0 + 221) = some (obXA A2 B2 M2)) ∧ ((0 ≤ ((11 * x1) + x2) ∧ ((11 * x1) + x2) < 121) ∧ ((B2 4 ((11 * x1) + x2) = none → ((0 ≤ x1 ∧ x1 < 11) ∧ (∃ (a6 : Nat), (B2 0 x1 = some a6) ∧ (∃ (l7 : Nat) (f7 : Int → Int), (w a6 = some (obA 0 l7 f7)) ∧ ((w sz = none) ∧ ((0 ≤ (((l7 : Nat) : Int)) ∧ (((l7 : Nat) : Int)) ≤ 20000) ∧ (VX K mX0_orderOf 37 [(0, .ref x0), (1, vI x1), (2, vI x2), (3, vI ((11 * x1) + x2)), (4, .ref sz), (5, vI 0)] [] (wset w sz (some (obA 0 ((Int.toNat (((l7 : Nat) : Int)))) ((fun _ => 0))))) (sz + 1) (n + Int.toNat (((l7 : Nat) : Int)))))))))) ∧ (∀ a4 : Nat, B2 4 ((11 * x1) + x2) = some a4 → (K.S (some (va_rf (B2 4 ((11 * x1) + x2)))) w sz n)))))) : VX K mX0_orderOf 0 [(0, .ref x0), (1, vI x1), (2, vI x2)] [] w sz n := by
  refine v_bipush dX0_orderOf_0 rfl ?_
  refine v_iload_n 1 dX0_orderOf_2 rfl ?_
  refine v_imul dX0_orderOf_3 ?_
  refine v_iload_n 2 dX0_orderOf_4 rfl ?_
  refine v_iadd dX0_orderOf_5 ?_
  refine v_istore_n dX0_orderOf_6 (by decide) rfl ?_
  refine v_aload_n 1 dX0_orderOf_7 rfl (isR_ref _) ?_
  obtain ⟨F1, p1, hw1, h⟩ := h
  refine v_get (q := x0) (j := 0) (v := .ref (x0 + 221 + 61)) dX0_orderOf_8 fX0_424 hw1 rfl (lay_X0 _ _ _) rfl ?_
  refine v_iload_n 0 dX0_orderOf_11 rfl ?_
  obtain ⟨A2, B2, M2, hw2, h⟩ := h
  obtain ⟨s3, h⟩ := h
  refine v_aaldQ (q := x0 + 221) (j := 61) (f := B2 4) (t := 8) (by decide) dX0_orderOf_12 hw2 rfl (lay_XA 61 rfl) s3 (by decide) ?_
  obtain ⟨hn, hs⟩ := h
  refine v_ifnull (r := B2 4 ((11 * x1) + x2)) 23 dX0_orderOf_13 (by decide) (fun c => ?_) (fun a4 c => ?_)
  · have h := hn c
    try rw [c]
    refine v_aload_n 1 dX0_orderOf_23 rfl (isR_ref _) ?_
    refine v_get (q := x0) (j := 0) (v := .ref (x0 + 221 + 31)) dX0_orderOf_24 fX0_108 hw1 rfl (lay_X0 _ _ _) rfl ?_
    refine v_iload_n 2 dX0_orderOf_27 rfl ?_
    obtain ⟨s5, h⟩ := h
    refine v_aaldQ (q := x0 + 221) (j := 31) (f := B2 0) (t := 8) (by decide) dX0_orderOf_28 hw2 rfl (lay_XA 31 rfl) s5 (by decide) ?_
    obtain ⟨a6, ea6, h⟩ := h
    rw [ea6]
    obtain ⟨l7, f7, hw7, h⟩ := h
    refine v_alen (q := a6) (j := 0) dX0_orderOf_29 hw7 rfl (lay_AI _ _ _) (by decide) ?_
    obtain ⟨s8, h⟩ := h
    obtain ⟨s9, h⟩ := h
    refine x_newI K dX0_orderOf_30 s9 s8 ?_
    refine v_astore dX0_orderOf_32 (by decide) (isR_ref _) rfl ?_
    refine v_iconst dX0_orderOf_34 ?_
    refine v_istore dX0_orderOf_35 (by decide) rfl ?_
    refine V.sub [3, 4, 5, 2, 1, 0] rfl ?_
    exact h
  · have h := hs _ c
    try rw [c]
    refine v_aload_n 1 dX0_orderOf_16 rfl (isR_ref _) ?_
    refine v_get (q := x0) (j := 0) (v := .ref (x0 + 221 + 61)) dX0_orderOf_17 fX0_424 hw1 rfl (lay_X0 _ _ _) rfl ?_
    refine v_iload_n 0 dX0_orderOf_20 rfl ?_
    refine v_aaldQ (q := x0 + 221) (j := 61) (f := B2 4) (t := 8) (by decide) dX0_orderOf_21 hw2 rfl (lay_XA 61 rfl) s3 (by decide) ?_
    exact x_aret K (r := B2 4 ((11 * x1) + x2)) dX0_orderOf_22 rfl (by first | exact Or.inl ⟨_, rfl⟩ | exact Or.inr ⟨_, rfl⟩) h
theorem wX0_orderOf_37 (K : KV) {x1 x2 x3 x5 : Int} {x0 q4 : Nat} {w : Wd} {sz n : Nat} (h : ∃ (l1 : Nat) (f1 : Int → Int), (w q4 = some (obA 0 l1 f1)) ∧ ((rI x5) ∧ ((rI (((l1 : Nat) : Int))) ∧ (((((l1 : Nat) : Int)) ≤ x5 → (∃ (F4 : Nat → Int) (p4 : Nat), (w x0 = some (obX x0 F4 p4)) ∧ (∃ (A5 : Nat → Int → Int) (B5 : Nat → Int → Option Nat) (M5 : Nat → Int → Int → Int), (w (x0 + 221) = some (obXA A5 B5 M5)) ∧ ((0 ≤ x3 ∧ x3 < 121) ∧ ((K.G.base ≤ x0 + 221) ∧ ((Sto K.G w 8 (some q4)) ∧ (K.S (some (va_rf (some q4))) (wset w (x0 + 221) (some (obXA A5 (upA B5 4 x3 (some q4)) M5))) sz n))))))) ∧ (¬ (((l1 : Nat) : Int)) ≤ x5 → (∃ (F4 : Nat → Int) (p4 : Nat), (w x0 = some (obX x0 F4 p4)) ∧ (∃ (A5 : Nat → Int → Int) (B5 : Nat → Int → Option Nat) (M5 : Nat → Int → Int → Int), (w (x0 + 221) = some (obXA A5 B5 M5)) ∧ ((0 ≤ x1 ∧ x1 < 11) ∧ (∃ (a7 : Nat), (B5 0 x1 = some a7) ∧ (∃ (l8 : Nat) (f8 : Int → Int), (w a7 = some (obA 0 l8 f8)) ∧ ((0 ≤ x5 ∧ x5 < ((l8 : Nat) : Int)) ∧ ((l8 < 2147483648) ∧ (CI mX0_isBy K [.ref x0, .ref (x0 + 177), vI x1, vI (f8 x5)] w sz n fun r11 w11 z11 n11 => ∃ (F12 : Nat → Int) (p12 : Nat), (w11 x0 = some (obX x0 F12 p12)) ∧ (∃ (l13 : Nat) (g13 : Int → Option Nat), (w11 p12 = some (obQ 5 l13 g13)) ∧ ((0 ≤ x2 ∧ x2 < ((l13 : Nat) : Int)) ∧ ((l13 < 2147483648) ∧ (∃ (a16 : Nat), (g13 x2 = some a16) ∧ (CFI ({ cls := "BranchNames$Measure", name := "of", desc := "(LBranchNames$Tree;)I" } : MethodName) 1 K [.ref a16, .ref (x0 + 177)] w11 z11 n11 fun r17 w17 z17 n17 => ∃ (A18 : Nat → Int → Int) (B18 : Nat → Int → Option Nat) (M18 : Nat → Int → Int → Int), (w17 (x0 + 221) = some (obXA A18 B18 M18)) ∧ ((0 ≤ x5 ∧ x5 < 80) ∧ ((K.G.base ≤ x0 + 221) ∧ (VX K mX0_orderOf 91 [(0, .ref x0), (1, vI x1), (2, vI x2), (3, vI x3), (4, .ref q4), (5, vI x5), (7, vI x5)] [] (wset w17 (x0 + 221) (some (obXA (upA A18 6 x5 r17) B18 M18))) z17 n17))))))))))))))))))))) : VX K mX0_orderOf 37 [(0, .ref x0), (1, vI x1), (2, vI x2), (3, vI x3), (4, .ref q4), (5, vI x5)] [] w sz n := by
  refine v_iload 5 dX0_orderOf_37 rfl ?_
  refine v_aload 4 dX0_orderOf_39 rfl (isR_ref _) ?_
  obtain ⟨l1, f1, hw1, h⟩ := h
  refine v_alen (q := q4) (j := 0) dX0_orderOf_41 hw1 rfl (lay_AI _ _ _) (by decide) ?_
  obtain ⟨s2, h⟩ := h
  obtain ⟨s3, h⟩ := h
  obtain ⟨ht, hf⟩ := h
  refine v_icmp_ge 149 dX0_orderOf_42 (by decide) s2 s3 (fun c => ?_) (fun c => ?_)
  · have h := ht c
    refine v_aload_n 0 dX0_orderOf_149 rfl (isR_ref _) ?_
    obtain ⟨F4, p4, hw4, h⟩ := h
    refine v_get (q := x0) (j := 0) (v := .ref (x0 + 221 + 61)) dX0_orderOf_150 fX0_424 hw4 rfl (lay_X0 _ _ _) rfl ?_
    refine v_iload_n 3 dX0_orderOf_153 rfl ?_
    refine v_aload 4 dX0_orderOf_154 rfl (isR_ref _) ?_
    obtain ⟨A5, B5, M5, hw5, h⟩ := h
    obtain ⟨s6, h⟩ := h
    obtain ⟨s7, h⟩ := h
    obtain ⟨s8, h⟩ := h
    refine v_aast (q := x0 + 221) (j := 61) (f := B5 4) (t := 8) (by decide) (obXA A5 (upA B5 4 x3 (some q4)) M5) (r := some q4) dX0_orderOf_156 hw5 rfl (lay_XA 61 rfl) s6 (by decide) s8 (chg_XAq 61 _ _ rfl) s7 ?_
    refine v_aload 4 dX0_orderOf_157 rfl (isR_ref _) ?_
    exact x_aret K (r := some q4) dX0_orderOf_159 rfl (by first | exact Or.inl ⟨_, rfl⟩ | exact Or.inr ⟨_, rfl⟩) h
  · have h := hf c
    refine v_aload_n 0 dX0_orderOf_45 rfl (isR_ref _) ?_
    refine v_aload_n 0 dX0_orderOf_46 rfl (isR_ref _) ?_
    obtain ⟨F4, p4, hw4, h⟩ := h
    refine v_get (q := x0) (j := 0) (v := .ref (x0 + 177)) dX0_orderOf_47 fX0_371 hw4 rfl (lay_X0 _ _ _) rfl ?_
    refine v_iload_n 1 dX0_orderOf_50 rfl ?_
    refine v_aload_n 0 dX0_orderOf_51 rfl (isR_ref _) ?_
    refine v_get (q := x0) (j := 0) (v := .ref (x0 + 221 + 31)) dX0_orderOf_52 fX0_108 hw4 rfl (lay_X0 _ _ _) rfl ?_
    refine v_iload_n 1 dX0_orderOf_55 rfl ?_
    obtain ⟨A5, B5, M5, hw5, h⟩ := h
    obtain ⟨s6, h⟩ := h
    refine v_aaldQ (q := x0 + 221) (j := 31) (f := B5 0) (t := 8) (by decide) dX0_orderOf_56 hw5 rfl (lay_XA 31 rfl) s6 (by decide) ?_
    refine v_iload 5 dX0_orderOf_57 rfl ?_
    obtain ⟨a7, ea7, h⟩ := h
    rw [ea7]
    obtain ⟨l8, f8, hw8, h⟩ := h
    obtain ⟨s9, h⟩ := h
    obtain ⟨s10, h⟩ := h
    refine v_iald (q := a7) (j := 0) (f := f8) dX0_orderOf_59 hw8 rfl (lay_AI _ _ _) s9 s10 ?_
    refine x_callVI K (As := [.ref (x0 + 177), vI x1, vI (f8 x5)]) dX0_orderOf_60 LX0_115 rfl rfl (Nat.le_of_ble_eq_true rfl) (rc_of hw4 (lay_X0 _ _ _) rfl) h (fun r11 w11 z11 n11 h => ?_)
    refine v_istore dX0_orderOf_63 (by decide) rfl ?_
    refine v_aload_n 1 dX0_orderOf_65 rfl (isR_ref _) ?_
    obtain ⟨F12, p12, hw12, h⟩ := h
    refine v_get (q := x0) (j := 0) (v := .ref (x0 + 221 + 60)) dX0_orderOf_66 fX0_421 hw12 rfl (lay_X0 _ _ _) rfl ?_
    refine v_iload 6 dX0_orderOf_69 rfl ?_
    refine v_aload_n 1 dX0_orderOf_71 rfl (isR_ref _) ?_
    refine v_get (q := x0) (j := 0) (v := .ref p12) dX0_orderOf_72 fX0_467 hw12 rfl (lay_X0 _ _ _) rfl ?_
    refine v_iload_n 3 dX0_orderOf_75 rfl ?_
    obtain ⟨l13, g13, hw13, h⟩ := h
    obtain ⟨s14, h⟩ := h
    obtain ⟨s15, h⟩ := h
    refine v_aaldQ (q := p12) (j := 0) (f := g13) (t := 5) (by decide) dX0_orderOf_76 hw13 rfl (lay_Q5 _ _ _) s14 s15 ?_
    refine v_aload_n 1 dX0_orderOf_77 rfl (isR_ref _) ?_
    refine v_get (q := x0) (j := 0) (v := .ref (x0 + 177)) dX0_orderOf_78 fX0_371 hw12 rfl (lay_X0 _ _ _) rfl ?_
    obtain ⟨a16, ea16, h⟩ := h
    rw [ea16]
    refine x_callFI K (As := [.ref (x0 + 177)]) dX0_orderOf_81 q1234 rfl rfl (Nat.le_of_ble_eq_true rfl) h (fun r17 w17 z17 n17 h => ?_)
    obtain ⟨A18, B18, M18, hw18, h⟩ := h
    obtain ⟨s19, h⟩ := h
    obtain ⟨s20, h⟩ := h
    refine v_iast (q := x0 + 221) (j := 60) (f := A18 6) (obXA (upA A18 6 x5 r17) B18 M18) dX0_orderOf_86 hw18 rfl (lay_XA 60 rfl) s19 (by decide) (chg_XAa 60 _ _ rfl (by decide)) s20 ?_
    refine v_iload 6 dX0_orderOf_87 rfl ?_
    refine v_istore dX0_orderOf_89 (by decide) rfl ?_
    refine V.sub [2, 3, 4, 5, 6, 7, 0] rfl ?_
    exact h
theorem wX0_orderOf_91 (K : KV) {x1 x2 x3 x5 x7 : Int} {x0 q4 : Nat} {w : Wd} {sz n : Nat} (h : (rI x7) ∧ ((x7 ≤ 0 → (∃ (l2 : Nat) (f2 : Int → Int), (w q4 = some (obA 0 l2 f2)) ∧ ((0 ≤ x7 ∧ x7 < ((l2 : Nat) : Int)) ∧ ((l2 < 2147483648) ∧ ((K.G.base ≤ q4) ∧ (VX K mX0_orderOf 37 [(0, .ref x0), (1, vI x1), (2, vI x2), (3, vI x3), (4, .ref q4), (5, vI (x5 + 1))] [] (wset w q4 (some (obA 0 l2 (upZ f2 x7 x5)))) sz n)))))) ∧ (¬ x7 ≤ 0 → (∃ (F2 : Nat → Int) (p2 : Nat), (w x0 = some (obX x0 F2 p2)) ∧ (∃ (l3 : Nat) (f3 : Int → Int), (w q4 = some (obA 0 l3 f3)) ∧ ((0 ≤ (x7 - 1) ∧ (x7 - 1) < ((l3 : Nat) : Int)) ∧ ((l3 < 2147483648) ∧ (∃ (A6 : Nat → Int → Int) (B6 : Nat → Int → Option Nat) (M6 : Nat → Int → Int → Int), (w (x0 + 221) = some (obXA A6 B6 M6)) ∧ ((0 ≤ (f3 (x7 - 1)) ∧ (f3 (x7 - 1)) < 80) ∧ ((0 ≤ x5 ∧ x5 < 80) ∧ ((rI (A6 6 (f3 (x7 - 1)))) ∧ ((rI (A6 6 x5)) ∧ (((A6 6 x5) ≤ (A6 6 (f3 (x7 - 1))) → ((0 ≤ x7 ∧ x7 < ((l3 : Nat) : Int)) ∧ ((K.G.base ≤ q4) ∧ (VX K mX0_orderOf 37 [(0, .ref x0), (1, vI x1), (2, vI x2), (3, vI x3), (4, .ref q4), (5, vI (x5 + 1))] [] (wset w q4 (some (obA 0 l3 (upZ f3 x7 x5)))) sz n)))) ∧ (¬ (A6 6 x5) ≤ (A6 6 (f3 (x7 - 1))) → ((0 ≤ x7 ∧ x7 < ((l3 : Nat) : Int)) ∧ ((K.G.base ≤ q4) ∧ (VX K mX0_orderOf 91 [(0, .ref x0), (1, vI x1), (2, vI x2), (3, vI x3), (4, .ref q4), (5, vI x5), (7, vI (x7 + (-1)))] [] (wset w q4 (some (obA 0 l3 (upZ f3 x7 (f3 (x7 - 1)))))) sz n))))))))))))))))) : VX K mX0_orderOf 91 [(0, .ref x0), (1, vI x1), (2, vI x2), (3, vI x3), (4, .ref q4), (5, vI x5), (7, vI x7)] [] w sz n := by
  refine v_iload 6 dX0_orderOf_91 rfl ?_
  obtain ⟨s1, h⟩ := h
  obtain ⟨ht, hf⟩ := h
  refine v_if_le 136 dX0_orderOf_93 (by decide) s1 (fun c => ?_) (fun c => ?_)
  · have h := ht c
    refine v_aload 4 dX0_orderOf_136 rfl (isR_ref _) ?_
    refine v_iload 6 dX0_orderOf_138 rfl ?_
    refine v_iload 5 dX0_orderOf_140 rfl ?_
    obtain ⟨l2, f2, hw2, h⟩ := h
    obtain ⟨s3, h⟩ := h
    obtain ⟨s4, h⟩ := h
    obtain ⟨s5, h⟩ := h
    refine v_iast (q := q4) (j := 0) (f := f2) (obA 0 l2 (upZ f2 x7 x5)) dX0_orderOf_142 hw2 rfl (lay_AI _ _ _) s3 s4 (chg_raw rfl rfl rfl) s5 ?_
    refine v_iinc 5 dX0_orderOf_143 rfl (by decide) rfl ?_
    refine v_goto 37 dX0_orderOf_146 (by decide) ?_
    refine V.sub [1, 2, 3, 4, 5, 0] rfl ?_
    exact h
  · have h := hf c
    refine v_aload_n 0 dX0_orderOf_96 rfl (isR_ref _) ?_
    obtain ⟨F2, p2, hw2, h⟩ := h
    refine v_get (q := x0) (j := 0) (v := .ref (x0 + 221 + 60)) dX0_orderOf_97 fX0_421 hw2 rfl (lay_X0 _ _ _) rfl ?_
    refine v_aload 4 dX0_orderOf_100 rfl (isR_ref _) ?_
    refine v_iload 6 dX0_orderOf_102 rfl ?_
    refine v_iconst dX0_orderOf_104 ?_
    refine v_isub dX0_orderOf_105 ?_
    obtain ⟨l3, f3, hw3, h⟩ := h
    obtain ⟨s4, h⟩ := h
    obtain ⟨s5, h⟩ := h
    refine v_iald (q := q4) (j := 0) (f := f3) dX0_orderOf_106 hw3 rfl (lay_AI _ _ _) s4 s5 ?_
    obtain ⟨A6, B6, M6, hw6, h⟩ := h
    obtain ⟨s7, h⟩ := h
    refine v_iald (q := x0 + 221) (j := 60) (f := A6 6) dX0_orderOf_107 hw6 rfl (lay_XA 60 rfl) s7 (by decide) ?_
    refine v_aload_n 0 dX0_orderOf_108 rfl (isR_ref _) ?_
    refine v_get (q := x0) (j := 0) (v := .ref (x0 + 221 + 60)) dX0_orderOf_109 fX0_421 hw2 rfl (lay_X0 _ _ _) rfl ?_
    refine v_iload 5 dX0_orderOf_112 rfl ?_
    obtain ⟨s8, h⟩ := h
    refine v_iald (q := x0 + 221) (j := 60) (f := A6 6) dX0_orderOf_114 hw6 rfl (lay_XA 60 rfl) s8 (by decide) ?_
    obtain ⟨s9, h⟩ := h
    obtain ⟨s10, h⟩ := h
    obtain ⟨ht, hf⟩ := h
    refine v_icmp_ge 136 dX0_orderOf_115 (by decide) s9 s10 (fun c => ?_) (fun c => ?_)
    · have h := ht c
      refine v_aload 4 dX0_orderOf_136 rfl (isR_ref _) ?_
      refine v_iload 6 dX0_orderOf_138 rfl ?_
      refine v_iload 5 dX0_orderOf_140 rfl ?_
      obtain ⟨s11, h⟩ := h
      obtain ⟨s12, h⟩ := h
      refine v_iast (q := q4) (j := 0) (f := f3) (obA 0 l3 (upZ f3 x7 x5)) dX0_orderOf_142 hw3 rfl (lay_AI _ _ _) s11 s5 (chg_raw rfl rfl rfl) s12 ?_
      refine v_iinc 5 dX0_orderOf_143 rfl (by decide) rfl ?_
      refine v_goto 37 dX0_orderOf_146 (by decide) ?_
      refine V.sub [1, 2, 3, 4, 5, 0] rfl ?_
      exact h
    · have h := hf c
      refine v_aload 4 dX0_orderOf_118 rfl (isR_ref _) ?_
      refine v_iload 6 dX0_orderOf_120 rfl ?_
      refine v_aload 4 dX0_orderOf_122 rfl (isR_ref _) ?_
      refine v_iload 6 dX0_orderOf_124 rfl ?_
      refine v_iconst dX0_orderOf_126 ?_
      refine v_isub dX0_orderOf_127 ?_
      refine v_iald (q := q4) (j := 0) (f := f3) dX0_orderOf_128 hw3 rfl (lay_AI _ _ _) s4 s5 ?_
      obtain ⟨s11, h⟩ := h
      obtain ⟨s12, h⟩ := h
      refine v_iast (q := q4) (j := 0) (f := f3) (obA 0 l3 (upZ f3 x7 (f3 (x7 - 1)))) dX0_orderOf_129 hw3 rfl (lay_AI _ _ _) s11 s5 (chg_raw rfl rfl rfl) s12 ?_
      refine v_iinc 6 dX0_orderOf_130 rfl (by decide) rfl ?_
      refine v_goto 91 dX0_orderOf_133 (by decide) ?_
      refine V.sub [1, 2, 3, 4, 5, 6, 0] rfl ?_
      exact h
/-! BranchNames.name -/
theorem wX0_name_0 (K : KV) {x1 : Int} {x0 : Nat} {w : Wd} {sz n : Nat} (h : (rI x1) ∧ ((¬ x1 = ((-1)) → (∃ (F2 : Nat → Int) (p2 : Nat), (w x0 = some (obX x0 F2 p2)) ∧ (CQ mX0_nameOf_2 K [.ref x0, .ref (x0 + 1)] w sz n fun r3 w3 z3 n3 => CI mX0_byteOf K [va_rf r3, vI x1] w3 z3 n3 fun r4 w4 z4 n4 => K.S (some (vI r4)) w4 z4 n4))) ∧ (x1 = ((-1)) → (∃ (F2 : Nat → Int) (p2 : Nat), (w x0 = some (obX x0 F2 p2)) ∧ (CQ mX0_nameOf_2 K [.ref x0, .ref (x0 + 1)] w sz n fun r3 w3 z3 n3 => ∃ (a4 : Nat), (r3 = some a4) ∧ (∃ (b5 : Nat), (w3 a4 = some (obS b5)) ∧ (CI mJ2_length K [.ref a4] w3 z3 n3 fun r6 w6 z6 n6 => K.S (some (vI r6)) w6 z6 n6))))))) : VX K mX0_name 0 [(0, .ref x0), (1, vI x1)] [] w sz n := by
  refine v_iload_n 1 dX0_name_0 rfl ?_
  refine v_iconst dX0_name_1 ?_
  obtain ⟨s1, h⟩ := h
  obtain ⟨ht, hf⟩ := h
  refine v_icmp_ne 19 dX0_name_2 (by decide) s1 (by decide) (fun c => ?_) (fun c => ?_)
  · have h := ht c
    refine v_aload_n 0 dX0_name_19 rfl (isR_ref _) ?_
    refine v_aload_n 0 dX0_name_20 rfl (isR_ref _) ?_
    obtain ⟨F2, p2, hw2, h⟩ := h
    refine v_get (q := x0) (j := 0) (v := .ref (x0 + 1)) dX0_name_21 fX0_365 hw2 rfl (lay_X0 _ _ _) rfl ?_
    refine x_callVQ K (As := [.ref (x0 + 1)]) dX0_name_24 LX0_530 rfl rfl (Nat.le_of_ble_eq_true rfl) (rc_of hw2 (lay_X0 _ _ _) rfl) h (fun r3 w3 z3 n3 h => ?_)
    refine v_iload_n 1 dX0_name_27 rfl ?_
    refine x_callSI K (As := [va_rf r3, vI x1]) dX0_name_28 LX0_519 rfl rfl (Nat.le_of_ble_eq_true rfl) h (fun r4 w4 z4 n4 h => ?_)
    exact x_iret K dX0_name_31 rfl h
  · have h := hf c
    refine v_aload_n 0 dX0_name_5 rfl (isR_ref _) ?_
    refine v_aload_n 0 dX0_name_6 rfl (isR_ref _) ?_
    obtain ⟨F2, p2, hw2, h⟩ := h
    refine v_get (q := x0) (j := 0) (v := .ref (x0 + 1)) dX0_name_7 fX0_365 hw2 rfl (lay_X0 _ _ _) rfl ?_
    refine x_callVQ K (As := [.ref (x0 + 1)]) dX0_name_10 LX0_530 rfl rfl (Nat.le_of_ble_eq_true rfl) (rc_of hw2 (lay_X0 _ _ _) rfl) h (fun r3 w3 z3 n3 h => ?_)
    obtain ⟨a4, ea4, h⟩ := h
    rw [ea4]
    obtain ⟨b5, hw5, h⟩ := h
    refine x_callVI K (As := []) dX0_name_13 LX0_251 rfl rfl (Nat.le_of_ble_eq_true rfl) (rc_S hw5) h (fun r6 w6 z6 n6 h => ?_)
    refine v_goto 31 dX0_name_16 (by decide) ?_
    exact x_iret K dX0_name_31 rfl h
/-! BranchNames.nameOf -/
theorem wX0_nameOf_2_0 (K : KV) {x0 q1 : Nat} {w : Wd} {sz n : Nat} (h : ∃ (F1 : Nat → Int) (p1 : Nat), (w x0 = some (obX x0 F1 p1)) ∧ (CQ mX0_chainOf_2 K [.ref x0, .ref q1] w sz n fun r2 w2 z2 n2 => ∃ (a3 : Nat), (r2 = some a3) ∧ (∃ (F4 : Nat → Int) (P4 : Nat → Option Nat) (A4 : Nat → Int → Int), (w2 a3 = some (obW F4 P4 A4)) ∧ (K.S (some (va_rf (P4 3))) w2 z2 n2)))) : VX K mX0_nameOf_2 0 [(0, .ref x0), (1, .ref q1)] [] w sz n := by
  refine v_aload_n 0 dX0_nameOf_2_0 rfl (isR_ref _) ?_
  refine v_aload_n 1 dX0_nameOf_2_1 rfl (isR_ref _) ?_
  obtain ⟨F1, p1, hw1, h⟩ := h
  refine x_callVQ K (As := [.ref q1]) dX0_nameOf_2_2 LX0_358 rfl rfl (Nat.le_of_ble_eq_true rfl) (rc_of hw1 (lay_X0 _ _ _) rfl) h (fun r2 w2 z2 n2 h => ?_)
  obtain ⟨a3, ea3, h⟩ := h
  rw [ea3]
  obtain ⟨F4, P4, A4, hw4, h⟩ := h
  refine v_get (q := a3) (j := 0) (v := va_rf (P4 3)) dX0_nameOf_2_5 fX0_195 hw4 rfl (lay_W0 _ _ _ _) rfl ?_
  exact x_aret K (r := P4 3) dX0_nameOf_2_8 rfl (by first | exact Or.inl ⟨_, rfl⟩ | exact Or.inr ⟨_, rfl⟩) h
/-! BranchNames.chainOf -/
theorem wX0_chainOf_2_0 (K : KV) {x0 q1 : Nat} {w : Wd} {sz n : Nat} (h : ∃ (F1 : Nat → Int) (P1 : Nat → Option Nat) (A1 : Nat → Int → Int) (M1 : Nat → Int → Int → Int) (N1 : Nat → Int → Int → Option Nat), (w q1 = some (obT F1 P1 A1 M1 N1)) ∧ ((P1 6 = none → (∃ (F3 : Nat → Int) (p3 : Nat), (w x0 = some (obX x0 F3 p3)) ∧ (CQ mX0_chainOf K [.ref x0, .ref q1, vI ((-1)), vI ((-1))] w sz n fun r4 w4 z4 n4 => ∃ (F5 : Nat → Int) (P5 : Nat → Option Nat) (A5 : Nat → Int → Int) (M5 : Nat → Int → Int → Int) (N5 : Nat → Int → Int → Option Nat), (w4 q1 = some (obT F5 P5 A5 M5 N5)) ∧ ((K.G.base ≤ q1) ∧ (K.S (some (va_rf r4)) (wset w4 q1 (some (obT F5 (upN P5 6 r4) A5 M5 N5))) z4 n4))))) ∧ (∀ a2 : Nat, P1 6 = some a2 → (K.S (some (va_rf (P1 6))) w sz n)))) : VX K mX0_chainOf_2 0 [(0, .ref x0), (1, .ref q1)] [] w sz n := by
  refine v_aload_n 1 dX0_chainOf_2_0 rfl (isR_ref _) ?_
  obtain ⟨F1, P1, A1, M1, N1, hw1, h⟩ := h
  refine v_get (q := q1) (j := 0) (v := va_rf (P1 6)) dX0_chainOf_2_1 fX0_243 hw1 rfl (lay_T0 _ _ _ _ _ _) rfl ?_
  obtain ⟨hn, hs⟩ := h
  refine v_ifnonnull (r := P1 6) 18 dX0_chainOf_2_4 (by decide) (fun a2 c => ?_) (fun c => ?_)
  · have h := hs _ c
    try rw [c]
    refine v_aload_n 1 dX0_chainOf_2_18 rfl (isR_ref _) ?_
    refine v_get (q := q1) (j := 0) (v := va_rf (P1 6)) dX0_chainOf_2_19 fX0_243 hw1 rfl (lay_T0 _ _ _ _ _ _) rfl ?_
    exact x_aret K (r := P1 6) dX0_chainOf_2_22 rfl (by first | exact Or.inl ⟨_, rfl⟩ | exact Or.inr ⟨_, rfl⟩) h
  · have h := hn c
    try rw [c]
    refine v_aload_n 1 dX0_chainOf_2_7 rfl (isR_ref _) ?_
    refine v_aload_n 0 dX0_chainOf_2_8 rfl (isR_ref _) ?_
    refine v_aload_n 1 dX0_chainOf_2_9 rfl (isR_ref _) ?_
    refine v_iconst dX0_chainOf_2_10 ?_
    refine v_iconst dX0_chainOf_2_11 ?_
    obtain ⟨F3, p3, hw3, h⟩ := h
    refine x_callVQ K (As := [.ref q1, vI ((-1)), vI ((-1))]) dX0_chainOf_2_12 LX0_247 rfl rfl (Nat.le_of_ble_eq_true rfl) (rc_of hw3 (lay_X0 _ _ _) rfl) h (fun r4 w4 z4 n4 h => ?_)
    obtain ⟨F5, P5, A5, M5, N5, hw5, h⟩ := h
    obtain ⟨s6, h⟩ := h
    refine v_put (q := q1) (j := 0) (v := va_rf r4) (obT F5 (upN P5 6 r4) A5 M5 N5) dX0_chainOf_2_15 fX0_243 pf1_6 hw5 rfl (lay_T0 _ _ _ _ _ _) (Nat.le_of_ble_eq_true rfl) (nar_rf _ r4) (fit_rf _ r4) (chg_T0 rfl) s6 ?_
    refine v_aload_n 1 dX0_chainOf_2_18 rfl (isR_ref _) ?_
    refine v_get (q := q1) (j := 0) (v := va_rf r4) dX0_chainOf_2_19 fX0_243 (wset_eq _ _ _) rfl (lay_T0 _ _ _ _ _ _) rfl ?_
    exact x_aret K (r := r4) dX0_chainOf_2_22 rfl (by first | exact Or.inl ⟨_, rfl⟩ | exact Or.inr ⟨_, rfl⟩) h
/-! BranchNames.named -/
theorem wX0_named_0 (K : KV) {x1 x2 x3 : Int} {x0 : Nat} {w : Wd} {sz n : Nat} (h : ∃ (F1 : Nat → Int) (p1 : Nat), (w x0 = some (obX x0 F1 p1)) ∧ (CI mX0_isListed K [.ref x0, vI x1, vI x2] w sz n fun r2 w2 z2 n2 => (rI r2) ∧ ((¬ r2 = 0 → (∃ (F4 : Nat → Int) (p4 : Nat), (w2 x0 = some (obX x0 F4 p4)) ∧ (CQ mX0_nameListed K [.ref x0, vI x1, vI x2] w2 z2 n2 fun r5 w5 z5 n5 => (rI x3) ∧ ((¬ x3 = ((-1)) → (CI mX0_byteOf K [va_rf r5, vI x3] w5 z5 n5 fun r7 w7 z7 n7 => K.S (some (vI r7)) w7 z7 n7)) ∧ (x3 = ((-1)) → (∃ (a7 : Nat), (r5 = some a7) ∧ (∃ (b8 : Nat), (w5 a7 = some (obS b8)) ∧ (CI mJ2_length K [.ref a7] w5 z5 n5 fun r9 w9 z9 n9 => K.S (some (vI r9)) w9 z9 n9)))))))) ∧ (r2 = 0 → (K.S (some (vI ((-1)))) w2 z2 n2))))) : VX K mX0_named 0 [(0, .ref x0), (1, vI x1), (2, vI x2), (3, vI x3)] [] w sz n := by
  refine v_aload_n 0 dX0_named_0 rfl (isR_ref _) ?_
  refine v_iload_n 1 dX0_named_1 rfl ?_
  refine v_iload_n 2 dX0_named_2 rfl ?_
  obtain ⟨F1, p1, hw1, h⟩ := h
  refine x_callVI K (As := [vI x1, vI x2]) dX0_named_3 LX0_502 rfl rfl (Nat.le_of_ble_eq_true rfl) (rc_of hw1 (lay_X0 _ _ _) rfl) h (fun r2 w2 z2 n2 h => ?_)
  obtain ⟨s3, h⟩ := h
  obtain ⟨ht, hf⟩ := h
  refine v_if_ne 11 dX0_named_6 (by decide) s3 (fun c => ?_) (fun c => ?_)
  · have h := ht c
    refine v_aload_n 0 dX0_named_11 rfl (isR_ref _) ?_
    refine v_iload_n 1 dX0_named_12 rfl ?_
    refine v_iload_n 2 dX0_named_13 rfl ?_
    obtain ⟨F4, p4, hw4, h⟩ := h
    refine x_callVQ K (As := [vI x1, vI x2]) dX0_named_14 LX0_533 rfl rfl (Nat.le_of_ble_eq_true rfl) (rc_of hw4 (lay_X0 _ _ _) rfl) h (fun r5 w5 z5 n5 h => ?_)
    refine v_astore dX0_named_17 (by decide) (isR_rf _) rfl ?_
    refine v_iload_n 4 dX0_named_19 rfl ?_
    refine v_iconst dX0_named_20 ?_
    obtain ⟨s6, h⟩ := h
    obtain ⟨ht, hf⟩ := h
    refine v_icmp_ne 32 dX0_named_21 (by decide) s6 (by decide) (fun c => ?_) (fun c => ?_)
    · have h := ht c
      refine v_aload 0 dX0_named_32 rfl (isR_rf _) ?_
      refine v_iload_n 4 dX0_named_34 rfl ?_
      refine x_callSI K (As := [va_rf r5, vI x3]) dX0_named_35 LX0_519 rfl rfl (Nat.le_of_ble_eq_true rfl) h (fun r7 w7 z7 n7 h => ?_)
      exact x_iret K dX0_named_38 rfl h
    · have h := hf c
      refine v_aload 0 dX0_named_24 rfl (isR_rf _) ?_
      obtain ⟨a7, ea7, h⟩ := h
      rw [ea7]
      obtain ⟨b8, hw8, h⟩ := h
      refine x_callVI K (As := []) dX0_named_26 LX0_251 rfl rfl (Nat.le_of_ble_eq_true rfl) (rc_S hw8) h (fun r9 w9 z9 n9 h => ?_)
      refine v_goto 38 dX0_named_29 (by decide) ?_
      exact x_iret K dX0_named_38 rfl h
  · have h := hf c
    refine v_iconst dX0_named_9 ?_
    exact x_iret K dX0_named_10 rfl h
/-! BranchNames.nameListed -/
theorem wX0_nameListed_0 (K : KV) {x1 x2 : Int} {x0 : Nat} {w : Wd} {sz n : Nat} (h : ∃ (F1 : Nat → Int) (p1 : Nat), (w x0 = some (obX x0 F1 p1)) ∧ (∃ (A2 : Nat → Int → Int) (B2 : Nat → Int → Option Nat) (M2 : Nat → Int → Int → Int), (w (x0 + 221) = some (obXA A2 B2 M2)) ∧ ((0 ≤ x1 ∧ x1 < 11) ∧ (∃ (a4 : Nat), (B2 5 x1 = some a4) ∧ (∃ (l5 : Nat) (g5 : Int → Option Nat), (w a4 = some (obQ 3 l5 g5)) ∧ ((0 ≤ x2 ∧ x2 < ((l5 : Nat) : Int)) ∧ ((l5 < 2147483648) ∧ ((g5 x2 = none → (∃ (a9 : Nat), (B2 0 x1 = some a9) ∧ (∃ (l10 : Nat) (f10 : Int → Int), (w a9 = some (obA 0 l10 f10)) ∧ ((0 ≤ x2 ∧ x2 < ((l10 : Nat) : Int)) ∧ ((l10 < 2147483648) ∧ (CI mX0_isBy K [.ref x0, .ref (x0 + 133), vI x1, vI (f10 x2)] w sz n fun r13 w13 z13 n13 => ∃ (F14 : Nat → Int) (p14 : Nat), (w13 x0 = some (obX x0 F14 p14)) ∧ (∃ (A15 : Nat → Int → Int) (B15 : Nat → Int → Option Nat) (M15 : Nat → Int → Int → Int), (w13 (x0 + 221) = some (obXA A15 B15 M15)) ∧ (CQ mX0_nameOf_2 K [.ref x0, .ref (x0 + 133)] w13 z13 n13 fun r16 w16 z16 n16 => ∃ (a17 : Nat), (B15 5 x1 = some a17) ∧ (∃ (l18 : Nat) (g18 : Int → Option Nat), (w16 a17 = some (obQ 3 l18 g18)) ∧ ((0 ≤ x2 ∧ x2 < ((l18 : Nat) : Int)) ∧ ((l18 < 2147483648) ∧ ((K.G.base ≤ a17) ∧ ((Sto K.G w16 3 r16) ∧ (∃ (F23 : Nat → Int) (p23 : Nat), ((wset w16 a17 (some (obQ 3 l18 (upZ g18 x2 r16)))) x0 = some (obX x0 F23 p23)) ∧ (∃ (A24 : Nat → Int → Int) (B24 : Nat → Int → Option Nat) (M24 : Nat → Int → Int → Int), ((wset w16 a17 (some (obQ 3 l18 (upZ g18 x2 r16)))) (x0 + 221) = some (obXA A24 B24 M24)) ∧ (∃ (a25 : Nat), (B24 5 x1 = some a25) ∧ (∃ (l26 : Nat) (g26 : Int → Option Nat), ((wset w16 a17 (some (obQ 3 l18 (upZ g18 x2 r16)))) a25 = some (obQ 3 l26 g26)) ∧ ((a25 ≠ a17) ∧ ((0 ≤ x2 ∧ x2 < ((l26 : Nat) : Int)) ∧ ((l26 < 2147483648) ∧ (K.S (some (va_rf (g26 x2))) (wset w16 a17 (some (obQ 3 l18 (upZ g18 x2 r16)))) z16 n16))))))))))))))))))))) ∧ (∀ a8 : Nat, g5 x2 = some a8 → (∃ (a9 : Nat), (B2 5 x1 = some a9) ∧ (∃ (l10 : Nat) (g10 : Int → Option Nat), (w a9 = some (obQ 3 l10 g10)) ∧ ((0 ≤ x2 ∧ x2 < ((l10 : Nat) : Int)) ∧ ((l10 < 2147483648) ∧ (K.S (some (va_rf (g10 x2))) w sz n)))))))))))))) : VX K mX0_nameListed 0 [(0, .ref x0), (1, vI x1), (2, vI x2)] [] w sz n := by
  refine v_aload_n 0 dX0_nameListed_0 rfl (isR_ref _) ?_
  obtain ⟨F1, p1, hw1, h⟩ := h
  refine v_get (q := x0) (j := 0) (v := .ref (x0 + 221 + 62)) dX0_nameListed_1 fX0_428 hw1 rfl (lay_X0 _ _ _) rfl ?_
  refine v_iload_n 1 dX0_nameListed_4 rfl ?_
  obtain ⟨A2, B2, M2, hw2, h⟩ := h
  obtain ⟨s3, h⟩ := h
  refine v_aaldQ (q := x0 + 221) (j := 62) (f := B2 5) (t := 10) (by decide) dX0_nameListed_5 hw2 rfl (lay_XA 62 rfl) s3 (by decide) ?_
  refine v_iload_n 2 dX0_nameListed_6 rfl ?_
  obtain ⟨a4, ea4, h⟩ := h
  rw [ea4]
  obtain ⟨l5, g5, hw5, h⟩ := h
  obtain ⟨s6, h⟩ := h
  obtain ⟨s7, h⟩ := h
  refine v_aaldQ (q := a4) (j := 0) (f := g5) (t := 3) (by decide) dX0_nameListed_7 hw5 rfl (lay_Q3 _ _ _) s6 s7 ?_
  obtain ⟨hn, hs⟩ := h
  refine v_ifnonnull (r := g5 x2) 45 dX0_nameListed_8 (by decide) (fun a8 c => ?_) (fun c => ?_)
  · have h := hs _ c
    try rw [c]
    refine v_aload_n 0 dX0_nameListed_45 rfl (isR_ref _) ?_
    refine v_get (q := x0) (j := 0) (v := .ref (x0 + 221 + 62)) dX0_nameListed_46 fX0_428 hw1 rfl (lay_X0 _ _ _) rfl ?_
    refine v_iload_n 1 dX0_nameListed_49 rfl ?_
    refine v_aaldQ (q := x0 + 221) (j := 62) (f := B2 5) (t := 10) (by decide) dX0_nameListed_50 hw2 rfl (lay_XA 62 rfl) s3 (by decide) ?_
    refine v_iload_n 2 dX0_nameListed_51 rfl ?_
    obtain ⟨a9, ea9, h⟩ := h
    rw [ea9]
    obtain ⟨l10, g10, hw10, h⟩ := h
    obtain ⟨s11, h⟩ := h
    obtain ⟨s12, h⟩ := h
    refine v_aaldQ (q := a9) (j := 0) (f := g10) (t := 3) (by decide) dX0_nameListed_52 hw10 rfl (lay_Q3 _ _ _) s11 s12 ?_
    exact x_aret K (r := g10 x2) dX0_nameListed_53 rfl (by first | exact Or.inl ⟨_, rfl⟩ | exact Or.inr ⟨_, rfl⟩) h
  · have h := hn c
    try rw [c]
    refine v_aload_n 0 dX0_nameListed_11 rfl (isR_ref _) ?_
    refine v_aload_n 0 dX0_nameListed_12 rfl (isR_ref _) ?_
    refine v_get (q := x0) (j := 0) (v := .ref (x0 + 133)) dX0_nameListed_13 fX0_111 hw1 rfl (lay_X0 _ _ _) rfl ?_
    refine v_iload_n 1 dX0_nameListed_16 rfl ?_
    refine v_aload_n 0 dX0_nameListed_17 rfl (isR_ref _) ?_
    refine v_get (q := x0) (j := 0) (v := .ref (x0 + 221 + 31)) dX0_nameListed_18 fX0_108 hw1 rfl (lay_X0 _ _ _) rfl ?_
    refine v_iload_n 1 dX0_nameListed_21 rfl ?_
    refine v_aaldQ (q := x0 + 221) (j := 31) (f := B2 0) (t := 8) (by decide) dX0_nameListed_22 hw2 rfl (lay_XA 31 rfl) s3 (by decide) ?_
    refine v_iload_n 2 dX0_nameListed_23 rfl ?_
    obtain ⟨a9, ea9, h⟩ := h
    rw [ea9]
    obtain ⟨l10, f10, hw10, h⟩ := h
    obtain ⟨s11, h⟩ := h
    obtain ⟨s12, h⟩ := h
    refine v_iald (q := a9) (j := 0) (f := f10) dX0_nameListed_24 hw10 rfl (lay_AI _ _ _) s11 s12 ?_
    refine x_callVI K (As := [.ref (x0 + 133), vI x1, vI (f10 x2)]) dX0_nameListed_25 LX0_115 rfl rfl (Nat.le_of_ble_eq_true rfl) (rc_of hw1 (lay_X0 _ _ _) rfl) h (fun r13 w13 z13 n13 h => ?_)
    refine v_istore_n dX0_nameListed_28 (by decide) rfl ?_
    refine v_aload_n 1 dX0_nameListed_29 rfl (isR_ref _) ?_
    obtain ⟨F14, p14, hw14, h⟩ := h
    refine v_get (q := x0) (j := 0) (v := .ref (x0 + 221 + 62)) dX0_nameListed_30 fX0_428 hw14 rfl (lay_X0 _ _ _) rfl ?_
    refine v_iload_n 2 dX0_nameListed_33 rfl ?_
    obtain ⟨A15, B15, M15, hw15, h⟩ := h
    refine v_aaldQ (q := x0 + 221) (j := 62) (f := B15 5) (t := 10) (by decide) dX0_nameListed_34 hw15 rfl (lay_XA 62 rfl) s3 (by decide) ?_
    refine v_iload_n 3 dX0_nameListed_35 rfl ?_
    refine v_aload_n 1 dX0_nameListed_36 rfl (isR_ref _) ?_
    refine v_aload_n 1 dX0_nameListed_37 rfl (isR_ref _) ?_
    refine v_get (q := x0) (j := 0) (v := .ref (x0 + 133)) dX0_nameListed_38 fX0_111 hw14 rfl (lay_X0 _ _ _) rfl ?_
    refine x_callVQ K (As := [.ref (x0 + 133)]) dX0_nameListed_41 LX0_530 rfl rfl (by simp only [List.map_cons, List.map_nil, List.sum_cons, List.sum_nil, cat_rf]; exact Nat.le_of_ble_eq_true rfl) (rc_of hw14 (lay_X0 _ _ _) rfl) h (fun r16 w16 z16 n16 h => ?_)
    obtain ⟨a17, ea17, h⟩ := h
    rw [ea17]
    obtain ⟨l18, g18, hw18, h⟩ := h
    obtain ⟨s19, h⟩ := h
    obtain ⟨s20, h⟩ := h
    obtain ⟨s21, h⟩ := h
    obtain ⟨s22, h⟩ := h
    refine v_aast (q := a17) (j := 0) (f := g18) (t := 3) (by decide) (obQ 3 l18 (upZ g18 x2 r16)) (r := r16) dX0_nameListed_44 hw18 rfl (lay_Q3 _ _ _) s19 s20 s22 (chg_raw rfl rfl rfl) s21 ?_
    refine v_aload_n 1 dX0_nameListed_45 rfl (isR_ref _) ?_
    obtain ⟨F23, p23, hw23, h⟩ := h
    refine v_get (q := x0) (j := 0) (v := .ref (x0 + 221 + 62)) dX0_nameListed_46 fX0_428 hw23 rfl (lay_X0 _ _ _) rfl ?_
    refine v_iload_n 2 dX0_nameListed_49 rfl ?_
    obtain ⟨A24, B24, M24, hw24, h⟩ := h
    refine v_aaldQ (q := x0 + 221) (j := 62) (f := B24 5) (t := 10) (by decide) dX0_nameListed_50 hw24 rfl (lay_XA 62 rfl) s3 (by decide) ?_
    refine v_iload_n 3 dX0_nameListed_51 rfl ?_
    obtain ⟨a25, ea25, h⟩ := h
    rw [ea25]
    obtain ⟨l26, g26, hw26, h⟩ := h
    obtain ⟨s27, h⟩ := h
    obtain ⟨s28, h⟩ := h
    obtain ⟨s29, h⟩ := h
    refine v_aaldQ (q := a25) (j := 0) (f := g26) (t := 3) (by decide) dX0_nameListed_52 hw26 rfl (lay_Q3 _ _ _) s28 s29 ?_
    exact x_aret K (r := g26 x2) dX0_nameListed_53 rfl (by first | exact Or.inl ⟨_, rfl⟩ | exact Or.inr ⟨_, rfl⟩) h
/-! BranchNames.chain -/
theorem wX0_chain_0 (K : KV) {x1 : Int} {x0 : Nat} {w : Wd} {sz n : Nat} (h : ∃ (F1 : Nat → Int) (p1 : Nat), (w x0 = some (obX x0 F1 p1)) ∧ (CQ mX0_chainOf_2 K [.ref x0, .ref (x0 + 1)] w sz n fun r2 w2 z2 n2 => (rI x1) ∧ ((¬ x1 = 0 → ((¬ x1 = 1 → ((10 ≤ x1 → (∃ (F4 : Nat → Int) (p4 : Nat), (w2 x0 = some (obX x0 F4 p4)) ∧ (CI mX0_numberAt K [.ref x0, va_rf r2, vI (x1 - 10)] w2 z2 n2 fun r5 w5 z5 n5 => K.S (some (vI r5)) w5 z5 n5))) ∧ (¬ 10 ≤ x1 → (K.S (some (vI ((-1)))) w2 z2 n2)))) ∧ (x1 = 1 → (∃ (a4 : Nat), (r2 = some a4) ∧ (∃ (F5 : Nat → Int) (P5 : Nat → Option Nat) (A5 : Nat → Int → Int), (w2 a4 = some (obW F5 P5 A5)) ∧ (K.S (some (vI (F5 2))) w2 z2 n2)))))) ∧ (x1 = 0 → (∃ (a4 : Nat), (r2 = some a4) ∧ (∃ (F5 : Nat → Int) (P5 : Nat → Option Nat) (A5 : Nat → Int → Int), (w2 a4 = some (obW F5 P5 A5)) ∧ (K.S (some (vI (F5 1))) w2 z2 n2))))))) : VX K mX0_chain 0 [(0, .ref x0), (1, vI x1)] [] w sz n := by
  refine v_aload_n 0 dX0_chain_0 rfl (isR_ref _) ?_
  refine v_aload_n 0 dX0_chain_1 rfl (isR_ref _) ?_
  obtain ⟨F1, p1, hw1, h⟩ := h
  refine v_get (q := x0) (j := 0) (v := .ref (x0 + 1)) dX0_chain_2 fX0_365 hw1 rfl (lay_X0 _ _ _) rfl ?_
  refine x_callVQ K (As := [.ref (x0 + 1)]) dX0_chain_5 LX0_358 rfl rfl (Nat.le_of_ble_eq_true rfl) (rc_of hw1 (lay_X0 _ _ _) rfl) h (fun r2 w2 z2 n2 h => ?_)
  refine v_astore_n dX0_chain_8 (by decide) (isR_rf _) rfl ?_
  refine v_iload_n 2 dX0_chain_9 rfl ?_
  obtain ⟨s3, h⟩ := h
  obtain ⟨ht, hf⟩ := h
  refine v_if_ne 20 dX0_chain_10 (by decide) s3 (fun c => ?_) (fun c => ?_)
  · have h := ht c
    refine v_iload_n 2 dX0_chain_20 rfl ?_
    refine v_iconst dX0_chain_21 ?_
    obtain ⟨ht, hf⟩ := h
    refine v_icmp_ne 32 dX0_chain_22 (by decide) s3 (by decide) (fun c => ?_) (fun c => ?_)
    · have h := ht c
      refine v_iload_n 2 dX0_chain_32 rfl ?_
      refine v_bipush dX0_chain_33 rfl ?_
      obtain ⟨ht, hf⟩ := h
      refine v_icmp_ge 42 dX0_chain_35 (by decide) s3 (by decide) (fun c => ?_) (fun c => ?_)
      · have h := ht c
        refine v_aload_n 1 dX0_chain_42 rfl (isR_ref _) ?_
        refine v_aload_n 0 dX0_chain_43 rfl (isR_rf _) ?_
        refine v_iload_n 2 dX0_chain_44 rfl ?_
        refine v_bipush dX0_chain_45 rfl ?_
        refine v_isub dX0_chain_47 ?_
        obtain ⟨F4, p4, hw4, h⟩ := h
        refine x_callVI K (As := [va_rf r2, vI (x1 - 10)]) dX0_chain_48 LX0_537 rfl rfl (Nat.le_of_ble_eq_true rfl) (rc_of hw4 (lay_X0 _ _ _) rfl) h (fun r5 w5 z5 n5 h => ?_)
        exact x_iret K dX0_chain_51 rfl h
      · have h := hf c
        refine v_iconst dX0_chain_38 ?_
        refine v_goto 51 dX0_chain_39 (by decide) ?_
        exact x_iret K dX0_chain_51 rfl h
    · have h := hf c
      refine v_aload_n 0 dX0_chain_25 rfl (isR_rf _) ?_
      obtain ⟨a4, ea4, h⟩ := h
      rw [ea4]
      obtain ⟨F5, P5, A5, hw5, h⟩ := h
      refine v_get (q := a4) (j := 0) (v := vI (F5 2)) dX0_chain_26 fX0_182 hw5 rfl (lay_W0 _ _ _ _) rfl ?_
      refine v_goto 51 dX0_chain_29 (by decide) ?_
      exact x_iret K dX0_chain_51 rfl h
  · have h := hf c
    refine v_aload_n 0 dX0_chain_13 rfl (isR_rf _) ?_
    obtain ⟨a4, ea4, h⟩ := h
    rw [ea4]
    obtain ⟨F5, P5, A5, hw5, h⟩ := h
    refine v_get (q := a4) (j := 0) (v := vI (F5 1)) dX0_chain_14 fX0_177 hw5 rfl (lay_W0 _ _ _ _) rfl ?_
    refine v_goto 51 dX0_chain_17 (by decide) ?_
    exact x_iret K dX0_chain_51 rfl h
/-! BranchNames.numberAt -/
theorem wX0_numberAt_0 (K : KV) {x2 : Int} {x0 q1 : Nat} {w : Wd} {sz n : Nat} (h : VX K mX0_numberAt 5 [(0, .ref x0), (1, .ref q1), (3, vI x2), (4, vI 0)] [] w sz n) : VX K mX0_numberAt 0 [(0, .ref x0), (1, .ref q1), (2, vI x2)] [] w sz n := by
  refine v_iload_n 2 dX0_numberAt_0 rfl ?_
  refine v_istore_n dX0_numberAt_1 (by decide) rfl ?_
  refine v_iconst dX0_numberAt_2 ?_
  refine v_istore dX0_numberAt_3 (by decide) rfl ?_
  refine V.sub [2, 3, 1, 0] rfl ?_
  exact h
theorem wX0_numberAt_5 (K : KV) {x3 x4 : Int} {x0 q1 : Nat} {w : Wd} {sz n : Nat} (h : ∃ (F1 : Nat → Int) (P1 : Nat → Option Nat) (A1 : Nat → Int → Int), (w q1 = some (obW F1 P1 A1)) ∧ ((rI x4) ∧ ((rI (F1 1)) ∧ (((F1 1) ≤ x4 → (K.S (some (vI ((-1)))) w sz n)) ∧ (¬ (F1 1) ≤ x4 → (∃ (F4 : Nat → Int) (p4 : Nat), (w x0 = some (obX x0 F4 p4)) ∧ (CI mX0_hangsAt K [.ref (x0 + 1), vI ((-1)), .ref q1, vI x4] w sz n fun r5 w5 z5 n5 => (rI (x3 - r5)) ∧ ((0 ≤ (x3 - r5) → (VX K mX0_numberAt 5 [(0, .ref x0), (1, .ref q1), (3, vI (x3 - r5)), (4, vI (x4 + 1))] [] w5 z5 n5)) ∧ (¬ 0 ≤ (x3 - r5) → (K.S (some (vI (x4 + 1))) w5 z5 n5)))))))))) : VX K mX0_numberAt 5 [(0, .ref x0), (1, .ref q1), (3, vI x3), (4, vI x4)] [] w sz n := by
  refine v_iload 3 dX0_numberAt_5 rfl ?_
  refine v_aload_n 1 dX0_numberAt_7 rfl (isR_ref _) ?_
  obtain ⟨F1, P1, A1, hw1, h⟩ := h
  refine v_get (q := q1) (j := 0) (v := vI (F1 1)) dX0_numberAt_8 fX0_177 hw1 rfl (lay_W0 _ _ _ _) rfl ?_
  obtain ⟨s2, h⟩ := h
  obtain ⟨s3, h⟩ := h
  obtain ⟨ht, hf⟩ := h
  refine v_icmp_ge 43 dX0_numberAt_11 (by decide) s2 s3 (fun c => ?_) (fun c => ?_)
  · have h := ht c
    refine v_iconst dX0_numberAt_43 ?_
    exact x_iret K dX0_numberAt_44 rfl h
  · have h := hf c
    refine v_iload_n 2 dX0_numberAt_14 rfl ?_
    refine v_aload_n 0 dX0_numberAt_15 rfl (isR_ref _) ?_
    obtain ⟨F4, p4, hw4, h⟩ := h
    refine v_get (q := x0) (j := 0) (v := .ref (x0 + 1)) dX0_numberAt_16 fX0_365 hw4 rfl (lay_X0 _ _ _) rfl ?_
    refine v_iconst dX0_numberAt_19 ?_
    refine v_aload_n 1 dX0_numberAt_20 rfl (isR_ref _) ?_
    refine v_iload 3 dX0_numberAt_21 rfl ?_
    refine x_callSI K (As := [.ref (x0 + 1), vI ((-1)), .ref q1, vI x4]) dX0_numberAt_23 LX0_191 rfl rfl (Nat.le_of_ble_eq_true rfl) h (fun r5 w5 z5 n5 h => ?_)
    refine v_isub dX0_numberAt_26 ?_
    refine v_istore_n dX0_numberAt_27 (by decide) rfl ?_
    refine v_iload_n 0 dX0_numberAt_28 rfl ?_
    obtain ⟨s6, h⟩ := h
    obtain ⟨ht, hf⟩ := h
    refine v_if_ge 37 dX0_numberAt_29 (by decide) s6 (fun c => ?_) (fun c => ?_)
    · have h := ht c
      refine v_iinc 3 dX0_numberAt_37 rfl (by decide) rfl ?_
      refine v_goto 5 dX0_numberAt_40 (by decide) ?_
      refine V.sub [2, 3, 1, 0] rfl ?_
      exact h
    · have h := hf c
      refine v_iload 3 dX0_numberAt_32 rfl ?_
      refine v_iconst dX0_numberAt_34 ?_
      refine v_iadd dX0_numberAt_35 ?_
      exact x_iret K dX0_numberAt_36 rfl h
/-! BranchNames.feed -/
theorem wX0_feed_0 (K : KV) {x1 : Int} {x0 : Nat} {w : Wd} {sz n : Nat} (h : (rI x1) ∧ (CI mX0_isIn K [vL x1, vL 0, vL 127] w sz n fun r2 w2 z2 n2 => (rI r2) ∧ ((¬ r2 = 0 → (∃ (F4 : Nat → Int) (p4 : Nat), (w2 x0 = some (obX x0 F4 p4)) ∧ ((rI (F4 27)) ∧ ((¬ (F4 27) = 80 → (∃ (A6 : Nat → Int → Int) (B6 : Nat → Int → Option Nat) (M6 : Nat → Int → Int → Int), (w2 (x0 + 221) = some (obXA A6 B6 M6)) ∧ ((0 ≤ (F4 27) ∧ (F4 27) < 80) ∧ ((K.G.base ≤ x0 + 221) ∧ ((-128 ≤ (i2b x1) ∧ (i2b x1) ≤ 127) ∧ ((K.G.base ≤ x0) ∧ (K.S (some (vI ((F4 27) + 1))) (wset (wset w2 (x0 + 221) (some (obXA (upA A6 7 (F4 27) (i2b x1)) B6 M6))) x0 (some (obX x0 (upN F4 27 ((F4 27) + 1)) p4))) z2 n2))))))) ∧ ((F4 27) = 80 → (K.S (some (vI ((-4)))) w2 z2 n2)))))) ∧ (r2 = 0 → (K.S (some (vI ((-2)))) w2 z2 n2))))) : VX K mX0_feed 0 [(0, .ref x0), (1, vI x1)] [] w sz n := by
  refine v_iload_n 1 dX0_feed_0 rfl ?_
  obtain ⟨s1, h⟩ := h
  refine v_i2l dX0_feed_1 s1 ?_
  refine v_lconst (z := 0) dX0_feed_2 rfl ?_
  refine v_ldc2 (z := 127) dX0_feed_3 q1285 ?_
  refine x_callSI K (As := [vL x1, vL 0, vL 127]) dX0_feed_6 LX0_142 rfl rfl (Nat.le_of_ble_eq_true rfl) h (fun r2 w2 z2 n2 h => ?_)
  obtain ⟨s3, h⟩ := h
  obtain ⟨ht, hf⟩ := h
  refine v_if_ne 15 dX0_feed_9 (by decide) s3 (fun c => ?_) (fun c => ?_)
  · have h := ht c
    refine v_aload_n 0 dX0_feed_15 rfl (isR_ref _) ?_
    obtain ⟨F4, p4, hw4, h⟩ := h
    refine v_get (q := x0) (j := 0) (v := vI (F4 27)) dX0_feed_16 fX0_543 hw4 rfl (lay_X0 _ _ _) rfl ?_
    refine v_bipush dX0_feed_19 rfl ?_
    obtain ⟨s5, h⟩ := h
    obtain ⟨ht, hf⟩ := h
    refine v_icmp_ne 27 dX0_feed_21 (by decide) s5 (by decide) (fun c => ?_) (fun c => ?_)
    · have h := ht c
      refine v_aload_n 0 dX0_feed_27 rfl (isR_ref _) ?_
      refine v_get (q := x0) (j := 0) (v := .ref (x0 + 221 + 63)) dX0_feed_28 fX0_431 hw4 rfl (lay_X0 _ _ _) rfl ?_
      refine v_aload_n 0 dX0_feed_31 rfl (isR_ref _) ?_
      refine v_get (q := x0) (j := 0) (v := vI (F4 27)) dX0_feed_32 fX0_543 hw4 rfl (lay_X0 _ _ _) rfl ?_
      refine v_iload_n 1 dX0_feed_35 rfl ?_
      refine v_i2b dX0_feed_36 ?_
      obtain ⟨A6, B6, M6, hw6, h⟩ := h
      obtain ⟨s7, h⟩ := h
      obtain ⟨s8, h⟩ := h
      obtain ⟨s9, h⟩ := h
      refine v_bast (q := x0 + 221) (j := 63) (f := A6 7) (obXA (upA A6 7 (F4 27) (i2b x1)) B6 M6) dX0_feed_37 hw6 rfl (lay_XA 63 rfl) s7 (by decide) s9 (chg_XAa 63 _ _ rfl (by decide)) s8 ?_
      refine v_aload_n 0 dX0_feed_38 rfl (isR_ref _) ?_
      refine v_dup dX0_feed_39 rfl ?_
      refine v_get (q := x0) (j := 0) (v := vI (F4 27)) dX0_feed_40 fX0_543 (ws_ne hw4 (wk_ne hw4 hw6 (show (0 : Nat) ≠ 85 by decide))) rfl (lay_X0 _ _ _) rfl ?_
      refine v_iconst dX0_feed_43 ?_
      refine v_iadd dX0_feed_44 ?_
      obtain ⟨s10, h⟩ := h
      refine v_put (q := x0) (j := 0) (v := vI ((F4 27) + 1)) (obX x0 (upN F4 27 ((F4 27) + 1)) p4) dX0_feed_45 fX0_543 pf0_27 (ws_ne hw4 (wk_ne hw4 hw6 (show (0 : Nat) ≠ 85 by decide))) rfl (lay_X0 _ _ _) (Nat.le_of_ble_eq_true rfl) rfl rfl (chg_X0 rfl) s10 ?_
      refine v_aload_n 0 dX0_feed_48 rfl (isR_ref _) ?_
      refine v_get (q := x0) (j := 0) (v := vI ((F4 27) + 1)) dX0_feed_49 fX0_543 (wset_eq _ _ _) rfl (lay_X0 _ _ _) rfl ?_
      exact x_iret K dX0_feed_52 rfl h
    · have h := hf c
      refine v_bipush dX0_feed_24 rfl ?_
      exact x_iret K dX0_feed_26 rfl h
  · have h := hf c
    refine v_bipush dX0_feed_12 rfl ?_
    exact x_iret K dX0_feed_14 rfl h
/-! BranchNames.clear -/
theorem wX0_clear_0 (K : KV) {x0 : Nat} {w : Wd} {sz n : Nat} (h : ∃ (F1 : Nat → Int) (p1 : Nat), (w x0 = some (obX x0 F1 p1)) ∧ ((K.G.base ≤ x0) ∧ (K.S (some (vI (F1 27))) (wset w x0 (some (obX x0 (upN F1 27 0) p1))) sz n))) : VX K mX0_clear 0 [(0, .ref x0)] [] w sz n := by
  refine v_aload_n 0 dX0_clear_0 rfl (isR_ref _) ?_
  obtain ⟨F1, p1, hw1, h⟩ := h
  refine v_get (q := x0) (j := 0) (v := vI (F1 27)) dX0_clear_1 fX0_543 hw1 rfl (lay_X0 _ _ _) rfl ?_
  refine v_istore_n dX0_clear_4 (by decide) rfl ?_
  refine v_aload_n 1 dX0_clear_5 rfl (isR_ref _) ?_
  refine v_iconst dX0_clear_6 ?_
  obtain ⟨s2, h⟩ := h
  refine v_put (q := x0) (j := 0) (v := vI 0) (obX x0 (upN F1 27 0) p1) dX0_clear_7 fX0_543 pf0_27 hw1 rfl (lay_X0 _ _ _) (Nat.le_of_ble_eq_true rfl) rfl rfl (chg_X0 rfl) s2 ?_
  refine v_iload_n 0 dX0_clear_10 rfl ?_
  exact x_iret K dX0_clear_11 rfl h
/-! BranchNames.reading -/
theorem wX0_reading_0 (K : KV) {x0 : Nat} {w : Wd} {sz n : Nat} (h : (w sz = none) ∧ (CV mX7_init K [.ref sz, .ref x0] (wset w sz (some (obR 7 nF nP))) (sz + 1) (n + 3) fun w2 z2 n2 => ∃ (F3 : Nat → Int) (P3 : Nat → Option Nat), (w2 sz = some (obR 7 F3 P3)) ∧ (CQ mX7_whole K [.ref sz] w2 z2 n2 fun r4 w4 z4 n4 => ∃ (F5 : Nat → Int) (p5 : Nat), (w4 x0 = some (obX x0 F5 p5)) ∧ (CV mX0_makes K [.ref x0, va_rf r4, .ref (x0 + 89), vI 0] w4 z4 n4 fun w6 z6 n6 => ∃ (F7 : Nat → Int) (p7 : Nat), (w6 x0 = some (obX x0 F7 p7)) ∧ (∃ (F8 : Nat → Int) (P8 : Nat → Option Nat) (A8 : Nat → Int → Int) (M8 : Nat → Int → Int → Int) (N8 : Nat → Int → Int → Option Nat), (w6 (x0 + 1) = some (obT F8 P8 A8 M8 N8)) ∧ (CV mX1_becomes K [.ref (x0 + 1), .ref (x0 + 89)] w6 z6 n6 fun w9 z9 n9 => ∃ (F10 : Nat → Int) (p10 : Nat), (w9 x0 = some (obX x0 F10 p10)) ∧ ((K.G.base ≤ x0) ∧ (∃ (F12 : Nat → Int) (P12 : Nat → Option Nat) (A12 : Nat → Int → Int) (M12 : Nat → Int → Int → Int) (N12 : Nat → Int → Int → Option Nat), ((wset w9 x0 (some (obX x0 (upN F10 32 ((F10 32) + 1)) p10))) (x0 + 1) = some (obT F12 P12 A12 M12 N12)) ∧ (CQ mX0_nameOf_2 K [.ref x0, .ref (x0 + 1)] (wset w9 x0 (some (obX x0 (upN F10 32 ((F10 32) + 1)) p10))) z9 n9 fun r13 w13 z13 n13 => ∃ (F14 : Nat → Int) (p14 : Nat), (w13 x0 = some (obX x0 F14 p14)) ∧ (CI mX0_isWord K [.ref x0, va_rf r13] w13 z13 n13 fun r15 w15 z15 n15 => (rI r15) ∧ ((r15 = 0 → (K.S (some (vI ((F12 4) + 100))) w15 z15 n15)) ∧ (¬ r15 = 0 → (K.S (some (vI ((F12 4) + 0))) w15 z15 n15))))))))))))) : VX K mX0_reading 0 [(0, .ref x0)] [] w sz n := by
  obtain ⟨s1, h⟩ := h
  refine v_new K (ci := 7) (C := RX7) (T := TX7) (N := 3) tyX7 dX0_reading_0 (by decide) rfl in_X7 tyX7_ok q1300 q1301 q175 nw7 s1 ?_
  refine v_dup dX0_reading_3 rfl ?_
  refine v_aload_n 0 dX0_reading_4 rfl (isR_ref _) ?_
  refine x_callINV K (As := [.ref x0]) dX0_reading_5 LX0_612 rfl rfl (Nat.le_of_ble_eq_true rfl) h (fun w2 z2 n2 h => ?_)
  obtain ⟨F3, P3, hw3, h⟩ := h
  refine x_callVQ K (As := []) dX0_reading_8 LX0_615 rfl rfl (Nat.le_of_ble_eq_true rfl) (rc_of hw3 (lay_R0 _ _ _ (by decide)) rfl) h (fun r4 w4 z4 n4 h => ?_)
  refine v_astore_n dX0_reading_11 (by decide) (isR_rf _) rfl ?_
  refine v_aload_n 1 dX0_reading_12 rfl (isR_ref _) ?_
  refine v_aload_n 0 dX0_reading_13 rfl (isR_rf _) ?_
  refine v_aload_n 1 dX0_reading_14 rfl (isR_ref _) ?_
  obtain ⟨F5, p5, hw5, h⟩ := h
  refine v_get (q := x0) (j := 0) (v := .ref (x0 + 89)) dX0_reading_15 fX0_122 hw5 rfl (lay_X0 _ _ _) rfl ?_
  refine v_iconst dX0_reading_18 ?_
  refine x_callVV K (As := [va_rf r4, .ref (x0 + 89), vI 0]) dX0_reading_19 LX0_552 rfl rfl (Nat.le_of_ble_eq_true rfl) (rc_of hw5 (lay_X0 _ _ _) rfl) h (fun w6 z6 n6 h => ?_)
  refine v_aload_n 1 dX0_reading_22 rfl (isR_ref _) ?_
  obtain ⟨F7, p7, hw7, h⟩ := h
  refine v_get (q := x0) (j := 0) (v := .ref (x0 + 1)) dX0_reading_23 fX0_365 hw7 rfl (lay_X0 _ _ _) rfl ?_
  refine v_aload_n 1 dX0_reading_26 rfl (isR_ref _) ?_
  refine v_get (q := x0) (j := 0) (v := .ref (x0 + 89)) dX0_reading_27 fX0_122 hw7 rfl (lay_X0 _ _ _) rfl ?_
  obtain ⟨F8, P8, A8, M8, N8, hw8, h⟩ := h
  refine x_callVV K (As := [.ref (x0 + 89)]) dX0_reading_30 LX0_125 rfl rfl (Nat.le_of_ble_eq_true rfl) (rc_of hw8 (lay_T0 _ _ _ _ _ _) rfl) h (fun w9 z9 n9 h => ?_)
  refine v_aload_n 1 dX0_reading_33 rfl (isR_ref _) ?_
  refine v_dup dX0_reading_34 rfl ?_
  obtain ⟨F10, p10, hw10, h⟩ := h
  refine v_get (q := x0) (j := 0) (v := vI (F10 32)) dX0_reading_35 fX0_619 hw10 rfl (lay_X0 _ _ _) rfl ?_
  refine v_iconst dX0_reading_38 ?_
  refine v_iadd dX0_reading_39 ?_
  obtain ⟨s11, h⟩ := h
  refine v_put (q := x0) (j := 0) (v := vI ((F10 32) + 1)) (obX x0 (upN F10 32 ((F10 32) + 1)) p10) dX0_reading_40 fX0_619 pf0_32 hw10 rfl (lay_X0 _ _ _) (Nat.le_of_ble_eq_true rfl) rfl rfl (chg_X0 rfl) s11 ?_
  refine v_aload_n 1 dX0_reading_43 rfl (isR_ref _) ?_
  refine v_get (q := x0) (j := 0) (v := .ref (x0 + 1)) dX0_reading_44 fX0_365 (wset_eq _ _ _) rfl (lay_X0 _ _ _) rfl ?_
  obtain ⟨F12, P12, A12, M12, N12, hw12, h⟩ := h
  refine v_get (q := x0 + 1) (j := 0) (v := vI (F12 4)) dX0_reading_47 fX0_44 hw12 rfl (lay_T0 _ _ _ _ _ _) rfl ?_
  refine v_aload_n 1 dX0_reading_50 rfl (isR_ref _) ?_
  refine v_aload_n 1 dX0_reading_51 rfl (isR_ref _) ?_
  refine v_aload_n 1 dX0_reading_52 rfl (isR_ref _) ?_
  refine v_get (q := x0) (j := 0) (v := .ref (x0 + 1)) dX0_reading_53 fX0_365 (wset_eq _ _ _) rfl (lay_X0 _ _ _) rfl ?_
  refine x_callVQ K (As := [.ref (x0 + 1)]) dX0_reading_56 LX0_530 rfl rfl (Nat.le_of_ble_eq_true rfl) (rc_of (wset_eq _ _ _) (lay_X0 _ _ _) rfl) h (fun r13 w13 z13 n13 h => ?_)
  obtain ⟨F14, p14, hw14, h⟩ := h
  refine x_callVI K (As := [va_rf r13]) dX0_reading_59 LX0_622 rfl rfl (Nat.le_of_ble_eq_true rfl) (rc_of hw14 (lay_X0 _ _ _) rfl) h (fun r15 w15 z15 n15 h => ?_)
  obtain ⟨s16, h⟩ := h
  obtain ⟨ht, hf⟩ := h
  refine v_if_eq 69 dX0_reading_62 (by decide) s16 (fun c => ?_) (fun c => ?_)
  · have h := ht c
    refine v_bipush dX0_reading_69 rfl ?_
    refine v_iadd dX0_reading_71 ?_
    exact x_iret K dX0_reading_72 rfl h
  · have h := hf c
    refine v_iconst dX0_reading_65 ?_
    refine v_goto 71 dX0_reading_66 (by decide) ?_
    refine v_iadd dX0_reading_71 ?_
    exact x_iret K dX0_reading_72 rfl h
/-! BranchNames.isWord -/
theorem wX0_isWord_0 (K : KV) {x0 q1 : Nat} {w : Wd} {sz n : Nat} (h : ∃ (b1 : Nat), (w q1 = some (obS b1)) ∧ (CI mJ2_length K [.ref q1] w sz n fun r2 w2 z2 n2 => ∃ (F3 : Nat → Int) (p3 : Nat), (w2 x0 = some (obX x0 F3 p3)) ∧ ((rI r2) ∧ ((rI (F3 27)) ∧ ((r2 = (F3 27) → (VX K mX0_isWord 15 [(0, .ref x0), (1, .ref q1), (2, vI 0)] [] w2 z2 n2)) ∧ (¬ r2 = (F3 27) → (K.S (some (vI 0)) w2 z2 n2))))))) : VX K mX0_isWord 0 [(0, .ref x0), (1, .ref q1)] [] w sz n := by
  refine v_aload_n 1 dX0_isWord_0 rfl (isR_ref _) ?_
  obtain ⟨b1, hw1, h⟩ := h
  refine x_callVI K (As := []) dX0_isWord_1 LX0_251 rfl rfl (Nat.le_of_ble_eq_true rfl) (rc_S hw1) h (fun r2 w2 z2 n2 h => ?_)
  refine v_aload_n 0 dX0_isWord_4 rfl (isR_ref _) ?_
  obtain ⟨F3, p3, hw3, h⟩ := h
  refine v_get (q := x0) (j := 0) (v := vI (F3 27)) dX0_isWord_5 fX0_543 hw3 rfl (lay_X0 _ _ _) rfl ?_
  obtain ⟨s4, h⟩ := h
  obtain ⟨s5, h⟩ := h
  obtain ⟨ht, hf⟩ := h
  refine v_icmp_eq 13 dX0_isWord_8 (by decide) s4 s5 (fun c => ?_) (fun c => ?_)
  · have h := ht c
    refine v_iconst dX0_isWord_13 ?_
    refine v_istore_n dX0_isWord_14 (by decide) rfl ?_
    refine V.sub [1, 2, 0] rfl ?_
    exact h
  · have h := hf c
    refine v_iconst dX0_isWord_11 ?_
    exact x_zret K dX0_isWord_12 rfl (by decide) h
theorem wX0_isWord_15 (K : KV) {x2 : Int} {x0 q1 : Nat} {w : Wd} {sz n : Nat} (h : ∃ (F1 : Nat → Int) (p1 : Nat), (w x0 = some (obX x0 F1 p1)) ∧ ((rI x2) ∧ ((rI (F1 27)) ∧ (((F1 27) ≤ x2 → (K.S (some (vI 1)) w sz n)) ∧ (¬ (F1 27) ≤ x2 → (∃ (b4 : Nat), (w q1 = some (obS b4)) ∧ (CI mJ2_charAt K [.ref q1, vI x2] w sz n fun r5 w5 z5 n5 => ∃ (F6 : Nat → Int) (p6 : Nat), (w5 x0 = some (obX x0 F6 p6)) ∧ (∃ (A7 : Nat → Int → Int) (B7 : Nat → Int → Option Nat) (M7 : Nat → Int → Int → Int), (w5 (x0 + 221) = some (obXA A7 B7 M7)) ∧ ((0 ≤ x2 ∧ x2 < 80) ∧ ((rI r5) ∧ ((rI (A7 7 x2)) ∧ ((r5 = (A7 7 x2) → (VX K mX0_isWord 15 [(0, .ref x0), (1, .ref q1), (2, vI (x2 + 1))] [] w5 z5 n5)) ∧ (¬ r5 = (A7 7 x2) → (K.S (some (vI 0)) w5 z5 n5)))))))))))))) : VX K mX0_isWord 15 [(0, .ref x0), (1, .ref q1), (2, vI x2)] [] w sz n := by
  refine v_iload_n 2 dX0_isWord_15 rfl ?_
  refine v_aload_n 0 dX0_isWord_16 rfl (isR_ref _) ?_
  obtain ⟨F1, p1, hw1, h⟩ := h
  refine v_get (q := x0) (j := 0) (v := vI (F1 27)) dX0_isWord_17 fX0_543 hw1 rfl (lay_X0 _ _ _) rfl ?_
  obtain ⟨s2, h⟩ := h
  obtain ⟨s3, h⟩ := h
  obtain ⟨ht, hf⟩ := h
  refine v_icmp_ge 45 dX0_isWord_20 (by decide) s2 s3 (fun c => ?_) (fun c => ?_)
  · have h := ht c
    refine v_iconst dX0_isWord_45 ?_
    exact x_zret K dX0_isWord_46 rfl (by decide) h
  · have h := hf c
    refine v_aload_n 1 dX0_isWord_23 rfl (isR_ref _) ?_
    refine v_iload_n 2 dX0_isWord_24 rfl ?_
    obtain ⟨b4, hw4, h⟩ := h
    refine x_callVI K (As := [vI x2]) dX0_isWord_25 LX0_257 rfl rfl (Nat.le_of_ble_eq_true rfl) (rc_S hw4) h (fun r5 w5 z5 n5 h => ?_)
    refine v_aload_n 0 dX0_isWord_28 rfl (isR_ref _) ?_
    obtain ⟨F6, p6, hw6, h⟩ := h
    refine v_get (q := x0) (j := 0) (v := .ref (x0 + 221 + 63)) dX0_isWord_29 fX0_431 hw6 rfl (lay_X0 _ _ _) rfl ?_
    refine v_iload_n 2 dX0_isWord_32 rfl ?_
    obtain ⟨A7, B7, M7, hw7, h⟩ := h
    obtain ⟨s8, h⟩ := h
    refine v_bald (q := x0 + 221) (j := 63) (f := A7 7) dX0_isWord_33 hw7 rfl (lay_XA 63 rfl) s8 (by decide) ?_
    obtain ⟨s9, h⟩ := h
    obtain ⟨s10, h⟩ := h
    obtain ⟨ht, hf⟩ := h
    refine v_icmp_eq 39 dX0_isWord_34 (by decide) s9 s10 (fun c => ?_) (fun c => ?_)
    · have h := ht c
      refine v_iinc 2 dX0_isWord_39 rfl (by decide) rfl ?_
      refine v_goto 15 dX0_isWord_42 (by decide) ?_
      refine V.sub [1, 2, 0] rfl ?_
      exact h
    · have h := hf c
      refine v_iconst dX0_isWord_37 ?_
      exact x_zret K dX0_isWord_38 rfl (by decide) h
/-! BranchNames.why -/
theorem wX0_why_0 (K : KV) {x1 x2 : Int} {x0 : Nat} {w : Wd} {sz n : Nat} (h : (rI x1) ∧ (∃ (F2 : Nat → Int) (p2 : Nat), (w x0 = some (obX x0 F2 p2)) ∧ ((rI ((F2 30) - 1)) ∧ (CI mX0_isIn K [vL x1, vL 0, vL ((F2 30) - 1)] w sz n fun r4 w4 z4 n4 => (rI r4) ∧ ((r4 = 0 → (K.S (some (vI ((-1)))) w4 z4 n4)) ∧ (¬ r4 = 0 → ((rI x2) ∧ (CI mX0_isIn K [vL x2, vL 0, vL 1] w4 z4 n4 fun r7 w7 z7 n7 => (rI r7) ∧ ((r7 = 0 → (K.S (some (vI ((-1)))) w7 z7 n7)) ∧ (¬ r7 = 0 → ((¬ x2 = 0 → (∃ (F9 : Nat → Int) (p9 : Nat), (w7 x0 = some (obX x0 F9 p9)) ∧ (∃ (A10 : Nat → Int → Int) (B10 : Nat → Int → Option Nat) (M10 : Nat → Int → Int → Int), (w7 (x0 + 221) = some (obXA A10 B10 M10)) ∧ ((0 ≤ x1 ∧ x1 < 80) ∧ (K.S (some (vI (A10 9 x1))) w7 z7 n7))))) ∧ (x2 = 0 → (∃ (F9 : Nat → Int) (p9 : Nat), (w7 x0 = some (obX x0 F9 p9)) ∧ (∃ (A10 : Nat → Int → Int) (B10 : Nat → Int → Option Nat) (M10 : Nat → Int → Int → Int), (w7 (x0 + 221) = some (obXA A10 B10 M10)) ∧ ((0 ≤ x1 ∧ x1 < 80) ∧ (K.S (some (vI (A10 8 x1))) w7 z7 n7)))))))))))))))) : VX K mX0_why 0 [(0, .ref x0), (1, vI x1), (2, vI x2)] [] w sz n := by
  refine v_iload_n 1 dX0_why_0 rfl ?_
  obtain ⟨s1, h⟩ := h
  refine v_i2l dX0_why_1 s1 ?_
  refine v_lconst (z := 0) dX0_why_2 rfl ?_
  refine v_aload_n 0 dX0_why_3 rfl (isR_ref _) ?_
  obtain ⟨F2, p2, hw2, h⟩ := h
  refine v_get (q := x0) (j := 0) (v := vI (F2 30)) dX0_why_4 fX0_597 hw2 rfl (lay_X0 _ _ _) rfl ?_
  refine v_iconst dX0_why_7 ?_
  refine v_isub dX0_why_8 ?_
  obtain ⟨s3, h⟩ := h
  refine v_i2l dX0_why_9 s3 ?_
  refine x_callSI K (As := [vL x1, vL 0, vL ((F2 30) - 1)]) dX0_why_10 LX0_142 rfl rfl (Nat.le_of_ble_eq_true rfl) h (fun r4 w4 z4 n4 h => ?_)
  obtain ⟨s5, h⟩ := h
  obtain ⟨ht, hf⟩ := h
  refine v_if_eq 46 dX0_why_13 (by decide) s5 (fun c => ?_) (fun c => ?_)
  · have h := ht c
    refine v_iconst dX0_why_46 ?_
    exact x_iret K dX0_why_47 rfl h
  · have h := hf c
    refine v_iload_n 2 dX0_why_16 rfl ?_
    obtain ⟨s6, h⟩ := h
    refine v_i2l dX0_why_17 s6 ?_
    refine v_lconst (z := 0) dX0_why_18 rfl ?_
    refine v_lconst (z := 1) dX0_why_19 rfl ?_
    refine x_callSI K (As := [vL x2, vL 0, vL 1]) dX0_why_20 LX0_142 rfl rfl (Nat.le_of_ble_eq_true rfl) h (fun r7 w7 z7 n7 h => ?_)
    obtain ⟨s8, h⟩ := h
    obtain ⟨ht, hf⟩ := h
    refine v_if_eq 46 dX0_why_23 (by decide) s8 (fun c => ?_) (fun c => ?_)
    · have h := ht c
      refine v_iconst dX0_why_46 ?_
      exact x_iret K dX0_why_47 rfl h
    · have h := hf c
      refine v_iload_n 2 dX0_why_26 rfl ?_
      obtain ⟨ht, hf⟩ := h
      refine v_if_ne 37 dX0_why_27 (by decide) s6 (fun c => ?_) (fun c => ?_)
      · have h := ht c
        refine v_aload_n 0 dX0_why_37 rfl (isR_ref _) ?_
        obtain ⟨F9, p9, hw9, h⟩ := h
        refine v_get (q := x0) (j := 0) (v := .ref (x0 + 221 + 65)) dX0_why_38 fX0_438 hw9 rfl (lay_X0 _ _ _) rfl ?_
        refine v_iload_n 1 dX0_why_41 rfl ?_
        obtain ⟨A10, B10, M10, hw10, h⟩ := h
        obtain ⟨s11, h⟩ := h
        refine v_iald (q := x0 + 221) (j := 65) (f := A10 9) dX0_why_42 hw10 rfl (lay_XA 65 rfl) s11 (by decide) ?_
        refine v_goto 47 dX0_why_43 (by decide) ?_
        exact x_iret K dX0_why_47 rfl h
      · have h := hf c
        refine v_aload_n 0 dX0_why_30 rfl (isR_ref _) ?_
        obtain ⟨F9, p9, hw9, h⟩ := h
        refine v_get (q := x0) (j := 0) (v := .ref (x0 + 221 + 64)) dX0_why_31 fX0_435 hw9 rfl (lay_X0 _ _ _) rfl ?_
        refine v_goto 41 dX0_why_34 (by decide) ?_
        refine v_iload_n 1 dX0_why_41 rfl ?_
        obtain ⟨A10, B10, M10, hw10, h⟩ := h
        obtain ⟨s11, h⟩ := h
        refine v_iald (q := x0 + 221) (j := 64) (f := A10 8) dX0_why_42 hw10 rfl (lay_XA 64 rfl) s11 (by decide) ?_
        refine v_goto 47 dX0_why_43 (by decide) ?_
        exact x_iret K dX0_why_47 rfl h
/-! BranchNames.told -/
theorem wX0_told_0 (K : KV) {x1 : Int} {x0 : Nat} {w : Wd} {sz n : Nat} (h : (rI x1) ∧ ((x1 = 0 → (∃ (F2 : Nat → Int) (p2 : Nat), (w x0 = some (obX x0 F2 p2)) ∧ (K.S (some (vI (F2 27))) w sz n))) ∧ (x1 = 1 → (∃ (F2 : Nat → Int) (p2 : Nat), (w x0 = some (obX x0 F2 p2)) ∧ (K.S (some (vI (F2 30))) w sz n))) ∧ (x1 = 2 → (∃ (F2 : Nat → Int) (p2 : Nat), (w x0 = some (obX x0 F2 p2)) ∧ (K.S (some (vI (F2 32))) w sz n))) ∧ (x1 = 3 → (∃ (F2 : Nat → Int) (p2 : Nat), (w x0 = some (obX x0 F2 p2)) ∧ (K.S (some (vI (F2 31))) w sz n))) ∧ ((x1 < 0 ∨ 3 < x1) → (K.S (some (vI ((-2)))) w sz n)))) : VX K mX0_told 0 [(0, .ref x0), (1, vI x1)] [] w sz n := by
  refine v_iload_n 1 dX0_told_0 rfl ?_
  obtain ⟨s1, h⟩ := h
  obtain ⟨h0, h1, h2, h3, hd⟩ := h
  by_cases c0 : x1 = 0
  · refine v_tableIn 32 dX0_told_1 0 c0 (by decide) (by decide) (by decide) rfl (by decide) ?_
    have h := h0 c0
    refine v_aload_n 0 dX0_told_32 rfl (isR_ref _) ?_
    obtain ⟨F2, p2, hw2, h⟩ := h
    refine v_get (q := x0) (j := 0) (v := vI (F2 27)) dX0_told_33 fX0_543 hw2 rfl (lay_X0 _ _ _) rfl ?_
    exact x_iret K dX0_told_36 rfl h
  by_cases c1 : x1 = 1
  · refine v_tableIn 37 dX0_told_1 1 c1 (by decide) (by decide) (by decide) rfl (by decide) ?_
    have h := h1 c1
    refine v_aload_n 0 dX0_told_37 rfl (isR_ref _) ?_
    obtain ⟨F2, p2, hw2, h⟩ := h
    refine v_get (q := x0) (j := 0) (v := vI (F2 30)) dX0_told_38 fX0_597 hw2 rfl (lay_X0 _ _ _) rfl ?_
    exact x_iret K dX0_told_41 rfl h
  by_cases c2 : x1 = 2
  · refine v_tableIn 42 dX0_told_1 2 c2 (by decide) (by decide) (by decide) rfl (by decide) ?_
    have h := h2 c2
    refine v_aload_n 0 dX0_told_42 rfl (isR_ref _) ?_
    obtain ⟨F2, p2, hw2, h⟩ := h
    refine v_get (q := x0) (j := 0) (v := vI (F2 32)) dX0_told_43 fX0_619 hw2 rfl (lay_X0 _ _ _) rfl ?_
    exact x_iret K dX0_told_46 rfl h
  by_cases c3 : x1 = 3
  · refine v_tableIn 47 dX0_told_1 3 c3 (by decide) (by decide) (by decide) rfl (by decide) ?_
    have h := h3 c3
    refine v_aload_n 0 dX0_told_47 rfl (isR_ref _) ?_
    obtain ⟨F2, p2, hw2, h⟩ := h
    refine v_get (q := x0) (j := 0) (v := vI (F2 31)) dX0_told_48 fX0_629 hw2 rfl (lay_X0 _ _ _) rfl ?_
    exact x_iret K dX0_told_51 rfl h
  have cd : x1 < 0 ∨ 3 < x1 := by omega
  refine v_tableOut 52 dX0_told_1 s1 cd (by decide) ?_
  have h := hd cd
  refine v_bipush dX0_told_52 rfl ?_
  exact x_iret K dX0_told_54 rfl h
/-! BranchNames.row -/
theorem wX0_row_0 (K : KV) {x1 x2 x3 : Int} {x0 : Nat} {w : Wd} {sz n : Nat} (h : CI mX0_isRow K [vI x1] w sz n fun r1 w1 z1 n1 => (rI r1) ∧ ((¬ r1 = 0 → ((rI x2) ∧ (CI mX0_isIn K [vL x2, vL ((-1)), vL 2] w1 z1 n1 fun r4 w4 z4 n4 => (rI r4) ∧ ((r4 = 0 → (K.S (some (vI ((-2)))) w4 z4 n4)) ∧ (¬ r4 = 0 → ((x2 < 0 → ((x2 < 0 → (∃ (F6 : Nat → Int) (p6 : Nat), (w4 x0 = some (obX x0 F6 p6)) ∧ ((0 ≤ x2 → ((¬ x2 = 0 → ((¬ x2 = 1 → (CQ mX0_bytes K [vI x3] w4 z4 n4 fun r7 w7 z7 n7 => ∃ (A8 : Nat → Int → Int) (B8 : Nat → Int → Option Nat) (M8 : Nat → Int → Int → Int), (w7 (x0 + 221) = some (obXA A8 B8 M8)) ∧ ((0 ≤ x1 ∧ x1 < 4) ∧ ((K.G.base ≤ x0 + 221) ∧ ((Sto K.G w7 4 r7) ∧ (K.S (some (vI 1)) (wset w7 (x0 + 221) (some (obXA A8 (upA B8 6 x1 r7) M8))) z7 n7)))))) ∧ (x2 = 1 → (CQ mX0_longs K [vI x3] w4 z4 n4 fun r7 w7 z7 n7 => ∃ (A8 : Nat → Int → Int) (B8 : Nat → Int → Option Nat) (M8 : Nat → Int → Int → Int), (w7 (x0 + 221) = some (obXA A8 B8 M8)) ∧ ((0 ≤ x1 ∧ x1 < 4) ∧ ((K.G.base ≤ x0 + 221) ∧ ((Sto K.G w7 4 r7) ∧ (K.S (some (vI 1)) (wset w7 (x0 + 221) (some (obXA A8 (upA B8 6 x1 r7) M8))) z7 n7)))))))) ∧ (x2 = 0 → (CQ mX0_ints K [vI x3] w4 z4 n4 fun r7 w7 z7 n7 => ∃ (A8 : Nat → Int → Int) (B8 : Nat → Int → Option Nat) (M8 : Nat → Int → Int → Int), (w7 (x0 + 221) = some (obXA A8 B8 M8)) ∧ ((0 ≤ x1 ∧ x1 < 4) ∧ ((K.G.base ≤ x0 + 221) ∧ ((Sto K.G w7 4 r7) ∧ (K.S (some (vI 1)) (wset w7 (x0 + 221) (some (obXA A8 (upA B8 6 x1 r7) M8))) z7 n7)))))))) ∧ (¬ 0 ≤ x2 → (∃ (A7 : Nat → Int → Int) (B7 : Nat → Int → Option Nat) (M7 : Nat → Int → Int → Int), (w4 (x0 + 221) = some (obXA A7 B7 M7)) ∧ ((0 ≤ x1 ∧ x1 < 4) ∧ ((K.G.base ≤ x0 + 221) ∧ (K.S (some (vI 1)) (wset w4 (x0 + 221) (some (obXA A7 (upA B7 6 x1 none) M7))) z4 n4)))))))) ∧ (¬ x2 < 0 → ((rI x3) ∧ ((0 ≤ x3 → (∃ (F7 : Nat → Int) (p7 : Nat), (w4 x0 = some (obX x0 F7 p7)) ∧ ((0 ≤ x2 → ((¬ x2 = 0 → ((¬ x2 = 1 → (CQ mX0_bytes K [vI x3] w4 z4 n4 fun r8 w8 z8 n8 => ∃ (A9 : Nat → Int → Int) (B9 : Nat → Int → Option Nat) (M9 : Nat → Int → Int → Int), (w8 (x0 + 221) = some (obXA A9 B9 M9)) ∧ ((0 ≤ x1 ∧ x1 < 4) ∧ ((K.G.base ≤ x0 + 221) ∧ ((Sto K.G w8 4 r8) ∧ (K.S (some (vI 1)) (wset w8 (x0 + 221) (some (obXA A9 (upA B9 6 x1 r8) M9))) z8 n8)))))) ∧ (x2 = 1 → (CQ mX0_longs K [vI x3] w4 z4 n4 fun r8 w8 z8 n8 => ∃ (A9 : Nat → Int → Int) (B9 : Nat → Int → Option Nat) (M9 : Nat → Int → Int → Int), (w8 (x0 + 221) = some (obXA A9 B9 M9)) ∧ ((0 ≤ x1 ∧ x1 < 4) ∧ ((K.G.base ≤ x0 + 221) ∧ ((Sto K.G w8 4 r8) ∧ (K.S (some (vI 1)) (wset w8 (x0 + 221) (some (obXA A9 (upA B9 6 x1 r8) M9))) z8 n8)))))))) ∧ (x2 = 0 → (CQ mX0_ints K [vI x3] w4 z4 n4 fun r8 w8 z8 n8 => ∃ (A9 : Nat → Int → Int) (B9 : Nat → Int → Option Nat) (M9 : Nat → Int → Int → Int), (w8 (x0 + 221) = some (obXA A9 B9 M9)) ∧ ((0 ≤ x1 ∧ x1 < 4) ∧ ((K.G.base ≤ x0 + 221) ∧ ((Sto K.G w8 4 r8) ∧ (K.S (some (vI 1)) (wset w8 (x0 + 221) (some (obXA A9 (upA B9 6 x1 r8) M9))) z8 n8)))))))) ∧ (¬ 0 ≤ x2 → (∃ (A8 : Nat → Int → Int) (B8 : Nat → Int → Option Nat) (M8 : Nat → Int → Int → Int), (w4 (x0 + 221) = some (obXA A8 B8 M8)) ∧ ((0 ≤ x1 ∧ x1 < 4) ∧ ((K.G.base ≤ x0 + 221) ∧ (K.S (some (vI 1)) (wset w4 (x0 + 221) (some (obXA A8 (upA B8 6 x1 none) M8))) z4 n4)))))))) ∧ (¬ 0 ≤ x3 → (K.S (some (vI ((-14)))) w4 z4 n4))))))) ∧ (¬ x2 < 0 → ((rI x3) ∧ ((x3 ≤ 40 → ((x2 < 0 → (∃ (F7 : Nat → Int) (p7 : Nat), (w4 x0 = some (obX x0 F7 p7)) ∧ ((0 ≤ x2 → ((¬ x2 = 0 → ((¬ x2 = 1 → (CQ mX0_bytes K [vI x3] w4 z4 n4 fun r8 w8 z8 n8 => ∃ (A9 : Nat → Int → Int) (B9 : Nat → Int → Option Nat) (M9 : Nat → Int → Int → Int), (w8 (x0 + 221) = some (obXA A9 B9 M9)) ∧ ((0 ≤ x1 ∧ x1 < 4) ∧ ((K.G.base ≤ x0 + 221) ∧ ((Sto K.G w8 4 r8) ∧ (K.S (some (vI 1)) (wset w8 (x0 + 221) (some (obXA A9 (upA B9 6 x1 r8) M9))) z8 n8)))))) ∧ (x2 = 1 → (CQ mX0_longs K [vI x3] w4 z4 n4 fun r8 w8 z8 n8 => ∃ (A9 : Nat → Int → Int) (B9 : Nat → Int → Option Nat) (M9 : Nat → Int → Int → Int), (w8 (x0 + 221) = some (obXA A9 B9 M9)) ∧ ((0 ≤ x1 ∧ x1 < 4) ∧ ((K.G.base ≤ x0 + 221) ∧ ((Sto K.G w8 4 r8) ∧ (K.S (some (vI 1)) (wset w8 (x0 + 221) (some (obXA A9 (upA B9 6 x1 r8) M9))) z8 n8)))))))) ∧ (x2 = 0 → (CQ mX0_ints K [vI x3] w4 z4 n4 fun r8 w8 z8 n8 => ∃ (A9 : Nat → Int → Int) (B9 : Nat → Int → Option Nat) (M9 : Nat → Int → Int → Int), (w8 (x0 + 221) = some (obXA A9 B9 M9)) ∧ ((0 ≤ x1 ∧ x1 < 4) ∧ ((K.G.base ≤ x0 + 221) ∧ ((Sto K.G w8 4 r8) ∧ (K.S (some (vI 1)) (wset w8 (x0 + 221) (some (obXA A9 (upA B9 6 x1 r8) M9))) z8 n8)))))))) ∧ (¬ 0 ≤ x2 → (∃ (A8 : Nat → Int → Int) (B8 : Nat → Int → Option Nat) (M8 : Nat → Int → Int → Int), (w4 (x0 + 221) = some (obXA A8 B8 M8)) ∧ ((0 ≤ x1 ∧ x1 < 4) ∧ ((K.G.base ≤ x0 + 221) ∧ (K.S (some (vI 1)) (wset w4 (x0 + 221) (some (obXA A8 (upA B8 6 x1 none) M8))) z4 n4)))))))) ∧ (¬ x2 < 0 → ((0 ≤ x3 → (∃ (F7 : Nat → Int) (p7 : Nat), (w4 x0 = some (obX x0 F7 p7)) ∧ ((0 ≤ x2 → ((¬ x2 = 0 → ((¬ x2 = 1 → (CQ mX0_bytes K [vI x3] w4 z4 n4 fun r8 w8 z8 n8 => ∃ (A9 : Nat → Int → Int) (B9 : Nat → Int → Option Nat) (M9 : Nat → Int → Int → Int), (w8 (x0 + 221) = some (obXA A9 B9 M9)) ∧ ((0 ≤ x1 ∧ x1 < 4) ∧ ((K.G.base ≤ x0 + 221) ∧ ((Sto K.G w8 4 r8) ∧ (K.S (some (vI 1)) (wset w8 (x0 + 221) (some (obXA A9 (upA B9 6 x1 r8) M9))) z8 n8)))))) ∧ (x2 = 1 → (CQ mX0_longs K [vI x3] w4 z4 n4 fun r8 w8 z8 n8 => ∃ (A9 : Nat → Int → Int) (B9 : Nat → Int → Option Nat) (M9 : Nat → Int → Int → Int), (w8 (x0 + 221) = some (obXA A9 B9 M9)) ∧ ((0 ≤ x1 ∧ x1 < 4) ∧ ((K.G.base ≤ x0 + 221) ∧ ((Sto K.G w8 4 r8) ∧ (K.S (some (vI 1)) (wset w8 (x0 + 221) (some (obXA A9 (upA B9 6 x1 r8) M9))) z8 n8)))))))) ∧ (x2 = 0 → (CQ mX0_ints K [vI x3] w4 z4 n4 fun r8 w8 z8 n8 => ∃ (A9 : Nat → Int → Int) (B9 : Nat → Int → Option Nat) (M9 : Nat → Int → Int → Int), (w8 (x0 + 221) = some (obXA A9 B9 M9)) ∧ ((0 ≤ x1 ∧ x1 < 4) ∧ ((K.G.base ≤ x0 + 221) ∧ ((Sto K.G w8 4 r8) ∧ (K.S (some (vI 1)) (wset w8 (x0 + 221) (some (obXA A9 (upA B9 6 x1 r8) M9))) z8 n8)))))))) ∧ (¬ 0 ≤ x2 → (∃ (A8 : Nat → Int → Int) (B8 : Nat → Int → Option Nat) (M8 : Nat → Int → Int → Int), (w4 (x0 + 221) = some (obXA A8 B8 M8)) ∧ ((0 ≤ x1 ∧ x1 < 4) ∧ ((K.G.base ≤ x0 + 221) ∧ (K.S (some (vI 1)) (wset w4 (x0 + 221) (some (obXA A8 (upA B8 6 x1 none) M8))) z4 n4)))))))) ∧ (¬ 0 ≤ x3 → (K.S (some (vI ((-14)))) w4 z4 n4)))))) ∧ (¬ x3 ≤ 40 → (K.S (some (vI ((-2)))) w4 z4 n4))))))))))) ∧ (r1 = 0 → (K.S (some (vI ((-1)))) w1 z1 n1)))) : VX K mX0_row 0 [(0, .ref x0), (1, vI x1), (2, vI x2), (3, vI x3)] [] w sz n := by
  refine v_iload_n 1 dX0_row_0 rfl ?_
  refine x_callSI K (As := [vI x1]) dX0_row_1 LX0_653 rfl rfl (Nat.le_of_ble_eq_true rfl) h (fun r1 w1 z1 n1 h => ?_)
  obtain ⟨s2, h⟩ := h
  obtain ⟨ht, hf⟩ := h
  refine v_if_ne 9 dX0_row_4 (by decide) s2 (fun c => ?_) (fun c => ?_)
  · have h := ht c
    refine v_iload_n 2 dX0_row_9 rfl ?_
    obtain ⟨s3, h⟩ := h
    refine v_i2l dX0_row_10 s3 ?_
    refine v_ldc2 (z := (-1)) dX0_row_11 (by have h9 := q1586; rwa [show (-1 : Int64) = jL (-1) from by decide] at h9) ?_
    refine v_ldc2 (z := 2) dX0_row_14 q1587 ?_
    refine x_callSI K (As := [vL x2, vL ((-1)), vL 2]) dX0_row_17 LX0_142 rfl rfl (Nat.le_of_ble_eq_true rfl) h (fun r4 w4 z4 n4 h => ?_)
    obtain ⟨s5, h⟩ := h
    obtain ⟨ht, hf⟩ := h
    refine v_if_eq 33 dX0_row_20 (by decide) s5 (fun c => ?_) (fun c => ?_)
    · have h := ht c
      refine v_bipush dX0_row_33 rfl ?_
      exact x_iret K dX0_row_35 rfl h
    · have h := hf c
      refine v_iload_n 2 dX0_row_23 rfl ?_
      obtain ⟨ht, hf⟩ := h
      refine v_if_lt 36 dX0_row_24 (by decide) s3 (fun c => ?_) (fun c => ?_)
      · have h := ht c
        refine v_iload_n 2 dX0_row_36 rfl ?_
        obtain ⟨ht, hf⟩ := h
        refine v_if_lt 47 dX0_row_37 (by decide) s3 (fun c => ?_) (fun c => ?_)
        · have h := ht c
          refine v_aload_n 0 dX0_row_47 rfl (isR_ref _) ?_
          obtain ⟨F6, p6, hw6, h⟩ := h
          refine v_get (q := x0) (j := 0) (v := .ref (x0 + 221 + 66)) dX0_row_48 fX0_443 hw6 rfl (lay_X0 _ _ _) rfl ?_
          refine v_iload_n 1 dX0_row_51 rfl ?_
          refine v_iload_n 2 dX0_row_52 rfl ?_
          obtain ⟨ht, hf⟩ := h
          refine v_if_ge 60 dX0_row_53 (by decide) s3 (fun c => ?_) (fun c => ?_)
          · have h := ht c
            refine v_iload_n 2 dX0_row_60 rfl ?_
            obtain ⟨ht, hf⟩ := h
            refine v_if_ne 71 dX0_row_61 (by decide) s3 (fun c => ?_) (fun c => ?_)
            · have h := ht c
              refine v_iload_n 2 dX0_row_71 rfl ?_
              refine v_iconst dX0_row_72 ?_
              obtain ⟨ht, hf⟩ := h
              refine v_icmp_ne 83 dX0_row_73 (by decide) s3 (by decide) (fun c => ?_) (fun c => ?_)
              · have h := ht c
                refine v_iload_n 3 dX0_row_83 rfl ?_
                refine x_callSQ K (As := [vI x3]) dX0_row_84 LX0_667 rfl rfl (Nat.le_of_ble_eq_true rfl) h (fun r7 w7 z7 n7 h => ?_)
                obtain ⟨A8, B8, M8, hw8, h⟩ := h
                obtain ⟨s9, h⟩ := h
                obtain ⟨s10, h⟩ := h
                obtain ⟨s11, h⟩ := h
                refine v_aast (q := x0 + 221) (j := 66) (f := B8 6) (t := 4) (by decide) (obXA A8 (upA B8 6 x1 r7) M8) (r := r7) dX0_row_87 hw8 rfl (lay_XA 66 rfl) s9 (by decide) s11 (chg_XAq 66 _ _ rfl) s10 ?_
                refine v_iconst dX0_row_88 ?_
                exact x_iret K dX0_row_89 rfl h
              · have h := hf c
                refine v_iload_n 3 dX0_row_76 rfl ?_
                refine x_callSQ K (As := [vI x3]) dX0_row_77 LX0_664 rfl rfl (Nat.le_of_ble_eq_true rfl) h (fun r7 w7 z7 n7 h => ?_)
                refine v_goto 87 dX0_row_80 (by decide) ?_
                obtain ⟨A8, B8, M8, hw8, h⟩ := h
                obtain ⟨s9, h⟩ := h
                obtain ⟨s10, h⟩ := h
                obtain ⟨s11, h⟩ := h
                refine v_aast (q := x0 + 221) (j := 66) (f := B8 6) (t := 4) (by decide) (obXA A8 (upA B8 6 x1 r7) M8) (r := r7) dX0_row_87 hw8 rfl (lay_XA 66 rfl) s9 (by decide) s11 (chg_XAq 66 _ _ rfl) s10 ?_
                refine v_iconst dX0_row_88 ?_
                exact x_iret K dX0_row_89 rfl h
            · have h := hf c
              refine v_iload_n 3 dX0_row_64 rfl ?_
              refine x_callSQ K (As := [vI x3]) dX0_row_65 LX0_660 rfl rfl (Nat.le_of_ble_eq_true rfl) h (fun r7 w7 z7 n7 h => ?_)
              refine v_goto 87 dX0_row_68 (by decide) ?_
              obtain ⟨A8, B8, M8, hw8, h⟩ := h
              obtain ⟨s9, h⟩ := h
              obtain ⟨s10, h⟩ := h
              obtain ⟨s11, h⟩ := h
              refine v_aast (q := x0 + 221) (j := 66) (f := B8 6) (t := 4) (by decide) (obXA A8 (upA B8 6 x1 r7) M8) (r := r7) dX0_row_87 hw8 rfl (lay_XA 66 rfl) s9 (by decide) s11 (chg_XAq 66 _ _ rfl) s10 ?_
              refine v_iconst dX0_row_88 ?_
              exact x_iret K dX0_row_89 rfl h
          · have h := hf c
            refine v_null dX0_row_56 ?_
            refine v_goto 87 dX0_row_57 (by decide) ?_
            obtain ⟨A7, B7, M7, hw7, h⟩ := h
            obtain ⟨s8, h⟩ := h
            obtain ⟨s9, h⟩ := h
            refine v_aastN (q := x0 + 221) (j := 66) (f := B7 6) (t := 4) (by decide) (obXA A7 (upA B7 6 x1 none) M7) dX0_row_87 hw7 rfl (lay_XA 66 rfl) s8 (by decide) (chg_XAq 66 _ _ rfl) s9 ?_
            refine v_iconst dX0_row_88 ?_
            exact x_iret K dX0_row_89 rfl h
        · have h := hf c
          refine v_iload_n 3 dX0_row_40 rfl ?_
          obtain ⟨s6, h⟩ := h
          obtain ⟨ht, hf⟩ := h
          refine v_if_ge 47 dX0_row_41 (by decide) s6 (fun c => ?_) (fun c => ?_)
          · have h := ht c
            refine v_aload_n 0 dX0_row_47 rfl (isR_ref _) ?_
            obtain ⟨F7, p7, hw7, h⟩ := h
            refine v_get (q := x0) (j := 0) (v := .ref (x0 + 221 + 66)) dX0_row_48 fX0_443 hw7 rfl (lay_X0 _ _ _) rfl ?_
            refine v_iload_n 1 dX0_row_51 rfl ?_
            refine v_iload_n 2 dX0_row_52 rfl ?_
            obtain ⟨ht, hf⟩ := h
            refine v_if_ge 60 dX0_row_53 (by decide) s3 (fun c => ?_) (fun c => ?_)
            · have h := ht c
              refine v_iload_n 2 dX0_row_60 rfl ?_
              obtain ⟨ht, hf⟩ := h
              refine v_if_ne 71 dX0_row_61 (by decide) s3 (fun c => ?_) (fun c => ?_)
              · have h := ht c
                refine v_iload_n 2 dX0_row_71 rfl ?_
                refine v_iconst dX0_row_72 ?_
                obtain ⟨ht, hf⟩ := h
                refine v_icmp_ne 83 dX0_row_73 (by decide) s3 (by decide) (fun c => ?_) (fun c => ?_)
                · have h := ht c
                  refine v_iload_n 3 dX0_row_83 rfl ?_
                  refine x_callSQ K (As := [vI x3]) dX0_row_84 LX0_667 rfl rfl (Nat.le_of_ble_eq_true rfl) h (fun r8 w8 z8 n8 h => ?_)
                  obtain ⟨A9, B9, M9, hw9, h⟩ := h
                  obtain ⟨s10, h⟩ := h
                  obtain ⟨s11, h⟩ := h
                  obtain ⟨s12, h⟩ := h
                  refine v_aast (q := x0 + 221) (j := 66) (f := B9 6) (t := 4) (by decide) (obXA A9 (upA B9 6 x1 r8) M9) (r := r8) dX0_row_87 hw9 rfl (lay_XA 66 rfl) s10 (by decide) s12 (chg_XAq 66 _ _ rfl) s11 ?_
                  refine v_iconst dX0_row_88 ?_
                  exact x_iret K dX0_row_89 rfl h
                · have h := hf c
                  refine v_iload_n 3 dX0_row_76 rfl ?_
                  refine x_callSQ K (As := [vI x3]) dX0_row_77 LX0_664 rfl rfl (Nat.le_of_ble_eq_true rfl) h (fun r8 w8 z8 n8 h => ?_)
                  refine v_goto 87 dX0_row_80 (by decide) ?_
                  obtain ⟨A9, B9, M9, hw9, h⟩ := h
                  obtain ⟨s10, h⟩ := h
                  obtain ⟨s11, h⟩ := h
                  obtain ⟨s12, h⟩ := h
                  refine v_aast (q := x0 + 221) (j := 66) (f := B9 6) (t := 4) (by decide) (obXA A9 (upA B9 6 x1 r8) M9) (r := r8) dX0_row_87 hw9 rfl (lay_XA 66 rfl) s10 (by decide) s12 (chg_XAq 66 _ _ rfl) s11 ?_
                  refine v_iconst dX0_row_88 ?_
                  exact x_iret K dX0_row_89 rfl h
              · have h := hf c
                refine v_iload_n 3 dX0_row_64 rfl ?_
                refine x_callSQ K (As := [vI x3]) dX0_row_65 LX0_660 rfl rfl (Nat.le_of_ble_eq_true rfl) h (fun r8 w8 z8 n8 h => ?_)
                refine v_goto 87 dX0_row_68 (by decide) ?_
                obtain ⟨A9, B9, M9, hw9, h⟩ := h
                obtain ⟨s10, h⟩ := h
                obtain ⟨s11, h⟩ := h
                obtain ⟨s12, h⟩ := h
                refine v_aast (q := x0 + 221) (j := 66) (f := B9 6) (t := 4) (by decide) (obXA A9 (upA B9 6 x1 r8) M9) (r := r8) dX0_row_87 hw9 rfl (lay_XA 66 rfl) s10 (by decide) s12 (chg_XAq 66 _ _ rfl) s11 ?_
                refine v_iconst dX0_row_88 ?_
                exact x_iret K dX0_row_89 rfl h
            · have h := hf c
              refine v_null dX0_row_56 ?_
              refine v_goto 87 dX0_row_57 (by decide) ?_
              obtain ⟨A8, B8, M8, hw8, h⟩ := h
              obtain ⟨s9, h⟩ := h
              obtain ⟨s10, h⟩ := h
              refine v_aastN (q := x0 + 221) (j := 66) (f := B8 6) (t := 4) (by decide) (obXA A8 (upA B8 6 x1 none) M8) dX0_row_87 hw8 rfl (lay_XA 66 rfl) s9 (by decide) (chg_XAq 66 _ _ rfl) s10 ?_
              refine v_iconst dX0_row_88 ?_
              exact x_iret K dX0_row_89 rfl h
          · have h := hf c
            refine v_bipush dX0_row_44 rfl ?_
            exact x_iret K dX0_row_46 rfl h
      · have h := hf c
        refine v_iload_n 3 dX0_row_27 rfl ?_
        refine v_bipush dX0_row_28 rfl ?_
        obtain ⟨s6, h⟩ := h
        obtain ⟨ht, hf⟩ := h
        refine v_icmp_le 36 dX0_row_30 (by decide) s6 (by decide) (fun c => ?_) (fun c => ?_)
        · have h := ht c
          refine v_iload_n 2 dX0_row_36 rfl ?_
          obtain ⟨ht, hf⟩ := h
          refine v_if_lt 47 dX0_row_37 (by decide) s3 (fun c => ?_) (fun c => ?_)
          · have h := ht c
            refine v_aload_n 0 dX0_row_47 rfl (isR_ref _) ?_
            obtain ⟨F7, p7, hw7, h⟩ := h
            refine v_get (q := x0) (j := 0) (v := .ref (x0 + 221 + 66)) dX0_row_48 fX0_443 hw7 rfl (lay_X0 _ _ _) rfl ?_
            refine v_iload_n 1 dX0_row_51 rfl ?_
            refine v_iload_n 2 dX0_row_52 rfl ?_
            obtain ⟨ht, hf⟩ := h
            refine v_if_ge 60 dX0_row_53 (by decide) s3 (fun c => ?_) (fun c => ?_)
            · have h := ht c
              refine v_iload_n 2 dX0_row_60 rfl ?_
              obtain ⟨ht, hf⟩ := h
              refine v_if_ne 71 dX0_row_61 (by decide) s3 (fun c => ?_) (fun c => ?_)
              · have h := ht c
                refine v_iload_n 2 dX0_row_71 rfl ?_
                refine v_iconst dX0_row_72 ?_
                obtain ⟨ht, hf⟩ := h
                refine v_icmp_ne 83 dX0_row_73 (by decide) s3 (by decide) (fun c => ?_) (fun c => ?_)
                · have h := ht c
                  refine v_iload_n 3 dX0_row_83 rfl ?_
                  refine x_callSQ K (As := [vI x3]) dX0_row_84 LX0_667 rfl rfl (Nat.le_of_ble_eq_true rfl) h (fun r8 w8 z8 n8 h => ?_)
                  obtain ⟨A9, B9, M9, hw9, h⟩ := h
                  obtain ⟨s10, h⟩ := h
                  obtain ⟨s11, h⟩ := h
                  obtain ⟨s12, h⟩ := h
                  refine v_aast (q := x0 + 221) (j := 66) (f := B9 6) (t := 4) (by decide) (obXA A9 (upA B9 6 x1 r8) M9) (r := r8) dX0_row_87 hw9 rfl (lay_XA 66 rfl) s10 (by decide) s12 (chg_XAq 66 _ _ rfl) s11 ?_
                  refine v_iconst dX0_row_88 ?_
                  exact x_iret K dX0_row_89 rfl h
                · have h := hf c
                  refine v_iload_n 3 dX0_row_76 rfl ?_
                  refine x_callSQ K (As := [vI x3]) dX0_row_77 LX0_664 rfl rfl (Nat.le_of_ble_eq_true rfl) h (fun r8 w8 z8 n8 h => ?_)
                  refine v_goto 87 dX0_row_80 (by decide) ?_
                  obtain ⟨A9, B9, M9, hw9, h⟩ := h
                  obtain ⟨s10, h⟩ := h
                  obtain ⟨s11, h⟩ := h
                  obtain ⟨s12, h⟩ := h
                  refine v_aast (q := x0 + 221) (j := 66) (f := B9 6) (t := 4) (by decide) (obXA A9 (upA B9 6 x1 r8) M9) (r := r8) dX0_row_87 hw9 rfl (lay_XA 66 rfl) s10 (by decide) s12 (chg_XAq 66 _ _ rfl) s11 ?_
                  refine v_iconst dX0_row_88 ?_
                  exact x_iret K dX0_row_89 rfl h
              · have h := hf c
                refine v_iload_n 3 dX0_row_64 rfl ?_
                refine x_callSQ K (As := [vI x3]) dX0_row_65 LX0_660 rfl rfl (Nat.le_of_ble_eq_true rfl) h (fun r8 w8 z8 n8 h => ?_)
                refine v_goto 87 dX0_row_68 (by decide) ?_
                obtain ⟨A9, B9, M9, hw9, h⟩ := h
                obtain ⟨s10, h⟩ := h
                obtain ⟨s11, h⟩ := h
                obtain ⟨s12, h⟩ := h
                refine v_aast (q := x0 + 221) (j := 66) (f := B9 6) (t := 4) (by decide) (obXA A9 (upA B9 6 x1 r8) M9) (r := r8) dX0_row_87 hw9 rfl (lay_XA 66 rfl) s10 (by decide) s12 (chg_XAq 66 _ _ rfl) s11 ?_
                refine v_iconst dX0_row_88 ?_
                exact x_iret K dX0_row_89 rfl h
            · have h := hf c
              refine v_null dX0_row_56 ?_
              refine v_goto 87 dX0_row_57 (by decide) ?_
              obtain ⟨A8, B8, M8, hw8, h⟩ := h
              obtain ⟨s9, h⟩ := h
              obtain ⟨s10, h⟩ := h
              refine v_aastN (q := x0 + 221) (j := 66) (f := B8 6) (t := 4) (by decide) (obXA A8 (upA B8 6 x1 none) M8) dX0_row_87 hw8 rfl (lay_XA 66 rfl) s9 (by decide) (chg_XAq 66 _ _ rfl) s10 ?_
              refine v_iconst dX0_row_88 ?_
              exact x_iret K dX0_row_89 rfl h
          · have h := hf c
            refine v_iload_n 3 dX0_row_40 rfl ?_
            obtain ⟨ht, hf⟩ := h
            refine v_if_ge 47 dX0_row_41 (by decide) s6 (fun c => ?_) (fun c => ?_)
            · have h := ht c
              refine v_aload_n 0 dX0_row_47 rfl (isR_ref _) ?_
              obtain ⟨F7, p7, hw7, h⟩ := h
              refine v_get (q := x0) (j := 0) (v := .ref (x0 + 221 + 66)) dX0_row_48 fX0_443 hw7 rfl (lay_X0 _ _ _) rfl ?_
              refine v_iload_n 1 dX0_row_51 rfl ?_
              refine v_iload_n 2 dX0_row_52 rfl ?_
              obtain ⟨ht, hf⟩ := h
              refine v_if_ge 60 dX0_row_53 (by decide) s3 (fun c => ?_) (fun c => ?_)
              · have h := ht c
                refine v_iload_n 2 dX0_row_60 rfl ?_
                obtain ⟨ht, hf⟩ := h
                refine v_if_ne 71 dX0_row_61 (by decide) s3 (fun c => ?_) (fun c => ?_)
                · have h := ht c
                  refine v_iload_n 2 dX0_row_71 rfl ?_
                  refine v_iconst dX0_row_72 ?_
                  obtain ⟨ht, hf⟩ := h
                  refine v_icmp_ne 83 dX0_row_73 (by decide) s3 (by decide) (fun c => ?_) (fun c => ?_)
                  · have h := ht c
                    refine v_iload_n 3 dX0_row_83 rfl ?_
                    refine x_callSQ K (As := [vI x3]) dX0_row_84 LX0_667 rfl rfl (Nat.le_of_ble_eq_true rfl) h (fun r8 w8 z8 n8 h => ?_)
                    obtain ⟨A9, B9, M9, hw9, h⟩ := h
                    obtain ⟨s10, h⟩ := h
                    obtain ⟨s11, h⟩ := h
                    obtain ⟨s12, h⟩ := h
                    refine v_aast (q := x0 + 221) (j := 66) (f := B9 6) (t := 4) (by decide) (obXA A9 (upA B9 6 x1 r8) M9) (r := r8) dX0_row_87 hw9 rfl (lay_XA 66 rfl) s10 (by decide) s12 (chg_XAq 66 _ _ rfl) s11 ?_
                    refine v_iconst dX0_row_88 ?_
                    exact x_iret K dX0_row_89 rfl h
                  · have h := hf c
                    refine v_iload_n 3 dX0_row_76 rfl ?_
                    refine x_callSQ K (As := [vI x3]) dX0_row_77 LX0_664 rfl rfl (Nat.le_of_ble_eq_true rfl) h (fun r8 w8 z8 n8 h => ?_)
                    refine v_goto 87 dX0_row_80 (by decide) ?_
                    obtain ⟨A9, B9, M9, hw9, h⟩ := h
                    obtain ⟨s10, h⟩ := h
                    obtain ⟨s11, h⟩ := h
                    obtain ⟨s12, h⟩ := h
                    refine v_aast (q := x0 + 221) (j := 66) (f := B9 6) (t := 4) (by decide) (obXA A9 (upA B9 6 x1 r8) M9) (r := r8) dX0_row_87 hw9 rfl (lay_XA 66 rfl) s10 (by decide) s12 (chg_XAq 66 _ _ rfl) s11 ?_
                    refine v_iconst dX0_row_88 ?_
                    exact x_iret K dX0_row_89 rfl h
                · have h := hf c
                  refine v_iload_n 3 dX0_row_64 rfl ?_
                  refine x_callSQ K (As := [vI x3]) dX0_row_65 LX0_660 rfl rfl (Nat.le_of_ble_eq_true rfl) h (fun r8 w8 z8 n8 h => ?_)
                  refine v_goto 87 dX0_row_68 (by decide) ?_
                  obtain ⟨A9, B9, M9, hw9, h⟩ := h
                  obtain ⟨s10, h⟩ := h
                  obtain ⟨s11, h⟩ := h
                  obtain ⟨s12, h⟩ := h
                  refine v_aast (q := x0 + 221) (j := 66) (f := B9 6) (t := 4) (by decide) (obXA A9 (upA B9 6 x1 r8) M9) (r := r8) dX0_row_87 hw9 rfl (lay_XA 66 rfl) s10 (by decide) s12 (chg_XAq 66 _ _ rfl) s11 ?_
                  refine v_iconst dX0_row_88 ?_
                  exact x_iret K dX0_row_89 rfl h
              · have h := hf c
                refine v_null dX0_row_56 ?_
                refine v_goto 87 dX0_row_57 (by decide) ?_
                obtain ⟨A8, B8, M8, hw8, h⟩ := h
                obtain ⟨s9, h⟩ := h
                obtain ⟨s10, h⟩ := h
                refine v_aastN (q := x0 + 221) (j := 66) (f := B8 6) (t := 4) (by decide) (obXA A8 (upA B8 6 x1 none) M8) dX0_row_87 hw8 rfl (lay_XA 66 rfl) s9 (by decide) (chg_XAq 66 _ _ rfl) s10 ?_
                refine v_iconst dX0_row_88 ?_
                exact x_iret K dX0_row_89 rfl h
            · have h := hf c
              refine v_bipush dX0_row_44 rfl ?_
              exact x_iret K dX0_row_46 rfl h
        · have h := hf c
          refine v_bipush dX0_row_33 rfl ?_
          exact x_iret K dX0_row_35 rfl h
  · have h := hf c
    refine v_iconst dX0_row_7 ?_
    exact x_iret K dX0_row_8 rfl h
/-! BranchNames.isRow -/
theorem wX0_isRow_0 (K : KV) {x0 : Int} {w : Wd} {sz n : Nat} (h : (rI x0) ∧ (CI mX0_isIn K [vL x0, vL 0, vL 3] w sz n fun r2 w2 z2 n2 => (r2 = 0 ∨ r2 = 1) ∧ (K.S (some (vI r2)) w2 z2 n2))) : VX K mX0_isRow 0 [(0, vI x0)] [] w sz n := by
  refine v_iload_n 0 dX0_isRow_0 rfl ?_
  obtain ⟨s1, h⟩ := h
  refine v_i2l dX0_isRow_1 s1 ?_
  refine v_lconst (z := 0) dX0_isRow_2 rfl ?_
  refine v_ldc2 (z := 3) dX0_isRow_3 q1585 ?_
  refine x_callSI K (As := [vL x0, vL 0, vL 3]) dX0_isRow_6 LX0_142 rfl rfl (Nat.le_of_ble_eq_true rfl) h (fun r2 w2 z2 n2 h => ?_)
  obtain ⟨s3, h⟩ := h
  exact x_zret K dX0_isRow_9 rfl s3 h
/-! BranchNames.ints -/
theorem wX0_ints_0 (K : KV) {x0 : Int} {w : Wd} {sz n : Nat} (h : (w sz = none) ∧ (CV mX13_init K [.ref sz, vI x0] (wset w sz (some (obR 12 nF nP))) (sz + 1) (n + 2) fun w2 z2 n2 => K.S (some (va_rf (some sz))) w2 z2 n2)) : VX K mX0_ints 0 [(0, vI x0)] [] w sz n := by
  obtain ⟨s1, h⟩ := h
  refine v_new K (ci := 12) (C := RX13) (T := TX13) (N := 2) tyX13 dX0_ints_0 (by decide) rfl in_X13 tyX13_ok q1591 q1592 q183 nw12 s1 ?_
  refine v_dup dX0_ints_3 rfl ?_
  refine v_iload_n 0 dX0_ints_4 rfl ?_
  refine x_callIV K (As := [vI x0]) dX0_ints_5 LX0_643 rfl rfl (Nat.le_of_ble_eq_true rfl) h (fun w2 z2 n2 h => ?_)
  exact x_aret K (r := some sz) dX0_ints_8 rfl (by first | exact Or.inl ⟨_, rfl⟩ | exact Or.inr ⟨_, rfl⟩) h
/-! BranchNames.longs -/
theorem wX0_longs_0 (K : KV) {x0 : Int} {w : Wd} {sz n : Nat} (h : (w sz = none) ∧ (CV mX14_init K [.ref sz, vI x0] (wset w sz (some (obR 13 nF nP))) (sz + 1) (n + 2) fun w2 z2 n2 => K.S (some (va_rf (some sz))) w2 z2 n2)) : VX K mX0_longs 0 [(0, vI x0)] [] w sz n := by
  obtain ⟨s1, h⟩ := h
  refine v_new K (ci := 13) (C := RX14) (T := TX14) (N := 2) tyX14 dX0_longs_0 (by decide) rfl in_X14 tyX14_ok q1607 q1608 q184 nw13 s1 ?_
  refine v_dup dX0_longs_3 rfl ?_
  refine v_iload_n 0 dX0_longs_4 rfl ?_
  refine x_callIV K (As := [vI x0]) dX0_longs_5 LX0_647 rfl rfl (Nat.le_of_ble_eq_true rfl) h (fun w2 z2 n2 h => ?_)
  exact x_aret K (r := some sz) dX0_longs_8 rfl (by first | exact Or.inl ⟨_, rfl⟩ | exact Or.inr ⟨_, rfl⟩) h
/-! BranchNames.bytes -/
theorem wX0_bytes_0 (K : KV) {x0 : Int} {w : Wd} {sz n : Nat} (h : (w sz = none) ∧ (CV mX15_init K [.ref sz, vI x0] (wset w sz (some (obR 14 nF nP))) (sz + 1) (n + 2) fun w2 z2 n2 => K.S (some (va_rf (some sz))) w2 z2 n2)) : VX K mX0_bytes 0 [(0, vI x0)] [] w sz n := by
  obtain ⟨s1, h⟩ := h
  refine v_new K (ci := 14) (C := RX15) (T := TX15) (N := 2) tyX15 dX0_bytes_0 (by decide) rfl in_X15 tyX15_ok q1623 q1624 q185 nw14 s1 ?_
  refine v_dup dX0_bytes_3 rfl ?_
  refine v_iload_n 0 dX0_bytes_4 rfl ?_
  refine x_callIV K (As := [vI x0]) dX0_bytes_5 LX0_650 rfl rfl (Nat.le_of_ble_eq_true rfl) h (fun w2 z2 n2 h => ?_)
  exact x_aret K (r := some sz) dX0_bytes_8 rfl (by first | exact Or.inl ⟨_, rfl⟩ | exact Or.inr ⟨_, rfl⟩) h
/-! BranchNames.put -/
theorem wX0_put_0 (K : KV) {x1 x2 x3 : Int} {x0 : Nat} {w : Wd} {sz n : Nat} (h : CI mX0_isRow K [vI x1] w sz n fun r1 w1 z1 n1 => (rI r1) ∧ ((¬ r1 = 0 → (∃ (F3 : Nat → Int) (p3 : Nat), (w1 x0 = some (obX x0 F3 p3)) ∧ (∃ (A4 : Nat → Int → Int) (B4 : Nat → Int → Option Nat) (M4 : Nat → Int → Int → Int), (w1 (x0 + 221) = some (obXA A4 B4 M4)) ∧ ((0 ≤ x1 ∧ x1 < 4) ∧ ((B4 6 x1 = none → (K.S (some (vI ((-11)))) w1 z1 n1)) ∧ (∀ a6 : Nat, B4 6 x1 = some a6 → ((rI x2) ∧ (∃ (a8 : Nat), (B4 6 x1 = some a8) ∧ (CFI ({ cls := "BranchNames$Items", name := "many", desc := "()I" } : MethodName) 0 K [.ref a8] w1 z1 n1 fun r9 w9 z9 n9 => (rI (r9 - 1)) ∧ (CI mX0_isIn K [vL x2, vL 0, vL (r9 - 1)] w9 z9 n9 fun r11 w11 z11 n11 => (rI r11) ∧ ((¬ r11 = 0 → (∃ (F13 : Nat → Int) (p13 : Nat), (w11 x0 = some (obX x0 F13 p13)) ∧ (∃ (A14 : Nat → Int → Int) (B14 : Nat → Int → Option Nat) (M14 : Nat → Int → Int → Int), (w11 (x0 + 221) = some (obXA A14 B14 M14)) ∧ (∃ (a15 : Nat), (B14 6 x1 = some a15) ∧ (CFV ({ cls := "BranchNames$Items", name := "lays", desc := "(IJ)V" } : MethodName) 2 K [.ref a15, vI x2, vL x3] w11 z11 n11 fun w16 z16 n16 => K.S (some (vI 1)) w16 z16 n16))))) ∧ (r11 = 0 → (K.S (some (vI ((-13)))) w11 z11 n11))))))))))))) ∧ (r1 = 0 → (K.S (some (vI ((-1)))) w1 z1 n1)))) : VX K mX0_put 0 [(0, .ref x0), (1, vI x1), (2, vI x2), (3, vL x3)] [] w sz n := by
  refine v_iload_n 1 dX0_put_0 rfl ?_
  refine x_callSI K (As := [vI x1]) dX0_put_1 LX0_653 rfl rfl (Nat.le_of_ble_eq_true rfl) h (fun r1 w1 z1 n1 h => ?_)
  obtain ⟨s2, h⟩ := h
  obtain ⟨ht, hf⟩ := h
  refine v_if_ne 9 dX0_put_4 (by decide) s2 (fun c => ?_) (fun c => ?_)
  · have h := ht c
    refine v_aload_n 0 dX0_put_9 rfl (isR_ref _) ?_
    obtain ⟨F3, p3, hw3, h⟩ := h
    refine v_get (q := x0) (j := 0) (v := .ref (x0 + 221 + 66)) dX0_put_10 fX0_443 hw3 rfl (lay_X0 _ _ _) rfl ?_
    refine v_iload_n 1 dX0_put_13 rfl ?_
    obtain ⟨A4, B4, M4, hw4, h⟩ := h
    obtain ⟨s5, h⟩ := h
    refine v_aaldQ (q := x0 + 221) (j := 66) (f := B4 6) (t := 4) (by decide) dX0_put_14 hw4 rfl (lay_XA 66 rfl) s5 (by decide) ?_
    obtain ⟨hn, hs⟩ := h
    refine v_ifnonnull (r := B4 6 x1) 21 dX0_put_15 (by decide) (fun a6 c => ?_) (fun c => ?_)
    · have h := hs _ c
      try rw [c]
      refine v_iload_n 2 dX0_put_21 rfl ?_
      obtain ⟨s7, h⟩ := h
      refine v_i2l dX0_put_22 s7 ?_
      refine v_lconst (z := 0) dX0_put_23 rfl ?_
      refine v_aload_n 0 dX0_put_24 rfl (isR_ref _) ?_
      refine v_get (q := x0) (j := 0) (v := .ref (x0 + 221 + 66)) dX0_put_25 fX0_443 hw3 rfl (lay_X0 _ _ _) rfl ?_
      refine v_iload_n 1 dX0_put_28 rfl ?_
      refine v_aaldQ (q := x0 + 221) (j := 66) (f := B4 6) (t := 4) (by decide) dX0_put_29 hw4 rfl (lay_XA 66 rfl) s5 (by decide) ?_
      obtain ⟨a8, ea8, h⟩ := h
      rw [ea8]
      refine x_callFI K (As := []) dX0_put_30 q1641 rfl rfl (Nat.le_of_ble_eq_true rfl) h (fun r9 w9 z9 n9 h => ?_)
      refine v_iconst dX0_put_35 ?_
      refine v_isub dX0_put_36 ?_
      obtain ⟨s10, h⟩ := h
      refine v_i2l dX0_put_37 s10 ?_
      refine x_callSI K (As := [vL x2, vL 0, vL (r9 - 1)]) dX0_put_38 LX0_142 rfl rfl (Nat.le_of_ble_eq_true rfl) h (fun r11 w11 z11 n11 h => ?_)
      obtain ⟨s12, h⟩ := h
      obtain ⟨ht, hf⟩ := h
      refine v_if_ne 47 dX0_put_41 (by decide) s12 (fun c => ?_) (fun c => ?_)
      · have h := ht c
        refine v_aload_n 0 dX0_put_47 rfl (isR_ref _) ?_
        obtain ⟨F13, p13, hw13, h⟩ := h
        refine v_get (q := x0) (j := 0) (v := .ref (x0 + 221 + 66)) dX0_put_48 fX0_443 hw13 rfl (lay_X0 _ _ _) rfl ?_
        refine v_iload_n 1 dX0_put_51 rfl ?_
        obtain ⟨A14, B14, M14, hw14, h⟩ := h
        refine v_aaldQ (q := x0 + 221) (j := 66) (f := B14 6) (t := 4) (by decide) dX0_put_52 hw14 rfl (lay_XA 66 rfl) s5 (by decide) ?_
        refine v_iload_n 2 dX0_put_53 rfl ?_
        refine v_lload_n 3 dX0_put_54 rfl ?_
        obtain ⟨a15, ea15, h⟩ := h
        rw [ea15]
        refine x_callFV K (As := [vI x2, vL x3]) dX0_put_55 q1663 rfl rfl (Nat.le_of_ble_eq_true rfl) h (fun w16 z16 n16 h => ?_)
        refine v_iconst dX0_put_60 ?_
        exact x_iret K dX0_put_61 rfl h
      · have h := hf c
        refine v_bipush dX0_put_44 rfl ?_
        exact x_iret K dX0_put_46 rfl h
    · have h := hn c
      try rw [c]
      refine v_bipush dX0_put_18 rfl ?_
      exact x_iret K dX0_put_20 rfl h
  · have h := hf c
    refine v_iconst dX0_put_7 ?_
    exact x_iret K dX0_put_8 rfl h
/-! BranchNames.get -/
theorem wX0_get_0 (K : KV) {x1 x2 : Int} {x0 : Nat} {w : Wd} {sz n : Nat} (h : CI mX0_isRow K [vI x1] w sz n fun r1 w1 z1 n1 => (rI r1) ∧ ((r1 = 0 → (K.S (some (vL ((-9223372036854775808)))) w1 z1 n1)) ∧ (¬ r1 = 0 → (∃ (F3 : Nat → Int) (p3 : Nat), (w1 x0 = some (obX x0 F3 p3)) ∧ (∃ (A4 : Nat → Int → Int) (B4 : Nat → Int → Option Nat) (M4 : Nat → Int → Int → Int), (w1 (x0 + 221) = some (obXA A4 B4 M4)) ∧ ((0 ≤ x1 ∧ x1 < 4) ∧ ((B4 6 x1 = none → (K.S (some (vL ((-9223372036854775808)))) w1 z1 n1)) ∧ (∀ a6 : Nat, B4 6 x1 = some a6 → ((rI x2) ∧ (∃ (a8 : Nat), (B4 6 x1 = some a8) ∧ (CFI ({ cls := "BranchNames$Items", name := "many", desc := "()I" } : MethodName) 0 K [.ref a8] w1 z1 n1 fun r9 w9 z9 n9 => (rI (r9 - 1)) ∧ (CI mX0_isIn K [vL x2, vL 0, vL (r9 - 1)] w9 z9 n9 fun r11 w11 z11 n11 => (rI r11) ∧ ((r11 = 0 → (K.S (some (vL ((-9223372036854775808)))) w11 z11 n11)) ∧ (¬ r11 = 0 → (∃ (F13 : Nat → Int) (p13 : Nat), (w11 x0 = some (obX x0 F13 p13)) ∧ (∃ (A14 : Nat → Int → Int) (B14 : Nat → Int → Option Nat) (M14 : Nat → Int → Int → Int), (w11 (x0 + 221) = some (obXA A14 B14 M14)) ∧ (∃ (a15 : Nat), (B14 6 x1 = some a15) ∧ (CFL ({ cls := "BranchNames$Items", name := "at", desc := "(I)J" } : MethodName) 1 K [.ref a15, vI x2] w11 z11 n11 fun r16 w16 z16 n16 => K.S (some (vL r16)) w16 z16 n16)))))))))))))))))) : VX K mX0_get 0 [(0, .ref x0), (1, vI x1), (2, vI x2)] [] w sz n := by
  refine v_iload_n 1 dX0_get_0 rfl ?_
  refine x_callSI K (As := [vI x1]) dX0_get_1 LX0_653 rfl rfl (Nat.le_of_ble_eq_true rfl) h (fun r1 w1 z1 n1 h => ?_)
  obtain ⟨s2, h⟩ := h
  obtain ⟨ht, hf⟩ := h
  refine v_if_eq 54 dX0_get_4 (by decide) s2 (fun c => ?_) (fun c => ?_)
  · have h := ht c
    refine v_ldc2 (z := (-9223372036854775808)) dX0_get_54 (by have h9 := q871; rwa [show (-9223372036854775808 : Int64) = jL (-9223372036854775808) from by decide] at h9) ?_
    exact v_lret dX0_get_57 rfl h
  · have h := hf c
    refine v_aload_n 0 dX0_get_7 rfl (isR_ref _) ?_
    obtain ⟨F3, p3, hw3, h⟩ := h
    refine v_get (q := x0) (j := 0) (v := .ref (x0 + 221 + 66)) dX0_get_8 fX0_443 hw3 rfl (lay_X0 _ _ _) rfl ?_
    refine v_iload_n 1 dX0_get_11 rfl ?_
    obtain ⟨A4, B4, M4, hw4, h⟩ := h
    obtain ⟨s5, h⟩ := h
    refine v_aaldQ (q := x0 + 221) (j := 66) (f := B4 6) (t := 4) (by decide) dX0_get_12 hw4 rfl (lay_XA 66 rfl) s5 (by decide) ?_
    obtain ⟨hn, hs⟩ := h
    refine v_ifnull (r := B4 6 x1) 54 dX0_get_13 (by decide) (fun c => ?_) (fun a6 c => ?_)
    · have h := hn c
      try rw [c]
      refine v_ldc2 (z := (-9223372036854775808)) dX0_get_54 (by have h9 := q871; rwa [show (-9223372036854775808 : Int64) = jL (-9223372036854775808) from by decide] at h9) ?_
      exact v_lret dX0_get_57 rfl h
    · have h := hs _ c
      try rw [c]
      refine v_iload_n 2 dX0_get_16 rfl ?_
      obtain ⟨s7, h⟩ := h
      refine v_i2l dX0_get_17 s7 ?_
      refine v_lconst (z := 0) dX0_get_18 rfl ?_
      refine v_aload_n 0 dX0_get_19 rfl (isR_ref _) ?_
      refine v_get (q := x0) (j := 0) (v := .ref (x0 + 221 + 66)) dX0_get_20 fX0_443 hw3 rfl (lay_X0 _ _ _) rfl ?_
      refine v_iload_n 1 dX0_get_23 rfl ?_
      refine v_aaldQ (q := x0 + 221) (j := 66) (f := B4 6) (t := 4) (by decide) dX0_get_24 hw4 rfl (lay_XA 66 rfl) s5 (by decide) ?_
      obtain ⟨a8, ea8, h⟩ := h
      rw [ea8]
      refine x_callFI K (As := []) dX0_get_25 q1641 rfl rfl (Nat.le_of_ble_eq_true rfl) h (fun r9 w9 z9 n9 h => ?_)
      refine v_iconst dX0_get_30 ?_
      refine v_isub dX0_get_31 ?_
      obtain ⟨s10, h⟩ := h
      refine v_i2l dX0_get_32 s10 ?_
      refine x_callSI K (As := [vL x2, vL 0, vL (r9 - 1)]) dX0_get_33 LX0_142 rfl rfl (Nat.le_of_ble_eq_true rfl) h (fun r11 w11 z11 n11 h => ?_)
      obtain ⟨s12, h⟩ := h
      obtain ⟨ht, hf⟩ := h
      refine v_if_eq 54 dX0_get_36 (by decide) s12 (fun c => ?_) (fun c => ?_)
      · have h := ht c
        refine v_ldc2 (z := (-9223372036854775808)) dX0_get_54 (by have h9 := q871; rwa [show (-9223372036854775808 : Int64) = jL (-9223372036854775808) from by decide] at h9) ?_
        exact v_lret dX0_get_57 rfl h
      · have h := hf c
        refine v_aload_n 0 dX0_get_39 rfl (isR_ref _) ?_
        obtain ⟨F13, p13, hw13, h⟩ := h
        refine v_get (q := x0) (j := 0) (v := .ref (x0 + 221 + 66)) dX0_get_40 fX0_443 hw13 rfl (lay_X0 _ _ _) rfl ?_
        refine v_iload_n 1 dX0_get_43 rfl ?_
        obtain ⟨A14, B14, M14, hw14, h⟩ := h
        refine v_aaldQ (q := x0 + 221) (j := 66) (f := B14 6) (t := 4) (by decide) dX0_get_44 hw14 rfl (lay_XA 66 rfl) s5 (by decide) ?_
        refine v_iload_n 2 dX0_get_45 rfl ?_
        obtain ⟨a15, ea15, h⟩ := h
        rw [ea15]
        refine x_callFL K (As := [vI x2]) dX0_get_46 q1686 rfl rfl (Nat.le_of_ble_eq_true rfl) h (fun r16 w16 z16 n16 h => ?_)
        refine v_goto 57 dX0_get_51 (by decide) ?_
        exact v_lret dX0_get_57 rfl h
/-! BranchNames.fill -/
theorem wX0_fill_0 (K : KV) {x1 x2 : Int} {x0 : Nat} {w : Wd} {sz n : Nat} (h : CI mX0_isRow K [vI x1] w sz n fun r1 w1 z1 n1 => (rI r1) ∧ ((r1 = 0 → (K.S (some (vI ((-1)))) w1 z1 n1)) ∧ (¬ r1 = 0 → (∃ (F3 : Nat → Int) (p3 : Nat), (w1 x0 = some (obX x0 F3 p3)) ∧ (CI mX0_isList K [.ref x0, vI x2] w1 z1 n1 fun r4 w4 z4 n4 => (rI r4) ∧ ((¬ r4 = 0 → (∃ (F6 : Nat → Int) (p6 : Nat), (w4 x0 = some (obX x0 F6 p6)) ∧ (∃ (A7 : Nat → Int → Int) (B7 : Nat → Int → Option Nat) (M7 : Nat → Int → Int → Int), (w4 (x0 + 221) = some (obXA A7 B7 M7)) ∧ ((0 ≤ x1 ∧ x1 < 4) ∧ ((B7 6 x1 = none → (K.S (some (vI ((-11)))) w4 z4 n4)) ∧ (∀ a9 : Nat, B7 6 x1 = some a9 → (∃ (a10 : Nat), (B7 6 x1 = some a10) ∧ (CFI ({ cls := "BranchNames$Items", name := "sort", desc := "()I" } : MethodName) 0 K [.ref a10] w4 z4 n4 fun r11 w11 z11 n11 => (rI r11) ∧ ((¬ r11 = 2 → (∃ (F13 : Nat → Int) (p13 : Nat), (w11 x0 = some (obX x0 F13 p13)) ∧ (∃ (A14 : Nat → Int → Int) (B14 : Nat → Int → Option Nat) (M14 : Nat → Int → Int → Int), (w11 (x0 + 221) = some (obXA A14 B14 M14)) ∧ (∃ (a15 : Nat), (B14 6 x1 = some a15) ∧ (CFI ({ cls := "BranchNames$Items", name := "many", desc := "()I" } : MethodName) 0 K [.ref a15] w11 z11 n11 fun r16 w16 z16 n16 => ∃ (F17 : Nat → Int) (p17 : Nat), (w16 x0 = some (obX x0 F17 p17)) ∧ (∃ (A18 : Nat → Int → Int) (B18 : Nat → Int → Option Nat) (M18 : Nat → Int → Int → Int), (w16 (x0 + 221) = some (obXA A18 B18 M18)) ∧ ((0 ≤ x2 ∧ x2 < 11) ∧ (∃ (a20 : Nat), (B18 0 x2 = some a20) ∧ (∃ (l21 : Nat) (f21 : Int → Int), (w16 a20 = some (obA 0 l21 f21)) ∧ ((rI r16) ∧ ((rI (((l21 : Nat) : Int))) ∧ ((1 ≤ K.d) ∧ (VX K mX0_fill 72 [(0, .ref x0), (1, vI x1), (2, vI x2), (3, vI (min r16 (((l21 : Nat) : Int)))), (4, vI 0)] [] w16 z16 n16))))))))))))) ∧ (r11 = 2 → (K.S (some (vI ((-12)))) w11 z11 n11))))))))))) ∧ (r4 = 0 → (K.S (some (vI ((-1)))) w4 z4 n4)))))))) : VX K mX0_fill 0 [(0, .ref x0), (1, vI x1), (2, vI x2)] [] w sz n := by
  refine v_iload_n 1 dX0_fill_0 rfl ?_
  refine x_callSI K (As := [vI x1]) dX0_fill_1 LX0_653 rfl rfl (Nat.le_of_ble_eq_true rfl) h (fun r1 w1 z1 n1 h => ?_)
  obtain ⟨s2, h⟩ := h
  obtain ⟨ht, hf⟩ := h
  refine v_if_eq 15 dX0_fill_4 (by decide) s2 (fun c => ?_) (fun c => ?_)
  · have h := ht c
    refine v_iconst dX0_fill_15 ?_
    exact x_iret K dX0_fill_16 rfl h
  · have h := hf c
    refine v_aload_n 0 dX0_fill_7 rfl (isR_ref _) ?_
    refine v_iload_n 2 dX0_fill_8 rfl ?_
    obtain ⟨F3, p3, hw3, h⟩ := h
    refine x_callVI K (As := [vI x2]) dX0_fill_9 LX0_146 rfl rfl (Nat.le_of_ble_eq_true rfl) (rc_of hw3 (lay_X0 _ _ _) rfl) h (fun r4 w4 z4 n4 h => ?_)
    obtain ⟨s5, h⟩ := h
    obtain ⟨ht, hf⟩ := h
    refine v_if_ne 17 dX0_fill_12 (by decide) s5 (fun c => ?_) (fun c => ?_)
    · have h := ht c
      refine v_aload_n 0 dX0_fill_17 rfl (isR_ref _) ?_
      obtain ⟨F6, p6, hw6, h⟩ := h
      refine v_get (q := x0) (j := 0) (v := .ref (x0 + 221 + 66)) dX0_fill_18 fX0_443 hw6 rfl (lay_X0 _ _ _) rfl ?_
      refine v_iload_n 1 dX0_fill_21 rfl ?_
      obtain ⟨A7, B7, M7, hw7, h⟩ := h
      obtain ⟨s8, h⟩ := h
      refine v_aaldQ (q := x0 + 221) (j := 66) (f := B7 6) (t := 4) (by decide) dX0_fill_22 hw7 rfl (lay_XA 66 rfl) s8 (by decide) ?_
      obtain ⟨hn, hs⟩ := h
      refine v_ifnonnull (r := B7 6 x1) 29 dX0_fill_23 (by decide) (fun a9 c => ?_) (fun c => ?_)
      · have h := hs _ c
        try rw [c]
        refine v_aload_n 0 dX0_fill_29 rfl (isR_ref _) ?_
        refine v_get (q := x0) (j := 0) (v := .ref (x0 + 221 + 66)) dX0_fill_30 fX0_443 hw6 rfl (lay_X0 _ _ _) rfl ?_
        refine v_iload_n 1 dX0_fill_33 rfl ?_
        refine v_aaldQ (q := x0 + 221) (j := 66) (f := B7 6) (t := 4) (by decide) dX0_fill_34 hw7 rfl (lay_XA 66 rfl) s8 (by decide) ?_
        obtain ⟨a10, ea10, h⟩ := h
        rw [ea10]
        refine x_callFI K (As := []) dX0_fill_35 q1709 rfl rfl (Nat.le_of_ble_eq_true rfl) h (fun r11 w11 z11 n11 h => ?_)
        refine v_iconst dX0_fill_40 ?_
        obtain ⟨s12, h⟩ := h
        obtain ⟨ht, hf⟩ := h
        refine v_icmp_ne 47 dX0_fill_41 (by decide) s12 (by decide) (fun c => ?_) (fun c => ?_)
        · have h := ht c
          refine v_aload_n 0 dX0_fill_47 rfl (isR_ref _) ?_
          obtain ⟨F13, p13, hw13, h⟩ := h
          refine v_get (q := x0) (j := 0) (v := .ref (x0 + 221 + 66)) dX0_fill_48 fX0_443 hw13 rfl (lay_X0 _ _ _) rfl ?_
          refine v_iload_n 1 dX0_fill_51 rfl ?_
          obtain ⟨A14, B14, M14, hw14, h⟩ := h
          refine v_aaldQ (q := x0 + 221) (j := 66) (f := B14 6) (t := 4) (by decide) dX0_fill_52 hw14 rfl (lay_XA 66 rfl) s8 (by decide) ?_
          obtain ⟨a15, ea15, h⟩ := h
          rw [ea15]
          refine x_callFI K (As := []) dX0_fill_53 q1641 rfl rfl (Nat.le_of_ble_eq_true rfl) h (fun r16 w16 z16 n16 h => ?_)
          refine v_aload_n 0 dX0_fill_58 rfl (isR_ref _) ?_
          obtain ⟨F17, p17, hw17, h⟩ := h
          refine v_get (q := x0) (j := 0) (v := .ref (x0 + 221 + 31)) dX0_fill_59 fX0_108 hw17 rfl (lay_X0 _ _ _) rfl ?_
          refine v_iload_n 2 dX0_fill_62 rfl ?_
          obtain ⟨A18, B18, M18, hw18, h⟩ := h
          obtain ⟨s19, h⟩ := h
          refine v_aaldQ (q := x0 + 221) (j := 31) (f := B18 0) (t := 8) (by decide) dX0_fill_63 hw18 rfl (lay_XA 31 rfl) s19 (by decide) ?_
          obtain ⟨a20, ea20, h⟩ := h
          rw [ea20]
          obtain ⟨l21, f21, hw21, h⟩ := h
          refine v_alen (q := a20) (j := 0) dX0_fill_64 hw21 rfl (lay_AI _ _ _) (by decide) ?_
          obtain ⟨s22, h⟩ := h
          obtain ⟨s23, h⟩ := h
          obtain ⟨s24, h⟩ := h
          refine v_mmin dX0_fill_65 q524 s22 s23 s24 (Nat.le_of_ble_eq_true rfl) ?_
          refine v_istore_n dX0_fill_68 (by decide) rfl ?_
          refine v_iconst dX0_fill_69 ?_
          refine v_istore dX0_fill_70 (by decide) rfl ?_
          refine V.sub [2, 3, 4, 1, 0] rfl ?_
          exact h
        · have h := hf c
          refine v_bipush dX0_fill_44 rfl ?_
          exact x_iret K dX0_fill_46 rfl h
      · have h := hn c
        try rw [c]
        refine v_bipush dX0_fill_26 rfl ?_
        exact x_iret K dX0_fill_28 rfl h
    · have h := hf c
      refine v_iconst dX0_fill_15 ?_
      exact x_iret K dX0_fill_16 rfl h
theorem wX0_fill_72 (K : KV) {x1 x2 x3 x4 : Int} {x0 : Nat} {w : Wd} {sz n : Nat} (h : (rI x4) ∧ ((rI x3) ∧ ((x3 ≤ x4 → (K.S (some (vI x3)) w sz n)) ∧ (¬ x3 ≤ x4 → (∃ (F3 : Nat → Int) (p3 : Nat), (w x0 = some (obX x0 F3 p3)) ∧ (∃ (A4 : Nat → Int → Int) (B4 : Nat → Int → Option Nat) (M4 : Nat → Int → Int → Int), (w (x0 + 221) = some (obXA A4 B4 M4)) ∧ ((0 ≤ x1 ∧ x1 < 4) ∧ ((0 ≤ x2 ∧ x2 < 11) ∧ (∃ (a7 : Nat), (B4 0 x2 = some a7) ∧ (∃ (l8 : Nat) (f8 : Int → Int), (w a7 = some (obA 0 l8 f8)) ∧ ((0 ≤ x4 ∧ x4 < ((l8 : Nat) : Int)) ∧ ((l8 < 2147483648) ∧ ((rI (f8 x4)) ∧ (∃ (a12 : Nat), (B4 6 x1 = some a12) ∧ (CFV ({ cls := "BranchNames$Items", name := "lays", desc := "(IJ)V" } : MethodName) 2 K [.ref a12, vI x4, vL (f8 x4)] w sz n fun w13 z13 n13 => VX K mX0_fill 72 [(0, .ref x0), (1, vI x1), (2, vI x2), (3, vI x3), (4, vI (x4 + 1))] [] w13 z13 n13))))))))))))))) : VX K mX0_fill 72 [(0, .ref x0), (1, vI x1), (2, vI x2), (3, vI x3), (4, vI x4)] [] w sz n := by
  refine v_iload 4 dX0_fill_72 rfl ?_
  refine v_iload_n 3 dX0_fill_74 rfl ?_
  obtain ⟨s1, h⟩ := h
  obtain ⟨s2, h⟩ := h
  obtain ⟨ht, hf⟩ := h
  refine v_icmp_ge 107 dX0_fill_75 (by decide) s1 s2 (fun c => ?_) (fun c => ?_)
  · have h := ht c
    refine v_iload_n 3 dX0_fill_107 rfl ?_
    exact x_iret K dX0_fill_108 rfl h
  · have h := hf c
    refine v_aload_n 0 dX0_fill_78 rfl (isR_ref _) ?_
    obtain ⟨F3, p3, hw3, h⟩ := h
    refine v_get (q := x0) (j := 0) (v := .ref (x0 + 221 + 66)) dX0_fill_79 fX0_443 hw3 rfl (lay_X0 _ _ _) rfl ?_
    refine v_iload_n 1 dX0_fill_82 rfl ?_
    obtain ⟨A4, B4, M4, hw4, h⟩ := h
    obtain ⟨s5, h⟩ := h
    refine v_aaldQ (q := x0 + 221) (j := 66) (f := B4 6) (t := 4) (by decide) dX0_fill_83 hw4 rfl (lay_XA 66 rfl) s5 (by decide) ?_
    refine v_iload 4 dX0_fill_84 rfl ?_
    refine v_aload_n 0 dX0_fill_86 rfl (isR_ref _) ?_
    refine v_get (q := x0) (j := 0) (v := .ref (x0 + 221 + 31)) dX0_fill_87 fX0_108 hw3 rfl (lay_X0 _ _ _) rfl ?_
    refine v_iload_n 2 dX0_fill_90 rfl ?_
    obtain ⟨s6, h⟩ := h
    refine v_aaldQ (q := x0 + 221) (j := 31) (f := B4 0) (t := 8) (by decide) dX0_fill_91 hw4 rfl (lay_XA 31 rfl) s6 (by decide) ?_
    refine v_iload 4 dX0_fill_92 rfl ?_
    obtain ⟨a7, ea7, h⟩ := h
    rw [ea7]
    obtain ⟨l8, f8, hw8, h⟩ := h
    obtain ⟨s9, h⟩ := h
    obtain ⟨s10, h⟩ := h
    refine v_iald (q := a7) (j := 0) (f := f8) dX0_fill_94 hw8 rfl (lay_AI _ _ _) s9 s10 ?_
    obtain ⟨s11, h⟩ := h
    refine v_i2l dX0_fill_95 s11 ?_
    obtain ⟨a12, ea12, h⟩ := h
    rw [ea12]
    refine x_callFV K (As := [vI x4, vL (f8 x4)]) dX0_fill_96 q1663 rfl rfl (Nat.le_of_ble_eq_true rfl) h (fun w13 z13 n13 h => ?_)
    refine v_iinc 4 dX0_fill_101 rfl (by decide) rfl ?_
    refine v_goto 72 dX0_fill_104 (by decide) ?_
    refine V.sub [1, 2, 3, 4, 0] rfl ?_
    exact h
/-! BranchNames.judge -/
theorem wX0_judge_0 (K : KV) {x1 x2 : Int} {x0 : Nat} {w : Wd} {sz n : Nat} (h : CI mX0_isRow K [vI x1] w sz n fun r1 w1 z1 n1 => (rI r1) ∧ ((r1 = 0 → (K.S (some (vI ((-1)))) w1 z1 n1)) ∧ (¬ r1 = 0 → (∃ (F3 : Nat → Int) (p3 : Nat), (w1 x0 = some (obX x0 F3 p3)) ∧ (CI mX0_isList K [.ref x0, vI x2] w1 z1 n1 fun r4 w4 z4 n4 => (rI r4) ∧ ((¬ r4 = 0 → (∃ (F6 : Nat → Int) (p6 : Nat), (w4 x0 = some (obX x0 F6 p6)) ∧ (∃ (A7 : Nat → Int → Int) (B7 : Nat → Int → Option Nat) (M7 : Nat → Int → Int → Int), (w4 (x0 + 221) = some (obXA A7 B7 M7)) ∧ ((0 ≤ x1 ∧ x1 < 4) ∧ ((B7 6 x1 = none → (K.S (some (vI ((-11)))) w4 z4 n4)) ∧ (∀ a9 : Nat, B7 6 x1 = some a9 → (VX K mX0_judge 31 [(0, .ref x0), (1, vI x1), (2, vI x2), (3, vI 0)] [] w4 z4 n4))))))) ∧ (r4 = 0 → (K.S (some (vI ((-1)))) w4 z4 n4)))))))) : VX K mX0_judge 0 [(0, .ref x0), (1, vI x1), (2, vI x2)] [] w sz n := by
  refine v_iload_n 1 dX0_judge_0 rfl ?_
  refine x_callSI K (As := [vI x1]) dX0_judge_1 LX0_653 rfl rfl (Nat.le_of_ble_eq_true rfl) h (fun r1 w1 z1 n1 h => ?_)
  obtain ⟨s2, h⟩ := h
  obtain ⟨ht, hf⟩ := h
  refine v_if_eq 15 dX0_judge_4 (by decide) s2 (fun c => ?_) (fun c => ?_)
  · have h := ht c
    refine v_iconst dX0_judge_15 ?_
    exact x_iret K dX0_judge_16 rfl h
  · have h := hf c
    refine v_aload_n 0 dX0_judge_7 rfl (isR_ref _) ?_
    refine v_iload_n 2 dX0_judge_8 rfl ?_
    obtain ⟨F3, p3, hw3, h⟩ := h
    refine x_callVI K (As := [vI x2]) dX0_judge_9 LX0_146 rfl rfl (Nat.le_of_ble_eq_true rfl) (rc_of hw3 (lay_X0 _ _ _) rfl) h (fun r4 w4 z4 n4 h => ?_)
    obtain ⟨s5, h⟩ := h
    obtain ⟨ht, hf⟩ := h
    refine v_if_ne 17 dX0_judge_12 (by decide) s5 (fun c => ?_) (fun c => ?_)
    · have h := ht c
      refine v_aload_n 0 dX0_judge_17 rfl (isR_ref _) ?_
      obtain ⟨F6, p6, hw6, h⟩ := h
      refine v_get (q := x0) (j := 0) (v := .ref (x0 + 221 + 66)) dX0_judge_18 fX0_443 hw6 rfl (lay_X0 _ _ _) rfl ?_
      refine v_iload_n 1 dX0_judge_21 rfl ?_
      obtain ⟨A7, B7, M7, hw7, h⟩ := h
      obtain ⟨s8, h⟩ := h
      refine v_aaldQ (q := x0 + 221) (j := 66) (f := B7 6) (t := 4) (by decide) dX0_judge_22 hw7 rfl (lay_XA 66 rfl) s8 (by decide) ?_
      obtain ⟨hn, hs⟩ := h
      refine v_ifnonnull (r := B7 6 x1) 29 dX0_judge_23 (by decide) (fun a9 c => ?_) (fun c => ?_)
      · have h := hs _ c
        try rw [c]
        refine v_iconst dX0_judge_29 ?_
        refine v_istore_n dX0_judge_30 (by decide) rfl ?_
        refine V.sub [1, 2, 3, 0] rfl ?_
        exact h
      · have h := hn c
        try rw [c]
        refine v_bipush dX0_judge_26 rfl ?_
        exact x_iret K dX0_judge_28 rfl h
    · have h := hf c
      refine v_iconst dX0_judge_15 ?_
      exact x_iret K dX0_judge_16 rfl h
theorem wX0_judge_31 (K : KV) {x1 x2 x3 : Int} {x0 : Nat} {w : Wd} {sz n : Nat} (h : ∃ (F1 : Nat → Int) (p1 : Nat), (w x0 = some (obX x0 F1 p1)) ∧ (∃ (A2 : Nat → Int → Int) (B2 : Nat → Int → Option Nat) (M2 : Nat → Int → Int → Int), (w (x0 + 221) = some (obXA A2 B2 M2)) ∧ ((0 ≤ x1 ∧ x1 < 4) ∧ (∃ (a4 : Nat), (B2 6 x1 = some a4) ∧ (CFI ({ cls := "BranchNames$Items", name := "many", desc := "()I" } : MethodName) 0 K [.ref a4] w sz n fun r5 w5 z5 n5 => (rI x3) ∧ ((rI r5) ∧ ((r5 ≤ x3 → (K.S (some (vI ((-1)))) w5 z5 n5)) ∧ (¬ r5 ≤ x3 → (∃ (F8 : Nat → Int) (p8 : Nat), (w5 x0 = some (obX x0 F8 p8)) ∧ (∃ (A9 : Nat → Int → Int) (B9 : Nat → Int → Option Nat) (M9 : Nat → Int → Int → Int), (w5 (x0 + 221) = some (obXA A9 B9 M9)) ∧ ((0 ≤ x2 ∧ x2 < 11) ∧ (∃ (a11 : Nat), (B9 0 x2 = some a11) ∧ (∃ (l12 : Nat) (f12 : Int → Int), (w5 a11 = some (obA 0 l12 f12)) ∧ ((rI (((l12 : Nat) : Int))) ∧ (((((l12 : Nat) : Int)) ≤ x3 → (K.S (some (vI x3)) w5 z5 n5)) ∧ (¬ (((l12 : Nat) : Int)) ≤ x3 → (∃ (a14 : Nat), (B9 6 x1 = some a14) ∧ (CFL ({ cls := "BranchNames$Items", name := "at", desc := "(I)J" } : MethodName) 1 K [.ref a14, vI x3] w5 z5 n5 fun r15 w15 z15 n15 => ∃ (F16 : Nat → Int) (p16 : Nat), (w15 x0 = some (obX x0 F16 p16)) ∧ (∃ (A17 : Nat → Int → Int) (B17 : Nat → Int → Option Nat) (M17 : Nat → Int → Int → Int), (w15 (x0 + 221) = some (obXA A17 B17 M17)) ∧ (∃ (a18 : Nat), (B17 0 x2 = some a18) ∧ (∃ (l19 : Nat) (f19 : Int → Int), (w15 a18 = some (obA 0 l19 f19)) ∧ ((0 ≤ x3 ∧ x3 < ((l19 : Nat) : Int)) ∧ ((l19 < 2147483648) ∧ ((rI (f19 x3)) ∧ ((rL r15) ∧ ((rL (f19 x3)) ∧ (((cmpI r15 (f19 x3)) = 0 → (VX K mX0_judge 31 [(0, .ref x0), (1, vI x1), (2, vI x2), (3, vI (x3 + 1))] [] w15 z15 n15)) ∧ (¬ (cmpI r15 (f19 x3)) = 0 → (K.S (some (vI x3)) w15 z15 n15))))))))))))))))))))))))))))) : VX K mX0_judge 31 [(0, .ref x0), (1, vI x1), (2, vI x2), (3, vI x3)] [] w sz n := by
  refine v_iload_n 3 dX0_judge_31 rfl ?_
  refine v_aload_n 0 dX0_judge_32 rfl (isR_ref _) ?_
  obtain ⟨F1, p1, hw1, h⟩ := h
  refine v_get (q := x0) (j := 0) (v := .ref (x0 + 221 + 66)) dX0_judge_33 fX0_443 hw1 rfl (lay_X0 _ _ _) rfl ?_
  refine v_iload_n 1 dX0_judge_36 rfl ?_
  obtain ⟨A2, B2, M2, hw2, h⟩ := h
  obtain ⟨s3, h⟩ := h
  refine v_aaldQ (q := x0 + 221) (j := 66) (f := B2 6) (t := 4) (by decide) dX0_judge_37 hw2 rfl (lay_XA 66 rfl) s3 (by decide) ?_
  obtain ⟨a4, ea4, h⟩ := h
  rw [ea4]
  refine x_callFI K (As := []) dX0_judge_38 q1641 rfl rfl (Nat.le_of_ble_eq_true rfl) h (fun r5 w5 z5 n5 h => ?_)
  obtain ⟨s6, h⟩ := h
  obtain ⟨s7, h⟩ := h
  obtain ⟨ht, hf⟩ := h
  refine v_icmp_ge 90 dX0_judge_43 (by decide) s6 s7 (fun c => ?_) (fun c => ?_)
  · have h := ht c
    refine v_iconst dX0_judge_90 ?_
    exact x_iret K dX0_judge_91 rfl h
  · have h := hf c
    refine v_iload_n 3 dX0_judge_46 rfl ?_
    refine v_aload_n 0 dX0_judge_47 rfl (isR_ref _) ?_
    obtain ⟨F8, p8, hw8, h⟩ := h
    refine v_get (q := x0) (j := 0) (v := .ref (x0 + 221 + 31)) dX0_judge_48 fX0_108 hw8 rfl (lay_X0 _ _ _) rfl ?_
    refine v_iload_n 2 dX0_judge_51 rfl ?_
    obtain ⟨A9, B9, M9, hw9, h⟩ := h
    obtain ⟨s10, h⟩ := h
    refine v_aaldQ (q := x0 + 221) (j := 31) (f := B9 0) (t := 8) (by decide) dX0_judge_52 hw9 rfl (lay_XA 31 rfl) s10 (by decide) ?_
    obtain ⟨a11, ea11, h⟩ := h
    rw [ea11]
    obtain ⟨l12, f12, hw12, h⟩ := h
    refine v_alen (q := a11) (j := 0) dX0_judge_53 hw12 rfl (lay_AI _ _ _) (by decide) ?_
    obtain ⟨s13, h⟩ := h
    obtain ⟨ht, hf⟩ := h
    refine v_icmp_ge 82 dX0_judge_54 (by decide) s6 s13 (fun c => ?_) (fun c => ?_)
    · have h := ht c
      refine v_iload_n 3 dX0_judge_82 rfl ?_
      exact x_iret K dX0_judge_83 rfl h
    · have h := hf c
      refine v_aload_n 0 dX0_judge_57 rfl (isR_ref _) ?_
      refine v_get (q := x0) (j := 0) (v := .ref (x0 + 221 + 66)) dX0_judge_58 fX0_443 hw8 rfl (lay_X0 _ _ _) rfl ?_
      refine v_iload_n 1 dX0_judge_61 rfl ?_
      refine v_aaldQ (q := x0 + 221) (j := 66) (f := B9 6) (t := 4) (by decide) dX0_judge_62 hw9 rfl (lay_XA 66 rfl) s3 (by decide) ?_
      refine v_iload_n 3 dX0_judge_63 rfl ?_
      obtain ⟨a14, ea14, h⟩ := h
      rw [ea14]
      refine x_callFL K (As := [vI x3]) dX0_judge_64 q1686 rfl rfl (Nat.le_of_ble_eq_true rfl) h (fun r15 w15 z15 n15 h => ?_)
      refine v_aload_n 0 dX0_judge_69 rfl (isR_ref _) ?_
      obtain ⟨F16, p16, hw16, h⟩ := h
      refine v_get (q := x0) (j := 0) (v := .ref (x0 + 221 + 31)) dX0_judge_70 fX0_108 hw16 rfl (lay_X0 _ _ _) rfl ?_
      refine v_iload_n 2 dX0_judge_73 rfl ?_
      obtain ⟨A17, B17, M17, hw17, h⟩ := h
      refine v_aaldQ (q := x0 + 221) (j := 31) (f := B17 0) (t := 8) (by decide) dX0_judge_74 hw17 rfl (lay_XA 31 rfl) s10 (by decide) ?_
      refine v_iload_n 3 dX0_judge_75 rfl ?_
      obtain ⟨a18, ea18, h⟩ := h
      rw [ea18]
      obtain ⟨l19, f19, hw19, h⟩ := h
      obtain ⟨s20, h⟩ := h
      obtain ⟨s21, h⟩ := h
      refine v_iald (q := a18) (j := 0) (f := f19) dX0_judge_76 hw19 rfl (lay_AI _ _ _) s20 s21 ?_
      obtain ⟨s22, h⟩ := h
      refine v_i2l dX0_judge_77 s22 ?_
      obtain ⟨s23, h⟩ := h
      obtain ⟨s24, h⟩ := h
      refine v_lcmp dX0_judge_78 s23 s24 ?_
      obtain ⟨ht, hf⟩ := h
      refine v_if_eq 84 dX0_judge_79 (by decide) cmpI_rI (fun c => ?_) (fun c => ?_)
      · have h := ht c
        refine v_iinc 3 dX0_judge_84 rfl (by decide) rfl ?_
        refine v_goto 31 dX0_judge_87 (by decide) ?_
        refine V.sub [1, 2, 3, 0] rfl ?_
        exact h
      · have h := hf c
        refine v_iload_n 3 dX0_judge_82 rfl ?_
        exact x_iret K dX0_judge_83 rfl h
/-! BranchNames.copy -/
theorem wX0_copy_0 (K : KV) {x1 x2 x3 x4 x5 : Int} {x0 : Nat} {w : Wd} {sz n : Nat} (h : CI mX0_isRow K [vI x1] w sz n fun r1 w1 z1 n1 => (rI r1) ∧ ((r1 = 0 → (K.S (some (vI ((-1)))) w1 z1 n1)) ∧ (¬ r1 = 0 → (CI mX0_isRow K [vI x3] w1 z1 n1 fun r3 w3 z3 n3 => (rI r3) ∧ ((¬ r3 = 0 → (∃ (F5 : Nat → Int) (p5 : Nat), (w3 x0 = some (obX x0 F5 p5)) ∧ (∃ (A6 : Nat → Int → Int) (B6 : Nat → Int → Option Nat) (M6 : Nat → Int → Int → Int), (w3 (x0 + 221) = some (obXA A6 B6 M6)) ∧ ((0 ≤ x1 ∧ x1 < 4) ∧ ((0 ≤ x3 ∧ x3 < 4) ∧ ((B6 6 x1 = none → (K.S (some (vI ((-11)))) w3 z3 n3)) ∧ (∀ a9 : Nat, B6 6 x1 = some a9 → ((B6 6 x3 = none → (K.S (some (vI ((-11)))) w3 z3 n3)) ∧ (∀ a10 : Nat, B6 6 x3 = some a10 → (CFI ({ cls := "BranchNames$Items", name := "sort", desc := "()I" } : MethodName) 0 K [.ref a9] w3 z3 n3 fun r11 w11 z11 n11 => CFI ({ cls := "BranchNames$Items", name := "sort", desc := "()I" } : MethodName) 0 K [.ref a10] w11 z11 n11 fun r12 w12 z12 n12 => (rI r11) ∧ ((rI r12) ∧ ((r11 = r12 → ((rI x5) ∧ ((x5 < 0 → (K.S (some (vI ((-13)))) w12 z12 n12)) ∧ (¬ x5 < 0 → (CI mX0_isOf K [.ref a9, vI x2, vI x5] w12 z12 n12 fun r16 w16 z16 n16 => (rI r16) ∧ ((r16 = 0 → (K.S (some (vI ((-13)))) w16 z16 n16)) ∧ (¬ r16 = 0 → (CI mX0_isOf K [.ref a10, vI x4, vI x5] w16 z16 n16 fun r18 w18 z18 n18 => (rI r18) ∧ ((¬ r18 = 0 → (VX K mX0_copy 99 [(0, .ref x0), (2, vI x2), (4, vI x4), (5, vI x5), (6, .ref a9), (7, .ref a10), (8, vI 0)] [] w18 z18 n18)) ∧ (r18 = 0 → (K.S (some (vI ((-13)))) w18 z18 n18))))))))))) ∧ (¬ r11 = r12 → (K.S (some (vI ((-12)))) w12 z12 n12)))))))))))))) ∧ (r3 = 0 → (K.S (some (vI ((-1)))) w3 z3 n3))))))) : VX K mX0_copy 0 [(0, .ref x0), (1, vI x1), (2, vI x2), (3, vI x3), (4, vI x4), (5, vI x5)] [] w sz n := by
  refine v_iload_n 1 dX0_copy_0 rfl ?_
  refine x_callSI K (As := [vI x1]) dX0_copy_1 LX0_653 rfl rfl (Nat.le_of_ble_eq_true rfl) h (fun r1 w1 z1 n1 h => ?_)
  obtain ⟨s2, h⟩ := h
  obtain ⟨ht, hf⟩ := h
  refine v_if_eq 14 dX0_copy_4 (by decide) s2 (fun c => ?_) (fun c => ?_)
  · have h := ht c
    refine v_iconst dX0_copy_14 ?_
    exact x_iret K dX0_copy_15 rfl h
  · have h := hf c
    refine v_iload_n 3 dX0_copy_7 rfl ?_
    refine x_callSI K (As := [vI x3]) dX0_copy_8 LX0_653 rfl rfl (Nat.le_of_ble_eq_true rfl) h (fun r3 w3 z3 n3 h => ?_)
    obtain ⟨s4, h⟩ := h
    obtain ⟨ht, hf⟩ := h
    refine v_if_ne 16 dX0_copy_11 (by decide) s4 (fun c => ?_) (fun c => ?_)
    · have h := ht c
      refine v_aload_n 0 dX0_copy_16 rfl (isR_ref _) ?_
      obtain ⟨F5, p5, hw5, h⟩ := h
      refine v_get (q := x0) (j := 0) (v := .ref (x0 + 221 + 66)) dX0_copy_17 fX0_443 hw5 rfl (lay_X0 _ _ _) rfl ?_
      refine v_iload_n 1 dX0_copy_20 rfl ?_
      obtain ⟨A6, B6, M6, hw6, h⟩ := h
      obtain ⟨s7, h⟩ := h
      refine v_aaldQ (q := x0 + 221) (j := 66) (f := B6 6) (t := 4) (by decide) dX0_copy_21 hw6 rfl (lay_XA 66 rfl) s7 (by decide) ?_
      refine v_astore dX0_copy_22 (by decide) (isR_rf _) rfl ?_
      refine v_aload_n 1 dX0_copy_24 rfl (isR_ref _) ?_
      refine v_get (q := x0) (j := 0) (v := .ref (x0 + 221 + 66)) dX0_copy_25 fX0_443 hw5 rfl (lay_X0 _ _ _) rfl ?_
      refine v_iload_n 4 dX0_copy_28 rfl ?_
      obtain ⟨s8, h⟩ := h
      refine v_aaldQ (q := x0 + 221) (j := 66) (f := B6 6) (t := 4) (by decide) dX0_copy_29 hw6 rfl (lay_XA 66 rfl) s8 (by decide) ?_
      refine v_astore (ls' := [(7, va_rf (B6 6 x3)), (6, va_rf (B6 6 x1)), (0, .ref x0), (1, vI x1), (2, vI x2), (3, vI x3), (4, vI x4), (5, vI x5)]) dX0_copy_30 (by decide) (isR_rf _) (by generalize (B6 6 x1) = z9; cases z9 <;> rfl) ?_
      refine v_aload 1 dX0_copy_32 rfl (isR_rf _) ?_
      obtain ⟨hn, hs⟩ := h
      refine v_ifnull (r := B6 6 x1) 42 dX0_copy_34 (by decide) (fun c => ?_) (fun a9 c => ?_)
      · have h := hn c
        try rw [c]
        refine v_bipush dX0_copy_42 rfl ?_
        exact x_iret K dX0_copy_44 rfl h
      · have h := hs _ c
        try rw [c]
        refine v_aload 0 dX0_copy_37 rfl (isR_rf _) ?_
        obtain ⟨hn, hs⟩ := h
        refine v_ifnonnull (r := B6 6 x3) 45 dX0_copy_39 (by decide) (fun a10 c => ?_) (fun c => ?_)
        · have h := hs _ c
          try rw [c]
          refine v_aload 1 dX0_copy_45 rfl (isR_ref _) ?_
          refine x_callFI K (As := []) dX0_copy_47 q1709 rfl rfl (Nat.le_of_ble_eq_true rfl) h (fun r11 w11 z11 n11 h => ?_)
          refine v_aload 0 dX0_copy_52 rfl (isR_ref _) ?_
          refine x_callFI K (As := []) dX0_copy_54 q1709 rfl rfl (Nat.le_of_ble_eq_true rfl) h (fun r12 w12 z12 n12 h => ?_)
          obtain ⟨s13, h⟩ := h
          obtain ⟨s14, h⟩ := h
          obtain ⟨ht, hf⟩ := h
          refine v_icmp_eq 65 dX0_copy_59 (by decide) s13 s14 (fun c => ?_) (fun c => ?_)
          · have h := ht c
            refine v_iload 7 dX0_copy_65 rfl ?_
            obtain ⟨s15, h⟩ := h
            obtain ⟨ht, hf⟩ := h
            refine v_if_lt 93 dX0_copy_67 (by decide) s15 (fun c => ?_) (fun c => ?_)
            · have h := ht c
              refine v_bipush dX0_copy_93 rfl ?_
              exact x_iret K dX0_copy_95 rfl h
            · have h := hf c
              refine v_aload 1 dX0_copy_70 rfl (isR_ref _) ?_
              refine v_iload_n 4 dX0_copy_72 rfl ?_
              refine v_iload 7 dX0_copy_73 rfl ?_
              refine x_callSI K (As := [.ref a9, vI x2, vI x5]) dX0_copy_75 LX0_682 rfl rfl (Nat.le_of_ble_eq_true rfl) h (fun r16 w16 z16 n16 h => ?_)
              obtain ⟨s17, h⟩ := h
              obtain ⟨ht, hf⟩ := h
              refine v_if_eq 93 dX0_copy_78 (by decide) s17 (fun c => ?_) (fun c => ?_)
              · have h := ht c
                refine v_bipush dX0_copy_93 rfl ?_
                exact x_iret K dX0_copy_95 rfl h
              · have h := hf c
                refine v_aload 0 dX0_copy_81 rfl (isR_ref _) ?_
                refine v_iload 6 dX0_copy_83 rfl ?_
                refine v_iload 7 dX0_copy_85 rfl ?_
                refine x_callSI K (As := [.ref a10, vI x4, vI x5]) dX0_copy_87 LX0_682 rfl rfl (Nat.le_of_ble_eq_true rfl) h (fun r18 w18 z18 n18 h => ?_)
                obtain ⟨s19, h⟩ := h
                obtain ⟨ht, hf⟩ := h
                refine v_if_ne 96 dX0_copy_90 (by decide) s19 (fun c => ?_) (fun c => ?_)
                · have h := ht c
                  refine v_iconst dX0_copy_96 ?_
                  refine v_istore dX0_copy_97 (by decide) rfl ?_
                  refine V.sub [3, 5, 7, 8, 2, 1, 0] rfl ?_
                  exact h
                · have h := hf c
                  refine v_bipush dX0_copy_93 rfl ?_
                  exact x_iret K dX0_copy_95 rfl h
          · have h := hf c
            refine v_bipush dX0_copy_62 rfl ?_
            exact x_iret K dX0_copy_64 rfl h
        · have h := hn c
          try rw [c]
          refine v_bipush dX0_copy_42 rfl ?_
          exact x_iret K dX0_copy_44 rfl h
    · have h := hf c
      refine v_iconst dX0_copy_14 ?_
      exact x_iret K dX0_copy_15 rfl h
theorem wX0_copy_99 (K : KV) {x2 x4 x5 x8 : Int} {x0 q6 q7 : Nat} {w : Wd} {sz n : Nat} (h : (rI x8) ∧ ((rI x5) ∧ ((x5 ≤ x8 → (K.S (some (vI x5)) w sz n)) ∧ (¬ x5 ≤ x8 → ((rI x2) ∧ ((rI x4) ∧ ((x2 ≤ x4 → (CFL ({ cls := "BranchNames$Items", name := "at", desc := "(I)J" } : MethodName) 1 K [.ref q6, vI (x2 + ((x5 - 1) - x8))] w sz n fun r5 w5 z5 n5 => CFV ({ cls := "BranchNames$Items", name := "lays", desc := "(IJ)V" } : MethodName) 2 K [.ref q7, vI (x4 + ((x5 - 1) - x8)), vL r5] w5 z5 n5 fun w6 z6 n6 => VX K mX0_copy 99 [(0, .ref x0), (2, vI x2), (4, vI x4), (5, vI x5), (6, .ref q6), (7, .ref q7), (8, vI (x8 + 1))] [] w6 z6 n6)) ∧ (¬ x2 ≤ x4 → (CFL ({ cls := "BranchNames$Items", name := "at", desc := "(I)J" } : MethodName) 1 K [.ref q6, vI (x2 + x8)] w sz n fun r5 w5 z5 n5 => CFV ({ cls := "BranchNames$Items", name := "lays", desc := "(IJ)V" } : MethodName) 2 K [.ref q7, vI (x4 + x8), vL r5] w5 z5 n5 fun w6 z6 n6 => VX K mX0_copy 99 [(0, .ref x0), (2, vI x2), (4, vI x4), (5, vI x5), (6, .ref q6), (7, .ref q7), (8, vI (x8 + 1))] [] w6 z6 n6))))))))) : VX K mX0_copy 99 [(0, .ref x0), (2, vI x2), (4, vI x4), (5, vI x5), (6, .ref q6), (7, .ref q7), (8, vI x8)] [] w sz n := by
  refine v_iload 6 dX0_copy_99 rfl ?_
  refine v_iload 3 dX0_copy_101 rfl ?_
  obtain ⟨s1, h⟩ := h
  obtain ⟨s2, h⟩ := h
  obtain ⟨ht, hf⟩ := h
  refine v_icmp_ge 155 dX0_copy_103 (by decide) s1 s2 (fun c => ?_) (fun c => ?_)
  · have h := ht c
    refine v_iload 3 dX0_copy_155 rfl ?_
    exact x_iret K dX0_copy_157 rfl h
  · have h := hf c
    refine v_iload_n 1 dX0_copy_106 rfl ?_
    refine v_iload 2 dX0_copy_107 rfl ?_
    obtain ⟨s3, h⟩ := h
    obtain ⟨s4, h⟩ := h
    obtain ⟨ht, hf⟩ := h
    refine v_icmp_le 117 dX0_copy_109 (by decide) s3 s4 (fun c => ?_) (fun c => ?_)
    · have h := ht c
      refine v_iload 3 dX0_copy_117 rfl ?_
      refine v_iconst dX0_copy_119 ?_
      refine v_isub dX0_copy_120 ?_
      refine v_iload 6 dX0_copy_121 rfl ?_
      refine v_isub dX0_copy_123 ?_
      refine v_istore dX0_copy_124 (by decide) rfl ?_
      refine v_aload 6 dX0_copy_126 rfl (isR_ref _) ?_
      refine v_iload 3 dX0_copy_128 rfl ?_
      refine v_iload 0 dX0_copy_130 rfl ?_
      refine v_iadd dX0_copy_132 ?_
      refine v_aload 5 dX0_copy_133 rfl (isR_ref _) ?_
      refine v_iload_n 2 dX0_copy_135 rfl ?_
      refine v_iload 0 dX0_copy_136 rfl ?_
      refine v_iadd dX0_copy_138 ?_
      refine x_callFL K (As := [vI (x2 + ((x5 - 1) - x8))]) dX0_copy_139 q1686 rfl rfl (Nat.le_of_ble_eq_true rfl) h (fun r5 w5 z5 n5 h => ?_)
      refine x_callFV K (As := [vI (x4 + ((x5 - 1) - x8)), vL r5]) dX0_copy_144 q1663 rfl rfl (Nat.le_of_ble_eq_true rfl) h (fun w6 z6 n6 h => ?_)
      refine v_iinc 7 dX0_copy_149 rfl (by decide) rfl ?_
      refine v_goto 99 dX0_copy_152 (by decide) ?_
      refine V.sub [2, 3, 4, 5, 6, 7, 0] rfl ?_
      exact h
    · have h := hf c
      refine v_iload 6 dX0_copy_112 rfl ?_
      refine v_goto 124 dX0_copy_114 (by decide) ?_
      refine v_istore dX0_copy_124 (by decide) rfl ?_
      refine v_aload 6 dX0_copy_126 rfl (isR_ref _) ?_
      refine v_iload 3 dX0_copy_128 rfl ?_
      refine v_iload 0 dX0_copy_130 rfl ?_
      refine v_iadd dX0_copy_132 ?_
      refine v_aload 5 dX0_copy_133 rfl (isR_ref _) ?_
      refine v_iload_n 2 dX0_copy_135 rfl ?_
      refine v_iload 0 dX0_copy_136 rfl ?_
      refine v_iadd dX0_copy_138 ?_
      refine x_callFL K (As := [vI (x2 + x8)]) dX0_copy_139 q1686 rfl rfl (Nat.le_of_ble_eq_true rfl) h (fun r5 w5 z5 n5 h => ?_)
      refine x_callFV K (As := [vI (x4 + x8), vL r5]) dX0_copy_144 q1663 rfl rfl (Nat.le_of_ble_eq_true rfl) h (fun w6 z6 n6 h => ?_)
      refine v_iinc 7 dX0_copy_149 rfl (by decide) rfl ?_
      refine v_goto 99 dX0_copy_152 (by decide) ?_
      refine V.sub [2, 3, 4, 5, 6, 7, 0] rfl ?_
      exact h
/-! BranchNames.isOf -/
theorem wX0_isOf_0 (K : KV) {x1 x2 : Int} {q0 : Nat} {w : Wd} {sz n : Nat} (h : (rI x1) ∧ ((x1 < 0 → (K.S (some (vI 0)) w sz n)) ∧ (¬ x1 < 0 → (CFI ({ cls := "BranchNames$Items", name := "many", desc := "()I" } : MethodName) 0 K [.ref q0] w sz n fun r2 w2 z2 n2 => (rI x2) ∧ ((rI (r2 - x1)) ∧ (((r2 - x1) < x2 → (K.S (some (vI 0)) w2 z2 n2)) ∧ (¬ (r2 - x1) < x2 → (K.S (some (vI 1)) w2 z2 n2)))))))) : VX K mX0_isOf 0 [(0, .ref q0), (1, vI x1), (2, vI x2)] [] w sz n := by
  refine v_iload_n 1 dX0_isOf_0 rfl ?_
  obtain ⟨s1, h⟩ := h
  obtain ⟨ht, hf⟩ := h
  refine v_if_lt 20 dX0_isOf_1 (by decide) s1 (fun c => ?_) (fun c => ?_)
  · have h := ht c
    refine v_iconst dX0_isOf_20 ?_
    exact x_zret K dX0_isOf_21 rfl (by decide) h
  · have h := hf c
    refine v_iload_n 2 dX0_isOf_4 rfl ?_
    refine v_aload_n 0 dX0_isOf_5 rfl (isR_ref _) ?_
    refine x_callFI K (As := []) dX0_isOf_6 q1641 rfl rfl (Nat.le_of_ble_eq_true rfl) h (fun r2 w2 z2 n2 h => ?_)
    refine v_iload_n 1 dX0_isOf_11 rfl ?_
    refine v_isub dX0_isOf_12 ?_
    obtain ⟨s3, h⟩ := h
    obtain ⟨s4, h⟩ := h
    obtain ⟨ht, hf⟩ := h
    refine v_icmp_gt 20 dX0_isOf_13 (by decide) s3 s4 (fun c => ?_) (fun c => ?_)
    · have h := ht c
      refine v_iconst dX0_isOf_20 ?_
      exact x_zret K dX0_isOf_21 rfl (by decide) h
    · have h := hf c
      refine v_iconst dX0_isOf_16 ?_
      refine v_goto 21 dX0_isOf_17 (by decide) ?_
      exact x_zret K dX0_isOf_21 rfl (by decide) h
/-! BranchNames.image -/
theorem wX0_image_0 (K : KV) {x0 : Nat} {w : Wd} {sz n : Nat} (h : ∃ (F1 : Nat → Int) (p1 : Nat), (w x0 = some (obX x0 F1 p1)) ∧ (∃ (F2 : Nat → Int) (P2 : Nat → Option Nat) (A2 : Nat → Int → Int) (M2 : Nat → Int → Int → Int) (N2 : Nat → Int → Int → Option Nat), (w (x0 + 45) = some (obT F2 P2 A2 M2 N2)) ∧ (CV mX1_becomes K [.ref (x0 + 45), .ref (x0 + 1)] w sz n fun w3 z3 n3 => ∃ (F4 : Nat → Int) (p4 : Nat), (w3 x0 = some (obX x0 F4 p4)) ∧ ((K.G.base ≤ x0) ∧ (∃ (F6 : Nat → Int) (P6 : Nat → Option Nat) (A6 : Nat → Int → Int) (M6 : Nat → Int → Int → Int) (N6 : Nat → Int → Int → Option Nat), ((wset w3 x0 (some (obX x0 (upN F4 5 1) p4))) (x0 + 45) = some (obT F6 P6 A6 M6 N6)) ∧ (K.S (some (vI (F6 4))) (wset w3 x0 (some (obX x0 (upN F4 5 1) p4))) z3 n3)))))) : VX K mX0_image 0 [(0, .ref x0)] [] w sz n := by
  refine v_aload_n 0 dX0_image_0 rfl (isR_ref _) ?_
  obtain ⟨F1, p1, hw1, h⟩ := h
  refine v_get (q := x0) (j := 0) (v := .ref (x0 + 45)) dX0_image_1 fX0_368 hw1 rfl (lay_X0 _ _ _) rfl ?_
  refine v_aload_n 0 dX0_image_4 rfl (isR_ref _) ?_
  refine v_get (q := x0) (j := 0) (v := .ref (x0 + 1)) dX0_image_5 fX0_365 hw1 rfl (lay_X0 _ _ _) rfl ?_
  obtain ⟨F2, P2, A2, M2, N2, hw2, h⟩ := h
  refine x_callVV K (As := [.ref (x0 + 1)]) dX0_image_8 LX0_125 rfl rfl (Nat.le_of_ble_eq_true rfl) (rc_of hw2 (lay_T0 _ _ _ _ _ _) rfl) h (fun w3 z3 n3 h => ?_)
  refine v_aload_n 0 dX0_image_11 rfl (isR_ref _) ?_
  refine v_iconst dX0_image_12 ?_
  obtain ⟨F4, p4, hw4, h⟩ := h
  obtain ⟨s5, h⟩ := h
  refine v_put (q := x0) (j := 0) (v := vI 1) (obX x0 (upN F4 5 1) p4) dX0_image_13 fX0_686 pf0_5 hw4 rfl (lay_X0 _ _ _) (Nat.le_of_ble_eq_true rfl) rfl rfl (chg_X0 rfl) s5 ?_
  refine v_aload_n 0 dX0_image_16 rfl (isR_ref _) ?_
  refine v_get (q := x0) (j := 0) (v := .ref (x0 + 45)) dX0_image_17 fX0_368 (wset_eq _ _ _) rfl (lay_X0 _ _ _) rfl ?_
  obtain ⟨F6, P6, A6, M6, N6, hw6, h⟩ := h
  refine v_get (q := x0 + 45) (j := 0) (v := vI (F6 4)) dX0_image_20 fX0_44 hw6 rfl (lay_T0 _ _ _ _ _ _) rfl ?_
  exact x_iret K dX0_image_23 rfl h
/-! BranchNames.undo -/
theorem wX0_undo_0 (K : KV) {x0 : Nat} {w : Wd} {sz n : Nat} (h : ∃ (F1 : Nat → Int) (p1 : Nat), (w x0 = some (obX x0 F1 p1)) ∧ ((rI (F1 5)) ∧ ((¬ (F1 5) = 0 → (∃ (F3 : Nat → Int) (P3 : Nat → Option Nat) (A3 : Nat → Int → Int) (M3 : Nat → Int → Int → Int) (N3 : Nat → Int → Int → Option Nat), (w (x0 + 1) = some (obT F3 P3 A3 M3 N3)) ∧ (CV mX1_becomes K [.ref (x0 + 1), .ref (x0 + 45)] w sz n fun w4 z4 n4 => ∃ (F5 : Nat → Int) (p5 : Nat), (w4 x0 = some (obX x0 F5 p5)) ∧ (∃ (F6 : Nat → Int) (P6 : Nat → Option Nat) (A6 : Nat → Int → Int) (M6 : Nat → Int → Int → Int) (N6 : Nat → Int → Int → Option Nat), (w4 (x0 + 1) = some (obT F6 P6 A6 M6 N6)) ∧ (K.S (some (vI (F6 4))) w4 z4 n4))))) ∧ ((F1 5) = 0 → (K.S (some (vI ((-3)))) w sz n))))) : VX K mX0_undo 0 [(0, .ref x0)] [] w sz n := by
  refine v_aload_n 0 dX0_undo_0 rfl (isR_ref _) ?_
  obtain ⟨F1, p1, hw1, h⟩ := h
  refine v_get (q := x0) (j := 0) (v := vI (F1 5)) dX0_undo_1 fX0_686 hw1 rfl (lay_X0 _ _ _) rfl ?_
  obtain ⟨s2, h⟩ := h
  obtain ⟨ht, hf⟩ := h
  refine v_if_ne 10 dX0_undo_4 (by decide) s2 (fun c => ?_) (fun c => ?_)
  · have h := ht c
    refine v_aload_n 0 dX0_undo_10 rfl (isR_ref _) ?_
    refine v_get (q := x0) (j := 0) (v := .ref (x0 + 1)) dX0_undo_11 fX0_365 hw1 rfl (lay_X0 _ _ _) rfl ?_
    refine v_aload_n 0 dX0_undo_14 rfl (isR_ref _) ?_
    refine v_get (q := x0) (j := 0) (v := .ref (x0 + 45)) dX0_undo_15 fX0_368 hw1 rfl (lay_X0 _ _ _) rfl ?_
    obtain ⟨F3, P3, A3, M3, N3, hw3, h⟩ := h
    refine x_callVV K (As := [.ref (x0 + 45)]) dX0_undo_18 LX0_125 rfl rfl (Nat.le_of_ble_eq_true rfl) (rc_of hw3 (lay_T0 _ _ _ _ _ _) rfl) h (fun w4 z4 n4 h => ?_)
    refine v_aload_n 0 dX0_undo_21 rfl (isR_ref _) ?_
    obtain ⟨F5, p5, hw5, h⟩ := h
    refine v_get (q := x0) (j := 0) (v := .ref (x0 + 1)) dX0_undo_22 fX0_365 hw5 rfl (lay_X0 _ _ _) rfl ?_
    obtain ⟨F6, P6, A6, M6, N6, hw6, h⟩ := h
    refine v_get (q := x0 + 1) (j := 0) (v := vI (F6 4)) dX0_undo_25 fX0_44 hw6 rfl (lay_T0 _ _ _ _ _ _) rfl ?_
    exact x_iret K dX0_undo_28 rfl h
  · have h := hf c
    refine v_bipush dX0_undo_7 rfl ?_
    exact x_iret K dX0_undo_9 rfl h
/-! BranchNames$Tree.begins -/
theorem wX1_begins_0 (K : KV) {x0 : Nat} {w : Wd} {sz n : Nat} (h : ∃ (F1 : Nat → Int) (P1 : Nat → Option Nat) (A1 : Nat → Int → Int) (M1 : Nat → Int → Int → Int) (N1 : Nat → Int → Int → Option Nat), (w x0 = some (obT F1 P1 A1 M1 N1)) ∧ ((K.G.base ≤ x0) ∧ (CV mX1_changes K [.ref x0] (wset w x0 (some (obT (upN F1 4 1) P1 (upA A1 0 0 0) M1 N1))) sz n fun w3 z3 n3 => K.S none w3 z3 n3))) : VX K mX1_begins 0 [(0, .ref x0)] [] w sz n := by
  refine v_aload_n 0 dX1_begins_0 rfl (isR_ref _) ?_
  refine v_iconst dX1_begins_1 ?_
  obtain ⟨F1, P1, A1, M1, N1, hw1, h⟩ := h
  obtain ⟨s2, h⟩ := h
  refine v_put (q := x0) (j := 0) (v := vI 1) (obT (upN F1 4 1) P1 A1 M1 N1) dX1_begins_2 fX1_31 pf1_4 hw1 rfl (lay_T0 _ _ _ _ _ _) (Nat.le_of_ble_eq_true rfl) rfl rfl (chg_T0 rfl) s2 ?_
  refine v_aload_n 0 dX1_begins_5 rfl (isR_ref _) ?_
  refine v_get (q := x0) (j := 0) (v := .ref (x0 + 43)) dX1_begins_6 fX1_24 (wset_eq _ _ _) rfl (lay_T0 _ _ _ _ _ _) rfl ?_
  refine v_iconst dX1_begins_9 ?_
  refine v_iconst dX1_begins_10 ?_
  refine v_iast (q := x0) (j := 43) (f := A1 0) (obT (upN F1 4 1) P1 (upA A1 0 0 0) M1 N1) dX1_begins_11 (wset_eq _ _ _) rfl rfl (by decide) (by decide) (chg_Tb _ _) s2 ?_
  rw [wset_wset]
  refine v_aload_n 0 dX1_begins_12 rfl (isR_ref _) ?_
  refine x_callVV K (As := []) dX1_begins_13 LX1_35 rfl rfl (Nat.le_of_ble_eq_true rfl) (rc_of (wset_eq _ _ _) (lay_T0 _ _ _ _ _ _) rfl) h (fun w3 z3 n3 h => ?_)
  exact v_vret dX1_begins_16 rfl h
/-! BranchNames$Tree.changes -/
theorem wX1_changes_0 (K : KV) {x0 : Nat} {w : Wd} {sz n : Nat} (h : ∃ (F1 : Nat → Int) (P1 : Nat → Option Nat) (A1 : Nat → Int → Int) (M1 : Nat → Int → Int → Int) (N1 : Nat → Int → Int → Option Nat), (w x0 = some (obT F1 P1 A1 M1 N1)) ∧ ((K.G.base ≤ x0) ∧ (K.S none (wset w x0 (some (obT (upN F1 5 ((F1 5) + 1)) (upN P1 6 none) A1 M1 N1))) sz n))) : VX K mX1_changes 0 [(0, .ref x0)] [] w sz n := by
  refine v_aload_n 0 dX1_changes_0 rfl (isR_ref _) ?_
  refine v_dup dX1_changes_1 rfl ?_
  obtain ⟨F1, P1, A1, M1, N1, hw1, h⟩ := h
  refine v_get (q := x0) (j := 0) (v := vI (F1 5)) dX1_changes_2 fX1_38 hw1 rfl (lay_T0 _ _ _ _ _ _) rfl ?_
  refine v_iconst dX1_changes_5 ?_
  refine v_iadd dX1_changes_6 ?_
  obtain ⟨s2, h⟩ := h
  refine v_put (q := x0) (j := 0) (v := vI ((F1 5) + 1)) (obT (upN F1 5 ((F1 5) + 1)) P1 A1 M1 N1) dX1_changes_7 fX1_38 pf1_5 hw1 rfl (lay_T0 _ _ _ _ _ _) (Nat.le_of_ble_eq_true rfl) rfl rfl (chg_T0 rfl) s2 ?_
  refine v_aload_n 0 dX1_changes_10 rfl (isR_ref _) ?_
  refine v_null dX1_changes_11 ?_
  refine v_put (q := x0) (j := 0) (v := va_rf none) (obT (upN F1 5 ((F1 5) + 1)) (upN P1 6 none) A1 M1 N1) dX1_changes_12 fX1_41 pf1_6 (wset_eq _ _ _) rfl (lay_T0 _ _ _ _ _ _) (Nat.le_of_ble_eq_true rfl) (nar_rf _ none) (fit_rf _ none) (chg_T0 rfl) s2 ?_
  rw [wset_wset]
  exact v_vret dX1_changes_15 rfl h
/-! BranchNames$Tree.isFull -/
theorem wX1_isFull_0 (K : KV) {x1 : Int} {x0 : Nat} {w : Wd} {sz n : Nat} (h : ∃ (F1 : Nat → Int) (P1 : Nat → Option Nat) (A1 : Nat → Int → Int) (M1 : Nat → Int → Int → Int) (N1 : Nat → Int → Int → Option Nat), (w x0 = some (obT F1 P1 A1 M1 N1)) ∧ ((0 ≤ x1 ∧ x1 < 13) ∧ ((rI (A1 0 x1)) ∧ ((¬ (A1 0 x1) = 4 → (K.S (some (vI 0)) w sz n)) ∧ ((A1 0 x1) = 4 → (K.S (some (vI 1)) w sz n)))))) : VX K mX1_isFull 0 [(0, .ref x0), (1, vI x1)] [] w sz n := by
  refine v_aload_n 0 dX1_isFull_0 rfl (isR_ref _) ?_
  obtain ⟨F1, P1, A1, M1, N1, hw1, h⟩ := h
  refine v_get (q := x0) (j := 0) (v := .ref (x0 + 43)) dX1_isFull_1 fX1_24 hw1 rfl (lay_T0 _ _ _ _ _ _) rfl ?_
  refine v_iload_n 1 dX1_isFull_4 rfl ?_
  obtain ⟨s2, h⟩ := h
  refine v_iald (q := x0) (j := 43) (f := A1 0) dX1_isFull_5 hw1 rfl rfl s2 (by decide) ?_
  refine v_iconst dX1_isFull_6 ?_
  obtain ⟨s3, h⟩ := h
  obtain ⟨ht, hf⟩ := h
  refine v_icmp_ne 14 dX1_isFull_7 (by decide) s3 (by decide) (fun c => ?_) (fun c => ?_)
  · have h := ht c
    refine v_iconst dX1_isFull_14 ?_
    exact x_zret K dX1_isFull_15 rfl (by decide) h
  · have h := hf c
    refine v_iconst dX1_isFull_10 ?_
    refine v_goto 15 dX1_isFull_11 (by decide) ?_
    exact x_zret K dX1_isFull_15 rfl (by decide) h
/-! BranchNames$Tree.becomes -/
theorem wX1_becomes_0 (K : KV) {x0 q1 : Nat} {w : Wd} {sz n : Nat} (h : ∃ (F1 : Nat → Int) (P1 : Nat → Option Nat) (A1 : Nat → Int → Int) (M1 : Nat → Int → Int → Int) (N1 : Nat → Int → Int → Option Nat), (w q1 = some (obT F1 P1 A1 M1 N1)) ∧ (∃ (F2 : Nat → Int) (P2 : Nat → Option Nat) (A2 : Nat → Int → Int) (M2 : Nat → Int → Int → Int) (N2 : Nat → Int → Int → Option Nat), (w x0 = some (obT F2 P2 A2 M2 N2)) ∧ ((K.G.base ≤ x0) ∧ (VX K mX1_becomes 10 [(0, .ref x0), (1, .ref q1), (2, vI 0)] [] (wset w x0 (some (obT (upN F2 4 (F1 4)) P2 A2 M2 N2))) sz n)))) : VX K mX1_becomes 0 [(0, .ref x0), (1, .ref q1)] [] w sz n := by
  refine v_aload_n 0 dX1_becomes_0 rfl (isR_ref _) ?_
  refine v_aload_n 1 dX1_becomes_1 rfl (isR_ref _) ?_
  obtain ⟨F1, P1, A1, M1, N1, hw1, h⟩ := h
  refine v_get (q := q1) (j := 0) (v := vI (F1 4)) dX1_becomes_2 fX1_31 hw1 rfl (lay_T0 _ _ _ _ _ _) rfl ?_
  obtain ⟨F2, P2, A2, M2, N2, hw2, h⟩ := h
  obtain ⟨s3, h⟩ := h
  refine v_put (q := x0) (j := 0) (v := vI (F1 4)) (obT (upN F2 4 (F1 4)) P2 A2 M2 N2) dX1_becomes_5 fX1_31 pf1_4 hw2 rfl (lay_T0 _ _ _ _ _ _) (Nat.le_of_ble_eq_true rfl) rfl rfl (chg_T0 rfl) s3 ?_
  refine v_iconst dX1_becomes_8 ?_
  refine v_istore_n dX1_becomes_9 (by decide) rfl ?_
  refine V.sub [1, 2, 0] rfl ?_
  exact h
theorem wX1_becomes_10 (K : KV) {x2 : Int} {x0 q1 : Nat} {w : Wd} {sz n : Nat} (h : ∃ (F1 : Nat → Int) (P1 : Nat → Option Nat) (A1 : Nat → Int → Int) (M1 : Nat → Int → Int → Int) (N1 : Nat → Int → Int → Option Nat), (w x0 = some (obT F1 P1 A1 M1 N1)) ∧ ((rI x2) ∧ ((rI (F1 4)) ∧ (((F1 4) ≤ x2 → (CV mX1_changes K [.ref x0] w sz n fun w4 z4 n4 => K.S none w4 z4 n4)) ∧ (¬ (F1 4) ≤ x2 → (∃ (F4 : Nat → Int) (P4 : Nat → Option Nat) (A4 : Nat → Int → Int) (M4 : Nat → Int → Int → Int) (N4 : Nat → Int → Int → Option Nat), (w q1 = some (obT F4 P4 A4 M4 N4)) ∧ ((0 ≤ x2 ∧ x2 < 13) ∧ ((K.G.base ≤ x0) ∧ (VX K mX1_becomes 32 [(0, .ref x0), (1, .ref q1), (2, vI x2), (3, vI 0)] [] (wset w x0 (some (obT F1 P1 (upA A1 0 x2 (A4 0 x2)) M1 N1))) sz n))))))))) : VX K mX1_becomes 10 [(0, .ref x0), (1, .ref q1), (2, vI x2)] [] w sz n := by
  refine v_iload_n 2 dX1_becomes_10 rfl ?_
  refine v_aload_n 0 dX1_becomes_11 rfl (isR_ref _) ?_
  obtain ⟨F1, P1, A1, M1, N1, hw1, h⟩ := h
  refine v_get (q := x0) (j := 0) (v := vI (F1 4)) dX1_becomes_12 fX1_31 hw1 rfl (lay_T0 _ _ _ _ _ _) rfl ?_
  obtain ⟨s2, h⟩ := h
  obtain ⟨s3, h⟩ := h
  obtain ⟨ht, hf⟩ := h
  refine v_icmp_ge 70 dX1_becomes_15 (by decide) s2 s3 (fun c => ?_) (fun c => ?_)
  · have h := ht c
    refine v_aload_n 0 dX1_becomes_70 rfl (isR_ref _) ?_
    refine x_callVV K (As := []) dX1_becomes_71 LX1_35 rfl rfl (Nat.le_of_ble_eq_true rfl) (rc_of hw1 (lay_T0 _ _ _ _ _ _) rfl) h (fun w4 z4 n4 h => ?_)
    exact v_vret dX1_becomes_74 rfl h
  · have h := hf c
    refine v_aload_n 0 dX1_becomes_18 rfl (isR_ref _) ?_
    refine v_get (q := x0) (j := 0) (v := .ref (x0 + 43)) dX1_becomes_19 fX1_24 hw1 rfl (lay_T0 _ _ _ _ _ _) rfl ?_
    refine v_iload_n 2 dX1_becomes_22 rfl ?_
    refine v_aload_n 1 dX1_becomes_23 rfl (isR_ref _) ?_
    obtain ⟨F4, P4, A4, M4, N4, hw4, h⟩ := h
    refine v_get (q := q1) (j := 0) (v := .ref (q1 + 43)) dX1_becomes_24 fX1_24 hw4 rfl (lay_T0 _ _ _ _ _ _) rfl ?_
    refine v_iload_n 2 dX1_becomes_27 rfl ?_
    obtain ⟨s5, h⟩ := h
    refine v_iald (q := q1) (j := 43) (f := A4 0) dX1_becomes_28 hw4 rfl rfl s5 (by decide) ?_
    obtain ⟨s6, h⟩ := h
    refine v_iast (q := x0) (j := 43) (f := A1 0) (obT F1 P1 (upA A1 0 x2 (A4 0 x2)) M1 N1) dX1_becomes_29 hw1 rfl rfl s5 (by decide) (chg_Tb _ _) s6 ?_
    refine v_iconst dX1_becomes_30 ?_
    refine v_istore_n dX1_becomes_31 (by decide) rfl ?_
    refine V.sub [1, 2, 3, 0] rfl ?_
    exact h
theorem wX1_becomes_32 (K : KV) {x2 x3 : Int} {x0 q1 : Nat} {w : Wd} {sz n : Nat} (h : ∃ (F1 : Nat → Int) (P1 : Nat → Option Nat) (A1 : Nat → Int → Int) (M1 : Nat → Int → Int → Int) (N1 : Nat → Int → Int → Option Nat), (w x0 = some (obT F1 P1 A1 M1 N1)) ∧ ((0 ≤ x2 ∧ x2 < 13) ∧ ((rI x3) ∧ ((rI (A1 0 x2)) ∧ (((A1 0 x2) ≤ x3 → (VX K mX1_becomes 10 [(0, .ref x0), (1, .ref q1), (2, vI (x2 + 1))] [] w sz n)) ∧ (¬ (A1 0 x2) ≤ x3 → (∃ (F5 : Nat → Int) (P5 : Nat → Option Nat) (A5 : Nat → Int → Int) (M5 : Nat → Int → Int → Int) (N5 : Nat → Int → Int → Option Nat), (w q1 = some (obT F5 P5 A5 M5 N5)) ∧ ((0 ≤ x3 ∧ x3 < 4) ∧ ((K.G.base ≤ x0) ∧ (VX K mX1_becomes 32 [(0, .ref x0), (1, .ref q1), (2, vI x2), (3, vI (x3 + 1))] [] (wset w x0 (some (obT F1 P1 A1 (upM M1 0 x2 x3 (M5 0 x2 x3)) N1))) sz n)))))))))) : VX K mX1_becomes 32 [(0, .ref x0), (1, .ref q1), (2, vI x2), (3, vI x3)] [] w sz n := by
  refine v_iload_n 3 dX1_becomes_32 rfl ?_
  refine v_aload_n 0 dX1_becomes_33 rfl (isR_ref _) ?_
  obtain ⟨F1, P1, A1, M1, N1, hw1, h⟩ := h
  refine v_get (q := x0) (j := 0) (v := .ref (x0 + 43)) dX1_becomes_34 fX1_24 hw1 rfl (lay_T0 _ _ _ _ _ _) rfl ?_
  refine v_iload_n 2 dX1_becomes_37 rfl ?_
  obtain ⟨s2, h⟩ := h
  refine v_iald (q := x0) (j := 43) (f := A1 0) dX1_becomes_38 hw1 rfl rfl s2 (by decide) ?_
  obtain ⟨s3, h⟩ := h
  obtain ⟨s4, h⟩ := h
  obtain ⟨ht, hf⟩ := h
  refine v_icmp_ge 64 dX1_becomes_39 (by decide) s3 s4 (fun c => ?_) (fun c => ?_)
  · have h := ht c
    refine v_iinc 2 dX1_becomes_64 rfl (by decide) rfl ?_
    refine v_goto 10 dX1_becomes_67 (by decide) ?_
    refine V.sub [1, 2, 0] rfl ?_
    exact h
  · have h := hf c
    refine v_aload_n 0 dX1_becomes_42 rfl (isR_ref _) ?_
    refine v_get (q := x0) (j := 0) (v := .ref (x0 + 1)) dX1_becomes_43 fX1_11 hw1 rfl (lay_T0 _ _ _ _ _ _) rfl ?_
    refine v_iload_n 2 dX1_becomes_46 rfl ?_
    refine v_aaldR (q := x0) (j := 1) (q0 := x0 + 2) (t := 8) (by decide) dX1_becomes_47 hw1 rfl rfl s2 (by decide) ?_
    refine v_iload_n 3 dX1_becomes_48 rfl ?_
    refine v_aload_n 1 dX1_becomes_49 rfl (isR_ref _) ?_
    obtain ⟨F5, P5, A5, M5, N5, hw5, h⟩ := h
    refine v_get (q := q1) (j := 0) (v := .ref (q1 + 1)) dX1_becomes_50 fX1_11 hw5 rfl (lay_T0 _ _ _ _ _ _) rfl ?_
    refine v_iload_n 2 dX1_becomes_53 rfl ?_
    refine v_aaldR (q := q1) (j := 1) (q0 := q1 + 2) (t := 8) (by decide) dX1_becomes_54 hw5 rfl rfl s2 (by decide) ?_
    refine v_iload_n 3 dX1_becomes_55 rfl ?_
    obtain ⟨s6, h⟩ := h
    refine v_iald (q := q1) (j := 2 + Int.toNat x2) (f := M5 0 x2) dX1_becomes_56 hw5 (Nat.add_assoc _ _ _) (lay_Tn s2) s6 (by decide) ?_
    obtain ⟨s7, h⟩ := h
    refine v_iast (q := x0) (j := 2 + Int.toNat x2) (f := M1 0 x2) (obT F1 P1 A1 (upM M1 0 x2 x3 (M5 0 x2 x3)) N1) dX1_becomes_57 hw1 (Nat.add_assoc _ _ _) (lay_Tn s2) s6 (by decide) (chg_Tn _ _ s2) s7 ?_
    refine v_iinc 3 dX1_becomes_58 rfl (by decide) rfl ?_
    refine v_goto 32 dX1_becomes_61 (by decide) ?_
    refine V.sub [1, 2, 3, 0] rfl ?_
    exact h
/-! BranchNames$Tree.grows -/
theorem wX1_grows_0 (K : KV) {x1 : Int} {x0 : Nat} {w : Wd} {sz n : Nat} (h : ∃ (F1 : Nat → Int) (P1 : Nat → Option Nat) (A1 : Nat → Int → Int) (M1 : Nat → Int → Int → Int) (N1 : Nat → Int → Int → Option Nat), (w x0 = some (obT F1 P1 A1 M1 N1)) ∧ ((K.G.base ≤ x0) ∧ ((0 ≤ (F1 4) ∧ (F1 4) < 13) ∧ (CV mX1_binds K [.ref x0, vI x1, vI (F1 4)] (wset w x0 (some (obT (upN F1 4 ((F1 4) + 1)) P1 (upA A1 0 (F1 4) 0) M1 N1))) sz n fun w4 z4 n4 => K.S (some (vI (F1 4))) w4 z4 n4)))) : VX K mX1_grows 0 [(0, .ref x0), (1, vI x1)] [] w sz n := by
  refine v_aload_n 0 dX1_grows_0 rfl (isR_ref _) ?_
  obtain ⟨F1, P1, A1, M1, N1, hw1, h⟩ := h
  refine v_get (q := x0) (j := 0) (v := vI (F1 4)) dX1_grows_1 fX1_31 hw1 rfl (lay_T0 _ _ _ _ _ _) rfl ?_
  refine v_istore_n dX1_grows_4 (by decide) rfl ?_
  refine v_aload_n 1 dX1_grows_5 rfl (isR_ref _) ?_
  refine v_dup dX1_grows_6 rfl ?_
  refine v_get (q := x0) (j := 0) (v := vI (F1 4)) dX1_grows_7 fX1_31 hw1 rfl (lay_T0 _ _ _ _ _ _) rfl ?_
  refine v_iconst dX1_grows_10 ?_
  refine v_iadd dX1_grows_11 ?_
  obtain ⟨s2, h⟩ := h
  refine v_put (q := x0) (j := 0) (v := vI ((F1 4) + 1)) (obT (upN F1 4 ((F1 4) + 1)) P1 A1 M1 N1) dX1_grows_12 fX1_31 pf1_4 hw1 rfl (lay_T0 _ _ _ _ _ _) (Nat.le_of_ble_eq_true rfl) rfl rfl (chg_T0 rfl) s2 ?_
  refine v_aload_n 1 dX1_grows_15 rfl (isR_ref _) ?_
  refine v_get (q := x0) (j := 0) (v := .ref (x0 + 43)) dX1_grows_16 fX1_24 (wset_eq _ _ _) rfl (lay_T0 _ _ _ _ _ _) rfl ?_
  refine v_iload_n 0 dX1_grows_19 rfl ?_
  refine v_iconst dX1_grows_20 ?_
  obtain ⟨s3, h⟩ := h
  refine v_iast (q := x0) (j := 43) (f := A1 0) (obT (upN F1 4 ((F1 4) + 1)) P1 (upA A1 0 (F1 4) 0) M1 N1) dX1_grows_21 (wset_eq _ _ _) rfl rfl s3 (by decide) (chg_Tb _ _) s2 ?_
  rw [wset_wset]
  refine v_aload_n 1 dX1_grows_22 rfl (isR_ref _) ?_
  refine v_iload_n 2 dX1_grows_23 rfl ?_
  refine v_iload_n 0 dX1_grows_24 rfl ?_
  refine x_callVV K (As := [vI x1, vI (F1 4)]) dX1_grows_25 LX1_49 rfl rfl (Nat.le_of_ble_eq_true rfl) (rc_of (wset_eq _ _ _) (lay_T0 _ _ _ _ _ _) rfl) h (fun w4 z4 n4 h => ?_)
  refine v_iload_n 0 dX1_grows_28 rfl ?_
  exact x_iret K dX1_grows_29 rfl h
/-! BranchNames$Tree.binds -/
theorem wX1_binds_0 (K : KV) {x1 x2 : Int} {x0 : Nat} {w : Wd} {sz n : Nat} (h : ∃ (F1 : Nat → Int) (P1 : Nat → Option Nat) (A1 : Nat → Int → Int) (M1 : Nat → Int → Int → Int) (N1 : Nat → Int → Int → Option Nat), (w x0 = some (obT F1 P1 A1 M1 N1)) ∧ ((0 ≤ x1 ∧ x1 < 13) ∧ ((0 ≤ (A1 0 x1) ∧ (A1 0 x1) < 4) ∧ ((K.G.base ≤ x0) ∧ ((0 ≤ x2 ∧ x2 < 13) ∧ ((0 ≤ ((upA A1 0 x1 ((A1 0 x1) + 1)) 0 x2) ∧ ((upA A1 0 x1 ((A1 0 x1) + 1)) 0 x2) < 4) ∧ (CV mX1_changes K [.ref x0] (wset w x0 (some (obT F1 P1 (upA (upA A1 0 x1 ((A1 0 x1) + 1)) 0 x2 (((upA A1 0 x1 ((A1 0 x1) + 1)) 0 x2) + 1)) (upM (upM M1 0 x1 (A1 0 x1) x2) 0 x2 ((upA A1 0 x1 ((A1 0 x1) + 1)) 0 x2) x1) N1))) sz n fun w7 z7 n7 => K.S none w7 z7 n7))))))) : VX K mX1_binds 0 [(0, .ref x0), (1, vI x1), (2, vI x2)] [] w sz n := by
  refine v_aload_n 0 dX1_binds_0 rfl (isR_ref _) ?_
  obtain ⟨F1, P1, A1, M1, N1, hw1, h⟩ := h
  refine v_get (q := x0) (j := 0) (v := .ref (x0 + 1)) dX1_binds_1 fX1_11 hw1 rfl (lay_T0 _ _ _ _ _ _) rfl ?_
  refine v_iload_n 1 dX1_binds_4 rfl ?_
  obtain ⟨s2, h⟩ := h
  refine v_aaldR (q := x0) (j := 1) (q0 := x0 + 2) (t := 8) (by decide) dX1_binds_5 hw1 rfl rfl s2 (by decide) ?_
  refine v_aload_n 0 dX1_binds_6 rfl (isR_ref _) ?_
  refine v_get (q := x0) (j := 0) (v := .ref (x0 + 43)) dX1_binds_7 fX1_24 hw1 rfl (lay_T0 _ _ _ _ _ _) rfl ?_
  refine v_iload_n 1 dX1_binds_10 rfl ?_
  refine v_iald (q := x0) (j := 43) (f := A1 0) dX1_binds_11 hw1 rfl rfl s2 (by decide) ?_
  refine v_iload_n 2 dX1_binds_12 rfl ?_
  obtain ⟨s3, h⟩ := h
  obtain ⟨s4, h⟩ := h
  refine v_iast (q := x0) (j := 2 + Int.toNat x1) (f := M1 0 x1) (obT F1 P1 A1 (upM M1 0 x1 (A1 0 x1) x2) N1) dX1_binds_13 hw1 (Nat.add_assoc _ _ _) (lay_Tn s2) s3 (by decide) (chg_Tn _ _ s2) s4 ?_
  refine v_aload_n 0 dX1_binds_14 rfl (isR_ref _) ?_
  refine v_get (q := x0) (j := 0) (v := .ref (x0 + 43)) dX1_binds_15 fX1_24 (wset_eq _ _ _) rfl (lay_T0 _ _ _ _ _ _) rfl ?_
  refine v_iload_n 1 dX1_binds_18 rfl ?_
  refine v_dup2 dX1_binds_19 rfl rfl ?_
  refine v_iald (q := x0) (j := 43) (f := A1 0) dX1_binds_20 (wset_eq _ _ _) rfl rfl s2 (by decide) ?_
  refine v_iconst dX1_binds_21 ?_
  refine v_iadd dX1_binds_22 ?_
  refine v_iast (q := x0) (j := 43) (f := A1 0) (obT F1 P1 (upA A1 0 x1 ((A1 0 x1) + 1)) (upM M1 0 x1 (A1 0 x1) x2) N1) dX1_binds_23 (wset_eq _ _ _) rfl rfl s2 (by decide) (chg_Tb _ _) s4 ?_
  rw [wset_wset]
  refine v_aload_n 0 dX1_binds_24 rfl (isR_ref _) ?_
  refine v_get (q := x0) (j := 0) (v := .ref (x0 + 1)) dX1_binds_25 fX1_11 (wset_eq _ _ _) rfl (lay_T0 _ _ _ _ _ _) rfl ?_
  refine v_iload_n 2 dX1_binds_28 rfl ?_
  obtain ⟨s5, h⟩ := h
  refine v_aaldR (q := x0) (j := 1) (q0 := x0 + 2) (t := 8) (by decide) dX1_binds_29 (wset_eq _ _ _) rfl rfl s5 (by decide) ?_
  refine v_aload_n 0 dX1_binds_30 rfl (isR_ref _) ?_
  refine v_get (q := x0) (j := 0) (v := .ref (x0 + 43)) dX1_binds_31 fX1_24 (wset_eq _ _ _) rfl (lay_T0 _ _ _ _ _ _) rfl ?_
  refine v_iload_n 2 dX1_binds_34 rfl ?_
  refine v_iald (q := x0) (j := 43) (f := (upA A1 0 x1 ((A1 0 x1) + 1)) 0) dX1_binds_35 (wset_eq _ _ _) rfl rfl s5 (by decide) ?_
  refine v_iload_n 1 dX1_binds_36 rfl ?_
  obtain ⟨s6, h⟩ := h
  refine v_iast (q := x0) (j := 2 + Int.toNat x2) (f := (upM M1 0 x1 (A1 0 x1) x2) 0 x2) (obT F1 P1 (upA A1 0 x1 ((A1 0 x1) + 1)) (upM (upM M1 0 x1 (A1 0 x1) x2) 0 x2 ((upA A1 0 x1 ((A1 0 x1) + 1)) 0 x2) x1) N1) dX1_binds_37 (wset_eq _ _ _) (Nat.add_assoc _ _ _) (lay_Tn s5) s6 (by decide) (chg_Tn _ _ s5) s4 ?_
  rw [wset_wset]
  refine v_aload_n 0 dX1_binds_38 rfl (isR_ref _) ?_
  refine v_get (q := x0) (j := 0) (v := .ref (x0 + 43)) dX1_binds_39 fX1_24 (wset_eq _ _ _) rfl (lay_T0 _ _ _ _ _ _) rfl ?_
  refine v_iload_n 2 dX1_binds_42 rfl ?_
  refine v_dup2 dX1_binds_43 rfl rfl ?_
  refine v_iald (q := x0) (j := 43) (f := (upA A1 0 x1 ((A1 0 x1) + 1)) 0) dX1_binds_44 (wset_eq _ _ _) rfl rfl s5 (by decide) ?_
  refine v_iconst dX1_binds_45 ?_
  refine v_iadd dX1_binds_46 ?_
  refine v_iast (q := x0) (j := 43) (f := (upA A1 0 x1 ((A1 0 x1) + 1)) 0) (obT F1 P1 (upA (upA A1 0 x1 ((A1 0 x1) + 1)) 0 x2 (((upA A1 0 x1 ((A1 0 x1) + 1)) 0 x2) + 1)) (upM (upM M1 0 x1 (A1 0 x1) x2) 0 x2 ((upA A1 0 x1 ((A1 0 x1) + 1)) 0 x2) x1) N1) dX1_binds_47 (wset_eq _ _ _) rfl rfl s5 (by decide) (chg_Tb _ _) s4 ?_
  rw [wset_wset]
  refine v_aload_n 0 dX1_binds_48 rfl (isR_ref _) ?_
  refine x_callVV K (As := []) dX1_binds_49 LX1_35 rfl rfl (Nat.le_of_ble_eq_true rfl) (rc_of (wset_eq _ _ _) (lay_T0 _ _ _ _ _ _) rfl) h (fun w7 z7 n7 h => ?_)
  exact v_vret dX1_binds_52 rfl h
/-! BranchNames$Tree.isAtom -/
theorem wX1_isAtom_0 (K : KV) {x1 : Int} {x0 : Nat} {w : Wd} {sz n : Nat} (h : (rI x1) ∧ (∃ (F2 : Nat → Int) (P2 : Nat → Option Nat) (A2 : Nat → Int → Int) (M2 : Nat → Int → Int → Int) (N2 : Nat → Int → Int → Option Nat), (w x0 = some (obT F2 P2 A2 M2 N2)) ∧ ((rI ((F2 4) - 1)) ∧ (CI mX0_isIn K [vL x1, vL 0, vL ((F2 4) - 1)] w sz n fun r4 w4 z4 n4 => (r4 = 0 ∨ r4 = 1) ∧ (K.S (some (vI r4)) w4 z4 n4))))) : VX K mX1_isAtom 0 [(0, .ref x0), (1, vI x1)] [] w sz n := by
  refine v_iload_n 1 dX1_isAtom_0 rfl ?_
  obtain ⟨s1, h⟩ := h
  refine v_i2l dX1_isAtom_1 s1 ?_
  refine v_lconst (z := 0) dX1_isAtom_2 rfl ?_
  refine v_aload_n 0 dX1_isAtom_3 rfl (isR_ref _) ?_
  obtain ⟨F2, P2, A2, M2, N2, hw2, h⟩ := h
  refine v_get (q := x0) (j := 0) (v := vI (F2 4)) dX1_isAtom_4 fX1_31 hw2 rfl (lay_T0 _ _ _ _ _ _) rfl ?_
  refine v_iconst dX1_isAtom_7 ?_
  refine v_isub dX1_isAtom_8 ?_
  obtain ⟨s3, h⟩ := h
  refine v_i2l dX1_isAtom_9 s3 ?_
  refine x_callSNI K (As := [vL x1, vL 0, vL ((F2 4) - 1)]) dX1_isAtom_10 LX1_45 rfl rfl (Nat.le_of_ble_eq_true rfl) h (fun r4 w4 z4 n4 h => ?_)
  obtain ⟨s5, h⟩ := h
  exact x_zret K dX1_isAtom_13 rfl s5 h
/-! BranchNames$Tree.cuts -/
theorem wX1_cuts_0 (K : KV) {x1 : Int} {x0 : Nat} {w : Wd} {sz n : Nat} (h : ∃ (F1 : Nat → Int) (P1 : Nat → Option Nat) (A1 : Nat → Int → Int) (M1 : Nat → Int → Int → Int) (N1 : Nat → Int → Int → Option Nat), (w x0 = some (obT F1 P1 A1 M1 N1)) ∧ ((0 ≤ x1 ∧ x1 < 13) ∧ (CV mX1_frees K [.ref x0, vI (M1 0 x1 0), vI x1] w sz n fun w3 z3 n3 => ∃ (F4 : Nat → Int) (P4 : Nat → Option Nat) (A4 : Nat → Int → Int) (M4 : Nat → Int → Int → Int) (N4 : Nat → Int → Int → Option Nat), (w3 x0 = some (obT F4 P4 A4 M4 N4)) ∧ ((rI x1) ∧ ((rI ((F4 4) - 1)) ∧ ((x1 = ((F4 4) - 1) → ((K.G.base ≤ x0) ∧ (CV mX1_changes K [.ref x0] (wset w3 x0 (some (obT (upN F4 4 ((F4 4) - 1)) P4 A4 M4 N4))) z3 n3 fun w8 z8 n8 => K.S none w8 z8 n8))) ∧ (¬ x1 = ((F4 4) - 1) → ((0 ≤ ((F4 4) - 1) ∧ ((F4 4) - 1) < 13) ∧ ((K.G.base ≤ x0) ∧ (VX K mX1_cuts 39 [(0, .ref x0), (1, vI x1), (2, vI ((F4 4) - 1)), (3, vI 0)] [] (wset w3 x0 (some (obT F4 P4 (upA A4 0 x1 (A4 0 ((F4 4) - 1))) M4 N4))) z3 n3)))))))))) : VX K mX1_cuts 0 [(0, .ref x0), (1, vI x1)] [] w sz n := by
  refine v_aload_n 0 dX1_cuts_0 rfl (isR_ref _) ?_
  refine v_aload_n 0 dX1_cuts_1 rfl (isR_ref _) ?_
  obtain ⟨F1, P1, A1, M1, N1, hw1, h⟩ := h
  refine v_get (q := x0) (j := 0) (v := .ref (x0 + 1)) dX1_cuts_2 fX1_11 hw1 rfl (lay_T0 _ _ _ _ _ _) rfl ?_
  refine v_iload_n 1 dX1_cuts_5 rfl ?_
  obtain ⟨s2, h⟩ := h
  refine v_aaldR (q := x0) (j := 1) (q0 := x0 + 2) (t := 8) (by decide) dX1_cuts_6 hw1 rfl rfl s2 (by decide) ?_
  refine v_iconst dX1_cuts_7 ?_
  refine v_iald (q := x0) (j := 2 + Int.toNat x1) (f := M1 0 x1) dX1_cuts_8 hw1 (Nat.add_assoc _ _ _) (lay_Tn s2) (by decide) (by decide) ?_
  refine v_iload_n 1 dX1_cuts_9 rfl ?_
  refine x_callVV K (As := [vI (M1 0 x1 0), vI x1]) dX1_cuts_10 LX1_60 rfl rfl (Nat.le_of_ble_eq_true rfl) (rc_of hw1 (lay_T0 _ _ _ _ _ _) rfl) h (fun w3 z3 n3 h => ?_)
  refine v_aload_n 0 dX1_cuts_13 rfl (isR_ref _) ?_
  obtain ⟨F4, P4, A4, M4, N4, hw4, h⟩ := h
  refine v_get (q := x0) (j := 0) (v := vI (F4 4)) dX1_cuts_14 fX1_31 hw4 rfl (lay_T0 _ _ _ _ _ _) rfl ?_
  refine v_iconst dX1_cuts_17 ?_
  refine v_isub dX1_cuts_18 ?_
  refine v_istore_n dX1_cuts_19 (by decide) rfl ?_
  refine v_iload_n 2 dX1_cuts_20 rfl ?_
  refine v_iload_n 0 dX1_cuts_21 rfl ?_
  obtain ⟨s5, h⟩ := h
  obtain ⟨s6, h⟩ := h
  obtain ⟨ht, hf⟩ := h
  refine v_icmp_eq 91 dX1_cuts_22 (by decide) s5 s6 (fun c => ?_) (fun c => ?_)
  · have h := ht c
    refine v_aload_n 1 dX1_cuts_91 rfl (isR_ref _) ?_
    refine v_iload_n 0 dX1_cuts_92 rfl ?_
    obtain ⟨s7, h⟩ := h
    refine v_put (q := x0) (j := 0) (v := vI ((F4 4) - 1)) (obT (upN F4 4 ((F4 4) - 1)) P4 A4 M4 N4) dX1_cuts_93 fX1_31 pf1_4 hw4 rfl (lay_T0 _ _ _ _ _ _) (Nat.le_of_ble_eq_true rfl) rfl rfl (chg_T0 rfl) s7 ?_
    refine v_aload_n 1 dX1_cuts_96 rfl (isR_ref _) ?_
    refine x_callVV K (As := []) dX1_cuts_97 LX1_35 rfl rfl (Nat.le_of_ble_eq_true rfl) (rc_of (wset_eq _ _ _) (lay_T0 _ _ _ _ _ _) rfl) h (fun w8 z8 n8 h => ?_)
    exact v_vret dX1_cuts_100 rfl h
  · have h := hf c
    refine v_aload_n 1 dX1_cuts_25 rfl (isR_ref _) ?_
    refine v_get (q := x0) (j := 0) (v := .ref (x0 + 43)) dX1_cuts_26 fX1_24 hw4 rfl (lay_T0 _ _ _ _ _ _) rfl ?_
    refine v_iload_n 2 dX1_cuts_29 rfl ?_
    refine v_aload_n 1 dX1_cuts_30 rfl (isR_ref _) ?_
    refine v_get (q := x0) (j := 0) (v := .ref (x0 + 43)) dX1_cuts_31 fX1_24 hw4 rfl (lay_T0 _ _ _ _ _ _) rfl ?_
    refine v_iload_n 0 dX1_cuts_34 rfl ?_
    obtain ⟨s7, h⟩ := h
    refine v_iald (q := x0) (j := 43) (f := A4 0) dX1_cuts_35 hw4 rfl rfl s7 (by decide) ?_
    obtain ⟨s8, h⟩ := h
    refine v_iast (q := x0) (j := 43) (f := A4 0) (obT F4 P4 (upA A4 0 x1 (A4 0 ((F4 4) - 1))) M4 N4) dX1_cuts_36 hw4 rfl rfl s2 (by decide) (chg_Tb _ _) s8 ?_
    refine v_iconst dX1_cuts_37 ?_
    refine v_istore_n dX1_cuts_38 (by decide) rfl ?_
    refine V.sub [2, 3, 1, 0] rfl ?_
    exact h
theorem wX1_cuts_39 (K : KV) {x1 x2 x3 : Int} {x0 : Nat} {w : Wd} {sz n : Nat} (h : ∃ (F1 : Nat → Int) (P1 : Nat → Option Nat) (A1 : Nat → Int → Int) (M1 : Nat → Int → Int → Int) (N1 : Nat → Int → Int → Option Nat), (w x0 = some (obT F1 P1 A1 M1 N1)) ∧ ((0 ≤ x2 ∧ x2 < 13) ∧ ((rI x3) ∧ ((rI (A1 0 x2)) ∧ (((A1 0 x2) ≤ x3 → ((K.G.base ≤ x0) ∧ (CV mX1_changes K [.ref x0] (wset w x0 (some (obT (upN F1 4 x2) P1 A1 M1 N1))) sz n fun w6 z6 n6 => K.S none w6 z6 n6))) ∧ (¬ (A1 0 x2) ≤ x3 → ((0 ≤ x3 ∧ x3 < 4) ∧ ((0 ≤ x1 ∧ x1 < 13) ∧ ((K.G.base ≤ x0) ∧ ((0 ≤ (M1 0 x2 x3) ∧ (M1 0 x2 x3) < 13) ∧ (CI mX1_bondTo K [.ref x0, vI (M1 0 x2 x3), vI x2] (wset w x0 (some (obT F1 P1 A1 (upM M1 0 x1 x3 (M1 0 x2 x3)) N1))) sz n fun r9 w9 z9 n9 => ∃ (F10 : Nat → Int) (P10 : Nat → Option Nat) (A10 : Nat → Int → Int) (M10 : Nat → Int → Int → Int) (N10 : Nat → Int → Int → Option Nat), (w9 x0 = some (obT F10 P10 A10 M10 N10)) ∧ ((0 ≤ r9 ∧ r9 < 4) ∧ (VX K mX1_cuts 39 [(0, .ref x0), (1, vI x1), (2, vI x2), (3, vI (x3 + 1))] [] (wset w9 x0 (some (obT F10 P10 A10 (upM M10 0 (M1 0 x2 x3) r9 x1) N10))) z9 n9))))))))))))) : VX K mX1_cuts 39 [(0, .ref x0), (1, vI x1), (2, vI x2), (3, vI x3)] [] w sz n := by
  refine v_iload_n 3 dX1_cuts_39 rfl ?_
  refine v_aload_n 0 dX1_cuts_40 rfl (isR_ref _) ?_
  obtain ⟨F1, P1, A1, M1, N1, hw1, h⟩ := h
  refine v_get (q := x0) (j := 0) (v := .ref (x0 + 43)) dX1_cuts_41 fX1_24 hw1 rfl (lay_T0 _ _ _ _ _ _) rfl ?_
  refine v_iload_n 2 dX1_cuts_44 rfl ?_
  obtain ⟨s2, h⟩ := h
  refine v_iald (q := x0) (j := 43) (f := A1 0) dX1_cuts_45 hw1 rfl rfl s2 (by decide) ?_
  obtain ⟨s3, h⟩ := h
  obtain ⟨s4, h⟩ := h
  obtain ⟨ht, hf⟩ := h
  refine v_icmp_ge 91 dX1_cuts_46 (by decide) s3 s4 (fun c => ?_) (fun c => ?_)
  · have h := ht c
    refine v_aload_n 0 dX1_cuts_91 rfl (isR_ref _) ?_
    refine v_iload_n 2 dX1_cuts_92 rfl ?_
    obtain ⟨s5, h⟩ := h
    refine v_put (q := x0) (j := 0) (v := vI x2) (obT (upN F1 4 x2) P1 A1 M1 N1) dX1_cuts_93 fX1_31 pf1_4 hw1 rfl (lay_T0 _ _ _ _ _ _) (Nat.le_of_ble_eq_true rfl) rfl rfl (chg_T0 rfl) s5 ?_
    refine v_aload_n 0 dX1_cuts_96 rfl (isR_ref _) ?_
    refine x_callVV K (As := []) dX1_cuts_97 LX1_35 rfl rfl (Nat.le_of_ble_eq_true rfl) (rc_of (wset_eq _ _ _) (lay_T0 _ _ _ _ _ _) rfl) h (fun w6 z6 n6 h => ?_)
    exact v_vret dX1_cuts_100 rfl h
  · have h := hf c
    refine v_aload_n 0 dX1_cuts_49 rfl (isR_ref _) ?_
    refine v_get (q := x0) (j := 0) (v := .ref (x0 + 1)) dX1_cuts_50 fX1_11 hw1 rfl (lay_T0 _ _ _ _ _ _) rfl ?_
    refine v_iload_n 2 dX1_cuts_53 rfl ?_
    refine v_aaldR (q := x0) (j := 1) (q0 := x0 + 2) (t := 8) (by decide) dX1_cuts_54 hw1 rfl rfl s2 (by decide) ?_
    refine v_iload_n 3 dX1_cuts_55 rfl ?_
    obtain ⟨s5, h⟩ := h
    refine v_iald (q := x0) (j := 2 + Int.toNat x2) (f := M1 0 x2) dX1_cuts_56 hw1 (Nat.add_assoc _ _ _) (lay_Tn s2) s5 (by decide) ?_
    refine v_istore dX1_cuts_57 (by decide) rfl ?_
    refine v_aload_n 1 dX1_cuts_59 rfl (isR_ref _) ?_
    refine v_get (q := x0) (j := 0) (v := .ref (x0 + 1)) dX1_cuts_60 fX1_11 hw1 rfl (lay_T0 _ _ _ _ _ _) rfl ?_
    refine v_iload_n 2 dX1_cuts_63 rfl ?_
    obtain ⟨s6, h⟩ := h
    refine v_aaldR (q := x0) (j := 1) (q0 := x0 + 2) (t := 8) (by decide) dX1_cuts_64 hw1 rfl rfl s6 (by decide) ?_
    refine v_iload_n 4 dX1_cuts_65 rfl ?_
    refine v_iload 0 dX1_cuts_66 rfl ?_
    obtain ⟨s7, h⟩ := h
    refine v_iast (q := x0) (j := 2 + Int.toNat x1) (f := M1 0 x1) (obT F1 P1 A1 (upM M1 0 x1 x3 (M1 0 x2 x3)) N1) dX1_cuts_68 hw1 (Nat.add_assoc _ _ _) (lay_Tn s6) s5 (by decide) (chg_Tn _ _ s6) s7 ?_
    refine v_aload_n 1 dX1_cuts_69 rfl (isR_ref _) ?_
    refine v_get (q := x0) (j := 0) (v := .ref (x0 + 1)) dX1_cuts_70 fX1_11 (wset_eq _ _ _) rfl (lay_T0 _ _ _ _ _ _) rfl ?_
    refine v_iload 0 dX1_cuts_73 rfl ?_
    obtain ⟨s8, h⟩ := h
    refine v_aaldR (q := x0) (j := 1) (q0 := x0 + 2) (t := 8) (by decide) dX1_cuts_75 (wset_eq _ _ _) rfl rfl s8 (by decide) ?_
    refine v_aload_n 1 dX1_cuts_76 rfl (isR_ref _) ?_
    refine v_iload 0 dX1_cuts_77 rfl ?_
    refine v_iload_n 3 dX1_cuts_79 rfl ?_
    refine x_callVI K (As := [vI (M1 0 x2 x3), vI x2]) dX1_cuts_80 LX1_53 rfl rfl (Nat.le_of_ble_eq_true rfl) (rc_of (wset_eq _ _ _) (lay_T0 _ _ _ _ _ _) rfl) h (fun r9 w9 z9 n9 h => ?_)
    refine v_iload_n 2 dX1_cuts_83 rfl ?_
    obtain ⟨F10, P10, A10, M10, N10, hw10, h⟩ := h
    obtain ⟨s11, h⟩ := h
    refine v_iast (q := x0) (j := 2 + Int.toNat (M1 0 x2 x3)) (f := M10 0 (M1 0 x2 x3)) (obT F10 P10 A10 (upM M10 0 (M1 0 x2 x3) r9 x1) N10) dX1_cuts_84 hw10 (Nat.add_assoc _ _ _) (lay_Tn s8) s11 (by decide) (chg_Tn _ _ s8) s7 ?_
    refine v_iinc 4 dX1_cuts_85 rfl (by decide) rfl ?_
    refine v_goto 39 dX1_cuts_88 (by decide) ?_
    refine V.sub [2, 3, 4, 0] rfl ?_
    exact h
