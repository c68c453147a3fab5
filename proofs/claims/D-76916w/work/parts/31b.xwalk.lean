set_option maxRecDepth 100000
/-! java/lang/Integer.stringSize -/
theorem wJ9_stringSize_0 (K : KV) {x0 : Int} {w : Wd} {sz n : Nat} (h : (rI x0) ∧ ((x0 < 0 → (VX K mJ9_stringSize 16 [(0, vI x0), (1, vI 1), (2, vI ((-10))), (3, vI 1)] [] w sz n)) ∧ (¬ x0 < 0 → (VX K mJ9_stringSize 16 [(0, vI (-x0)), (1, vI 0), (2, vI ((-10))), (3, vI 1)] [] w sz n)))) : VX K mJ9_stringSize 0 [(0, vI x0)] [] w sz n := by
  refine v_iconst dJ9_stringSize_0 ?_
  refine v_istore_n dJ9_stringSize_1 (by decide) rfl ?_
  refine v_iload_n 1 dJ9_stringSize_2 rfl ?_
  obtain ⟨s1, h⟩ := h
  obtain ⟨ht, hf⟩ := h
  refine v_if_lt 11 dJ9_stringSize_3 (by decide) s1 (fun c => ?_) (fun c => ?_)
  · have h := ht c
    refine v_bipush dJ9_stringSize_11 rfl ?_
    refine v_istore_n dJ9_stringSize_13 (by decide) rfl ?_
    refine v_iconst dJ9_stringSize_14 ?_
    refine v_istore_n dJ9_stringSize_15 (by decide) rfl ?_
    refine V.sub [3, 2, 1, 0] rfl ?_
    exact h
  · have h := hf c
    refine v_iconst dJ9_stringSize_6 ?_
    refine v_istore_n dJ9_stringSize_7 (by decide) rfl ?_
    refine v_iload_n 1 dJ9_stringSize_8 rfl ?_
    refine v_ineg dJ9_stringSize_9 ?_
    refine v_istore_n dJ9_stringSize_10 (by decide) rfl ?_
    refine v_bipush dJ9_stringSize_11 rfl ?_
    refine v_istore_n dJ9_stringSize_13 (by decide) rfl ?_
    refine v_iconst dJ9_stringSize_14 ?_
    refine v_istore_n dJ9_stringSize_15 (by decide) rfl ?_
    refine V.sub [2, 3, 1, 0] rfl ?_
    exact h
theorem wJ9_stringSize_16 (K : KV) {x0 x1 x2 x3 : Int} {w : Wd} {sz n : Nat} (h : (rI x3) ∧ ((10 ≤ x3 → (K.S (some (vI (10 + x1))) w sz n)) ∧ (¬ 10 ≤ x3 → ((rI x0) ∧ ((rI x2) ∧ ((x0 ≤ x2 → (VX K mJ9_stringSize 16 [(0, vI x0), (1, vI x1), (2, vI (10 * x2)), (3, vI (x3 + 1))] [] w sz n)) ∧ (¬ x0 ≤ x2 → (K.S (some (vI (x3 + x1))) w sz n)))))))) : VX K mJ9_stringSize 16 [(0, vI x0), (1, vI x1), (2, vI x2), (3, vI x3)] [] w sz n := by
  refine v_iload_n 3 dJ9_stringSize_16 rfl ?_
  refine v_bipush dJ9_stringSize_17 rfl ?_
  obtain ⟨s1, h⟩ := h
  obtain ⟨ht, hf⟩ := h
  refine v_icmp_ge 42 dJ9_stringSize_19 (by decide) s1 (by decide) (fun c => ?_) (fun c => ?_)
  · have h := ht c
    refine v_bipush dJ9_stringSize_42 rfl ?_
    refine v_iload_n 1 dJ9_stringSize_44 rfl ?_
    refine v_iadd dJ9_stringSize_45 ?_
    exact x_iret K dJ9_stringSize_46 rfl h
  · have h := hf c
    refine v_iload_n 0 dJ9_stringSize_22 rfl ?_
    refine v_iload_n 2 dJ9_stringSize_23 rfl ?_
    obtain ⟨s2, h⟩ := h
    obtain ⟨s3, h⟩ := h
    obtain ⟨ht, hf⟩ := h
    refine v_icmp_le 31 dJ9_stringSize_24 (by decide) s2 s3 (fun c => ?_) (fun c => ?_)
    · have h := ht c
      refine v_bipush dJ9_stringSize_31 rfl ?_
      refine v_iload_n 2 dJ9_stringSize_33 rfl ?_
      refine v_imul dJ9_stringSize_34 ?_
      refine v_istore_n dJ9_stringSize_35 (by decide) rfl ?_
      refine v_iinc 3 dJ9_stringSize_36 rfl (by decide) rfl ?_
      refine v_goto 16 dJ9_stringSize_39 (by decide) ?_
      refine V.sub [2, 3, 1, 0] rfl ?_
      exact h
    · have h := hf c
      refine v_iload_n 3 dJ9_stringSize_27 rfl ?_
      refine v_iload_n 1 dJ9_stringSize_28 rfl ?_
      refine v_iadd dJ9_stringSize_29 ?_
      exact x_iret K dJ9_stringSize_30 rfl h
/-! java/lang/Integer.getChars -/
theorem wJ9_getChars_0 (K : KV) {x0 x1 : Int} {q2 : Nat} {w : Wd} {sz n : Nat} (h : (rI x0) ∧ ((0 ≤ x0 → (VX K mJ9_getChars 22 [(0, vI (-x0)), (2, .ref q2), (5, vI x1), (6, vI 0)] [] w sz n)) ∧ (¬ 0 ≤ x0 → (VX K mJ9_getChars 22 [(0, vI x0), (2, .ref q2), (5, vI x1), (6, vI 1)] [] w sz n)))) : VX K mJ9_getChars 0 [(0, vI x0), (1, vI x1), (2, .ref q2)] [] w sz n := by
  refine v_iload_n 1 dJ9_getChars_0 rfl ?_
  refine v_istore dJ9_getChars_1 (by decide) rfl ?_
  refine v_iload_n 1 dJ9_getChars_3 rfl ?_
  obtain ⟨s1, h⟩ := h
  obtain ⟨ht, hf⟩ := h
  refine v_if_ge 11 dJ9_getChars_4 (by decide) s1 (fun c => ?_) (fun c => ?_)
  · have h := ht c
    refine v_iconst dJ9_getChars_11 ?_
    refine v_istore dJ9_getChars_12 (by decide) rfl ?_
    refine v_iload 0 dJ9_getChars_14 rfl ?_
    refine v_if_ne 22 dJ9_getChars_16 (by decide) (by decide) (fun c => absurd (by decide) c) (fun _ => ?_)
    refine v_iload_n 2 dJ9_getChars_19 rfl ?_
    refine v_ineg dJ9_getChars_20 ?_
    refine v_istore_n dJ9_getChars_21 (by decide) rfl ?_
    refine V.sub [0, 4, 2, 1] rfl ?_
    exact h
  · have h := hf c
    refine v_iconst dJ9_getChars_7 ?_
    refine v_goto 12 dJ9_getChars_8 (by decide) ?_
    refine v_istore dJ9_getChars_12 (by decide) rfl ?_
    refine v_iload 0 dJ9_getChars_14 rfl ?_
    refine v_if_ne 22 dJ9_getChars_16 (by decide) (by decide) (fun _ => ?_) (fun c => absurd c (by decide))
    refine V.sub [2, 4, 1, 0] rfl ?_
    exact h
theorem wJ9_getChars_22 (K : KV) (hY : XY K.G) {x0 x5 x6 : Int} {q2 : Nat} {w : Wd} {sz n : Nat} (h : (rI x0) ∧ ((((-100)) < x0 → (∃ (l2 : Nat) (f2 : Int → Int), (w (K.G.ad 101) = some (obA 2 l2 f2)) ∧ ((0 ≤ (-x0) ∧ (-x0) < ((l2 : Nat) : Int)) ∧ ((l2 < 2147483648) ∧ (∃ (l5 : Nat) (f5 : Int → Int), (w q2 = some (obA 2 l5 f5)) ∧ ((0 ≤ (x5 + (-1)) ∧ (x5 + (-1)) < ((l5 : Nat) : Int)) ∧ ((l5 < 2147483648) ∧ ((K.G.base ≤ q2) ∧ ((-128 ≤ (f2 (-x0)) ∧ (f2 (-x0)) ≤ 127) ∧ ((((-9)) ≤ x0 → ((rI x6) ∧ ((x6 = 0 → (K.S (some (vI (x5 + (-1)))) (wset w q2 (some (obA 2 l5 (upZ f5 (x5 + (-1)) (f2 (-x0)))))) sz n)) ∧ (¬ x6 = 0 → ((0 ≤ ((x5 + (-1)) + (-1)) ∧ ((x5 + (-1)) + (-1)) < ((l5 : Nat) : Int)) ∧ (K.S (some (vI ((x5 + (-1)) + (-1)))) (wset w q2 (some (obA 2 l5 (upZ (upZ f5 (x5 + (-1)) (f2 (-x0))) ((x5 + (-1)) + (-1)) 45)))) sz n)))))) ∧ (¬ ((-9)) ≤ x0 → (∃ (l10 : Nat) (f10 : Int → Int), ((wset w q2 (some (obA 2 l5 (upZ f5 (x5 + (-1)) (f2 (-x0)))))) (K.G.ad 100) = some (obA 2 l10 f10)) ∧ (((K.G.ad 100) ≠ q2) ∧ ((0 ≤ (-x0) ∧ (-x0) < ((l10 : Nat) : Int)) ∧ ((l10 < 2147483648) ∧ ((0 ≤ ((x5 + (-1)) + (-1)) ∧ ((x5 + (-1)) + (-1)) < ((l5 : Nat) : Int)) ∧ ((-128 ≤ (f10 (-x0)) ∧ (f10 (-x0)) ≤ 127) ∧ ((rI x6) ∧ ((x6 = 0 → (K.S (some (vI ((x5 + (-1)) + (-1)))) (wset w q2 (some (obA 2 l5 (upZ (upZ f5 (x5 + (-1)) (f2 (-x0))) ((x5 + (-1)) + (-1)) (f10 (-x0)))))) sz n)) ∧ (¬ x6 = 0 → ((0 ≤ (((x5 + (-1)) + (-1)) + (-1)) ∧ (((x5 + (-1)) + (-1)) + (-1)) < ((l5 : Nat) : Int)) ∧ (K.S (some (vI (((x5 + (-1)) + (-1)) + (-1)))) (wset w q2 (some (obA 2 l5 (upZ (upZ (upZ f5 (x5 + (-1)) (f2 (-x0))) ((x5 + (-1)) + (-1)) (f10 (-x0))) (((x5 + (-1)) + (-1)) + (-1)) 45)))) sz n)))))))))))))))))))))) ∧ (¬ ((-100)) < x0 → (∃ (l2 : Nat) (f2 : Int → Int), (w (K.G.ad 101) = some (obA 2 l2 f2)) ∧ ((0 ≤ (((Int.tdiv x0 100) * 100) - x0) ∧ (((Int.tdiv x0 100) * 100) - x0) < ((l2 : Nat) : Int)) ∧ ((l2 < 2147483648) ∧ (∃ (l5 : Nat) (f5 : Int → Int), (w q2 = some (obA 2 l5 f5)) ∧ ((0 ≤ (x5 + (-1)) ∧ (x5 + (-1)) < ((l5 : Nat) : Int)) ∧ ((l5 < 2147483648) ∧ ((K.G.base ≤ q2) ∧ ((-128 ≤ (f2 (((Int.tdiv x0 100) * 100) - x0)) ∧ (f2 (((Int.tdiv x0 100) * 100) - x0)) ≤ 127) ∧ (∃ (l10 : Nat) (f10 : Int → Int), ((wset w q2 (some (obA 2 l5 (upZ f5 (x5 + (-1)) (f2 (((Int.tdiv x0 100) * 100) - x0)))))) (K.G.ad 100) = some (obA 2 l10 f10)) ∧ (((K.G.ad 100) ≠ q2) ∧ ((0 ≤ (((Int.tdiv x0 100) * 100) - x0) ∧ (((Int.tdiv x0 100) * 100) - x0) < ((l10 : Nat) : Int)) ∧ ((l10 < 2147483648) ∧ ((0 ≤ ((x5 + (-1)) + (-1)) ∧ ((x5 + (-1)) + (-1)) < ((l5 : Nat) : Int)) ∧ ((-128 ≤ (f10 (((Int.tdiv x0 100) * 100) - x0)) ∧ (f10 (((Int.tdiv x0 100) * 100) - x0)) ≤ 127) ∧ (VX K mJ9_getChars 22 [(0, vI (Int.tdiv x0 100)), (2, .ref q2), (5, vI ((x5 + (-1)) + (-1))), (6, vI x6)] [] (wset w q2 (some (obA 2 l5 (upZ (upZ f5 (x5 + (-1)) (f2 (((Int.tdiv x0 100) * 100) - x0))) ((x5 + (-1)) + (-1)) (f10 (((Int.tdiv x0 100) * 100) - x0)))))) sz n)))))))))))))))))) : VX K mJ9_getChars 22 [(0, vI x0), (2, .ref q2), (5, vI x5), (6, vI x6)] [] w sz n := by
  refine v_iload_n 0 dJ9_getChars_22 rfl ?_
  refine v_bipush dJ9_getChars_23 rfl ?_
  obtain ⟨s1, h⟩ := h
  obtain ⟨ht, hf⟩ := h
  refine v_icmp_gt 72 dJ9_getChars_25 (by decide) s1 (by decide) (fun c => ?_) (fun c => ?_)
  · have h := ht c
    refine v_aload_n 1 dJ9_getChars_72 rfl (isR_ref _) ?_
    refine v_iinc 2 dJ9_getChars_73 rfl (by decide) rfl ?_
    refine v_iload 0 dJ9_getChars_76 rfl ?_
    refine v_gets (v := .ref (K.G.ad 101)) hY.2.2.1 dJ9_getChars_78 q1197 (Or.inl rfl) ?_
    refine v_iload_n 1 dJ9_getChars_81 rfl ?_
    refine v_ineg dJ9_getChars_82 ?_
    obtain ⟨l2, f2, hw2, h⟩ := h
    obtain ⟨s3, h⟩ := h
    obtain ⟨s4, h⟩ := h
    refine v_bald (q := K.G.ad 101) (j := 0) (f := f2) dJ9_getChars_83 hw2 rfl (lay_AB _ _ _) s3 s4 ?_
    obtain ⟨l5, f5, hw5, h⟩ := h
    obtain ⟨s6, h⟩ := h
    obtain ⟨s7, h⟩ := h
    obtain ⟨s8, h⟩ := h
    obtain ⟨s9, h⟩ := h
    refine v_bast (q := q2) (j := 0) (f := f5) (obA 2 l5 (upZ f5 (x5 + (-1)) (f2 (-x0)))) dJ9_getChars_84 hw5 rfl (lay_AB _ _ _) s6 s7 s9 (chg_raw rfl rfl rfl) s8 ?_
    refine v_iload_n 1 dJ9_getChars_85 rfl ?_
    refine v_bipush dJ9_getChars_86 rfl ?_
    obtain ⟨ht, hf⟩ := h
    refine v_icmp_ge 104 dJ9_getChars_88 (by decide) s1 (by decide) (fun c => ?_) (fun c => ?_)
    · have h := ht c
      refine v_iload 3 dJ9_getChars_104 rfl ?_
      obtain ⟨s10, h⟩ := h
      obtain ⟨ht, hf⟩ := h
      refine v_if_eq 118 dJ9_getChars_106 (by decide) s10 (fun c => ?_) (fun c => ?_)
      · have h := ht c
        refine v_iload 0 dJ9_getChars_118 rfl ?_
        exact x_iret K dJ9_getChars_120 rfl h
      · have h := hf c
        refine v_aload_n 2 dJ9_getChars_109 rfl (isR_ref _) ?_
        refine v_iinc 0 dJ9_getChars_110 rfl (by decide) rfl ?_
        refine v_iload 0 dJ9_getChars_113 rfl ?_
        refine v_bipush dJ9_getChars_115 rfl ?_
        obtain ⟨s11, h⟩ := h
        refine v_bast (q := q2) (j := 0) (f := upZ f5 (x5 + (-1)) (f2 (-x0))) (obA 2 l5 (upZ (upZ f5 (x5 + (-1)) (f2 (-x0))) ((x5 + (-1)) + (-1)) 45)) dJ9_getChars_117 (wset_eq _ _ _) rfl (lay_AB _ _ _) s11 s7 (by decide) (chg_raw rfl rfl rfl) s8 ?_
        rw [wset_wset]
        refine v_iload 0 dJ9_getChars_118 rfl ?_
        exact x_iret K dJ9_getChars_120 rfl h
    · have h := hf c
      refine v_aload_n 2 dJ9_getChars_91 rfl (isR_ref _) ?_
      refine v_iinc 0 dJ9_getChars_92 rfl (by decide) rfl ?_
      refine v_iload 0 dJ9_getChars_95 rfl ?_
      refine v_gets (v := .ref (K.G.ad 100)) hY.2.1 dJ9_getChars_97 q1199 (Or.inl rfl) ?_
      refine v_iload_n 1 dJ9_getChars_100 rfl ?_
      refine v_ineg dJ9_getChars_101 ?_
      obtain ⟨l10, f10, hw10, h⟩ := h
      obtain ⟨s11, h⟩ := h
      obtain ⟨s12, h⟩ := h
      obtain ⟨s13, h⟩ := h
      refine v_bald (q := K.G.ad 100) (j := 0) (f := f10) dJ9_getChars_102 hw10 rfl (lay_AB _ _ _) s12 s13 ?_
      obtain ⟨s14, h⟩ := h
      obtain ⟨s15, h⟩ := h
      refine v_bast (q := q2) (j := 0) (f := upZ f5 (x5 + (-1)) (f2 (-x0))) (obA 2 l5 (upZ (upZ f5 (x5 + (-1)) (f2 (-x0))) ((x5 + (-1)) + (-1)) (f10 (-x0)))) dJ9_getChars_103 (wset_eq _ _ _) rfl (lay_AB _ _ _) s14 s7 s15 (chg_raw rfl rfl rfl) s8 ?_
      rw [wset_wset]
      refine v_iload 3 dJ9_getChars_104 rfl ?_
      obtain ⟨s16, h⟩ := h
      obtain ⟨ht, hf⟩ := h
      refine v_if_eq 118 dJ9_getChars_106 (by decide) s16 (fun c => ?_) (fun c => ?_)
      · have h := ht c
        refine v_iload 0 dJ9_getChars_118 rfl ?_
        exact x_iret K dJ9_getChars_120 rfl h
      · have h := hf c
        refine v_aload_n 2 dJ9_getChars_109 rfl (isR_ref _) ?_
        refine v_iinc 0 dJ9_getChars_110 rfl (by decide) rfl ?_
        refine v_iload 0 dJ9_getChars_113 rfl ?_
        refine v_bipush dJ9_getChars_115 rfl ?_
        obtain ⟨s17, h⟩ := h
        refine v_bast (q := q2) (j := 0) (f := upZ (upZ f5 (x5 + (-1)) (f2 (-x0))) ((x5 + (-1)) + (-1)) (f10 (-x0))) (obA 2 l5 (upZ (upZ (upZ f5 (x5 + (-1)) (f2 (-x0))) ((x5 + (-1)) + (-1)) (f10 (-x0))) (((x5 + (-1)) + (-1)) + (-1)) 45)) dJ9_getChars_117 (wset_eq _ _ _) rfl (lay_AB _ _ _) s17 s7 (by decide) (chg_raw rfl rfl rfl) s8 ?_
        rw [wset_wset]
        refine v_iload 0 dJ9_getChars_118 rfl ?_
        exact x_iret K dJ9_getChars_120 rfl h
  · have h := hf c
    refine v_iload_n 0 dJ9_getChars_28 rfl ?_
    refine v_bipush dJ9_getChars_29 rfl ?_
    refine v_idiv dJ9_getChars_31 s1 (by decide) (by decide) ?_
    refine v_istore_n dJ9_getChars_32 (by decide) rfl ?_
    refine v_iload_n 0 dJ9_getChars_33 rfl ?_
    refine v_bipush dJ9_getChars_34 rfl ?_
    refine v_imul dJ9_getChars_36 ?_
    refine v_iload_n 1 dJ9_getChars_37 rfl ?_
    refine v_isub dJ9_getChars_38 ?_
    refine v_istore dJ9_getChars_39 (by decide) rfl ?_
    refine v_iload_n 1 dJ9_getChars_41 rfl ?_
    refine v_istore_n dJ9_getChars_42 (by decide) rfl ?_
    refine v_aload_n 3 dJ9_getChars_43 rfl (isR_ref _) ?_
    refine v_iinc 4 dJ9_getChars_44 rfl (by decide) rfl ?_
    refine v_iload 0 dJ9_getChars_47 rfl ?_
    refine v_gets (v := .ref (K.G.ad 101)) hY.2.2.1 dJ9_getChars_49 q1197 (Or.inl rfl) ?_
    refine v_iload 2 dJ9_getChars_52 rfl ?_
    obtain ⟨l2, f2, hw2, h⟩ := h
    obtain ⟨s3, h⟩ := h
    obtain ⟨s4, h⟩ := h
    refine v_bald (q := K.G.ad 101) (j := 0) (f := f2) dJ9_getChars_54 hw2 rfl (lay_AB _ _ _) s3 s4 ?_
    obtain ⟨l5, f5, hw5, h⟩ := h
    obtain ⟨s6, h⟩ := h
    obtain ⟨s7, h⟩ := h
    obtain ⟨s8, h⟩ := h
    obtain ⟨s9, h⟩ := h
    refine v_bast (q := q2) (j := 0) (f := f5) (obA 2 l5 (upZ f5 (x5 + (-1)) (f2 (((Int.tdiv x0 100) * 100) - x0)))) dJ9_getChars_55 hw5 rfl (lay_AB _ _ _) s6 s7 s9 (chg_raw rfl rfl rfl) s8 ?_
    refine v_aload_n 4 dJ9_getChars_56 rfl (isR_ref _) ?_
    refine v_iinc 0 dJ9_getChars_57 rfl (by decide) rfl ?_
    refine v_iload 0 dJ9_getChars_60 rfl ?_
    refine v_gets (v := .ref (K.G.ad 100)) hY.2.1 dJ9_getChars_62 q1199 (Or.inl rfl) ?_
    refine v_iload 2 dJ9_getChars_65 rfl ?_
    obtain ⟨l10, f10, hw10, h⟩ := h
    obtain ⟨s11, h⟩ := h
    obtain ⟨s12, h⟩ := h
    obtain ⟨s13, h⟩ := h
    refine v_bald (q := K.G.ad 100) (j := 0) (f := f10) dJ9_getChars_67 hw10 rfl (lay_AB _ _ _) s12 s13 ?_
    obtain ⟨s14, h⟩ := h
    obtain ⟨s15, h⟩ := h
    refine v_bast (q := q2) (j := 0) (f := upZ f5 (x5 + (-1)) (f2 (((Int.tdiv x0 100) * 100) - x0))) (obA 2 l5 (upZ (upZ f5 (x5 + (-1)) (f2 (((Int.tdiv x0 100) * 100) - x0))) ((x5 + (-1)) + (-1)) (f10 (((Int.tdiv x0 100) * 100) - x0)))) dJ9_getChars_68 (wset_eq _ _ _) rfl (lay_AB _ _ _) s14 s7 s15 (chg_raw rfl rfl rfl) s8 ?_
    rw [wset_wset]
    refine v_goto 22 dJ9_getChars_69 (by decide) ?_
    refine V.sub [1, 4, 0, 5] rfl ?_
    exact h
/-! java/lang/Integer.bitCount -/
theorem wJ9_bitCount_0 (K : KV) {x0 : Int} {w : Wd} {sz n : Nat} (h : K.S (some (vI (iand (((iand (((iand (x0 - (iand (iushr x0 1) 1431655765)) 858993459) + (iand (iushr (x0 - (iand (iushr x0 1) 1431655765)) 2) 858993459)) + (iushr ((iand (x0 - (iand (iushr x0 1) 1431655765)) 858993459) + (iand (iushr (x0 - (iand (iushr x0 1) 1431655765)) 2) 858993459)) 4)) 252645135) + (iushr (iand (((iand (x0 - (iand (iushr x0 1) 1431655765)) 858993459) + (iand (iushr (x0 - (iand (iushr x0 1) 1431655765)) 2) 858993459)) + (iushr ((iand (x0 - (iand (iushr x0 1) 1431655765)) 858993459) + (iand (iushr (x0 - (iand (iushr x0 1) 1431655765)) 2) 858993459)) 4)) 252645135) 8)) + (iushr ((iand (((iand (x0 - (iand (iushr x0 1) 1431655765)) 858993459) + (iand (iushr (x0 - (iand (iushr x0 1) 1431655765)) 2) 858993459)) + (iushr ((iand (x0 - (iand (iushr x0 1) 1431655765)) 858993459) + (iand (iushr (x0 - (iand (iushr x0 1) 1431655765)) 2) 858993459)) 4)) 252645135) + (iushr (iand (((iand (x0 - (iand (iushr x0 1) 1431655765)) 858993459) + (iand (iushr (x0 - (iand (iushr x0 1) 1431655765)) 2) 858993459)) + (iushr ((iand (x0 - (iand (iushr x0 1) 1431655765)) 858993459) + (iand (iushr (x0 - (iand (iushr x0 1) 1431655765)) 2) 858993459)) 4)) 252645135) 8)) 16)) 63))) w sz n) : VX K mJ9_bitCount 0 [(0, vI x0)] [] w sz n := by
  refine v_iload_n 0 dJ9_bitCount_0 rfl ?_
  refine v_iload_n 0 dJ9_bitCount_1 rfl ?_
  refine v_iconst dJ9_bitCount_2 ?_
  refine v_iushr dJ9_bitCount_3 ?_
  refine v_ldcw (z := 1431655765) dJ9_bitCount_4 q1952 ?_
  refine v_iand dJ9_bitCount_7 ?_
  refine v_isub dJ9_bitCount_8 ?_
  refine v_istore_n dJ9_bitCount_9 (by decide) rfl ?_
  refine v_iload_n 0 dJ9_bitCount_10 rfl ?_
  refine v_ldcw (z := 858993459) dJ9_bitCount_11 q1953 ?_
  refine v_iand dJ9_bitCount_14 ?_
  refine v_iload_n 0 dJ9_bitCount_15 rfl ?_
  refine v_iconst dJ9_bitCount_16 ?_
  refine v_iushr dJ9_bitCount_17 ?_
  refine v_ldcw (z := 858993459) dJ9_bitCount_18 q1953 ?_
  refine v_iand dJ9_bitCount_21 ?_
  refine v_iadd dJ9_bitCount_22 ?_
  refine v_istore_n dJ9_bitCount_23 (by decide) rfl ?_
  refine v_iload_n 0 dJ9_bitCount_24 rfl ?_
  refine v_iload_n 0 dJ9_bitCount_25 rfl ?_
  refine v_iconst dJ9_bitCount_26 ?_
  refine v_iushr dJ9_bitCount_27 ?_
  refine v_iadd dJ9_bitCount_28 ?_
  refine v_ldcw (z := 252645135) dJ9_bitCount_29 q1954 ?_
  refine v_iand dJ9_bitCount_32 ?_
  refine v_istore_n dJ9_bitCount_33 (by decide) rfl ?_
  refine v_iload_n 0 dJ9_bitCount_34 rfl ?_
  refine v_iload_n 0 dJ9_bitCount_35 rfl ?_
  refine v_bipush dJ9_bitCount_36 rfl ?_
  refine v_iushr dJ9_bitCount_38 ?_
  refine v_iadd dJ9_bitCount_39 ?_
  refine v_istore_n dJ9_bitCount_40 (by decide) rfl ?_
  refine v_iload_n 0 dJ9_bitCount_41 rfl ?_
  refine v_iload_n 0 dJ9_bitCount_42 rfl ?_
  refine v_bipush dJ9_bitCount_43 rfl ?_
  refine v_iushr dJ9_bitCount_45 ?_
  refine v_iadd dJ9_bitCount_46 ?_
  refine v_istore_n dJ9_bitCount_47 (by decide) rfl ?_
  refine v_iload_n 0 dJ9_bitCount_48 rfl ?_
  refine v_bipush dJ9_bitCount_49 rfl ?_
  refine v_iand dJ9_bitCount_51 ?_
  exact x_iret K dJ9_bitCount_52 rfl h
/-! java/lang/Integer.numberOfTrailingZeros -/
theorem wJ9_numberOfTrailingZeros_0 (K : KV) {x0 : Int} {w : Wd} {sz n : Nat} (h : (rI (iand (ixor x0 ((-1))) (x0 - 1))) ∧ ((0 < (iand (ixor x0 ((-1))) (x0 - 1)) → (((iand (ixor x0 ((-1))) (x0 - 1)) ≤ 65536 → (((iand (ixor x0 ((-1))) (x0 - 1)) ≤ 256 → (((iand (ixor x0 ((-1))) (x0 - 1)) ≤ 16 → (((iand (ixor x0 ((-1))) (x0 - 1)) ≤ 4 → (K.S (some (vI (1 + (iushr (iand (ixor x0 ((-1))) (x0 - 1)) 1)))) w sz n)) ∧ (¬ (iand (ixor x0 ((-1))) (x0 - 1)) ≤ 4 → (K.S (some (vI ((1 + 2) + (iushr (iushr (iand (ixor x0 ((-1))) (x0 - 1)) 2) 1)))) w sz n)))) ∧ (¬ (iand (ixor x0 ((-1))) (x0 - 1)) ≤ 16 → ((rI (iushr (iand (ixor x0 ((-1))) (x0 - 1)) 4)) ∧ (((iushr (iand (ixor x0 ((-1))) (x0 - 1)) 4) ≤ 4 → (K.S (some (vI ((1 + 4) + (iushr (iushr (iand (ixor x0 ((-1))) (x0 - 1)) 4) 1)))) w sz n)) ∧ (¬ (iushr (iand (ixor x0 ((-1))) (x0 - 1)) 4) ≤ 4 → (K.S (some (vI (((1 + 4) + 2) + (iushr (iushr (iushr (iand (ixor x0 ((-1))) (x0 - 1)) 4) 2) 1)))) w sz n))))))) ∧ (¬ (iand (ixor x0 ((-1))) (x0 - 1)) ≤ 256 → ((rI (iushr (iand (ixor x0 ((-1))) (x0 - 1)) 8)) ∧ (((iushr (iand (ixor x0 ((-1))) (x0 - 1)) 8) ≤ 16 → (((iushr (iand (ixor x0 ((-1))) (x0 - 1)) 8) ≤ 4 → (K.S (some (vI ((1 + 8) + (iushr (iushr (iand (ixor x0 ((-1))) (x0 - 1)) 8) 1)))) w sz n)) ∧ (¬ (iushr (iand (ixor x0 ((-1))) (x0 - 1)) 8) ≤ 4 → (K.S (some (vI (((1 + 8) + 2) + (iushr (iushr (iushr (iand (ixor x0 ((-1))) (x0 - 1)) 8) 2) 1)))) w sz n)))) ∧ (¬ (iushr (iand (ixor x0 ((-1))) (x0 - 1)) 8) ≤ 16 → ((rI (iushr (iushr (iand (ixor x0 ((-1))) (x0 - 1)) 8) 4)) ∧ (((iushr (iushr (iand (ixor x0 ((-1))) (x0 - 1)) 8) 4) ≤ 4 → (K.S (some (vI (((1 + 8) + 4) + (iushr (iushr (iushr (iand (ixor x0 ((-1))) (x0 - 1)) 8) 4) 1)))) w sz n)) ∧ (¬ (iushr (iushr (iand (ixor x0 ((-1))) (x0 - 1)) 8) 4) ≤ 4 → (K.S (some (vI ((((1 + 8) + 4) + 2) + (iushr (iushr (iushr (iushr (iand (ixor x0 ((-1))) (x0 - 1)) 8) 4) 2) 1)))) w sz n)))))))))) ∧ (¬ (iand (ixor x0 ((-1))) (x0 - 1)) ≤ 65536 → ((rI (iushr (iand (ixor x0 ((-1))) (x0 - 1)) 16)) ∧ (((iushr (iand (ixor x0 ((-1))) (x0 - 1)) 16) ≤ 256 → (((iushr (iand (ixor x0 ((-1))) (x0 - 1)) 16) ≤ 16 → (((iushr (iand (ixor x0 ((-1))) (x0 - 1)) 16) ≤ 4 → (K.S (some (vI ((1 + 16) + (iushr (iushr (iand (ixor x0 ((-1))) (x0 - 1)) 16) 1)))) w sz n)) ∧ (¬ (iushr (iand (ixor x0 ((-1))) (x0 - 1)) 16) ≤ 4 → (K.S (some (vI (((1 + 16) + 2) + (iushr (iushr (iushr (iand (ixor x0 ((-1))) (x0 - 1)) 16) 2) 1)))) w sz n)))) ∧ (¬ (iushr (iand (ixor x0 ((-1))) (x0 - 1)) 16) ≤ 16 → ((rI (iushr (iushr (iand (ixor x0 ((-1))) (x0 - 1)) 16) 4)) ∧ (((iushr (iushr (iand (ixor x0 ((-1))) (x0 - 1)) 16) 4) ≤ 4 → (K.S (some (vI (((1 + 16) + 4) + (iushr (iushr (iushr (iand (ixor x0 ((-1))) (x0 - 1)) 16) 4) 1)))) w sz n)) ∧ (¬ (iushr (iushr (iand (ixor x0 ((-1))) (x0 - 1)) 16) 4) ≤ 4 → (K.S (some (vI ((((1 + 16) + 4) + 2) + (iushr (iushr (iushr (iushr (iand (ixor x0 ((-1))) (x0 - 1)) 16) 4) 2) 1)))) w sz n))))))) ∧ (¬ (iushr (iand (ixor x0 ((-1))) (x0 - 1)) 16) ≤ 256 → ((rI (iushr (iushr (iand (ixor x0 ((-1))) (x0 - 1)) 16) 8)) ∧ (((iushr (iushr (iand (ixor x0 ((-1))) (x0 - 1)) 16) 8) ≤ 16 → (((iushr (iushr (iand (ixor x0 ((-1))) (x0 - 1)) 16) 8) ≤ 4 → (K.S (some (vI (((1 + 16) + 8) + (iushr (iushr (iushr (iand (ixor x0 ((-1))) (x0 - 1)) 16) 8) 1)))) w sz n)) ∧ (¬ (iushr (iushr (iand (ixor x0 ((-1))) (x0 - 1)) 16) 8) ≤ 4 → (K.S (some (vI ((((1 + 16) + 8) + 2) + (iushr (iushr (iushr (iushr (iand (ixor x0 ((-1))) (x0 - 1)) 16) 8) 2) 1)))) w sz n)))) ∧ (¬ (iushr (iushr (iand (ixor x0 ((-1))) (x0 - 1)) 16) 8) ≤ 16 → ((rI (iushr (iushr (iushr (iand (ixor x0 ((-1))) (x0 - 1)) 16) 8) 4)) ∧ (((iushr (iushr (iushr (iand (ixor x0 ((-1))) (x0 - 1)) 16) 8) 4) ≤ 4 → (K.S (some (vI ((((1 + 16) + 8) + 4) + (iushr (iushr (iushr (iushr (iand (ixor x0 ((-1))) (x0 - 1)) 16) 8) 4) 1)))) w sz n)) ∧ (¬ (iushr (iushr (iushr (iand (ixor x0 ((-1))) (x0 - 1)) 16) 8) 4) ≤ 4 → (K.S (some (vI (((((1 + 16) + 8) + 4) + 2) + (iushr (iushr (iushr (iushr (iushr (iand (ixor x0 ((-1))) (x0 - 1)) 16) 8) 4) 2) 1)))) w sz n))))))))))))) ∧ (¬ 0 < (iand (ixor x0 ((-1))) (x0 - 1)) → (K.S (some (vI (iand (iand (ixor x0 ((-1))) (x0 - 1)) 32))) w sz n)))) : VX K mJ9_numberOfTrailingZeros 0 [(0, vI x0)] [] w sz n := by
  refine v_iload_n 0 dJ9_numberOfTrailingZeros_0 rfl ?_
  refine v_iconst dJ9_numberOfTrailingZeros_1 ?_
  refine v_ixor dJ9_numberOfTrailingZeros_2 ?_
  refine v_iload_n 0 dJ9_numberOfTrailingZeros_3 rfl ?_
  refine v_iconst dJ9_numberOfTrailingZeros_4 ?_
  refine v_isub dJ9_numberOfTrailingZeros_5 ?_
  refine v_iand dJ9_numberOfTrailingZeros_6 ?_
  refine v_istore_n dJ9_numberOfTrailingZeros_7 (by decide) rfl ?_
  refine v_iload_n 0 dJ9_numberOfTrailingZeros_8 rfl ?_
  obtain ⟨s1, h⟩ := h
  obtain ⟨ht, hf⟩ := h
  refine v_if_gt 17 dJ9_numberOfTrailingZeros_9 (by decide) s1 (fun c => ?_) (fun c => ?_)
  · have h := ht c
    refine v_iconst dJ9_numberOfTrailingZeros_17 ?_
    refine v_istore_n dJ9_numberOfTrailingZeros_18 (by decide) rfl ?_
    refine v_iload_n 1 dJ9_numberOfTrailingZeros_19 rfl ?_
    refine v_ldcw (z := 65536) dJ9_numberOfTrailingZeros_20 q1974 ?_
    obtain ⟨ht, hf⟩ := h
    refine v_icmp_le 34 dJ9_numberOfTrailingZeros_23 (by decide) s1 (by decide) (fun c => ?_) (fun c => ?_)
    · have h := ht c
      refine v_iload_n 1 dJ9_numberOfTrailingZeros_34 rfl ?_
      refine v_sipush dJ9_numberOfTrailingZeros_35 rfl ?_
      obtain ⟨ht, hf⟩ := h
      refine v_icmp_le 49 dJ9_numberOfTrailingZeros_38 (by decide) s1 (by decide) (fun c => ?_) (fun c => ?_)
      · have h := ht c
        refine v_iload_n 1 dJ9_numberOfTrailingZeros_49 rfl ?_
        refine v_bipush dJ9_numberOfTrailingZeros_50 rfl ?_
        obtain ⟨ht, hf⟩ := h
        refine v_icmp_le 62 dJ9_numberOfTrailingZeros_52 (by decide) s1 (by decide) (fun c => ?_) (fun c => ?_)
        · have h := ht c
          refine v_iload_n 1 dJ9_numberOfTrailingZeros_62 rfl ?_
          refine v_iconst dJ9_numberOfTrailingZeros_63 ?_
          obtain ⟨ht, hf⟩ := h
          refine v_icmp_le 74 dJ9_numberOfTrailingZeros_64 (by decide) s1 (by decide) (fun c => ?_) (fun c => ?_)
          · have h := ht c
            refine v_iload_n 0 dJ9_numberOfTrailingZeros_74 rfl ?_
            refine v_iload_n 1 dJ9_numberOfTrailingZeros_75 rfl ?_
            refine v_iconst dJ9_numberOfTrailingZeros_76 ?_
            refine v_iushr dJ9_numberOfTrailingZeros_77 ?_
            refine v_iadd dJ9_numberOfTrailingZeros_78 ?_
            exact x_iret K dJ9_numberOfTrailingZeros_79 rfl h
          · have h := hf c
            refine v_iinc 0 dJ9_numberOfTrailingZeros_67 rfl (by decide) rfl ?_
            refine v_iload_n 1 dJ9_numberOfTrailingZeros_70 rfl ?_
            refine v_iconst dJ9_numberOfTrailingZeros_71 ?_
            refine v_iushr dJ9_numberOfTrailingZeros_72 ?_
            refine v_istore_n dJ9_numberOfTrailingZeros_73 (by decide) rfl ?_
            refine v_iload_n 1 dJ9_numberOfTrailingZeros_74 rfl ?_
            refine v_iload_n 0 dJ9_numberOfTrailingZeros_75 rfl ?_
            refine v_iconst dJ9_numberOfTrailingZeros_76 ?_
            refine v_iushr dJ9_numberOfTrailingZeros_77 ?_
            refine v_iadd dJ9_numberOfTrailingZeros_78 ?_
            exact x_iret K dJ9_numberOfTrailingZeros_79 rfl h
        · have h := hf c
          refine v_iinc 0 dJ9_numberOfTrailingZeros_55 rfl (by decide) rfl ?_
          refine v_iload_n 1 dJ9_numberOfTrailingZeros_58 rfl ?_
          refine v_iconst dJ9_numberOfTrailingZeros_59 ?_
          refine v_iushr dJ9_numberOfTrailingZeros_60 ?_
          refine v_istore_n dJ9_numberOfTrailingZeros_61 (by decide) rfl ?_
          refine v_iload_n 0 dJ9_numberOfTrailingZeros_62 rfl ?_
          refine v_iconst dJ9_numberOfTrailingZeros_63 ?_
          obtain ⟨s2, h⟩ := h
          obtain ⟨ht, hf⟩ := h
          refine v_icmp_le 74 dJ9_numberOfTrailingZeros_64 (by decide) s2 (by decide) (fun c => ?_) (fun c => ?_)
          · have h := ht c
            refine v_iload_n 1 dJ9_numberOfTrailingZeros_74 rfl ?_
            refine v_iload_n 0 dJ9_numberOfTrailingZeros_75 rfl ?_
            refine v_iconst dJ9_numberOfTrailingZeros_76 ?_
            refine v_iushr dJ9_numberOfTrailingZeros_77 ?_
            refine v_iadd dJ9_numberOfTrailingZeros_78 ?_
            exact x_iret K dJ9_numberOfTrailingZeros_79 rfl h
          · have h := hf c
            refine v_iinc 1 dJ9_numberOfTrailingZeros_67 rfl (by decide) rfl ?_
            refine v_iload_n 1 dJ9_numberOfTrailingZeros_70 rfl ?_
            refine v_iconst dJ9_numberOfTrailingZeros_71 ?_
            refine v_iushr dJ9_numberOfTrailingZeros_72 ?_
            refine v_istore_n dJ9_numberOfTrailingZeros_73 (by decide) rfl ?_
            refine v_iload_n 1 dJ9_numberOfTrailingZeros_74 rfl ?_
            refine v_iload_n 0 dJ9_numberOfTrailingZeros_75 rfl ?_
            refine v_iconst dJ9_numberOfTrailingZeros_76 ?_
            refine v_iushr dJ9_numberOfTrailingZeros_77 ?_
            refine v_iadd dJ9_numberOfTrailingZeros_78 ?_
            exact x_iret K dJ9_numberOfTrailingZeros_79 rfl h
      · have h := hf c
        refine v_iinc 0 dJ9_numberOfTrailingZeros_41 rfl (by decide) rfl ?_
        refine v_iload_n 1 dJ9_numberOfTrailingZeros_44 rfl ?_
        refine v_bipush dJ9_numberOfTrailingZeros_45 rfl ?_
        refine v_iushr dJ9_numberOfTrailingZeros_47 ?_
        refine v_istore_n dJ9_numberOfTrailingZeros_48 (by decide) rfl ?_
        refine v_iload_n 0 dJ9_numberOfTrailingZeros_49 rfl ?_
        refine v_bipush dJ9_numberOfTrailingZeros_50 rfl ?_
        obtain ⟨s2, h⟩ := h
        obtain ⟨ht, hf⟩ := h
        refine v_icmp_le 62 dJ9_numberOfTrailingZeros_52 (by decide) s2 (by decide) (fun c => ?_) (fun c => ?_)
        · have h := ht c
          refine v_iload_n 0 dJ9_numberOfTrailingZeros_62 rfl ?_
          refine v_iconst dJ9_numberOfTrailingZeros_63 ?_
          obtain ⟨ht, hf⟩ := h
          refine v_icmp_le 74 dJ9_numberOfTrailingZeros_64 (by decide) s2 (by decide) (fun c => ?_) (fun c => ?_)
          · have h := ht c
            refine v_iload_n 1 dJ9_numberOfTrailingZeros_74 rfl ?_
            refine v_iload_n 0 dJ9_numberOfTrailingZeros_75 rfl ?_
            refine v_iconst dJ9_numberOfTrailingZeros_76 ?_
            refine v_iushr dJ9_numberOfTrailingZeros_77 ?_
            refine v_iadd dJ9_numberOfTrailingZeros_78 ?_
            exact x_iret K dJ9_numberOfTrailingZeros_79 rfl h
          · have h := hf c
            refine v_iinc 1 dJ9_numberOfTrailingZeros_67 rfl (by decide) rfl ?_
            refine v_iload_n 1 dJ9_numberOfTrailingZeros_70 rfl ?_
            refine v_iconst dJ9_numberOfTrailingZeros_71 ?_
            refine v_iushr dJ9_numberOfTrailingZeros_72 ?_
            refine v_istore_n dJ9_numberOfTrailingZeros_73 (by decide) rfl ?_
            refine v_iload_n 1 dJ9_numberOfTrailingZeros_74 rfl ?_
            refine v_iload_n 0 dJ9_numberOfTrailingZeros_75 rfl ?_
            refine v_iconst dJ9_numberOfTrailingZeros_76 ?_
            refine v_iushr dJ9_numberOfTrailingZeros_77 ?_
            refine v_iadd dJ9_numberOfTrailingZeros_78 ?_
            exact x_iret K dJ9_numberOfTrailingZeros_79 rfl h
        · have h := hf c
          refine v_iinc 1 dJ9_numberOfTrailingZeros_55 rfl (by decide) rfl ?_
          refine v_iload_n 1 dJ9_numberOfTrailingZeros_58 rfl ?_
          refine v_iconst dJ9_numberOfTrailingZeros_59 ?_
          refine v_iushr dJ9_numberOfTrailingZeros_60 ?_
          refine v_istore_n dJ9_numberOfTrailingZeros_61 (by decide) rfl ?_
          refine v_iload_n 0 dJ9_numberOfTrailingZeros_62 rfl ?_
          refine v_iconst dJ9_numberOfTrailingZeros_63 ?_
          obtain ⟨s3, h⟩ := h
          obtain ⟨ht, hf⟩ := h
          refine v_icmp_le 74 dJ9_numberOfTrailingZeros_64 (by decide) s3 (by decide) (fun c => ?_) (fun c => ?_)
          · have h := ht c
            refine v_iload_n 1 dJ9_numberOfTrailingZeros_74 rfl ?_
            refine v_iload_n 0 dJ9_numberOfTrailingZeros_75 rfl ?_
            refine v_iconst dJ9_numberOfTrailingZeros_76 ?_
            refine v_iushr dJ9_numberOfTrailingZeros_77 ?_
            refine v_iadd dJ9_numberOfTrailingZeros_78 ?_
            exact x_iret K dJ9_numberOfTrailingZeros_79 rfl h
          · have h := hf c
            refine v_iinc 1 dJ9_numberOfTrailingZeros_67 rfl (by decide) rfl ?_
            refine v_iload_n 1 dJ9_numberOfTrailingZeros_70 rfl ?_
            refine v_iconst dJ9_numberOfTrailingZeros_71 ?_
            refine v_iushr dJ9_numberOfTrailingZeros_72 ?_
            refine v_istore_n dJ9_numberOfTrailingZeros_73 (by decide) rfl ?_
            refine v_iload_n 1 dJ9_numberOfTrailingZeros_74 rfl ?_
            refine v_iload_n 0 dJ9_numberOfTrailingZeros_75 rfl ?_
            refine v_iconst dJ9_numberOfTrailingZeros_76 ?_
            refine v_iushr dJ9_numberOfTrailingZeros_77 ?_
            refine v_iadd dJ9_numberOfTrailingZeros_78 ?_
            exact x_iret K dJ9_numberOfTrailingZeros_79 rfl h
    · have h := hf c
      refine v_iinc 0 dJ9_numberOfTrailingZeros_26 rfl (by decide) rfl ?_
      refine v_iload_n 1 dJ9_numberOfTrailingZeros_29 rfl ?_
      refine v_bipush dJ9_numberOfTrailingZeros_30 rfl ?_
      refine v_iushr dJ9_numberOfTrailingZeros_32 ?_
      refine v_istore_n dJ9_numberOfTrailingZeros_33 (by decide) rfl ?_
      refine v_iload_n 0 dJ9_numberOfTrailingZeros_34 rfl ?_
      refine v_sipush dJ9_numberOfTrailingZeros_35 rfl ?_
      obtain ⟨s2, h⟩ := h
      obtain ⟨ht, hf⟩ := h
      refine v_icmp_le 49 dJ9_numberOfTrailingZeros_38 (by decide) s2 (by decide) (fun c => ?_) (fun c => ?_)
      · have h := ht c
        refine v_iload_n 0 dJ9_numberOfTrailingZeros_49 rfl ?_
        refine v_bipush dJ9_numberOfTrailingZeros_50 rfl ?_
        obtain ⟨ht, hf⟩ := h
        refine v_icmp_le 62 dJ9_numberOfTrailingZeros_52 (by decide) s2 (by decide) (fun c => ?_) (fun c => ?_)
        · have h := ht c
          refine v_iload_n 0 dJ9_numberOfTrailingZeros_62 rfl ?_
          refine v_iconst dJ9_numberOfTrailingZeros_63 ?_
          obtain ⟨ht, hf⟩ := h
          refine v_icmp_le 74 dJ9_numberOfTrailingZeros_64 (by decide) s2 (by decide) (fun c => ?_) (fun c => ?_)
          · have h := ht c
            refine v_iload_n 1 dJ9_numberOfTrailingZeros_74 rfl ?_
            refine v_iload_n 0 dJ9_numberOfTrailingZeros_75 rfl ?_
            refine v_iconst dJ9_numberOfTrailingZeros_76 ?_
            refine v_iushr dJ9_numberOfTrailingZeros_77 ?_
            refine v_iadd dJ9_numberOfTrailingZeros_78 ?_
            exact x_iret K dJ9_numberOfTrailingZeros_79 rfl h
          · have h := hf c
            refine v_iinc 1 dJ9_numberOfTrailingZeros_67 rfl (by decide) rfl ?_
            refine v_iload_n 1 dJ9_numberOfTrailingZeros_70 rfl ?_
            refine v_iconst dJ9_numberOfTrailingZeros_71 ?_
            refine v_iushr dJ9_numberOfTrailingZeros_72 ?_
            refine v_istore_n dJ9_numberOfTrailingZeros_73 (by decide) rfl ?_
            refine v_iload_n 1 dJ9_numberOfTrailingZeros_74 rfl ?_
            refine v_iload_n 0 dJ9_numberOfTrailingZeros_75 rfl ?_
            refine v_iconst dJ9_numberOfTrailingZeros_76 ?_
            refine v_iushr dJ9_numberOfTrailingZeros_77 ?_
            refine v_iadd dJ9_numberOfTrailingZeros_78 ?_
            exact x_iret K dJ9_numberOfTrailingZeros_79 rfl h
        · have h := hf c
          refine v_iinc 1 dJ9_numberOfTrailingZeros_55 rfl (by decide) rfl ?_
          refine v_iload_n 1 dJ9_numberOfTrailingZeros_58 rfl ?_
          refine v_iconst dJ9_numberOfTrailingZeros_59 ?_
          refine v_iushr dJ9_numberOfTrailingZeros_60 ?_
          refine v_istore_n dJ9_numberOfTrailingZeros_61 (by decide) rfl ?_
          refine v_iload_n 0 dJ9_numberOfTrailingZeros_62 rfl ?_
          refine v_iconst dJ9_numberOfTrailingZeros_63 ?_
          obtain ⟨s3, h⟩ := h
          obtain ⟨ht, hf⟩ := h
          refine v_icmp_le 74 dJ9_numberOfTrailingZeros_64 (by decide) s3 (by decide) (fun c => ?_) (fun c => ?_)
          · have h := ht c
            refine v_iload_n 1 dJ9_numberOfTrailingZeros_74 rfl ?_
            refine v_iload_n 0 dJ9_numberOfTrailingZeros_75 rfl ?_
            refine v_iconst dJ9_numberOfTrailingZeros_76 ?_
            refine v_iushr dJ9_numberOfTrailingZeros_77 ?_
            refine v_iadd dJ9_numberOfTrailingZeros_78 ?_
            exact x_iret K dJ9_numberOfTrailingZeros_79 rfl h
          · have h := hf c
            refine v_iinc 1 dJ9_numberOfTrailingZeros_67 rfl (by decide) rfl ?_
            refine v_iload_n 1 dJ9_numberOfTrailingZeros_70 rfl ?_
            refine v_iconst dJ9_numberOfTrailingZeros_71 ?_
            refine v_iushr dJ9_numberOfTrailingZeros_72 ?_
            refine v_istore_n dJ9_numberOfTrailingZeros_73 (by decide) rfl ?_
            refine v_iload_n 1 dJ9_numberOfTrailingZeros_74 rfl ?_
            refine v_iload_n 0 dJ9_numberOfTrailingZeros_75 rfl ?_
            refine v_iconst dJ9_numberOfTrailingZeros_76 ?_
            refine v_iushr dJ9_numberOfTrailingZeros_77 ?_
            refine v_iadd dJ9_numberOfTrailingZeros_78 ?_
            exact x_iret K dJ9_numberOfTrailingZeros_79 rfl h
      · have h := hf c
        refine v_iinc 1 dJ9_numberOfTrailingZeros_41 rfl (by decide) rfl ?_
        refine v_iload_n 1 dJ9_numberOfTrailingZeros_44 rfl ?_
        refine v_bipush dJ9_numberOfTrailingZeros_45 rfl ?_
        refine v_iushr dJ9_numberOfTrailingZeros_47 ?_
        refine v_istore_n dJ9_numberOfTrailingZeros_48 (by decide) rfl ?_
        refine v_iload_n 0 dJ9_numberOfTrailingZeros_49 rfl ?_
        refine v_bipush dJ9_numberOfTrailingZeros_50 rfl ?_
        obtain ⟨s3, h⟩ := h
        obtain ⟨ht, hf⟩ := h
        refine v_icmp_le 62 dJ9_numberOfTrailingZeros_52 (by decide) s3 (by decide) (fun c => ?_) (fun c => ?_)
        · have h := ht c
          refine v_iload_n 0 dJ9_numberOfTrailingZeros_62 rfl ?_
          refine v_iconst dJ9_numberOfTrailingZeros_63 ?_
          obtain ⟨ht, hf⟩ := h
          refine v_icmp_le 74 dJ9_numberOfTrailingZeros_64 (by decide) s3 (by decide) (fun c => ?_) (fun c => ?_)
          · have h := ht c
            refine v_iload_n 1 dJ9_numberOfTrailingZeros_74 rfl ?_
            refine v_iload_n 0 dJ9_numberOfTrailingZeros_75 rfl ?_
            refine v_iconst dJ9_numberOfTrailingZeros_76 ?_
            refine v_iushr dJ9_numberOfTrailingZeros_77 ?_
            refine v_iadd dJ9_numberOfTrailingZeros_78 ?_
            exact x_iret K dJ9_numberOfTrailingZeros_79 rfl h
          · have h := hf c
            refine v_iinc 1 dJ9_numberOfTrailingZeros_67 rfl (by decide) rfl ?_
            refine v_iload_n 1 dJ9_numberOfTrailingZeros_70 rfl ?_
            refine v_iconst dJ9_numberOfTrailingZeros_71 ?_
            refine v_iushr dJ9_numberOfTrailingZeros_72 ?_
            refine v_istore_n dJ9_numberOfTrailingZeros_73 (by decide) rfl ?_
            refine v_iload_n 1 dJ9_numberOfTrailingZeros_74 rfl ?_
            refine v_iload_n 0 dJ9_numberOfTrailingZeros_75 rfl ?_
            refine v_iconst dJ9_numberOfTrailingZeros_76 ?_
            refine v_iushr dJ9_numberOfTrailingZeros_77 ?_
            refine v_iadd dJ9_numberOfTrailingZeros_78 ?_
            exact x_iret K dJ9_numberOfTrailingZeros_79 rfl h
        · have h := hf c
          refine v_iinc 1 dJ9_numberOfTrailingZeros_55 rfl (by decide) rfl ?_
          refine v_iload_n 1 dJ9_numberOfTrailingZeros_58 rfl ?_
          refine v_iconst dJ9_numberOfTrailingZeros_59 ?_
          refine v_iushr dJ9_numberOfTrailingZeros_60 ?_
          refine v_istore_n dJ9_numberOfTrailingZeros_61 (by decide) rfl ?_
          refine v_iload_n 0 dJ9_numberOfTrailingZeros_62 rfl ?_
          refine v_iconst dJ9_numberOfTrailingZeros_63 ?_
          obtain ⟨s4, h⟩ := h
          obtain ⟨ht, hf⟩ := h
          refine v_icmp_le 74 dJ9_numberOfTrailingZeros_64 (by decide) s4 (by decide) (fun c => ?_) (fun c => ?_)
          · have h := ht c
            refine v_iload_n 1 dJ9_numberOfTrailingZeros_74 rfl ?_
            refine v_iload_n 0 dJ9_numberOfTrailingZeros_75 rfl ?_
            refine v_iconst dJ9_numberOfTrailingZeros_76 ?_
            refine v_iushr dJ9_numberOfTrailingZeros_77 ?_
            refine v_iadd dJ9_numberOfTrailingZeros_78 ?_
            exact x_iret K dJ9_numberOfTrailingZeros_79 rfl h
          · have h := hf c
            refine v_iinc 1 dJ9_numberOfTrailingZeros_67 rfl (by decide) rfl ?_
            refine v_iload_n 1 dJ9_numberOfTrailingZeros_70 rfl ?_
            refine v_iconst dJ9_numberOfTrailingZeros_71 ?_
            refine v_iushr dJ9_numberOfTrailingZeros_72 ?_
            refine v_istore_n dJ9_numberOfTrailingZeros_73 (by decide) rfl ?_
            refine v_iload_n 1 dJ9_numberOfTrailingZeros_74 rfl ?_
            refine v_iload_n 0 dJ9_numberOfTrailingZeros_75 rfl ?_
            refine v_iconst dJ9_numberOfTrailingZeros_76 ?_
            refine v_iushr dJ9_numberOfTrailingZeros_77 ?_
            refine v_iadd dJ9_numberOfTrailingZeros_78 ?_
            exact x_iret K dJ9_numberOfTrailingZeros_79 rfl h
  · have h := hf c
    refine v_iload_n 0 dJ9_numberOfTrailingZeros_12 rfl ?_
    refine v_bipush dJ9_numberOfTrailingZeros_13 rfl ?_
    refine v_iand dJ9_numberOfTrailingZeros_15 ?_
    exact x_iret K dJ9_numberOfTrailingZeros_16 rfl h
/-! BranchNames.atomsOf -/
theorem wX0_atomsOf_0 (K : KV) {q0 : Nat} {w : Wd} {sz n : Nat} (h : ∃ (F1 : Nat → Int) (P1 : Nat → Option Nat) (A1 : Nat → Int → Int) (M1 : Nat → Int → Int → Int) (N1 : Nat → Int → Int → Option Nat), (w q0 = some (obT F1 P1 A1 M1 N1)) ∧ (K.S (some (vI (F1 4))) w sz n)) : VX K mX0_atomsOf 0 [(0, .ref q0)] [] w sz n := by
  refine v_aload_n 0 dX0_atomsOf_0 rfl (isR_ref _) ?_
  obtain ⟨F1, P1, A1, M1, N1, hw1, h⟩ := h
  refine v_get (q := q0) (j := 0) (v := vI (F1 4)) dX0_atomsOf_1 fX0_44 hw1 rfl (lay_T0 _ _ _ _ _ _) rfl ?_
  exact x_iret K dX0_atomsOf_4 rfl h
/-! BranchNames.hydrogensOf -/
theorem wX0_hydrogensOf_0 (K : KV) {q0 : Nat} {w : Wd} {sz n : Nat} (h : ∃ (F1 : Nat → Int) (P1 : Nat → Option Nat) (A1 : Nat → Int → Int) (M1 : Nat → Int → Int → Int) (N1 : Nat → Int → Int → Option Nat), (w q0 = some (obT F1 P1 A1 M1 N1)) ∧ (K.S (some (vI ((2 * (F1 4)) + 2))) w sz n)) : VX K mX0_hydrogensOf 0 [(0, .ref q0)] [] w sz n := by
  refine v_iconst dX0_hydrogensOf_0 ?_
  refine v_aload_n 0 dX0_hydrogensOf_1 rfl (isR_ref _) ?_
  obtain ⟨F1, P1, A1, M1, N1, hw1, h⟩ := h
  refine v_get (q := q0) (j := 0) (v := vI (F1 4)) dX0_hydrogensOf_2 fX0_44 hw1 rfl (lay_T0 _ _ _ _ _ _) rfl ?_
  refine v_imul dX0_hydrogensOf_5 ?_
  refine v_iconst dX0_hydrogensOf_6 ?_
  refine v_iadd dX0_hydrogensOf_7 ?_
  exact x_iret K dX0_hydrogensOf_8 rfl h
/-! BranchNames.lambda$new$2 -/
theorem wX0_lambda_new_2_0 (K : KV) {x0 q1 : Nat} {w : Wd} {sz n : Nat} (h : ∃ (F1 : Nat → Int) (p1 : Nat), (w x0 = some (obX x0 F1 p1)) ∧ (CI mX0_twos K [.ref x0, .ref q1, vI ((-1))] w sz n fun r2 w2 z2 n2 => K.S (some (vI r2)) w2 z2 n2)) : VX K mX0_lambda_new_2 0 [(0, .ref x0), (1, .ref q1)] [] w sz n := by
  refine v_aload_n 0 dX0_lambda_new_2_0 rfl (isR_ref _) ?_
  refine v_aload_n 1 dX0_lambda_new_2_1 rfl (isR_ref _) ?_
  refine v_iconst dX0_lambda_new_2_2 ?_
  obtain ⟨F1, p1, hw1, h⟩ := h
  refine x_callVI K (As := [.ref q1, vI ((-1))]) dX0_lambda_new_2_3 LX0_692 rfl rfl (Nat.le_of_ble_eq_true rfl) (rc_of hw1 (lay_X0 _ _ _) rfl) h (fun r2 w2 z2 n2 h => ?_)
  exact x_iret K dX0_lambda_new_2_6 rfl h
/-! BranchNames.twos -/
theorem wX0_twos_0 (K : KV) {x2 : Int} {x0 q1 : Nat} {w : Wd} {sz n : Nat} (h : ∃ (F1 : Nat → Int) (p1 : Nat), (w x0 = some (obX x0 F1 p1)) ∧ (CV mX0_measures K [.ref x0, .ref q1] w sz n fun w2 z2 n2 => VX K mX0_twos 10 [(0, .ref x0), (1, .ref q1), (2, vI x2), (3, vI 0), (4, vI 0)] [] w2 z2 n2)) : VX K mX0_twos 0 [(0, .ref x0), (1, .ref q1), (2, vI x2)] [] w sz n := by
  refine v_aload_n 0 dX0_twos_0 rfl (isR_ref _) ?_
  refine v_aload_n 1 dX0_twos_1 rfl (isR_ref _) ?_
  obtain ⟨F1, p1, hw1, h⟩ := h
  refine x_callVV K (As := [.ref q1]) dX0_twos_2 LX0_54 rfl rfl (Nat.le_of_ble_eq_true rfl) (rc_of hw1 (lay_X0 _ _ _) rfl) h (fun w2 z2 n2 h => ?_)
  refine v_iconst dX0_twos_5 ?_
  refine v_istore_n dX0_twos_6 (by decide) rfl ?_
  refine v_iconst dX0_twos_7 ?_
  refine v_istore dX0_twos_8 (by decide) rfl ?_
  refine V.sub [2, 3, 4, 1, 0] rfl ?_
  exact h
theorem wX0_twos_10 (K : KV) {x2 x3 x4 : Int} {x0 q1 : Nat} {w : Wd} {sz n : Nat} (h : ∃ (F1 : Nat → Int) (P1 : Nat → Option Nat) (A1 : Nat → Int → Int) (M1 : Nat → Int → Int → Int) (N1 : Nat → Int → Int → Option Nat), (w q1 = some (obT F1 P1 A1 M1 N1)) ∧ ((rI x4) ∧ ((rI (F1 4)) ∧ (((F1 4) ≤ x4 → (K.S (some (vI x3)) w sz n)) ∧ (¬ (F1 4) ≤ x4 → (VX K mX0_twos 25 [(0, .ref x0), (1, .ref q1), (2, vI x2), (3, vI x3), (4, vI x4), (5, vI (x4 + 1))] [] w sz n)))))) : VX K mX0_twos 10 [(0, .ref x0), (1, .ref q1), (2, vI x2), (3, vI x3), (4, vI x4)] [] w sz n := by
  refine v_iload 4 dX0_twos_10 rfl ?_
  refine v_aload_n 1 dX0_twos_12 rfl (isR_ref _) ?_
  obtain ⟨F1, P1, A1, M1, N1, hw1, h⟩ := h
  refine v_get (q := q1) (j := 0) (v := vI (F1 4)) dX0_twos_13 fX0_44 hw1 rfl (lay_T0 _ _ _ _ _ _) rfl ?_
  obtain ⟨s2, h⟩ := h
  obtain ⟨s3, h⟩ := h
  obtain ⟨ht, hf⟩ := h
  refine v_icmp_ge 86 dX0_twos_16 (by decide) s2 s3 (fun c => ?_) (fun c => ?_)
  · have h := ht c
    refine v_iload_n 3 dX0_twos_86 rfl ?_
    exact x_iret K dX0_twos_87 rfl h
  · have h := hf c
    refine v_iload 4 dX0_twos_19 rfl ?_
    refine v_iconst dX0_twos_21 ?_
    refine v_iadd dX0_twos_22 ?_
    refine v_istore dX0_twos_23 (by decide) rfl ?_
    refine V.sub [1, 2, 3, 4, 5, 0] rfl ?_
    exact h
theorem wX0_twos_25 (K : KV) {x2 x3 x4 x5 : Int} {x0 q1 : Nat} {w : Wd} {sz n : Nat} (h : ∃ (F1 : Nat → Int) (P1 : Nat → Option Nat) (A1 : Nat → Int → Int) (M1 : Nat → Int → Int → Int) (N1 : Nat → Int → Int → Option Nat), (w q1 = some (obT F1 P1 A1 M1 N1)) ∧ ((rI x5) ∧ ((rI (F1 4)) ∧ (((F1 4) ≤ x5 → (VX K mX0_twos 10 [(0, .ref x0), (1, .ref q1), (2, vI x2), (3, vI x3), (4, vI (x4 + 1))] [] w sz n)) ∧ (¬ (F1 4) ≤ x5 → ((rI x2) ∧ ((¬ x2 = ((-1)) → (∃ (F5 : Nat → Int) (p5 : Nat), (w x0 = some (obX x0 F5 p5)) ∧ (∃ (A6 : Nat → Int → Int) (B6 : Nat → Int → Option Nat) (M6 : Nat → Int → Int → Int), (w (x0 + 221) = some (obXA A6 B6 M6)) ∧ ((0 ≤ x4 ∧ x4 < 13) ∧ ((0 ≤ x5 ∧ x5 < 13) ∧ ((rI (M6 1 x4 x5)) ∧ ((¬ (M6 1 x4 x5) = x2 → (VX K mX0_twos 25 [(0, .ref x0), (1, .ref q1), (2, vI x2), (3, vI (x3 + 0)), (4, vI x4), (5, vI (x5 + 1))] [] w sz n)) ∧ ((M6 1 x4 x5) = x2 → (VX K mX0_twos 25 [(0, .ref x0), (1, .ref q1), (2, vI x2), (3, vI (x3 + 1)), (4, vI x4), (5, vI (x5 + 1))] [] w sz n))))))))) ∧ (x2 = ((-1)) → (∃ (F5 : Nat → Int) (p5 : Nat), (w x0 = some (obX x0 F5 p5)) ∧ (∃ (A6 : Nat → Int → Int) (B6 : Nat → Int → Option Nat) (M6 : Nat → Int → Int → Int), (w (x0 + 221) = some (obXA A6 B6 M6)) ∧ ((0 ≤ x4 ∧ x4 < 13) ∧ ((0 ≤ x5 ∧ x5 < 13) ∧ (VX K mX0_twos 25 [(0, .ref x0), (1, .ref q1), (2, vI x2), (3, vI (x3 + (M6 1 x4 x5))), (4, vI x4), (5, vI (x5 + 1))] [] w sz n))))))))))))) : VX K mX0_twos 25 [(0, .ref x0), (1, .ref q1), (2, vI x2), (3, vI x3), (4, vI x4), (5, vI x5)] [] w sz n := by
  refine v_iload 5 dX0_twos_25 rfl ?_
  refine v_aload_n 1 dX0_twos_27 rfl (isR_ref _) ?_
  obtain ⟨F1, P1, A1, M1, N1, hw1, h⟩ := h
  refine v_get (q := q1) (j := 0) (v := vI (F1 4)) dX0_twos_28 fX0_44 hw1 rfl (lay_T0 _ _ _ _ _ _) rfl ?_
  obtain ⟨s2, h⟩ := h
  obtain ⟨s3, h⟩ := h
  obtain ⟨ht, hf⟩ := h
  refine v_icmp_ge 80 dX0_twos_31 (by decide) s2 s3 (fun c => ?_) (fun c => ?_)
  · have h := ht c
    refine v_iinc 4 dX0_twos_80 rfl (by decide) rfl ?_
    refine v_goto 10 dX0_twos_83 (by decide) ?_
    refine V.sub [1, 2, 3, 4, 0] rfl ?_
    exact h
  · have h := hf c
    refine v_iload_n 3 dX0_twos_34 rfl ?_
    refine v_iload_n 2 dX0_twos_35 rfl ?_
    refine v_iconst dX0_twos_36 ?_
    obtain ⟨s4, h⟩ := h
    obtain ⟨ht, hf⟩ := h
    refine v_icmp_ne 53 dX0_twos_37 (by decide) s4 (by decide) (fun c => ?_) (fun c => ?_)
    · have h := ht c
      refine v_aload_n 0 dX0_twos_53 rfl (isR_ref _) ?_
      obtain ⟨F5, p5, hw5, h⟩ := h
      refine v_get (q := x0) (j := 0) (v := .ref (x0 + 221 + 16)) dX0_twos_54 fX0_37 hw5 rfl (lay_X0 _ _ _) rfl ?_
      refine v_iload 4 dX0_twos_57 rfl ?_
      obtain ⟨A6, B6, M6, hw6, h⟩ := h
      obtain ⟨s7, h⟩ := h
      refine v_aaldR (q := x0 + 221) (j := 16) (q0 := x0 + 221 + 16 + 1) (t := 8) (by decide) dX0_twos_59 hw6 rfl (lay_XA 16 rfl) s7 (by decide) ?_
      refine v_iload 5 dX0_twos_60 rfl ?_
      obtain ⟨s8, h⟩ := h
      refine v_iald (q := x0 + 221) (j := 17 + Int.toNat x4) (f := M6 1 x4) dX0_twos_62 hw6 (by omega) (lay_XAr 17 (by decide) xr_far s7) s8 (by decide) ?_
      refine v_iload_n 2 dX0_twos_63 rfl ?_
      obtain ⟨s9, h⟩ := h
      obtain ⟨ht, hf⟩ := h
      refine v_icmp_ne 71 dX0_twos_64 (by decide) s9 s4 (fun c => ?_) (fun c => ?_)
      · have h := ht c
        refine v_iconst dX0_twos_71 ?_
        refine v_iadd dX0_twos_72 ?_
        refine v_istore_n dX0_twos_73 (by decide) rfl ?_
        refine v_iinc 5 dX0_twos_74 rfl (by decide) rfl ?_
        refine v_goto 25 dX0_twos_77 (by decide) ?_
        refine V.sub [2, 3, 4, 1, 5, 0] rfl ?_
        exact h
      · have h := hf c
        refine v_iconst dX0_twos_67 ?_
        refine v_goto 72 dX0_twos_68 (by decide) ?_
        refine v_iadd dX0_twos_72 ?_
        refine v_istore_n dX0_twos_73 (by decide) rfl ?_
        refine v_iinc 5 dX0_twos_74 rfl (by decide) rfl ?_
        refine v_goto 25 dX0_twos_77 (by decide) ?_
        refine V.sub [2, 3, 4, 1, 5, 0] rfl ?_
        exact h
    · have h := hf c
      refine v_aload_n 0 dX0_twos_40 rfl (isR_ref _) ?_
      obtain ⟨F5, p5, hw5, h⟩ := h
      refine v_get (q := x0) (j := 0) (v := .ref (x0 + 221 + 16)) dX0_twos_41 fX0_37 hw5 rfl (lay_X0 _ _ _) rfl ?_
      refine v_iload 4 dX0_twos_44 rfl ?_
      obtain ⟨A6, B6, M6, hw6, h⟩ := h
      obtain ⟨s7, h⟩ := h
      refine v_aaldR (q := x0 + 221) (j := 16) (q0 := x0 + 221 + 16 + 1) (t := 8) (by decide) dX0_twos_46 hw6 rfl (lay_XA 16 rfl) s7 (by decide) ?_
      refine v_iload 5 dX0_twos_47 rfl ?_
      obtain ⟨s8, h⟩ := h
      refine v_iald (q := x0 + 221) (j := 17 + Int.toNat x4) (f := M6 1 x4) dX0_twos_49 hw6 (by omega) (lay_XAr 17 (by decide) xr_far s7) s8 (by decide) ?_
      refine v_goto 72 dX0_twos_50 (by decide) ?_
      refine v_iadd dX0_twos_72 ?_
      refine v_istore_n dX0_twos_73 (by decide) rfl ?_
      refine v_iinc 5 dX0_twos_74 rfl (by decide) rfl ?_
      refine v_goto 25 dX0_twos_77 (by decide) ?_
      refine V.sub [2, 3, 4, 1, 5, 0] rfl ?_
      exact h
/-! BranchNames.measures -/
theorem wX0_measures_0 (K : KV) {x0 q1 : Nat} {w : Wd} {sz n : Nat} (h : VX K mX0_measures 2 [(0, .ref x0), (1, .ref q1), (2, vI 0)] [] w sz n) : VX K mX0_measures 0 [(0, .ref x0), (1, .ref q1)] [] w sz n := by
  refine v_iconst dX0_measures_0 ?_
  refine v_istore_n dX0_measures_1 (by decide) rfl ?_
  refine V.sub [1, 2, 0] rfl ?_
  exact h
theorem wX0_measures_2 (K : KV) {x2 : Int} {x0 q1 : Nat} {w : Wd} {sz n : Nat} (h : ∃ (F1 : Nat → Int) (P1 : Nat → Option Nat) (A1 : Nat → Int → Int) (M1 : Nat → Int → Int → Int) (N1 : Nat → Int → Int → Option Nat), (w q1 = some (obT F1 P1 A1 M1 N1)) ∧ ((rI x2) ∧ ((rI (F1 4)) ∧ (((F1 4) ≤ x2 → (K.S none w sz n)) ∧ (¬ (F1 4) ≤ x2 → (∃ (F4 : Nat → Int) (p4 : Nat), (w x0 = some (obX x0 F4 p4)) ∧ (CV mX0_goes K [.ref x0, .ref q1, vI x2, vI x2, vI ((-1)), vI 0] w sz n fun w5 z5 n5 => VX K mX0_measures 2 [(0, .ref x0), (1, .ref q1), (2, vI (x2 + 1))] [] w5 z5 n5))))))) : VX K mX0_measures 2 [(0, .ref x0), (1, .ref q1), (2, vI x2)] [] w sz n := by
  refine v_iload_n 2 dX0_measures_2 rfl ?_
  refine v_aload_n 1 dX0_measures_3 rfl (isR_ref _) ?_
  obtain ⟨F1, P1, A1, M1, N1, hw1, h⟩ := h
  refine v_get (q := q1) (j := 0) (v := vI (F1 4)) dX0_measures_4 fX0_44 hw1 rfl (lay_T0 _ _ _ _ _ _) rfl ?_
  obtain ⟨s2, h⟩ := h
  obtain ⟨s3, h⟩ := h
  obtain ⟨ht, hf⟩ := h
  refine v_icmp_ge 25 dX0_measures_7 (by decide) s2 s3 (fun c => ?_) (fun c => ?_)
  · have h := ht c
    exact v_vret dX0_measures_25 rfl h
  · have h := hf c
    refine v_aload_n 0 dX0_measures_10 rfl (isR_ref _) ?_
    refine v_aload_n 1 dX0_measures_11 rfl (isR_ref _) ?_
    refine v_iload_n 2 dX0_measures_12 rfl ?_
    refine v_iload_n 2 dX0_measures_13 rfl ?_
    refine v_iconst dX0_measures_14 ?_
    refine v_iconst dX0_measures_15 ?_
    obtain ⟨F4, p4, hw4, h⟩ := h
    refine x_callVV K (As := [.ref q1, vI x2, vI x2, vI ((-1)), vI 0]) dX0_measures_16 LX0_40 rfl rfl (Nat.le_of_ble_eq_true rfl) (rc_of hw4 (lay_X0 _ _ _) rfl) h (fun w5 z5 n5 h => ?_)
    refine v_iinc 2 dX0_measures_19 rfl (by decide) rfl ?_
    refine v_goto 2 dX0_measures_22 (by decide) ?_
    refine V.sub [1, 2, 0] rfl ?_
    exact h
/-! BranchNames.goes -/
theorem wX0_goes_0 (K : KV) {x2 x3 x4 x5 : Int} {x0 q1 : Nat} {w : Wd} {sz n : Nat} (h : ∃ (F1 : Nat → Int) (p1 : Nat), (w x0 = some (obX x0 F1 p1)) ∧ (∃ (A2 : Nat → Int → Int) (B2 : Nat → Int → Option Nat) (M2 : Nat → Int → Int → Int), (w (x0 + 221) = some (obXA A2 B2 M2)) ∧ ((0 ≤ x2 ∧ x2 < 13) ∧ ((0 ≤ x3 ∧ x3 < 13) ∧ ((K.G.base ≤ x0 + 221) ∧ (VX K mX0_goes 13 [(0, .ref x0), (1, .ref q1), (2, vI x2), (3, vI x3), (4, vI x4), (5, vI x5), (6, vI 0)] [] (wset w (x0 + 221) (some (obXA A2 B2 (upM M2 1 x2 x3 x5)))) sz n)))))) : VX K mX0_goes 0 [(0, .ref x0), (1, .ref q1), (2, vI x2), (3, vI x3), (4, vI x4), (5, vI x5)] [] w sz n := by
  refine v_aload_n 0 dX0_goes_0 rfl (isR_ref _) ?_
  obtain ⟨F1, p1, hw1, h⟩ := h
  refine v_get (q := x0) (j := 0) (v := .ref (x0 + 221 + 16)) dX0_goes_1 fX0_37 hw1 rfl (lay_X0 _ _ _) rfl ?_
  refine v_iload_n 2 dX0_goes_4 rfl ?_
  obtain ⟨A2, B2, M2, hw2, h⟩ := h
  obtain ⟨s3, h⟩ := h
  refine v_aaldR (q := x0 + 221) (j := 16) (q0 := x0 + 221 + 16 + 1) (t := 8) (by decide) dX0_goes_5 hw2 rfl (lay_XA 16 rfl) s3 (by decide) ?_
  refine v_iload_n 3 dX0_goes_6 rfl ?_
  refine v_iload 5 dX0_goes_7 rfl ?_
  obtain ⟨s4, h⟩ := h
  obtain ⟨s5, h⟩ := h
  refine v_iast (q := x0 + 221) (j := 17 + Int.toNat x2) (f := M2 1 x2) (obXA A2 B2 (upM M2 1 x2 x3 x5)) dX0_goes_9 hw2 (by omega) (lay_XAr 17 (by decide) xr_far s3) s4 (by decide) (chg_XAr 17 _ _ (by decide) xr_far s3) s5 ?_
  refine v_iconst dX0_goes_10 ?_
  refine v_istore dX0_goes_11 (by decide) rfl ?_
  refine V.sub [1, 2, 3, 4, 5, 6, 0] rfl ?_
  exact h
theorem wX0_goes_13 (K : KV) {x2 x3 x4 x5 x6 : Int} {x0 q1 : Nat} {w : Wd} {sz n : Nat} (h : ∃ (F1 : Nat → Int) (P1 : Nat → Option Nat) (A1 : Nat → Int → Int) (M1 : Nat → Int → Int → Int) (N1 : Nat → Int → Int → Option Nat), (w q1 = some (obT F1 P1 A1 M1 N1)) ∧ ((0 ≤ x3 ∧ x3 < 13) ∧ ((rI x6) ∧ ((rI (A1 0 x3)) ∧ (((A1 0 x3) ≤ x6 → (K.S none w sz n)) ∧ (¬ (A1 0 x3) ≤ x6 → ((0 ≤ x6 ∧ x6 < 4) ∧ ((rI (M1 0 x3 x6)) ∧ ((rI x4) ∧ (((M1 0 x3 x6) = x4 → (VX K mX0_goes 13 [(0, .ref x0), (1, .ref q1), (2, vI x2), (3, vI x3), (4, vI x4), (5, vI x5), (6, vI (x6 + 1))] [] w sz n)) ∧ (¬ (M1 0 x3 x6) = x4 → (∃ (F8 : Nat → Int) (p8 : Nat), (w x0 = some (obX x0 F8 p8)) ∧ (CV mX0_goes K [.ref x0, .ref q1, vI x2, vI (M1 0 x3 x6), vI x3, vI (x5 + 1)] w sz n fun w9 z9 n9 => VX K mX0_goes 13 [(0, .ref x0), (1, .ref q1), (2, vI x2), (3, vI x3), (4, vI x4), (5, vI x5), (6, vI (x6 + 1))] [] w9 z9 n9))))))))))))) : VX K mX0_goes 13 [(0, .ref x0), (1, .ref q1), (2, vI x2), (3, vI x3), (4, vI x4), (5, vI x5), (6, vI x6)] [] w sz n := by
  refine v_iload 6 dX0_goes_13 rfl ?_
  refine v_aload_n 1 dX0_goes_15 rfl (isR_ref _) ?_
  obtain ⟨F1, P1, A1, M1, N1, hw1, h⟩ := h
  refine v_get (q := q1) (j := 0) (v := .ref (q1 + 43)) dX0_goes_16 fX0_11 hw1 rfl (lay_T0 _ _ _ _ _ _) rfl ?_
  refine v_iload_n 3 dX0_goes_19 rfl ?_
  obtain ⟨s2, h⟩ := h
  refine v_iald (q := q1) (j := 43) (f := A1 0) dX0_goes_20 hw1 rfl rfl s2 (by decide) ?_
  obtain ⟨s3, h⟩ := h
  obtain ⟨s4, h⟩ := h
  obtain ⟨ht, hf⟩ := h
  refine v_icmp_ge 64 dX0_goes_21 (by decide) s3 s4 (fun c => ?_) (fun c => ?_)
  · have h := ht c
    exact v_vret dX0_goes_64 rfl h
  · have h := hf c
    refine v_aload_n 1 dX0_goes_24 rfl (isR_ref _) ?_
    refine v_get (q := q1) (j := 0) (v := .ref (q1 + 1)) dX0_goes_25 fX0_17 hw1 rfl (lay_T0 _ _ _ _ _ _) rfl ?_
    refine v_iload_n 3 dX0_goes_28 rfl ?_
    refine v_aaldR (q := q1) (j := 1) (q0 := q1 + 2) (t := 8) (by decide) dX0_goes_29 hw1 rfl rfl s2 (by decide) ?_
    refine v_iload 6 dX0_goes_30 rfl ?_
    obtain ⟨s5, h⟩ := h
    refine v_iald (q := q1) (j := 2 + Int.toNat x3) (f := M1 0 x3) dX0_goes_32 hw1 (Nat.add_assoc _ _ _) (lay_Tn s2) s5 (by decide) ?_
    refine v_iload 4 dX0_goes_33 rfl ?_
    obtain ⟨s6, h⟩ := h
    obtain ⟨s7, h⟩ := h
    obtain ⟨ht, hf⟩ := h
    refine v_icmp_eq 58 dX0_goes_35 (by decide) s6 s7 (fun c => ?_) (fun c => ?_)
    · have h := ht c
      refine v_iinc 6 dX0_goes_58 rfl (by decide) rfl ?_
      refine v_goto 13 dX0_goes_61 (by decide) ?_
      refine V.sub [1, 2, 3, 4, 5, 6, 0] rfl ?_
      exact h
    · have h := hf c
      refine v_aload_n 0 dX0_goes_38 rfl (isR_ref _) ?_
      refine v_aload_n 1 dX0_goes_39 rfl (isR_ref _) ?_
      refine v_iload_n 2 dX0_goes_40 rfl ?_
      refine v_aload_n 1 dX0_goes_41 rfl (isR_ref _) ?_
      refine v_get (q := q1) (j := 0) (v := .ref (q1 + 1)) dX0_goes_42 fX0_17 hw1 rfl (lay_T0 _ _ _ _ _ _) rfl ?_
      refine v_iload_n 3 dX0_goes_45 rfl ?_
      refine v_aaldR (q := q1) (j := 1) (q0 := q1 + 2) (t := 8) (by decide) dX0_goes_46 hw1 rfl rfl s2 (by decide) ?_
      refine v_iload 6 dX0_goes_47 rfl ?_
      refine v_iald (q := q1) (j := 2 + Int.toNat x3) (f := M1 0 x3) dX0_goes_49 hw1 (Nat.add_assoc _ _ _) (lay_Tn s2) s5 (by decide) ?_
      refine v_iload_n 3 dX0_goes_50 rfl ?_
      refine v_iload 5 dX0_goes_51 rfl ?_
      refine v_iconst dX0_goes_53 ?_
      refine v_iadd dX0_goes_54 ?_
      obtain ⟨F8, p8, hw8, h⟩ := h
      refine x_callVV K (As := [.ref q1, vI x2, vI (M1 0 x3 x6), vI x3, vI (x5 + 1)]) dX0_goes_55 LX0_40 rfl rfl (Nat.le_of_ble_eq_true rfl) (rc_of hw8 (lay_X0 _ _ _) rfl) h (fun w9 z9 n9 h => ?_)
      refine v_iinc 6 dX0_goes_58 rfl (by decide) rfl ?_
      refine v_goto 13 dX0_goes_61 (by decide) ?_
      refine V.sub [1, 2, 3, 4, 5, 6, 0] rfl ?_
      exact h
/-! BranchNames.endsOf -/
theorem wX0_endsOf_0 (K : KV) {q0 : Nat} {w : Wd} {sz n : Nat} (h : VX K mX0_endsOf 4 [(0, .ref q0), (1, vI 0), (2, vI 0)] [] w sz n) : VX K mX0_endsOf 0 [(0, .ref q0)] [] w sz n := by
  refine v_iconst dX0_endsOf_0 ?_
  refine v_istore_n dX0_endsOf_1 (by decide) rfl ?_
  refine v_iconst dX0_endsOf_2 ?_
  refine v_istore_n dX0_endsOf_3 (by decide) rfl ?_
  refine V.sub [2, 1, 0] rfl ?_
  exact h
theorem wX0_endsOf_4 (K : KV) {x1 x2 : Int} {q0 : Nat} {w : Wd} {sz n : Nat} (h : ∃ (F1 : Nat → Int) (P1 : Nat → Option Nat) (A1 : Nat → Int → Int) (M1 : Nat → Int → Int → Int) (N1 : Nat → Int → Int → Option Nat), (w q0 = some (obT F1 P1 A1 M1 N1)) ∧ ((rI x2) ∧ ((rI (F1 4)) ∧ (((F1 4) ≤ x2 → (K.S (some (vI x1)) w sz n)) ∧ (¬ (F1 4) ≤ x2 → ((0 ≤ x2 ∧ x2 < 13) ∧ ((rI (A1 0 x2)) ∧ ((¬ (A1 0 x2) = 1 → (VX K mX0_endsOf 4 [(0, .ref q0), (1, vI (x1 + 0)), (2, vI (x2 + 1))] [] w sz n)) ∧ ((A1 0 x2) = 1 → (VX K mX0_endsOf 4 [(0, .ref q0), (1, vI (x1 + 1)), (2, vI (x2 + 1))] [] w sz n)))))))))) : VX K mX0_endsOf 4 [(0, .ref q0), (1, vI x1), (2, vI x2)] [] w sz n := by
  refine v_iload_n 2 dX0_endsOf_4 rfl ?_
  refine v_aload_n 0 dX0_endsOf_5 rfl (isR_ref _) ?_
  obtain ⟨F1, P1, A1, M1, N1, hw1, h⟩ := h
  refine v_get (q := q0) (j := 0) (v := vI (F1 4)) dX0_endsOf_6 fX0_44 hw1 rfl (lay_T0 _ _ _ _ _ _) rfl ?_
  obtain ⟨s2, h⟩ := h
  obtain ⟨s3, h⟩ := h
  obtain ⟨ht, hf⟩ := h
  refine v_icmp_ge 36 dX0_endsOf_9 (by decide) s2 s3 (fun c => ?_) (fun c => ?_)
  · have h := ht c
    refine v_iload_n 1 dX0_endsOf_36 rfl ?_
    exact x_iret K dX0_endsOf_37 rfl h
  · have h := hf c
    refine v_iload_n 1 dX0_endsOf_12 rfl ?_
    refine v_aload_n 0 dX0_endsOf_13 rfl (isR_ref _) ?_
    refine v_get (q := q0) (j := 0) (v := .ref (q0 + 43)) dX0_endsOf_14 fX0_11 hw1 rfl (lay_T0 _ _ _ _ _ _) rfl ?_
    refine v_iload_n 2 dX0_endsOf_17 rfl ?_
    obtain ⟨s4, h⟩ := h
    refine v_iald (q := q0) (j := 43) (f := A1 0) dX0_endsOf_18 hw1 rfl rfl s4 (by decide) ?_
    refine v_iconst dX0_endsOf_19 ?_
    obtain ⟨s5, h⟩ := h
    obtain ⟨ht, hf⟩ := h
    refine v_icmp_ne 27 dX0_endsOf_20 (by decide) s5 (by decide) (fun c => ?_) (fun c => ?_)
    · have h := ht c
      refine v_iconst dX0_endsOf_27 ?_
      refine v_iadd dX0_endsOf_28 ?_
      refine v_istore_n dX0_endsOf_29 (by decide) rfl ?_
      refine v_iinc 2 dX0_endsOf_30 rfl (by decide) rfl ?_
      refine v_goto 4 dX0_endsOf_33 (by decide) ?_
      refine V.sub [2, 1, 0] rfl ?_
      exact h
    · have h := hf c
      refine v_iconst dX0_endsOf_23 ?_
      refine v_goto 28 dX0_endsOf_24 (by decide) ?_
      refine v_iadd dX0_endsOf_28 ?_
      refine v_istore_n dX0_endsOf_29 (by decide) rfl ?_
      refine v_iinc 2 dX0_endsOf_30 rfl (by decide) rfl ?_
      refine v_goto 4 dX0_endsOf_33 (by decide) ?_
      refine V.sub [2, 1, 0] rfl ?_
      exact h
/-! BranchNames.lambda$new$3 -/
theorem wX0_lambda_new_3_0 (K : KV) {x0 q1 : Nat} {w : Wd} {sz n : Nat} (h : ∃ (F1 : Nat → Int) (p1 : Nat), (w x0 = some (obX x0 F1 p1)) ∧ (CI mX0_twos K [.ref x0, .ref q1, vI 3] w sz n fun r2 w2 z2 n2 => K.S (some (vI r2)) w2 z2 n2)) : VX K mX0_lambda_new_3 0 [(0, .ref x0), (1, .ref q1)] [] w sz n := by
  refine v_aload_n 0 dX0_lambda_new_3_0 rfl (isR_ref _) ?_
  refine v_aload_n 1 dX0_lambda_new_3_1 rfl (isR_ref _) ?_
  refine v_iconst dX0_lambda_new_3_2 ?_
  obtain ⟨F1, p1, hw1, h⟩ := h
  refine x_callVI K (As := [.ref q1, vI 3]) dX0_lambda_new_3_3 LX0_692 rfl rfl (Nat.le_of_ble_eq_true rfl) (rc_of hw1 (lay_X0 _ _ _) rfl) h (fun r2 w2 z2 n2 h => ?_)
  exact x_iret K dX0_lambda_new_3_6 rfl h
/-! BranchNames.leastDeep -/
theorem wX0_leastDeep_0 (K : KV) {x0 q1 : Nat} {w : Wd} {sz n : Nat} (h : ∃ (F1 : Nat → Int) (p1 : Nat), (w x0 = some (obX x0 F1 p1)) ∧ (CI mX0_centre K [.ref x0, .ref q1, vI 0] w sz n fun r2 w2 z2 n2 => ∃ (F3 : Nat → Int) (p3 : Nat), (w2 x0 = some (obX x0 F3 p3)) ∧ (CI mX0_deep K [.ref x0, .ref q1, vI r2] w2 z2 n2 fun r4 w4 z4 n4 => K.S (some (vI r4)) w4 z4 n4))) : VX K mX0_leastDeep 0 [(0, .ref x0), (1, .ref q1)] [] w sz n := by
  refine v_aload_n 0 dX0_leastDeep_0 rfl (isR_ref _) ?_
  refine v_aload_n 1 dX0_leastDeep_1 rfl (isR_ref _) ?_
  refine v_iconst dX0_leastDeep_2 ?_
  obtain ⟨F1, p1, hw1, h⟩ := h
  refine x_callVI K (As := [.ref q1, vI 0]) dX0_leastDeep_3 LX0_65 rfl rfl (Nat.le_of_ble_eq_true rfl) (rc_of hw1 (lay_X0 _ _ _) rfl) h (fun r2 w2 z2 n2 h => ?_)
  refine v_istore_n dX0_leastDeep_6 (by decide) rfl ?_
  refine v_aload_n 1 dX0_leastDeep_7 rfl (isR_ref _) ?_
  refine v_aload_n 2 dX0_leastDeep_8 rfl (isR_ref _) ?_
  refine v_iload_n 0 dX0_leastDeep_9 rfl ?_
  obtain ⟨F3, p3, hw3, h⟩ := h
  refine x_callVI K (As := [.ref q1, vI r2]) dX0_leastDeep_10 LX0_58 rfl rfl (Nat.le_of_ble_eq_true rfl) (rc_of hw3 (lay_X0 _ _ _) rfl) h (fun r4 w4 z4 n4 h => ?_)
  exact x_iret K dX0_leastDeep_13 rfl h
/-! BranchNames.centre -/
theorem wX0_centre_0 (K : KV) {x2 : Int} {x0 q1 : Nat} {w : Wd} {sz n : Nat} (h : ∃ (F1 : Nat → Int) (p1 : Nat), (w x0 = some (obX x0 F1 p1)) ∧ (CV mX0_measures K [.ref x0, .ref q1] w sz n fun w2 z2 n2 => VX K mX0_centre 11 [(0, .ref x0), (1, .ref q1), (2, vI x2), (3, vI 13), (4, vI 0)] [] w2 z2 n2)) : VX K mX0_centre 0 [(0, .ref x0), (1, .ref q1), (2, vI x2)] [] w sz n := by
  refine v_aload_n 0 dX0_centre_0 rfl (isR_ref _) ?_
  refine v_aload_n 1 dX0_centre_1 rfl (isR_ref _) ?_
  obtain ⟨F1, p1, hw1, h⟩ := h
  refine x_callVV K (As := [.ref q1]) dX0_centre_2 LX0_54 rfl rfl (Nat.le_of_ble_eq_true rfl) (rc_of hw1 (lay_X0 _ _ _) rfl) h (fun w2 z2 n2 h => ?_)
  refine v_bipush dX0_centre_5 rfl ?_
  refine v_istore_n dX0_centre_7 (by decide) rfl ?_
  refine v_iconst dX0_centre_8 ?_
  refine v_istore dX0_centre_9 (by decide) rfl ?_
  refine V.sub [2, 3, 4, 1, 0] rfl ?_
  exact h
theorem wX0_centre_11 (K : KV) {x2 x3 x4 : Int} {x0 q1 : Nat} {w : Wd} {sz n : Nat} (h : ∃ (F1 : Nat → Int) (P1 : Nat → Option Nat) (A1 : Nat → Int → Int) (M1 : Nat → Int → Int → Int) (N1 : Nat → Int → Int → Option Nat), (w q1 = some (obT F1 P1 A1 M1 N1)) ∧ ((rI x4) ∧ ((rI (F1 4)) ∧ (((F1 4) ≤ x4 → (VX K mX0_centre 44 [(0, .ref x0), (1, .ref q1), (3, vI x3), (4, vI x2), (5, vI 0)] [] w sz n)) ∧ (¬ (F1 4) ≤ x4 → (∃ (F4 : Nat → Int) (p4 : Nat), (w x0 = some (obX x0 F4 p4)) ∧ (CI mX0_deep K [.ref x0, .ref q1, vI x4] w sz n fun r5 w5 z5 n5 => (rI x3) ∧ ((rI r5) ∧ ((1 ≤ K.d) ∧ (VX K mX0_centre 11 [(0, .ref x0), (1, .ref q1), (2, vI x2), (3, vI (min x3 r5)), (4, vI (x4 + 1))] [] w5 z5 n5)))))))))) : VX K mX0_centre 11 [(0, .ref x0), (1, .ref q1), (2, vI x2), (3, vI x3), (4, vI x4)] [] w sz n := by
  refine v_iload 4 dX0_centre_11 rfl ?_
  refine v_aload_n 1 dX0_centre_13 rfl (isR_ref _) ?_
  obtain ⟨F1, P1, A1, M1, N1, hw1, h⟩ := h
  refine v_get (q := q1) (j := 0) (v := vI (F1 4)) dX0_centre_14 fX0_44 hw1 rfl (lay_T0 _ _ _ _ _ _) rfl ?_
  obtain ⟨s2, h⟩ := h
  obtain ⟨s3, h⟩ := h
  obtain ⟨ht, hf⟩ := h
  refine v_icmp_ge 38 dX0_centre_17 (by decide) s2 s3 (fun c => ?_) (fun c => ?_)
  · have h := ht c
    refine v_iload_n 2 dX0_centre_38 rfl ?_
    refine v_istore dX0_centre_39 (by decide) rfl ?_
    refine v_iconst dX0_centre_41 ?_
    refine v_istore dX0_centre_42 (by decide) rfl ?_
    refine V.sub [2, 3, 5, 1, 0] rfl ?_
    exact h
  · have h := hf c
    refine v_iload_n 3 dX0_centre_20 rfl ?_
    refine v_aload_n 0 dX0_centre_21 rfl (isR_ref _) ?_
    refine v_aload_n 1 dX0_centre_22 rfl (isR_ref _) ?_
    refine v_iload 4 dX0_centre_23 rfl ?_
    obtain ⟨F4, p4, hw4, h⟩ := h
    refine x_callVI K (As := [.ref q1, vI x4]) dX0_centre_25 LX0_58 rfl rfl (Nat.le_of_ble_eq_true rfl) (rc_of hw4 (lay_X0 _ _ _) rfl) h (fun r5 w5 z5 n5 h => ?_)
    obtain ⟨s6, h⟩ := h
    obtain ⟨s7, h⟩ := h
    obtain ⟨s8, h⟩ := h
    refine v_mmin dX0_centre_28 q524 s6 s7 s8 (Nat.le_of_ble_eq_true rfl) ?_
    refine v_istore_n dX0_centre_31 (by decide) rfl ?_
    refine v_iinc 4 dX0_centre_32 rfl (by decide) rfl ?_
    refine v_goto 11 dX0_centre_35 (by decide) ?_
    refine V.sub [2, 3, 4, 1, 0] rfl ?_
    exact h
theorem wX0_centre_44 (K : KV) {x3 x4 x5 : Int} {x0 q1 : Nat} {w : Wd} {sz n : Nat} (h : ∃ (F1 : Nat → Int) (P1 : Nat → Option Nat) (A1 : Nat → Int → Int) (M1 : Nat → Int → Int → Int) (N1 : Nat → Int → Int → Option Nat), (w q1 = some (obT F1 P1 A1 M1 N1)) ∧ ((rI x5) ∧ ((rI (F1 4)) ∧ (((F1 4) ≤ x5 → (K.S (some (vI ((-1)))) w sz n)) ∧ (¬ (F1 4) ≤ x5 → (∃ (F4 : Nat → Int) (p4 : Nat), (w x0 = some (obX x0 F4 p4)) ∧ (CI mX0_deep K [.ref x0, .ref q1, vI x5] w sz n fun r5 w5 z5 n5 => (rI r5) ∧ ((rI x3) ∧ ((r5 = x3 → ((rI x4) ∧ ((¬ x4 = 0 → (VX K mX0_centre 44 [(0, .ref x0), (1, .ref q1), (3, vI x3), (4, vI (x4 + (-1))), (5, vI (x5 + 1))] [] w5 z5 n5)) ∧ (x4 = 0 → (K.S (some (vI x5)) w5 z5 n5))))) ∧ (¬ r5 = x3 → (VX K mX0_centre 44 [(0, .ref x0), (1, .ref q1), (3, vI x3), (4, vI x4), (5, vI (x5 + 1))] [] w5 z5 n5))))))))))) : VX K mX0_centre 44 [(0, .ref x0), (1, .ref q1), (3, vI x3), (4, vI x4), (5, vI x5)] [] w sz n := by
  refine v_iload 4 dX0_centre_44 rfl ?_
  refine v_aload_n 1 dX0_centre_46 rfl (isR_ref _) ?_
  obtain ⟨F1, P1, A1, M1, N1, hw1, h⟩ := h
  refine v_get (q := q1) (j := 0) (v := vI (F1 4)) dX0_centre_47 fX0_44 hw1 rfl (lay_T0 _ _ _ _ _ _) rfl ?_
  obtain ⟨s2, h⟩ := h
  obtain ⟨s3, h⟩ := h
  obtain ⟨ht, hf⟩ := h
  refine v_icmp_ge 84 dX0_centre_50 (by decide) s2 s3 (fun c => ?_) (fun c => ?_)
  · have h := ht c
    refine v_iconst dX0_centre_84 ?_
    exact x_iret K dX0_centre_85 rfl h
  · have h := hf c
    refine v_aload_n 0 dX0_centre_53 rfl (isR_ref _) ?_
    refine v_aload_n 1 dX0_centre_54 rfl (isR_ref _) ?_
    refine v_iload 4 dX0_centre_55 rfl ?_
    obtain ⟨F4, p4, hw4, h⟩ := h
    refine x_callVI K (As := [.ref q1, vI x5]) dX0_centre_57 LX0_58 rfl rfl (Nat.le_of_ble_eq_true rfl) (rc_of hw4 (lay_X0 _ _ _) rfl) h (fun r5 w5 z5 n5 h => ?_)
    refine v_iload_n 2 dX0_centre_60 rfl ?_
    obtain ⟨s6, h⟩ := h
    obtain ⟨s7, h⟩ := h
    obtain ⟨ht, hf⟩ := h
    refine v_icmp_eq 67 dX0_centre_61 (by decide) s6 s7 (fun c => ?_) (fun c => ?_)
    · have h := ht c
      refine v_iload 3 dX0_centre_67 rfl ?_
      obtain ⟨s8, h⟩ := h
      obtain ⟨ht, hf⟩ := h
      refine v_if_ne 75 dX0_centre_69 (by decide) s8 (fun c => ?_) (fun c => ?_)
      · have h := ht c
        refine v_iinc 3 dX0_centre_75 rfl (by decide) rfl ?_
        refine v_iinc 4 dX0_centre_78 rfl (by decide) rfl ?_
        refine v_goto 44 dX0_centre_81 (by decide) ?_
        refine V.sub [2, 3, 4, 1, 0] rfl ?_
        exact h
      · have h := hf c
        refine v_iload 4 dX0_centre_72 rfl ?_
        exact x_iret K dX0_centre_74 rfl h
    · have h := hf c
      refine v_goto 78 dX0_centre_64 (by decide) ?_
      refine v_iinc 4 dX0_centre_78 rfl (by decide) rfl ?_
      refine v_goto 44 dX0_centre_81 (by decide) ?_
      refine V.sub [1, 2, 3, 4, 0] rfl ?_
      exact h
/-! BranchNames.deep -/
theorem wX0_deep_0 (K : KV) {x2 : Int} {x0 q1 : Nat} {w : Wd} {sz n : Nat} (h : VX K mX0_deep 5 [(0, .ref x0), (1, .ref q1), (2, vI x2), (3, vI 0), (4, vI 0)] [] w sz n) : VX K mX0_deep 0 [(0, .ref x0), (1, .ref q1), (2, vI x2)] [] w sz n := by
  refine v_iconst dX0_deep_0 ?_
  refine v_istore_n dX0_deep_1 (by decide) rfl ?_
  refine v_iconst dX0_deep_2 ?_
  refine v_istore dX0_deep_3 (by decide) rfl ?_
  refine V.sub [2, 3, 4, 1, 0] rfl ?_
  exact h
theorem wX0_deep_5 (K : KV) {x2 x3 x4 : Int} {x0 q1 : Nat} {w : Wd} {sz n : Nat} (h : ∃ (F1 : Nat → Int) (P1 : Nat → Option Nat) (A1 : Nat → Int → Int) (M1 : Nat → Int → Int → Int) (N1 : Nat → Int → Int → Option Nat), (w q1 = some (obT F1 P1 A1 M1 N1)) ∧ ((rI x4) ∧ ((rI (F1 4)) ∧ (((F1 4) ≤ x4 → (K.S (some (vI x3)) w sz n)) ∧ (¬ (F1 4) ≤ x4 → (∃ (F4 : Nat → Int) (p4 : Nat), (w x0 = some (obX x0 F4 p4)) ∧ (∃ (A5 : Nat → Int → Int) (B5 : Nat → Int → Option Nat) (M5 : Nat → Int → Int → Int), (w (x0 + 221) = some (obXA A5 B5 M5)) ∧ ((0 ≤ x2 ∧ x2 < 13) ∧ ((0 ≤ x4 ∧ x4 < 13) ∧ ((rI x3) ∧ ((rI (M5 1 x2 x4)) ∧ ((1 ≤ K.d) ∧ (VX K mX0_deep 5 [(0, .ref x0), (1, .ref q1), (2, vI x2), (3, vI (max x3 (M5 1 x2 x4))), (4, vI (x4 + 1))] [] w sz n))))))))))))) : VX K mX0_deep 5 [(0, .ref x0), (1, .ref q1), (2, vI x2), (3, vI x3), (4, vI x4)] [] w sz n := by
  refine v_iload 4 dX0_deep_5 rfl ?_
  refine v_aload_n 1 dX0_deep_7 rfl (isR_ref _) ?_
  obtain ⟨F1, P1, A1, M1, N1, hw1, h⟩ := h
  refine v_get (q := q1) (j := 0) (v := vI (F1 4)) dX0_deep_8 fX0_44 hw1 rfl (lay_T0 _ _ _ _ _ _) rfl ?_
  obtain ⟨s2, h⟩ := h
  obtain ⟨s3, h⟩ := h
  obtain ⟨ht, hf⟩ := h
  refine v_icmp_ge 34 dX0_deep_11 (by decide) s2 s3 (fun c => ?_) (fun c => ?_)
  · have h := ht c
    refine v_iload_n 3 dX0_deep_34 rfl ?_
    exact x_iret K dX0_deep_35 rfl h
  · have h := hf c
    refine v_iload_n 3 dX0_deep_14 rfl ?_
    refine v_aload_n 0 dX0_deep_15 rfl (isR_ref _) ?_
    obtain ⟨F4, p4, hw4, h⟩ := h
    refine v_get (q := x0) (j := 0) (v := .ref (x0 + 221 + 16)) dX0_deep_16 fX0_37 hw4 rfl (lay_X0 _ _ _) rfl ?_
    refine v_iload_n 2 dX0_deep_19 rfl ?_
    obtain ⟨A5, B5, M5, hw5, h⟩ := h
    obtain ⟨s6, h⟩ := h
    refine v_aaldR (q := x0 + 221) (j := 16) (q0 := x0 + 221 + 16 + 1) (t := 8) (by decide) dX0_deep_20 hw5 rfl (lay_XA 16 rfl) s6 (by decide) ?_
    refine v_iload 4 dX0_deep_21 rfl ?_
    obtain ⟨s7, h⟩ := h
    refine v_iald (q := x0 + 221) (j := 17 + Int.toNat x2) (f := M5 1 x2) dX0_deep_23 hw5 (by omega) (lay_XAr 17 (by decide) xr_far s6) s7 (by decide) ?_
    obtain ⟨s8, h⟩ := h
    obtain ⟨s9, h⟩ := h
    obtain ⟨s10, h⟩ := h
    refine v_mmax dX0_deep_24 q523 s8 s9 s10 (Nat.le_of_ble_eq_true rfl) ?_
    refine v_istore_n dX0_deep_27 (by decide) rfl ?_
    refine v_iinc 4 dX0_deep_28 rfl (by decide) rfl ?_
    refine v_goto 5 dX0_deep_31 (by decide) ?_
    refine V.sub [2, 3, 4, 1, 0] rfl ?_
    exact h
/-! BranchNames.unlikeOf -/
theorem wX0_unlikeOf_0 (K : KV) {x0 q1 : Nat} {w : Wd} {sz n : Nat} (h : ∃ (F1 : Nat → Int) (p1 : Nat), (w x0 = some (obX x0 F1 p1)) ∧ (CV mX0_looks K [.ref x0, .ref q1] w sz n fun w2 z2 n2 => VX K mX0_unlikeOf 9 [(0, .ref x0), (1, .ref q1), (2, vI 0), (3, vI 0)] [] w2 z2 n2)) : VX K mX0_unlikeOf 0 [(0, .ref x0), (1, .ref q1)] [] w sz n := by
  refine v_aload_n 0 dX0_unlikeOf_0 rfl (isR_ref _) ?_
  refine v_aload_n 1 dX0_unlikeOf_1 rfl (isR_ref _) ?_
  obtain ⟨F1, p1, hw1, h⟩ := h
  refine x_callVV K (As := [.ref q1]) dX0_unlikeOf_2 LX0_152 rfl rfl (Nat.le_of_ble_eq_true rfl) (rc_of hw1 (lay_X0 _ _ _) rfl) h (fun w2 z2 n2 h => ?_)
  refine v_iconst dX0_unlikeOf_5 ?_
  refine v_istore_n dX0_unlikeOf_6 (by decide) rfl ?_
  refine v_iconst dX0_unlikeOf_7 ?_
  refine v_istore_n dX0_unlikeOf_8 (by decide) rfl ?_
  refine V.sub [2, 3, 1, 0] rfl ?_
  exact h
theorem wX0_unlikeOf_9 (K : KV) {x2 x3 : Int} {x0 q1 : Nat} {w : Wd} {sz n : Nat} (h : ∃ (F1 : Nat → Int) (P1 : Nat → Option Nat) (A1 : Nat → Int → Int) (M1 : Nat → Int → Int → Int) (N1 : Nat → Int → Int → Option Nat), (w q1 = some (obT F1 P1 A1 M1 N1)) ∧ ((rI x3) ∧ ((rI (F1 4)) ∧ (((F1 4) ≤ x3 → (K.S (some (vI x2)) w sz n)) ∧ (¬ (F1 4) ≤ x3 → (∃ (F4 : Nat → Int) (p4 : Nat), (w x0 = some (obX x0 F4 p4)) ∧ (CI mX0_leastAlike K [.ref x0, vI x3] w sz n fun r5 w5 z5 n5 => (rI r5) ∧ ((¬ r5 = x3 → (VX K mX0_unlikeOf 9 [(0, .ref x0), (1, .ref q1), (2, vI (x2 + 0)), (3, vI (x3 + 1))] [] w5 z5 n5)) ∧ (r5 = x3 → (VX K mX0_unlikeOf 9 [(0, .ref x0), (1, .ref q1), (2, vI (x2 + 1)), (3, vI (x3 + 1))] [] w5 z5 n5)))))))))) : VX K mX0_unlikeOf 9 [(0, .ref x0), (1, .ref q1), (2, vI x2), (3, vI x3)] [] w sz n := by
  refine v_iload_n 3 dX0_unlikeOf_9 rfl ?_
  refine v_aload_n 1 dX0_unlikeOf_10 rfl (isR_ref _) ?_
  obtain ⟨F1, P1, A1, M1, N1, hw1, h⟩ := h
  refine v_get (q := q1) (j := 0) (v := vI (F1 4)) dX0_unlikeOf_11 fX0_44 hw1 rfl (lay_T0 _ _ _ _ _ _) rfl ?_
  obtain ⟨s2, h⟩ := h
  obtain ⟨s3, h⟩ := h
  obtain ⟨ht, hf⟩ := h
  refine v_icmp_ge 40 dX0_unlikeOf_14 (by decide) s2 s3 (fun c => ?_) (fun c => ?_)
  · have h := ht c
    refine v_iload_n 2 dX0_unlikeOf_40 rfl ?_
    exact x_iret K dX0_unlikeOf_41 rfl h
  · have h := hf c
    refine v_iload_n 2 dX0_unlikeOf_17 rfl ?_
    refine v_aload_n 0 dX0_unlikeOf_18 rfl (isR_ref _) ?_
    refine v_iload_n 3 dX0_unlikeOf_19 rfl ?_
    obtain ⟨F4, p4, hw4, h⟩ := h
    refine x_callVI K (As := [vI x3]) dX0_unlikeOf_20 LX0_155 rfl rfl (Nat.le_of_ble_eq_true rfl) (rc_of hw4 (lay_X0 _ _ _) rfl) h (fun r5 w5 z5 n5 h => ?_)
    refine v_iload_n 3 dX0_unlikeOf_23 rfl ?_
    obtain ⟨s6, h⟩ := h
    obtain ⟨ht, hf⟩ := h
    refine v_icmp_ne 31 dX0_unlikeOf_24 (by decide) s6 s2 (fun c => ?_) (fun c => ?_)
    · have h := ht c
      refine v_iconst dX0_unlikeOf_31 ?_
      refine v_iadd dX0_unlikeOf_32 ?_
      refine v_istore_n dX0_unlikeOf_33 (by decide) rfl ?_
      refine v_iinc 3 dX0_unlikeOf_34 rfl (by decide) rfl ?_
      refine v_goto 9 dX0_unlikeOf_37 (by decide) ?_
      refine V.sub [2, 3, 1, 0] rfl ?_
      exact h
    · have h := hf c
      refine v_iconst dX0_unlikeOf_27 ?_
      refine v_goto 32 dX0_unlikeOf_28 (by decide) ?_
      refine v_iadd dX0_unlikeOf_32 ?_
      refine v_istore_n dX0_unlikeOf_33 (by decide) rfl ?_
      refine v_iinc 3 dX0_unlikeOf_34 rfl (by decide) rfl ?_
      refine v_goto 9 dX0_unlikeOf_37 (by decide) ?_
      refine V.sub [2, 3, 1, 0] rfl ?_
      exact h
/-! BranchNames.looks -/
theorem wX0_looks_0 (K : KV) {x0 q1 : Nat} {w : Wd} {sz n : Nat} (h : VX K mX0_looks 2 [(0, .ref x0), (1, .ref q1), (2, vI 0)] [] w sz n) : VX K mX0_looks 0 [(0, .ref x0), (1, .ref q1)] [] w sz n := by
  refine v_iconst dX0_looks_0 ?_
  refine v_istore_n dX0_looks_1 (by decide) rfl ?_
  refine V.sub [1, 2, 0] rfl ?_
  exact h
theorem wX0_looks_2 (K : KV) {x2 : Int} {x0 q1 : Nat} {w : Wd} {sz n : Nat} (h : ∃ (F1 : Nat → Int) (P1 : Nat → Option Nat) (A1 : Nat → Int → Int) (M1 : Nat → Int → Int → Int) (N1 : Nat → Int → Int → Option Nat), (w q1 = some (obT F1 P1 A1 M1 N1)) ∧ ((rI x2) ∧ ((rI (F1 4)) ∧ (((F1 4) ≤ x2 → (K.S none w sz n)) ∧ (¬ (F1 4) ≤ x2 → (∃ (F4 : Nat → Int) (p4 : Nat), (w x0 = some (obX x0 F4 p4)) ∧ (CL mX0_seenAt K [.ref x0, .ref q1, vI x2] w sz n fun r5 w5 z5 n5 => ∃ (A6 : Nat → Int → Int) (B6 : Nat → Int → Option Nat) (M6 : Nat → Int → Int → Int), (w5 (x0 + 221) = some (obXA A6 B6 M6)) ∧ ((0 ≤ x2 ∧ x2 < 13) ∧ ((K.G.base ≤ x0 + 221) ∧ (VX K mX0_looks 2 [(0, .ref x0), (1, .ref q1), (2, vI (x2 + 1))] [] (wset w5 (x0 + 221) (some (obXA (upA A6 3 x2 r5) B6 M6))) z5 n5)))))))))) : VX K mX0_looks 2 [(0, .ref x0), (1, .ref q1), (2, vI x2)] [] w sz n := by
  refine v_iload_n 2 dX0_looks_2 rfl ?_
  refine v_aload_n 1 dX0_looks_3 rfl (isR_ref _) ?_
  obtain ⟨F1, P1, A1, M1, N1, hw1, h⟩ := h
  refine v_get (q := q1) (j := 0) (v := vI (F1 4)) dX0_looks_4 fX0_44 hw1 rfl (lay_T0 _ _ _ _ _ _) rfl ?_
  obtain ⟨s2, h⟩ := h
  obtain ⟨s3, h⟩ := h
  obtain ⟨ht, hf⟩ := h
  refine v_icmp_ge 28 dX0_looks_7 (by decide) s2 s3 (fun c => ?_) (fun c => ?_)
  · have h := ht c
    exact v_vret dX0_looks_28 rfl h
  · have h := hf c
    refine v_aload_n 0 dX0_looks_10 rfl (isR_ref _) ?_
    obtain ⟨F4, p4, hw4, h⟩ := h
    refine v_get (q := x0) (j := 0) (v := .ref (x0 + 221 + 33)) dX0_looks_11 fX0_149 hw4 rfl (lay_X0 _ _ _) rfl ?_
    refine v_iload_n 2 dX0_looks_14 rfl ?_
    refine v_aload_n 0 dX0_looks_15 rfl (isR_ref _) ?_
    refine v_aload_n 1 dX0_looks_16 rfl (isR_ref _) ?_
    refine v_iload_n 2 dX0_looks_17 rfl ?_
    refine x_callVL K (As := [.ref q1, vI x2]) dX0_looks_18 LX0_68 rfl rfl (Nat.le_of_ble_eq_true rfl) (rc_of hw4 (lay_X0 _ _ _) rfl) h (fun r5 w5 z5 n5 h => ?_)
    obtain ⟨A6, B6, M6, hw6, h⟩ := h
    obtain ⟨s7, h⟩ := h
    obtain ⟨s8, h⟩ := h
    refine v_last (q := x0 + 221) (j := 33) (f := A6 3) (obXA (upA A6 3 x2 r5) B6 M6) dX0_looks_21 hw6 rfl (lay_XA 33 rfl) s7 (by decide) (chg_XAl 33 _ _ rfl) s8 ?_
    refine v_iinc 2 dX0_looks_22 rfl (by decide) rfl ?_
    refine v_goto 2 dX0_looks_25 (by decide) ?_
    refine V.sub [1, 2, 0] rfl ?_
    exact h
/-! BranchNames.seenAt -/
theorem wX0_seenAt_0 (K : KV) {x2 : Int} {x0 q1 : Nat} {w : Wd} {sz n : Nat} (h : ∃ (F1 : Nat → Int) (p1 : Nat), (w x0 = some (obX x0 F1 p1)) ∧ (CL mX0_codeOf K [.ref x0, .ref q1, vI x2, vI ((-1)), vI 0] w sz n fun r2 w2 z2 n2 => K.S (some (vL r2)) w2 z2 n2)) : VX K mX0_seenAt 0 [(0, .ref x0), (1, .ref q1), (2, vI x2)] [] w sz n := by
  refine v_aload_n 0 dX0_seenAt_0 rfl (isR_ref _) ?_
  refine v_aload_n 1 dX0_seenAt_1 rfl (isR_ref _) ?_
  refine v_iload_n 2 dX0_seenAt_2 rfl ?_
  refine v_iconst dX0_seenAt_3 ?_
  refine v_iconst dX0_seenAt_4 ?_
  obtain ⟨F1, p1, hw1, h⟩ := h
  refine x_callVL K (As := [.ref q1, vI x2, vI ((-1)), vI 0]) dX0_seenAt_5 LX0_21 rfl rfl (Nat.le_of_ble_eq_true rfl) (rc_of hw1 (lay_X0 _ _ _) rfl) h (fun r2 w2 z2 n2 h => ?_)
  exact v_lret dX0_seenAt_8 rfl h
/-! BranchNames.codeOf -/
theorem wX0_codeOf_0 (K : KV) {x2 x3 x4 : Int} {x0 q1 : Nat} {w : Wd} {sz n : Nat} (h : ∃ (F1 : Nat → Int) (p1 : Nat), (w x0 = some (obX x0 F1 p1)) ∧ (∃ (A2 : Nat → Int → Int) (B2 : Nat → Int → Option Nat) (M2 : Nat → Int → Int → Int), (w (x0 + 221) = some (obXA A2 B2 M2)) ∧ ((0 ≤ x4 ∧ x4 < 14) ∧ (VX K mX0_codeOf 18 [(0, .ref x0), (1, .ref q1), (2, vI x2), (3, vI x3), (4, vI x4), (5, .ref (x0 + 221 + 0 + 1 + Int.toNat x4)), (6, vI 0), (7, vI 1), (8, vI 0)] [] w sz n)))) : VX K mX0_codeOf 0 [(0, .ref x0), (1, .ref q1), (2, vI x2), (3, vI x3), (4, vI x4)] [] w sz n := by
  refine v_aload_n 0 dX0_codeOf_0 rfl (isR_ref _) ?_
  obtain ⟨F1, p1, hw1, h⟩ := h
  refine v_get (q := x0) (j := 0) (v := .ref (x0 + 221 + 0)) dX0_codeOf_1 fX0_7 hw1 rfl (lay_X0 _ _ _) rfl ?_
  refine v_iload 4 dX0_codeOf_4 rfl ?_
  obtain ⟨A2, B2, M2, hw2, h⟩ := h
  obtain ⟨s3, h⟩ := h
  refine v_aaldR (q := x0 + 221) (j := 0) (q0 := x0 + 221 + 0 + 1) (t := 9) (by decide) dX0_codeOf_6 hw2 rfl (lay_XA 0 rfl) s3 (by decide) ?_
  refine v_astore dX0_codeOf_7 (by decide) (isR_ref _) rfl ?_
  refine v_iconst dX0_codeOf_9 ?_
  refine v_istore dX0_codeOf_10 (by decide) rfl ?_
  refine v_iconst dX0_codeOf_12 ?_
  refine v_istore dX0_codeOf_13 (by decide) rfl ?_
  refine v_iconst dX0_codeOf_15 ?_
  refine v_istore dX0_codeOf_16 (by decide) rfl ?_
  refine V.sub [4, 5, 6, 7, 8, 3, 2, 1, 0] rfl ?_
  exact h
theorem wX0_codeOf_18 (K : KV) {x2 x3 x4 x6 x7 x8 : Int} {x0 q1 : Nat} {w : Wd} {sz n : Nat} (h : (0 ≤ x4 ∧ x4 < 14) ∧ (∃ (F1 : Nat → Int) (P1 : Nat → Option Nat) (A1 : Nat → Int → Int) (M1 : Nat → Int → Int → Int) (N1 : Nat → Int → Int → Option Nat), (w q1 = some (obT F1 P1 A1 M1 N1)) ∧ ((0 ≤ x2 ∧ x2 < 13) ∧ ((rI x8) ∧ ((rI (A1 0 x2)) ∧ (((A1 0 x2) ≤ x8 → ((rI x6) ∧ (VX K mX0_codeOf 137 [(0, .ref x0), (5, .ref (x0 + 221 + 0 + 1 + Int.toNat x4)), (6, vI x6), (7, vI x7), (8, vL x6), (10, vI 0)] [] w sz n))) ∧ (¬ (A1 0 x2) ≤ x8 → ((0 ≤ x8 ∧ x8 < 4) ∧ ((rI (M1 0 x2 x8)) ∧ ((rI x3) ∧ ((¬ (M1 0 x2 x8) = x3 → (∃ (F8 : Nat → Int) (p8 : Nat), (w x0 = some (obX x0 F8 p8)) ∧ (CL mX0_codeOf K [.ref x0, .ref q1, vI (M1 0 x2 x8), vI x2, vI (x4 + 1)] w sz n fun r9 w9 z9 n9 => VX K mX0_codeOf 67 [(0, .ref x0), (1, .ref q1), (2, vI x2), (3, vI x3), (4, vI x4), (5, .ref (x0 + 221 + 0 + 1 + Int.toNat x4)), (6, vI x6), (7, vI x7), (8, vI x8), (10, vL r9), (12, vI x6)] [] w9 z9 n9))) ∧ ((M1 0 x2 x8) = x3 → (VX K mX0_codeOf 18 [(0, .ref x0), (1, .ref q1), (2, vI x2), (3, vI x3), (4, vI x4), (5, .ref (x0 + 221 + 0 + 1 + Int.toNat x4)), (6, vI x6), (7, vI x7), (8, vI (x8 + 1))] [] w sz n))))))))))))) : VX K mX0_codeOf 18 [(0, .ref x0), (1, .ref q1), (2, vI x2), (3, vI x3), (4, vI x4), (5, .ref (x0 + 221 + 0 + 1 + Int.toNat x4)), (6, vI x6), (7, vI x7), (8, vI x8)] [] w sz n := by
  refine v_iload 8 dX0_codeOf_18 rfl ?_
  refine v_aload_n 1 dX0_codeOf_20 rfl (isR_ref _) ?_
  obtain ⟨hr5, h⟩ := h
  obtain ⟨F1, P1, A1, M1, N1, hw1, h⟩ := h
  refine v_get (q := q1) (j := 0) (v := .ref (q1 + 43)) dX0_codeOf_21 fX0_11 hw1 rfl (lay_T0 _ _ _ _ _ _) rfl ?_
  refine v_iload_n 2 dX0_codeOf_24 rfl ?_
  obtain ⟨s2, h⟩ := h
  refine v_iald (q := q1) (j := 43) (f := A1 0) dX0_codeOf_25 hw1 rfl rfl s2 (by decide) ?_
  obtain ⟨s3, h⟩ := h
  obtain ⟨s4, h⟩ := h
  obtain ⟨ht, hf⟩ := h
  refine v_icmp_ge 129 dX0_codeOf_26 (by decide) s3 s4 (fun c => ?_) (fun c => ?_)
  · have h := ht c
    refine v_iload 6 dX0_codeOf_129 rfl ?_
    obtain ⟨s5, h⟩ := h
    refine v_i2l dX0_codeOf_131 s5 ?_
    refine v_lstore dX0_codeOf_132 (by decide) rfl ?_
    refine v_iconst dX0_codeOf_134 ?_
    refine v_istore dX0_codeOf_135 (by decide) rfl ?_
    refine V.sub [2, 7, 8, 9, 1, 0] rfl ?_
    exact h
  · have h := hf c
    refine v_aload_n 1 dX0_codeOf_29 rfl (isR_ref _) ?_
    refine v_get (q := q1) (j := 0) (v := .ref (q1 + 1)) dX0_codeOf_30 fX0_17 hw1 rfl (lay_T0 _ _ _ _ _ _) rfl ?_
    refine v_iload_n 2 dX0_codeOf_33 rfl ?_
    refine v_aaldR (q := q1) (j := 1) (q0 := q1 + 2) (t := 8) (by decide) dX0_codeOf_34 hw1 rfl rfl s2 (by decide) ?_
    refine v_iload 8 dX0_codeOf_35 rfl ?_
    obtain ⟨s5, h⟩ := h
    refine v_iald (q := q1) (j := 2 + Int.toNat x2) (f := M1 0 x2) dX0_codeOf_37 hw1 (Nat.add_assoc _ _ _) (lay_Tn s2) s5 (by decide) ?_
    refine v_istore dX0_codeOf_38 (by decide) rfl ?_
    refine v_iload 0 dX0_codeOf_40 rfl ?_
    refine v_iload_n 4 dX0_codeOf_42 rfl ?_
    obtain ⟨s6, h⟩ := h
    obtain ⟨s7, h⟩ := h
    obtain ⟨ht, hf⟩ := h
    refine v_icmp_ne 49 dX0_codeOf_43 (by decide) s6 s7 (fun c => ?_) (fun c => ?_)
    · have h := ht c
      refine v_aload_n 1 dX0_codeOf_49 rfl (isR_ref _) ?_
      refine v_aload_n 2 dX0_codeOf_50 rfl (isR_ref _) ?_
      refine v_iload 0 dX0_codeOf_51 rfl ?_
      refine v_iload_n 3 dX0_codeOf_53 rfl ?_
      refine v_iload 5 dX0_codeOf_54 rfl ?_
      refine v_iconst dX0_codeOf_56 ?_
      refine v_iadd dX0_codeOf_57 ?_
      obtain ⟨F8, p8, hw8, h⟩ := h
      refine x_callVL K (As := [.ref q1, vI (M1 0 x2 x8), vI x2, vI (x4 + 1)]) dX0_codeOf_58 LX0_21 rfl rfl (Nat.le_of_ble_eq_true rfl) (rc_of hw8 (lay_X0 _ _ _) rfl) h (fun r9 w9 z9 n9 h => ?_)
      refine v_lstore dX0_codeOf_61 (by decide) rfl ?_
      refine v_iload 8 dX0_codeOf_63 rfl ?_
      refine v_istore dX0_codeOf_65 (by decide) rfl ?_
      refine V.sub [3, 4, 5, 6, 7, 8, 9, 10, 11, 1, 0] rfl ?_
      exact h
    · have h := hf c
      refine v_goto 123 dX0_codeOf_46 (by decide) ?_
      refine v_iinc 9 dX0_codeOf_123 rfl (by decide) rfl ?_
      refine v_goto 18 dX0_codeOf_126 (by decide) ?_
      refine V.sub [2, 3, 4, 5, 6, 7, 8, 9, 0] rfl ?_
      exact h
theorem wX0_codeOf_67 (K : KV) {x2 x3 x4 x6 x7 x8 x10 x12 : Int} {x0 q1 : Nat} {w : Wd} {sz n : Nat} (h : (0 ≤ x4 ∧ x4 < 14) ∧ ((rI x12) ∧ ((x12 ≤ 0 → (∃ (A2 : Nat → Int → Int) (B2 : Nat → Int → Option Nat) (M2 : Nat → Int → Int → Int), (w (x0 + 221) = some (obXA A2 B2 M2)) ∧ ((0 ≤ x12 ∧ x12 < 4) ∧ ((K.G.base ≤ x0 + 221) ∧ (CI mX0_digitsOf K [vL x10] (wset w (x0 + 221) (some (obXA A2 B2 (upM M2 0 x4 x12 x10)))) sz n fun r5 w5 z5 n5 => VX K mX0_codeOf 18 [(0, .ref x0), (1, .ref q1), (2, vI x2), (3, vI x3), (4, vI x4), (5, .ref (x0 + 221 + 0 + 1 + Int.toNat x4)), (6, vI (x6 + 1)), (7, vI (x7 + r5)), (8, vI (x8 + 1))] [] w5 z5 n5))))) ∧ (¬ x12 ≤ 0 → (∃ (A2 : Nat → Int → Int) (B2 : Nat → Int → Option Nat) (M2 : Nat → Int → Int → Int), (w (x0 + 221) = some (obXA A2 B2 M2)) ∧ ((0 ≤ (x12 - 1) ∧ (x12 - 1) < 4) ∧ ((rL (M2 0 x4 (x12 - 1))) ∧ ((rL x10) ∧ ((0 ≤ (cmpI (M2 0 x4 (x12 - 1)) x10) → ((0 ≤ x12 ∧ x12 < 4) ∧ ((K.G.base ≤ x0 + 221) ∧ (CI mX0_digitsOf K [vL x10] (wset w (x0 + 221) (some (obXA A2 B2 (upM M2 0 x4 x12 x10)))) sz n fun r8 w8 z8 n8 => VX K mX0_codeOf 18 [(0, .ref x0), (1, .ref q1), (2, vI x2), (3, vI x3), (4, vI x4), (5, .ref (x0 + 221 + 0 + 1 + Int.toNat x4)), (6, vI (x6 + 1)), (7, vI (x7 + r8)), (8, vI (x8 + 1))] [] w8 z8 n8)))) ∧ (¬ 0 ≤ (cmpI (M2 0 x4 (x12 - 1)) x10) → ((0 ≤ x12 ∧ x12 < 4) ∧ ((K.G.base ≤ x0 + 221) ∧ (VX K mX0_codeOf 67 [(0, .ref x0), (1, .ref q1), (2, vI x2), (3, vI x3), (4, vI x4), (5, .ref (x0 + 221 + 0 + 1 + Int.toNat x4)), (6, vI x6), (7, vI x7), (8, vI x8), (10, vL x10), (12, vI (x12 + (-1)))] [] (wset w (x0 + 221) (some (obXA A2 B2 (upM M2 0 x4 x12 (M2 0 x4 (x12 - 1)))))) sz n))))))))))))) : VX K mX0_codeOf 67 [(0, .ref x0), (1, .ref q1), (2, vI x2), (3, vI x3), (4, vI x4), (5, .ref (x0 + 221 + 0 + 1 + Int.toNat x4)), (6, vI x6), (7, vI x7), (8, vI x8), (10, vL x10), (12, vI x12)] [] w sz n := by
  refine v_iload 10 dX0_codeOf_67 rfl ?_
  obtain ⟨hr5, h⟩ := h
  obtain ⟨s1, h⟩ := h
  obtain ⟨ht, hf⟩ := h
  refine v_if_le 103 dX0_codeOf_69 (by decide) s1 (fun c => ?_) (fun c => ?_)
  · have h := ht c
    refine v_aload 5 dX0_codeOf_103 rfl (isR_ref _) ?_
    refine v_iload 10 dX0_codeOf_105 rfl ?_
    refine v_lload 9 dX0_codeOf_107 rfl ?_
    obtain ⟨A2, B2, M2, hw2, h⟩ := h
    obtain ⟨s3, h⟩ := h
    obtain ⟨s4, h⟩ := h
    refine v_last (q := x0 + 221) (j := 1 + Int.toNat x4) (f := M2 0 x4) (obXA A2 B2 (upM M2 0 x4 x12 x10)) dX0_codeOf_109 hw2 (by omega) (lay_XAr 1 (by decide) xr_twigs hr5) s3 (by decide) (chg_XAr 1 _ _ (by decide) xr_twigs hr5) s4 ?_
    refine v_iinc 6 dX0_codeOf_110 rfl (by decide) rfl ?_
    refine v_iload 7 dX0_codeOf_113 rfl ?_
    refine v_lload 9 dX0_codeOf_115 rfl ?_
    refine x_callSI K (As := [vL x10]) dX0_codeOf_117 LX0_25 rfl rfl (Nat.le_of_ble_eq_true rfl) h (fun r5 w5 z5 n5 h => ?_)
    refine v_iadd dX0_codeOf_120 ?_
    refine v_istore dX0_codeOf_121 (by decide) rfl ?_
    refine v_iinc 8 dX0_codeOf_123 rfl (by decide) rfl ?_
    refine v_goto 18 dX0_codeOf_126 (by decide) ?_
    refine V.sub [3, 4, 5, 6, 7, 8, 2, 1, 0] rfl ?_
    exact h
  · have h := hf c
    refine v_aload 5 dX0_codeOf_72 rfl (isR_ref _) ?_
    refine v_iload 10 dX0_codeOf_74 rfl ?_
    refine v_iconst dX0_codeOf_76 ?_
    refine v_isub dX0_codeOf_77 ?_
    obtain ⟨A2, B2, M2, hw2, h⟩ := h
    obtain ⟨s3, h⟩ := h
    refine v_lald (q := x0 + 221) (j := 1 + Int.toNat x4) (f := M2 0 x4) dX0_codeOf_78 hw2 (by omega) (lay_XAr 1 (by decide) xr_twigs hr5) s3 (by decide) ?_
    refine v_lload 9 dX0_codeOf_79 rfl ?_
    obtain ⟨s4, h⟩ := h
    obtain ⟨s5, h⟩ := h
    refine v_lcmp dX0_codeOf_81 s4 s5 ?_
    obtain ⟨ht, hf⟩ := h
    refine v_if_ge 103 dX0_codeOf_82 (by decide) cmpI_rI (fun c => ?_) (fun c => ?_)
    · have h := ht c
      refine v_aload 5 dX0_codeOf_103 rfl (isR_ref _) ?_
      refine v_iload 10 dX0_codeOf_105 rfl ?_
      refine v_lload 9 dX0_codeOf_107 rfl ?_
      obtain ⟨s6, h⟩ := h
      obtain ⟨s7, h⟩ := h
      refine v_last (q := x0 + 221) (j := 1 + Int.toNat x4) (f := M2 0 x4) (obXA A2 B2 (upM M2 0 x4 x12 x10)) dX0_codeOf_109 hw2 (by omega) (lay_XAr 1 (by decide) xr_twigs hr5) s6 (by decide) (chg_XAr 1 _ _ (by decide) xr_twigs hr5) s7 ?_
      refine v_iinc 6 dX0_codeOf_110 rfl (by decide) rfl ?_
      refine v_iload 7 dX0_codeOf_113 rfl ?_
      refine v_lload 9 dX0_codeOf_115 rfl ?_
      refine x_callSI K (As := [vL x10]) dX0_codeOf_117 LX0_25 rfl rfl (Nat.le_of_ble_eq_true rfl) h (fun r8 w8 z8 n8 h => ?_)
      refine v_iadd dX0_codeOf_120 ?_
      refine v_istore dX0_codeOf_121 (by decide) rfl ?_
      refine v_iinc 8 dX0_codeOf_123 rfl (by decide) rfl ?_
      refine v_goto 18 dX0_codeOf_126 (by decide) ?_
      refine V.sub [3, 4, 5, 6, 7, 8, 2, 1, 0] rfl ?_
      exact h
    · have h := hf c
      refine v_aload 5 dX0_codeOf_85 rfl (isR_ref _) ?_
      refine v_iload 10 dX0_codeOf_87 rfl ?_
      refine v_aload 5 dX0_codeOf_89 rfl (isR_ref _) ?_
      refine v_iload 10 dX0_codeOf_91 rfl ?_
      refine v_iconst dX0_codeOf_93 ?_
      refine v_isub dX0_codeOf_94 ?_
      refine v_lald (q := x0 + 221) (j := 1 + Int.toNat x4) (f := M2 0 x4) dX0_codeOf_95 hw2 (by omega) (lay_XAr 1 (by decide) xr_twigs hr5) s3 (by decide) ?_
      obtain ⟨s6, h⟩ := h
      obtain ⟨s7, h⟩ := h
      refine v_last (q := x0 + 221) (j := 1 + Int.toNat x4) (f := M2 0 x4) (obXA A2 B2 (upM M2 0 x4 x12 (M2 0 x4 (x12 - 1)))) dX0_codeOf_96 hw2 (by omega) (lay_XAr 1 (by decide) xr_twigs hr5) s6 (by decide) (chg_XAr 1 _ _ (by decide) xr_twigs hr5) s7 ?_
      refine v_iinc 10 dX0_codeOf_97 rfl (by decide) rfl ?_
      refine v_goto 67 dX0_codeOf_100 (by decide) ?_
      refine V.sub [1, 2, 3, 4, 5, 6, 7, 8, 9, 10, 0] rfl ?_
      exact h
theorem wX0_codeOf_137 (K : KV) {x6 x7 x8 x10 y5 : Int} {x0 : Nat} {w : Wd} {sz n : Nat} (h : (0 ≤ y5 ∧ y5 < 14) ∧ ((rI x10) ∧ ((rI x6) ∧ ((x6 ≤ x10 → ((rI x7) ∧ (K.S (some (vL ((x7 * 1220703125) + x8))) w sz n))) ∧ (¬ x6 ≤ x10 → (∃ (F3 : Nat → Int) (p3 : Nat), (w x0 = some (obX x0 F3 p3)) ∧ (∃ (A4 : Nat → Int → Int) (B4 : Nat → Int → Option Nat) (M4 : Nat → Int → Int → Int), (w (x0 + 221) = some (obXA A4 B4 M4)) ∧ ((0 ≤ x10 ∧ x10 < 4) ∧ (CI mX0_digitsOf K [vL (M4 0 y5 x10)] w sz n fun r6 w6 z6 n6 => ∃ (A7 : Nat → Int → Int) (B7 : Nat → Int → Option Nat) (M7 : Nat → Int → Int → Int), (w6 (x0 + 221) = some (obXA A7 B7 M7)) ∧ ((0 ≤ r6 ∧ r6 < 14) ∧ (CL mX0_numberOf K [vL (M7 0 y5 x10)] w6 z6 n6 fun r9 w9 z9 n9 => VX K mX0_codeOf 137 [(0, .ref x0), (5, .ref (x0 + 221 + 0 + 1 + Int.toNat y5)), (6, vI x6), (7, vI x7), (8, vL ((x8 * (A7 0 r6)) + r9)), (10, vI (x10 + 1))] [] w9 z9 n9))))))))))) : VX K mX0_codeOf 137 [(0, .ref x0), (5, .ref (x0 + 221 + 0 + 1 + Int.toNat y5)), (6, vI x6), (7, vI x7), (8, vL x8), (10, vI x10)] [] w sz n := by
  refine v_iload 5 dX0_codeOf_137 rfl ?_
  refine v_iload 2 dX0_codeOf_139 rfl ?_
  obtain ⟨hr5, h⟩ := h
  obtain ⟨s1, h⟩ := h
  obtain ⟨s2, h⟩ := h
  obtain ⟨ht, hf⟩ := h
  refine v_icmp_ge 177 dX0_codeOf_141 (by decide) s1 s2 (fun c => ?_) (fun c => ?_)
  · have h := ht c
    refine v_iload 3 dX0_codeOf_177 rfl ?_
    obtain ⟨s3, h⟩ := h
    refine v_i2l dX0_codeOf_179 s3 ?_
    refine v_ldc2 (z := 1220703125) dX0_codeOf_180 q543 ?_
    refine v_lmul dX0_codeOf_183 ?_
    refine v_lload 4 dX0_codeOf_184 rfl ?_
    refine v_ladd dX0_codeOf_186 ?_
    exact v_lret dX0_codeOf_187 rfl h
  · have h := hf c
    refine v_lload 4 dX0_codeOf_144 rfl ?_
    refine v_aload_n 0 dX0_codeOf_146 rfl (isR_ref _) ?_
    obtain ⟨F3, p3, hw3, h⟩ := h
    refine v_get (q := x0) (j := 0) (v := .ref (x0 + 221 + 15)) dX0_codeOf_147 fX0_29 hw3 rfl (lay_X0 _ _ _) rfl ?_
    refine v_aload 1 dX0_codeOf_150 rfl (isR_ref _) ?_
    refine v_iload 5 dX0_codeOf_152 rfl ?_
    obtain ⟨A4, B4, M4, hw4, h⟩ := h
    obtain ⟨s5, h⟩ := h
    refine v_lald (q := x0 + 221) (j := 1 + Int.toNat y5) (f := M4 0 y5) dX0_codeOf_154 hw4 (by omega) (lay_XAr 1 (by decide) xr_twigs hr5) s5 (by decide) ?_
    refine x_callSI K (As := [vL (M4 0 y5 x10)]) dX0_codeOf_155 LX0_25 rfl rfl (Nat.le_of_ble_eq_true rfl) h (fun r6 w6 z6 n6 h => ?_)
    obtain ⟨A7, B7, M7, hw7, h⟩ := h
    obtain ⟨s8, h⟩ := h
    refine v_lald (q := x0 + 221) (j := 15) (f := A7 0) dX0_codeOf_158 hw7 rfl (lay_XA 15 rfl) s8 (by decide) ?_
    refine v_lmul dX0_codeOf_159 ?_
    refine v_aload 1 dX0_codeOf_160 rfl (isR_ref _) ?_
    refine v_iload 5 dX0_codeOf_162 rfl ?_
    refine v_lald (q := x0 + 221) (j := 1 + Int.toNat y5) (f := M7 0 y5) dX0_codeOf_164 hw7 (by omega) (lay_XAr 1 (by decide) xr_twigs hr5) s5 (by decide) ?_
    refine x_callSL K (As := [vL (M7 0 y5 x10)]) dX0_codeOf_165 LX0_33 rfl rfl (Nat.le_of_ble_eq_true rfl) h (fun r9 w9 z9 n9 h => ?_)
    refine v_ladd dX0_codeOf_168 ?_
    refine v_lstore dX0_codeOf_169 (by decide) rfl ?_
    refine v_iinc 5 dX0_codeOf_171 rfl (by decide) rfl ?_
    refine v_goto 137 dX0_codeOf_174 (by decide) ?_
    refine V.sub [2, 3, 4, 5, 1, 0] rfl ?_
    exact h
/-! BranchNames.digitsOf -/
theorem wX0_digitsOf_0 (K : KV) {x0 : Int} {w : Wd} {sz n : Nat} (h : (rL x0) ∧ (K.S (some (vI (wI (Int.tdiv x0 1220703125)))) w sz n)) : VX K mX0_digitsOf 0 [(0, vL x0)] [] w sz n := by
  refine v_lload_n 0 dX0_digitsOf_0 rfl ?_
  refine v_ldc2 (z := 1220703125) dX0_digitsOf_1 q543 ?_
  obtain ⟨s1, h⟩ := h
  refine v_ldiv dX0_digitsOf_4 s1 (by decide) (by decide) ?_
  refine v_l2i dX0_digitsOf_5 ?_
  refine v_wI ?_
  exact x_iret K dX0_digitsOf_6 rfl h
/-! BranchNames.numberOf -/
theorem wX0_numberOf_0 (K : KV) {x0 : Int} {w : Wd} {sz n : Nat} (h : (rL x0) ∧ (K.S (some (vL (Int.tmod x0 1220703125))) w sz n)) : VX K mX0_numberOf 0 [(0, vL x0)] [] w sz n := by
  refine v_lload_n 0 dX0_numberOf_0 rfl ?_
  refine v_ldc2 (z := 1220703125) dX0_numberOf_1 q543 ?_
  obtain ⟨s1, h⟩ := h
  refine v_lrem dX0_numberOf_4 s1 (by decide) (by decide) ?_
  exact v_lret dX0_numberOf_5 rfl h
/-! BranchNames.leastAlike -/
theorem wX0_leastAlike_0 (K : KV) {x1 : Int} {x0 : Nat} {w : Wd} {sz n : Nat} (h : VX K mX0_leastAlike 2 [(0, .ref x0), (1, vI x1), (2, vI 0)] [] w sz n) : VX K mX0_leastAlike 0 [(0, .ref x0), (1, vI x1)] [] w sz n := by
  refine v_iconst dX0_leastAlike_0 ?_
  refine v_istore_n dX0_leastAlike_1 (by decide) rfl ?_
  refine V.sub [1, 2, 0] rfl ?_
  exact h
theorem wX0_leastAlike_2 (K : KV) {x1 x2 : Int} {x0 : Nat} {w : Wd} {sz n : Nat} (h : ∃ (F1 : Nat → Int) (p1 : Nat), (w x0 = some (obX x0 F1 p1)) ∧ (∃ (A2 : Nat → Int → Int) (B2 : Nat → Int → Option Nat) (M2 : Nat → Int → Int → Int), (w (x0 + 221) = some (obXA A2 B2 M2)) ∧ ((0 ≤ x2 ∧ x2 < 13) ∧ ((0 ≤ x1 ∧ x1 < 13) ∧ ((rL (A2 3 x2)) ∧ ((rL (A2 3 x1)) ∧ (((cmpI (A2 3 x2) (A2 3 x1)) = 0 → (K.S (some (vI x2)) w sz n)) ∧ (¬ (cmpI (A2 3 x2) (A2 3 x1)) = 0 → (VX K mX0_leastAlike 2 [(0, .ref x0), (1, vI x1), (2, vI (x2 + 1))] [] w sz n))))))))) : VX K mX0_leastAlike 2 [(0, .ref x0), (1, vI x1), (2, vI x2)] [] w sz n := by
  refine v_aload_n 0 dX0_leastAlike_2 rfl (isR_ref _) ?_
  obtain ⟨F1, p1, hw1, h⟩ := h
  refine v_get (q := x0) (j := 0) (v := .ref (x0 + 221 + 33)) dX0_leastAlike_3 fX0_149 hw1 rfl (lay_X0 _ _ _) rfl ?_
  refine v_iload_n 2 dX0_leastAlike_6 rfl ?_
  obtain ⟨A2, B2, M2, hw2, h⟩ := h
  obtain ⟨s3, h⟩ := h
  refine v_lald (q := x0 + 221) (j := 33) (f := A2 3) dX0_leastAlike_7 hw2 rfl (lay_XA 33 rfl) s3 (by decide) ?_
  refine v_aload_n 0 dX0_leastAlike_8 rfl (isR_ref _) ?_
  refine v_get (q := x0) (j := 0) (v := .ref (x0 + 221 + 33)) dX0_leastAlike_9 fX0_149 hw1 rfl (lay_X0 _ _ _) rfl ?_
  refine v_iload_n 1 dX0_leastAlike_12 rfl ?_
  obtain ⟨s4, h⟩ := h
  refine v_lald (q := x0 + 221) (j := 33) (f := A2 3) dX0_leastAlike_13 hw2 rfl (lay_XA 33 rfl) s4 (by decide) ?_
  obtain ⟨s5, h⟩ := h
  obtain ⟨s6, h⟩ := h
  refine v_lcmp dX0_leastAlike_14 s5 s6 ?_
  obtain ⟨ht, hf⟩ := h
  refine v_if_eq 24 dX0_leastAlike_15 (by decide) cmpI_rI (fun c => ?_) (fun c => ?_)
  · have h := ht c
    refine v_iload_n 2 dX0_leastAlike_24 rfl ?_
    exact x_iret K dX0_leastAlike_25 rfl h
  · have h := hf c
    refine v_iinc 2 dX0_leastAlike_18 rfl (by decide) rfl ?_
    refine v_goto 2 dX0_leastAlike_21 (by decide) ?_
    refine V.sub [1, 2, 0] rfl ?_
    exact h
/-! BranchNames.waysOf -/
theorem wX0_waysOf_0 (K : KV) {x0 q1 : Nat} {w : Wd} {sz n : Nat} (h : ∃ (F1 : Nat → Int) (p1 : Nat), (w x0 = some (obX x0 F1 p1)) ∧ (CV mX0_looks K [.ref x0, .ref q1] w sz n fun w2 z2 n2 => ∃ (F3 : Nat → Int) (p3 : Nat), (w2 x0 = some (obX x0 F3 p3)) ∧ (CI mX0_alike K [.ref x0, .ref q1, vI 0] w2 z2 n2 fun r4 w4 z4 n4 => ∃ (F5 : Nat → Int) (p5 : Nat), (w4 x0 = some (obX x0 F5 p5)) ∧ (CI mX0_ways K [.ref x0, .ref q1, vI 0, vI ((-1)), vI 0] w4 z4 n4 fun r6 w6 z6 n6 => K.S (some (vI (r4 * r6))) w6 z6 n6)))) : VX K mX0_waysOf 0 [(0, .ref x0), (1, .ref q1)] [] w sz n := by
  refine v_aload_n 0 dX0_waysOf_0 rfl (isR_ref _) ?_
  refine v_aload_n 1 dX0_waysOf_1 rfl (isR_ref _) ?_
  obtain ⟨F1, p1, hw1, h⟩ := h
  refine x_callVV K (As := [.ref q1]) dX0_waysOf_2 LX0_152 rfl rfl (Nat.le_of_ble_eq_true rfl) (rc_of hw1 (lay_X0 _ _ _) rfl) h (fun w2 z2 n2 h => ?_)
  refine v_aload_n 0 dX0_waysOf_5 rfl (isR_ref _) ?_
  refine v_aload_n 1 dX0_waysOf_6 rfl (isR_ref _) ?_
  refine v_iconst dX0_waysOf_7 ?_
  obtain ⟨F3, p3, hw3, h⟩ := h
  refine x_callVI K (As := [.ref q1, vI 0]) dX0_waysOf_8 LX0_165 rfl rfl (Nat.le_of_ble_eq_true rfl) (rc_of hw3 (lay_X0 _ _ _) rfl) h (fun r4 w4 z4 n4 h => ?_)
  refine v_aload_n 0 dX0_waysOf_11 rfl (isR_ref _) ?_
  refine v_aload_n 1 dX0_waysOf_12 rfl (isR_ref _) ?_
  refine v_iconst dX0_waysOf_13 ?_
  refine v_iconst dX0_waysOf_14 ?_
  refine v_iconst dX0_waysOf_15 ?_
  obtain ⟨F5, p5, hw5, h⟩ := h
  refine x_callVI K (As := [.ref q1, vI 0, vI ((-1)), vI 0]) dX0_waysOf_16 LX0_161 rfl rfl (Nat.le_of_ble_eq_true rfl) (rc_of hw5 (lay_X0 _ _ _) rfl) h (fun r6 w6 z6 n6 h => ?_)
  refine v_imul dX0_waysOf_19 ?_
  exact x_iret K dX0_waysOf_20 rfl h
/-! BranchNames.alike -/
theorem wX0_alike_0 (K : KV) {x2 : Int} {x0 q1 : Nat} {w : Wd} {sz n : Nat} (h : VX K mX0_alike 5 [(0, .ref x0), (1, .ref q1), (2, vI x2), (3, vI 0), (4, vI 0)] [] w sz n) : VX K mX0_alike 0 [(0, .ref x0), (1, .ref q1), (2, vI x2)] [] w sz n := by
  refine v_iconst dX0_alike_0 ?_
  refine v_istore_n dX0_alike_1 (by decide) rfl ?_
  refine v_iconst dX0_alike_2 ?_
  refine v_istore dX0_alike_3 (by decide) rfl ?_
  refine V.sub [2, 3, 4, 1, 0] rfl ?_
  exact h
theorem wX0_alike_5 (K : KV) {x2 x3 x4 : Int} {x0 q1 : Nat} {w : Wd} {sz n : Nat} (h : ∃ (F1 : Nat → Int) (P1 : Nat → Option Nat) (A1 : Nat → Int → Int) (M1 : Nat → Int → Int → Int) (N1 : Nat → Int → Int → Option Nat), (w q1 = some (obT F1 P1 A1 M1 N1)) ∧ ((rI x4) ∧ ((rI (F1 4)) ∧ (((F1 4) ≤ x4 → (K.S (some (vI x3)) w sz n)) ∧ (¬ (F1 4) ≤ x4 → (∃ (F4 : Nat → Int) (p4 : Nat), (w x0 = some (obX x0 F4 p4)) ∧ (∃ (A5 : Nat → Int → Int) (B5 : Nat → Int → Option Nat) (M5 : Nat → Int → Int → Int), (w (x0 + 221) = some (obXA A5 B5 M5)) ∧ ((0 ≤ x4 ∧ x4 < 13) ∧ ((0 ≤ x2 ∧ x2 < 13) ∧ ((rL (A5 3 x4)) ∧ ((rL (A5 3 x2)) ∧ ((¬ (cmpI (A5 3 x4) (A5 3 x2)) = 0 → (VX K mX0_alike 5 [(0, .ref x0), (1, .ref q1), (2, vI x2), (3, vI (x3 + 0)), (4, vI (x4 + 1))] [] w sz n)) ∧ ((cmpI (A5 3 x4) (A5 3 x2)) = 0 → (VX K mX0_alike 5 [(0, .ref x0), (1, .ref q1), (2, vI x2), (3, vI (x3 + 1)), (4, vI (x4 + 1))] [] w sz n)))))))))))))) : VX K mX0_alike 5 [(0, .ref x0), (1, .ref q1), (2, vI x2), (3, vI x3), (4, vI x4)] [] w sz n := by
  refine v_iload 4 dX0_alike_5 rfl ?_
  refine v_aload_n 1 dX0_alike_7 rfl (isR_ref _) ?_
  obtain ⟨F1, P1, A1, M1, N1, hw1, h⟩ := h
  refine v_get (q := q1) (j := 0) (v := vI (F1 4)) dX0_alike_8 fX0_44 hw1 rfl (lay_T0 _ _ _ _ _ _) rfl ?_
  obtain ⟨s2, h⟩ := h
  obtain ⟨s3, h⟩ := h
  obtain ⟨ht, hf⟩ := h
  refine v_icmp_ge 45 dX0_alike_11 (by decide) s2 s3 (fun c => ?_) (fun c => ?_)
  · have h := ht c
    refine v_iload_n 3 dX0_alike_45 rfl ?_
    exact x_iret K dX0_alike_46 rfl h
  · have h := hf c
    refine v_iload_n 3 dX0_alike_14 rfl ?_
    refine v_aload_n 0 dX0_alike_15 rfl (isR_ref _) ?_
    obtain ⟨F4, p4, hw4, h⟩ := h
    refine v_get (q := x0) (j := 0) (v := .ref (x0 + 221 + 33)) dX0_alike_16 fX0_149 hw4 rfl (lay_X0 _ _ _) rfl ?_
    refine v_iload 4 dX0_alike_19 rfl ?_
    obtain ⟨A5, B5, M5, hw5, h⟩ := h
    obtain ⟨s6, h⟩ := h
    refine v_lald (q := x0 + 221) (j := 33) (f := A5 3) dX0_alike_21 hw5 rfl (lay_XA 33 rfl) s6 (by decide) ?_
    refine v_aload_n 0 dX0_alike_22 rfl (isR_ref _) ?_
    refine v_get (q := x0) (j := 0) (v := .ref (x0 + 221 + 33)) dX0_alike_23 fX0_149 hw4 rfl (lay_X0 _ _ _) rfl ?_
    refine v_iload_n 2 dX0_alike_26 rfl ?_
    obtain ⟨s7, h⟩ := h
    refine v_lald (q := x0 + 221) (j := 33) (f := A5 3) dX0_alike_27 hw5 rfl (lay_XA 33 rfl) s7 (by decide) ?_
    obtain ⟨s8, h⟩ := h
    obtain ⟨s9, h⟩ := h
    refine v_lcmp dX0_alike_28 s8 s9 ?_
    obtain ⟨ht, hf⟩ := h
    refine v_if_ne 36 dX0_alike_29 (by decide) cmpI_rI (fun c => ?_) (fun c => ?_)
    · have h := ht c
      refine v_iconst dX0_alike_36 ?_
      refine v_iadd dX0_alike_37 ?_
      refine v_istore_n dX0_alike_38 (by decide) rfl ?_
      refine v_iinc 4 dX0_alike_39 rfl (by decide) rfl ?_
      refine v_goto 5 dX0_alike_42 (by decide) ?_
      refine V.sub [2, 3, 4, 1, 0] rfl ?_
      exact h
    · have h := hf c
      refine v_iconst dX0_alike_32 ?_
      refine v_goto 37 dX0_alike_33 (by decide) ?_
      refine v_iadd dX0_alike_37 ?_
      refine v_istore_n dX0_alike_38 (by decide) rfl ?_
      refine v_iinc 4 dX0_alike_39 rfl (by decide) rfl ?_
      refine v_goto 5 dX0_alike_42 (by decide) ?_
      refine V.sub [2, 3, 4, 1, 0] rfl ?_
      exact h
/-! BranchNames.ways -/
theorem wX0_ways_0 (K : KV) {x2 x3 x4 : Int} {x0 q1 : Nat} {w : Wd} {sz n : Nat} (h : ∃ (F1 : Nat → Int) (p1 : Nat), (w x0 = some (obX x0 F1 p1)) ∧ (∃ (A2 : Nat → Int → Int) (B2 : Nat → Int → Option Nat) (M2 : Nat → Int → Int → Int), (w (x0 + 221) = some (obXA A2 B2 M2)) ∧ ((0 ≤ x4 ∧ x4 < 14) ∧ (VX K mX0_ways 18 [(0, .ref x0), (1, .ref q1), (2, vI x2), (3, vI x3), (4, vI x4), (5, .ref (x0 + 221 + 34 + 1 + Int.toNat x4)), (6, vI 0), (7, vI 1), (8, vI 0)] [] w sz n)))) : VX K mX0_ways 0 [(0, .ref x0), (1, .ref q1), (2, vI x2), (3, vI x3), (4, vI x4)] [] w sz n := by
  refine v_aload_n 0 dX0_ways_0 rfl (isR_ref _) ?_
  obtain ⟨F1, p1, hw1, h⟩ := h
  refine v_get (q := x0) (j := 0) (v := .ref (x0 + 221 + 34)) dX0_ways_1 fX0_158 hw1 rfl (lay_X0 _ _ _) rfl ?_
  refine v_iload 4 dX0_ways_4 rfl ?_
  obtain ⟨A2, B2, M2, hw2, h⟩ := h
  obtain ⟨s3, h⟩ := h
  refine v_aaldR (q := x0 + 221) (j := 34) (q0 := x0 + 221 + 34 + 1) (t := 9) (by decide) dX0_ways_6 hw2 rfl (lay_XA 34 rfl) s3 (by decide) ?_
  refine v_astore dX0_ways_7 (by decide) (isR_ref _) rfl ?_
  refine v_iconst dX0_ways_9 ?_
  refine v_istore dX0_ways_10 (by decide) rfl ?_
  refine v_iconst dX0_ways_12 ?_
  refine v_istore dX0_ways_13 (by decide) rfl ?_
  refine v_iconst dX0_ways_15 ?_
  refine v_istore dX0_ways_16 (by decide) rfl ?_
  refine V.sub [4, 5, 6, 7, 8, 3, 2, 1, 0] rfl ?_
  exact h
theorem wX0_ways_18 (K : KV) {x2 x3 x4 x6 x7 x8 : Int} {x0 q1 : Nat} {w : Wd} {sz n : Nat} (h : (0 ≤ x4 ∧ x4 < 14) ∧ (∃ (F1 : Nat → Int) (P1 : Nat → Option Nat) (A1 : Nat → Int → Int) (M1 : Nat → Int → Int → Int) (N1 : Nat → Int → Int → Option Nat), (w q1 = some (obT F1 P1 A1 M1 N1)) ∧ ((0 ≤ x2 ∧ x2 < 13) ∧ ((rI x8) ∧ ((rI (A1 0 x2)) ∧ (((A1 0 x2) ≤ x8 → (K.S (some (vI x7)) w sz n)) ∧ (¬ (A1 0 x2) ≤ x8 → ((0 ≤ x8 ∧ x8 < 4) ∧ ((rI (M1 0 x2 x8)) ∧ ((rI x3) ∧ ((¬ (M1 0 x2 x8) = x3 → (∃ (F8 : Nat → Int) (p8 : Nat), (w x0 = some (obX x0 F8 p8)) ∧ (CL mX0_codeOf K [.ref x0, .ref q1, vI (M1 0 x2 x8), vI x2, vI 0] w sz n fun r9 w9 z9 n9 => ∃ (A10 : Nat → Int → Int) (B10 : Nat → Int → Option Nat) (M10 : Nat → Int → Int → Int), (w9 (x0 + 221) = some (obXA A10 B10 M10)) ∧ ((0 ≤ x6 ∧ x6 < 4) ∧ ((K.G.base ≤ x0 + 221) ∧ (VX K mX0_ways 72 [(0, .ref x0), (1, .ref q1), (2, vI x2), (3, vI x3), (4, vI x4), (5, .ref (x0 + 221 + 34 + 1 + Int.toNat x4)), (6, vI (x6 + 1)), (7, vI x7), (8, vI x8), (9, vI (M1 0 x2 x8)), (10, vI 0), (11, vI 0)] [] (wset w9 (x0 + 221) (some (obXA A10 B10 (upM M10 2 x4 x6 r9)))) z9 n9)))))) ∧ ((M1 0 x2 x8) = x3 → (VX K mX0_ways 18 [(0, .ref x0), (1, .ref q1), (2, vI x2), (3, vI x3), (4, vI x4), (5, .ref (x0 + 221 + 34 + 1 + Int.toNat x4)), (6, vI x6), (7, vI x7), (8, vI (x8 + 1))] [] w sz n))))))))))))) : VX K mX0_ways 18 [(0, .ref x0), (1, .ref q1), (2, vI x2), (3, vI x3), (4, vI x4), (5, .ref (x0 + 221 + 34 + 1 + Int.toNat x4)), (6, vI x6), (7, vI x7), (8, vI x8)] [] w sz n := by
  refine v_iload 8 dX0_ways_18 rfl ?_
  refine v_aload_n 1 dX0_ways_20 rfl (isR_ref _) ?_
  obtain ⟨hr5, h⟩ := h
  obtain ⟨F1, P1, A1, M1, N1, hw1, h⟩ := h
  refine v_get (q := q1) (j := 0) (v := .ref (q1 + 43)) dX0_ways_21 fX0_11 hw1 rfl (lay_T0 _ _ _ _ _ _) rfl ?_
  refine v_iload_n 2 dX0_ways_24 rfl ?_
  obtain ⟨s2, h⟩ := h
  refine v_iald (q := q1) (j := 43) (f := A1 0) dX0_ways_25 hw1 rfl rfl s2 (by decide) ?_
  obtain ⟨s3, h⟩ := h
  obtain ⟨s4, h⟩ := h
  obtain ⟨ht, hf⟩ := h
  refine v_icmp_ge 137 dX0_ways_26 (by decide) s3 s4 (fun c => ?_) (fun c => ?_)
  · have h := ht c
    refine v_iload 7 dX0_ways_137 rfl ?_
    exact x_iret K dX0_ways_139 rfl h
  · have h := hf c
    refine v_aload_n 1 dX0_ways_29 rfl (isR_ref _) ?_
    refine v_get (q := q1) (j := 0) (v := .ref (q1 + 1)) dX0_ways_30 fX0_17 hw1 rfl (lay_T0 _ _ _ _ _ _) rfl ?_
    refine v_iload_n 2 dX0_ways_33 rfl ?_
    refine v_aaldR (q := q1) (j := 1) (q0 := q1 + 2) (t := 8) (by decide) dX0_ways_34 hw1 rfl rfl s2 (by decide) ?_
    refine v_iload 8 dX0_ways_35 rfl ?_
    obtain ⟨s5, h⟩ := h
    refine v_iald (q := q1) (j := 2 + Int.toNat x2) (f := M1 0 x2) dX0_ways_37 hw1 (Nat.add_assoc _ _ _) (lay_Tn s2) s5 (by decide) ?_
    refine v_istore dX0_ways_38 (by decide) rfl ?_
    refine v_iload 0 dX0_ways_40 rfl ?_
    refine v_iload_n 4 dX0_ways_42 rfl ?_
    obtain ⟨s6, h⟩ := h
    obtain ⟨s7, h⟩ := h
    obtain ⟨ht, hf⟩ := h
    refine v_icmp_ne 49 dX0_ways_43 (by decide) s6 s7 (fun c => ?_) (fun c => ?_)
    · have h := ht c
      refine v_aload 6 dX0_ways_49 rfl (isR_ref _) ?_
      refine v_iload 7 dX0_ways_51 rfl ?_
      refine v_aload_n 1 dX0_ways_53 rfl (isR_ref _) ?_
      refine v_aload_n 2 dX0_ways_54 rfl (isR_ref _) ?_
      refine v_iload 0 dX0_ways_55 rfl ?_
      refine v_iload_n 3 dX0_ways_57 rfl ?_
      refine v_iconst dX0_ways_58 ?_
      obtain ⟨F8, p8, hw8, h⟩ := h
      refine x_callVL K (As := [.ref q1, vI (M1 0 x2 x8), vI x2, vI 0]) dX0_ways_59 LX0_21 rfl rfl (Nat.le_of_ble_eq_true rfl) (rc_of hw8 (lay_X0 _ _ _) rfl) h (fun r9 w9 z9 n9 h => ?_)
      obtain ⟨A10, B10, M10, hw10, h⟩ := h
      obtain ⟨s11, h⟩ := h
      obtain ⟨s12, h⟩ := h
      refine v_last (q := x0 + 221) (j := 35 + Int.toNat x4) (f := M10 2 x4) (obXA A10 B10 (upM M10 2 x4 x6 r9)) dX0_ways_62 hw10 (by omega) (lay_XAr 35 (by decide) xr_sorted hr5) s11 (by decide) (chg_XAr 35 _ _ (by decide) xr_sorted hr5) s12 ?_
      refine v_iinc 7 dX0_ways_63 rfl (by decide) rfl ?_
      refine v_iconst dX0_ways_66 ?_
      refine v_istore dX0_ways_67 (by decide) rfl ?_
      refine v_iconst dX0_ways_69 ?_
      refine v_istore dX0_ways_70 (by decide) rfl ?_
      refine V.sub [4, 5, 6, 7, 8, 9, 2, 10, 11, 3, 1, 0] rfl ?_
      exact h
    · have h := hf c
      refine v_goto 131 dX0_ways_46 (by decide) ?_
      refine v_iinc 9 dX0_ways_131 rfl (by decide) rfl ?_
      refine v_goto 18 dX0_ways_134 (by decide) ?_
      refine V.sub [2, 3, 4, 5, 6, 7, 8, 9, 0] rfl ?_
      exact h
theorem wX0_ways_72 (K : KV) {x2 x3 x4 x6 x7 x8 x9 x10 x11 : Int} {x0 q1 : Nat} {w : Wd} {sz n : Nat} (h : (0 ≤ x4 ∧ x4 < 14) ∧ ((rI x11) ∧ ((rI x6) ∧ ((x6 ≤ x11 → (∃ (F3 : Nat → Int) (p3 : Nat), (w x0 = some (obX x0 F3 p3)) ∧ (CI mX0_ways K [.ref x0, .ref q1, vI x9, vI x2, vI (x4 + 1)] w sz n fun r4 w4 z4 n4 => VX K mX0_ways 18 [(0, .ref x0), (1, .ref q1), (2, vI x2), (3, vI x3), (4, vI x4), (5, .ref (x0 + 221 + 34 + 1 + Int.toNat x4)), (6, vI x6), (7, vI (x7 * (x10 * r4))), (8, vI (x8 + 1))] [] w4 z4 n4))) ∧ (¬ x6 ≤ x11 → (∃ (A3 : Nat → Int → Int) (B3 : Nat → Int → Option Nat) (M3 : Nat → Int → Int → Int), (w (x0 + 221) = some (obXA A3 B3 M3)) ∧ ((0 ≤ x11 ∧ x11 < 4) ∧ ((0 ≤ (x6 - 1) ∧ (x6 - 1) < 4) ∧ ((rL (M3 2 x4 x11)) ∧ ((rL (M3 2 x4 (x6 - 1))) ∧ ((¬ (cmpI (M3 2 x4 x11) (M3 2 x4 (x6 - 1))) = 0 → (VX K mX0_ways 72 [(0, .ref x0), (1, .ref q1), (2, vI x2), (3, vI x3), (4, vI x4), (5, .ref (x0 + 221 + 34 + 1 + Int.toNat x4)), (6, vI x6), (7, vI x7), (8, vI x8), (9, vI x9), (10, vI (x10 + 0)), (11, vI (x11 + 1))] [] w sz n)) ∧ ((cmpI (M3 2 x4 x11) (M3 2 x4 (x6 - 1))) = 0 → (VX K mX0_ways 72 [(0, .ref x0), (1, .ref q1), (2, vI x2), (3, vI x3), (4, vI x4), (5, .ref (x0 + 221 + 34 + 1 + Int.toNat x4)), (6, vI x6), (7, vI x7), (8, vI x8), (9, vI x9), (10, vI (x10 + 1)), (11, vI (x11 + 1))] [] w sz n))))))))))))) : VX K mX0_ways 72 [(0, .ref x0), (1, .ref q1), (2, vI x2), (3, vI x3), (4, vI x4), (5, .ref (x0 + 221 + 34 + 1 + Int.toNat x4)), (6, vI x6), (7, vI x7), (8, vI x8), (9, vI x9), (10, vI x10), (11, vI x11)] [] w sz n := by
  refine v_iload 11 dX0_ways_72 rfl ?_
  refine v_iload 6 dX0_ways_74 rfl ?_
  obtain ⟨hr5, h⟩ := h
  obtain ⟨s1, h⟩ := h
  obtain ⟨s2, h⟩ := h
  obtain ⟨ht, hf⟩ := h
  refine v_icmp_ge 111 dX0_ways_76 (by decide) s1 s2 (fun c => ?_) (fun c => ?_)
  · have h := ht c
    refine v_iload 7 dX0_ways_111 rfl ?_
    refine v_iload 10 dX0_ways_113 rfl ?_
    refine v_aload_n 0 dX0_ways_115 rfl (isR_ref _) ?_
    refine v_aload_n 1 dX0_ways_116 rfl (isR_ref _) ?_
    refine v_iload 9 dX0_ways_117 rfl ?_
    refine v_iload_n 2 dX0_ways_119 rfl ?_
    refine v_iload 4 dX0_ways_120 rfl ?_
    refine v_iconst dX0_ways_122 ?_
    refine v_iadd dX0_ways_123 ?_
    obtain ⟨F3, p3, hw3, h⟩ := h
    refine x_callVI K (As := [.ref q1, vI x9, vI x2, vI (x4 + 1)]) dX0_ways_124 LX0_161 rfl rfl (Nat.le_of_ble_eq_true rfl) (rc_of hw3 (lay_X0 _ _ _) rfl) h (fun r4 w4 z4 n4 h => ?_)
    refine v_imul dX0_ways_127 ?_
    refine v_imul dX0_ways_128 ?_
    refine v_istore dX0_ways_129 (by decide) rfl ?_
    refine v_iinc 8 dX0_ways_131 rfl (by decide) rfl ?_
    refine v_goto 18 dX0_ways_134 (by decide) ?_
    refine V.sub [2, 3, 4, 5, 6, 7, 8, 1, 0] rfl ?_
    exact h
  · have h := hf c
    refine v_iload 10 dX0_ways_79 rfl ?_
    refine v_aload 5 dX0_ways_81 rfl (isR_ref _) ?_
    refine v_iload 11 dX0_ways_83 rfl ?_
    obtain ⟨A3, B3, M3, hw3, h⟩ := h
    obtain ⟨s4, h⟩ := h
    refine v_lald (q := x0 + 221) (j := 35 + Int.toNat x4) (f := M3 2 x4) dX0_ways_85 hw3 (by omega) (lay_XAr 35 (by decide) xr_sorted hr5) s4 (by decide) ?_
    refine v_aload 5 dX0_ways_86 rfl (isR_ref _) ?_
    refine v_iload 6 dX0_ways_88 rfl ?_
    refine v_iconst dX0_ways_90 ?_
    refine v_isub dX0_ways_91 ?_
    obtain ⟨s5, h⟩ := h
    refine v_lald (q := x0 + 221) (j := 35 + Int.toNat x4) (f := M3 2 x4) dX0_ways_92 hw3 (by omega) (lay_XAr 35 (by decide) xr_sorted hr5) s5 (by decide) ?_
    obtain ⟨s6, h⟩ := h
    obtain ⟨s7, h⟩ := h
    refine v_lcmp dX0_ways_93 s6 s7 ?_
    obtain ⟨ht, hf⟩ := h
    refine v_if_ne 101 dX0_ways_94 (by decide) cmpI_rI (fun c => ?_) (fun c => ?_)
    · have h := ht c
      refine v_iconst dX0_ways_101 ?_
      refine v_iadd dX0_ways_102 ?_
      refine v_istore dX0_ways_103 (by decide) rfl ?_
      refine v_iinc 11 dX0_ways_105 rfl (by decide) rfl ?_
      refine v_goto 72 dX0_ways_108 (by decide) ?_
      refine V.sub [2, 3, 4, 5, 6, 7, 8, 9, 10, 11, 1, 0] rfl ?_
      exact h
    · have h := hf c
      refine v_iconst dX0_ways_97 ?_
      refine v_goto 102 dX0_ways_98 (by decide) ?_
      refine v_iadd dX0_ways_102 ?_
      refine v_istore dX0_ways_103 (by decide) rfl ?_
      refine v_iinc 11 dX0_ways_105 rfl (by decide) rfl ?_
      refine v_goto 72 dX0_ways_108 (by decide) ?_
      refine V.sub [2, 3, 4, 5, 6, 7, 8, 9, 10, 11, 1, 0] rfl ?_
      exact h
/-! BranchNames.grownOf -/
theorem wX0_grownOf_0 (K : KV) {x0 q1 : Nat} {w : Wd} {sz n : Nat} (h : VX K mX0_grownOf 4 [(0, .ref x0), (1, .ref q1), (2, vI 0), (3, vI 0)] [] w sz n) : VX K mX0_grownOf 0 [(0, .ref x0), (1, .ref q1)] [] w sz n := by
  refine v_iconst dX0_grownOf_0 ?_
  refine v_istore_n dX0_grownOf_1 (by decide) rfl ?_
  refine v_iconst dX0_grownOf_2 ?_
  refine v_istore_n dX0_grownOf_3 (by decide) rfl ?_
  refine V.sub [2, 3, 1, 0] rfl ?_
  exact h
theorem wX0_grownOf_4 (K : KV) {x2 x3 : Int} {x0 q1 : Nat} {w : Wd} {sz n : Nat} (h : ∃ (F1 : Nat → Int) (P1 : Nat → Option Nat) (A1 : Nat → Int → Int) (M1 : Nat → Int → Int → Int) (N1 : Nat → Int → Int → Option Nat), (w q1 = some (obT F1 P1 A1 M1 N1)) ∧ ((rI x3) ∧ ((rI (F1 4)) ∧ (((F1 4) ≤ x3 → (K.S (some (vI x2)) w sz n)) ∧ (¬ (F1 4) ≤ x3 → (CI mX1_isFull K [.ref q1, vI x3] w sz n fun r4 w4 z4 n4 => (rI r4) ∧ ((r4 = 0 → (∃ (F6 : Nat → Int) (p6 : Nat), (w4 x0 = some (obX x0 F6 p6)) ∧ (∃ (F7 : Nat → Int) (P7 : Nat → Option Nat) (A7 : Nat → Int → Int) (M7 : Nat → Int → Int → Int) (N7 : Nat → Int → Int → Option Nat), (w4 (x0 + 89) = some (obT F7 P7 A7 M7 N7)) ∧ (CV mX1_becomes K [.ref (x0 + 89), .ref q1] w4 z4 n4 fun w8 z8 n8 => ∃ (F9 : Nat → Int) (p9 : Nat), (w8 x0 = some (obX x0 F9 p9)) ∧ (∃ (F10 : Nat → Int) (P10 : Nat → Option Nat) (A10 : Nat → Int → Int) (M10 : Nat → Int → Int → Int) (N10 : Nat → Int → Int → Option Nat), (w8 (x0 + 89) = some (obT F10 P10 A10 M10 N10)) ∧ (CI mX1_grows K [.ref (x0 + 89), vI x3] w8 z8 n8 fun r11 w11 z11 n11 => ∃ (F12 : Nat → Int) (p12 : Nat), (w11 x0 = some (obX x0 F12 p12)) ∧ (CL mX0_keyOf K [.ref x0, .ref (x0 + 89)] w11 z11 n11 fun r13 w13 z13 n13 => VX K mX0_grownOf 57 [(0, .ref x0), (1, .ref q1), (2, vI x2), (3, vI x3), (5, vL r13), (7, vI 1), (8, vI 0)] [] w13 z13 n13))))))) ∧ (¬ r4 = 0 → (VX K mX0_grownOf 4 [(0, .ref x0), (1, .ref q1), (2, vI x2), (3, vI (x3 + 1))] [] w4 z4 n4))))))))) : VX K mX0_grownOf 4 [(0, .ref x0), (1, .ref q1), (2, vI x2), (3, vI x3)] [] w sz n := by
  refine v_iload_n 3 dX0_grownOf_4 rfl ?_
  refine v_aload_n 1 dX0_grownOf_5 rfl (isR_ref _) ?_
  obtain ⟨F1, P1, A1, M1, N1, hw1, h⟩ := h
  refine v_get (q := q1) (j := 0) (v := vI (F1 4)) dX0_grownOf_6 fX0_44 hw1 rfl (lay_T0 _ _ _ _ _ _) rfl ?_
  obtain ⟨s2, h⟩ := h
  obtain ⟨s3, h⟩ := h
  obtain ⟨ht, hf⟩ := h
  refine v_icmp_ge 119 dX0_grownOf_9 (by decide) s2 s3 (fun c => ?_) (fun c => ?_)
  · have h := ht c
    refine v_iload_n 2 dX0_grownOf_119 rfl ?_
    exact x_iret K dX0_grownOf_120 rfl h
  · have h := hf c
    refine v_aload_n 1 dX0_grownOf_12 rfl (isR_ref _) ?_
    refine v_iload_n 3 dX0_grownOf_13 rfl ?_
    refine x_callVI K (As := [vI x3]) dX0_grownOf_14 LX0_118 rfl rfl (Nat.le_of_ble_eq_true rfl) (rc_of hw1 (lay_T0 _ _ _ _ _ _) rfl) h (fun r4 w4 z4 n4 h => ?_)
    obtain ⟨s5, h⟩ := h
    obtain ⟨ht, hf⟩ := h
    refine v_if_eq 23 dX0_grownOf_17 (by decide) s5 (fun c => ?_) (fun c => ?_)
    · have h := ht c
      refine v_aload_n 0 dX0_grownOf_23 rfl (isR_ref _) ?_
      obtain ⟨F6, p6, hw6, h⟩ := h
      refine v_get (q := x0) (j := 0) (v := .ref (x0 + 89)) dX0_grownOf_24 fX0_122 hw6 rfl (lay_X0 _ _ _) rfl ?_
      refine v_aload_n 1 dX0_grownOf_27 rfl (isR_ref _) ?_
      obtain ⟨F7, P7, A7, M7, N7, hw7, h⟩ := h
      refine x_callVV K (As := [.ref q1]) dX0_grownOf_28 LX0_125 rfl rfl (Nat.le_of_ble_eq_true rfl) (rc_of hw7 (lay_T0 _ _ _ _ _ _) rfl) h (fun w8 z8 n8 h => ?_)
      refine v_aload_n 0 dX0_grownOf_31 rfl (isR_ref _) ?_
      obtain ⟨F9, p9, hw9, h⟩ := h
      refine v_get (q := x0) (j := 0) (v := .ref (x0 + 89)) dX0_grownOf_32 fX0_122 hw9 rfl (lay_X0 _ _ _) rfl ?_
      refine v_iload_n 3 dX0_grownOf_35 rfl ?_
      obtain ⟨F10, P10, A10, M10, N10, hw10, h⟩ := h
      refine x_callVI K (As := [vI x3]) dX0_grownOf_36 LX0_81 rfl rfl (Nat.le_of_ble_eq_true rfl) (rc_of hw10 (lay_T0 _ _ _ _ _ _) rfl) h (fun r11 w11 z11 n11 h => ?_)
      refine v_istore dX0_grownOf_39 (by decide) rfl ?_
      refine v_aload_n 1 dX0_grownOf_41 rfl (isR_ref _) ?_
      refine v_aload_n 1 dX0_grownOf_42 rfl (isR_ref _) ?_
      obtain ⟨F12, p12, hw12, h⟩ := h
      refine v_get (q := x0) (j := 0) (v := .ref (x0 + 89)) dX0_grownOf_43 fX0_122 hw12 rfl (lay_X0 _ _ _) rfl ?_
      refine x_callVL K (As := [.ref (x0 + 89)]) dX0_grownOf_46 LX0_128 rfl rfl (Nat.le_of_ble_eq_true rfl) (rc_of hw12 (lay_X0 _ _ _) rfl) h (fun r13 w13 z13 n13 h => ?_)
      refine v_lstore dX0_grownOf_49 (by decide) rfl ?_
      refine v_iconst dX0_grownOf_51 ?_
      refine v_istore dX0_grownOf_52 (by decide) rfl ?_
      refine v_iconst dX0_grownOf_54 ?_
      refine v_istore dX0_grownOf_55 (by decide) rfl ?_
      refine V.sub [4, 5, 6, 7, 2, 1, 0] rfl ?_
      exact h
    · have h := hf c
      refine v_goto 113 dX0_grownOf_20 (by decide) ?_
      refine v_iinc 3 dX0_grownOf_113 rfl (by decide) rfl ?_
      refine v_goto 4 dX0_grownOf_116 (by decide) ?_
      refine V.sub [1, 2, 3, 0] rfl ?_
      exact h
theorem wX0_grownOf_57 (K : KV) {x2 x3 x5 x7 x8 : Int} {x0 q1 : Nat} {w : Wd} {sz n : Nat} (h : (rI x8) ∧ ((rI x2) ∧ ((x2 ≤ x8 → (∃ (F3 : Nat → Int) (p3 : Nat), (w x0 = some (obX x0 F3 p3)) ∧ (∃ (A4 : Nat → Int → Int) (B4 : Nat → Int → Option Nat) (M4 : Nat → Int → Int → Int), (w (x0 + 221) = some (obXA A4 B4 M4)) ∧ ((0 ≤ x2 ∧ x2 < 13) ∧ ((K.G.base ≤ x0 + 221) ∧ ((rI x7) ∧ ((x7 = 0 → (VX K mX0_grownOf 4 [(0, .ref x0), (1, .ref q1), (2, vI (x2 + 0)), (3, vI (x3 + 1))] [] (wset w (x0 + 221) (some (obXA (upA A4 4 x2 x5) B4 M4))) sz n)) ∧ (¬ x7 = 0 → (VX K mX0_grownOf 4 [(0, .ref x0), (1, .ref q1), (2, vI (x2 + 1)), (3, vI (x3 + 1))] [] (wset w (x0 + 221) (some (obXA (upA A4 4 x2 x5) B4 M4))) sz n))))))))) ∧ (¬ x2 ≤ x8 → (∃ (F3 : Nat → Int) (p3 : Nat), (w x0 = some (obX x0 F3 p3)) ∧ (∃ (A4 : Nat → Int → Int) (B4 : Nat → Int → Option Nat) (M4 : Nat → Int → Int → Int), (w (x0 + 221) = some (obXA A4 B4 M4)) ∧ ((0 ≤ x8 ∧ x8 < 13) ∧ ((rL (A4 4 x8)) ∧ ((rL x5) ∧ (((cmpI (A4 4 x8) x5) = 0 → (VX K mX0_grownOf 57 [(0, .ref x0), (1, .ref q1), (2, vI x2), (3, vI x3), (5, vL x5), (7, vI (iand x7 0)), (8, vI (x8 + 1))] [] w sz n)) ∧ (¬ (cmpI (A4 4 x8) x5) = 0 → (VX K mX0_grownOf 57 [(0, .ref x0), (1, .ref q1), (2, vI x2), (3, vI x3), (5, vL x5), (7, vI (iand x7 1)), (8, vI (x8 + 1))] [] w sz n)))))))))))) : VX K mX0_grownOf 57 [(0, .ref x0), (1, .ref q1), (2, vI x2), (3, vI x3), (5, vL x5), (7, vI x7), (8, vI x8)] [] w sz n := by
  refine v_iload 6 dX0_grownOf_57 rfl ?_
  refine v_iload_n 2 dX0_grownOf_59 rfl ?_
  obtain ⟨s1, h⟩ := h
  obtain ⟨s2, h⟩ := h
  obtain ⟨ht, hf⟩ := h
  refine v_icmp_ge 92 dX0_grownOf_60 (by decide) s1 s2 (fun c => ?_) (fun c => ?_)
  · have h := ht c
    refine v_aload_n 0 dX0_grownOf_92 rfl (isR_ref _) ?_
    obtain ⟨F3, p3, hw3, h⟩ := h
    refine v_get (q := x0) (j := 0) (v := .ref (x0 + 221 + 49)) dX0_grownOf_93 fX0_168 hw3 rfl (lay_X0 _ _ _) rfl ?_
    refine v_iload_n 2 dX0_grownOf_96 rfl ?_
    refine v_lload 4 dX0_grownOf_97 rfl ?_
    obtain ⟨A4, B4, M4, hw4, h⟩ := h
    obtain ⟨s5, h⟩ := h
    obtain ⟨s6, h⟩ := h
    refine v_last (q := x0 + 221) (j := 49) (f := A4 4) (obXA (upA A4 4 x2 x5) B4 M4) dX0_grownOf_99 hw4 rfl (lay_XA 49 rfl) s5 (by decide) (chg_XAl 49 _ _ rfl) s6 ?_
    refine v_iload_n 2 dX0_grownOf_100 rfl ?_
    refine v_iload 5 dX0_grownOf_101 rfl ?_
    obtain ⟨s7, h⟩ := h
    obtain ⟨ht, hf⟩ := h
    refine v_if_eq 110 dX0_grownOf_103 (by decide) s7 (fun c => ?_) (fun c => ?_)
    · have h := ht c
      refine v_iconst dX0_grownOf_110 ?_
      refine v_iadd dX0_grownOf_111 ?_
      refine v_istore_n dX0_grownOf_112 (by decide) rfl ?_
      refine v_iinc 3 dX0_grownOf_113 rfl (by decide) rfl ?_
      refine v_goto 4 dX0_grownOf_116 (by decide) ?_
      refine V.sub [2, 3, 1, 0] rfl ?_
      exact h
    · have h := hf c
      refine v_iconst dX0_grownOf_106 ?_
      refine v_goto 111 dX0_grownOf_107 (by decide) ?_
      refine v_iadd dX0_grownOf_111 ?_
      refine v_istore_n dX0_grownOf_112 (by decide) rfl ?_
      refine v_iinc 3 dX0_grownOf_113 rfl (by decide) rfl ?_
      refine v_goto 4 dX0_grownOf_116 (by decide) ?_
      refine V.sub [2, 3, 1, 0] rfl ?_
      exact h
  · have h := hf c
    refine v_iload 5 dX0_grownOf_63 rfl ?_
    refine v_aload_n 0 dX0_grownOf_65 rfl (isR_ref _) ?_
    obtain ⟨F3, p3, hw3, h⟩ := h
    refine v_get (q := x0) (j := 0) (v := .ref (x0 + 221 + 49)) dX0_grownOf_66 fX0_168 hw3 rfl (lay_X0 _ _ _) rfl ?_
    refine v_iload 6 dX0_grownOf_69 rfl ?_
    obtain ⟨A4, B4, M4, hw4, h⟩ := h
    obtain ⟨s5, h⟩ := h
    refine v_lald (q := x0 + 221) (j := 49) (f := A4 4) dX0_grownOf_71 hw4 rfl (lay_XA 49 rfl) s5 (by decide) ?_
    refine v_lload 4 dX0_grownOf_72 rfl ?_
    obtain ⟨s6, h⟩ := h
    obtain ⟨s7, h⟩ := h
    refine v_lcmp dX0_grownOf_74 s6 s7 ?_
    obtain ⟨ht, hf⟩ := h
    refine v_if_eq 82 dX0_grownOf_75 (by decide) cmpI_rI (fun c => ?_) (fun c => ?_)
    · have h := ht c
      refine v_iconst dX0_grownOf_82 ?_
      refine v_iand dX0_grownOf_83 ?_
      refine v_istore dX0_grownOf_84 (by decide) rfl ?_
      refine v_iinc 6 dX0_grownOf_86 rfl (by decide) rfl ?_
      refine v_goto 57 dX0_grownOf_89 (by decide) ?_
      refine V.sub [2, 3, 4, 5, 6, 1, 0] rfl ?_
      exact h
    · have h := hf c
      refine v_iconst dX0_grownOf_78 ?_
      refine v_goto 83 dX0_grownOf_79 (by decide) ?_
      refine v_iand dX0_grownOf_83 ?_
      refine v_istore dX0_grownOf_84 (by decide) rfl ?_
      refine v_iinc 6 dX0_grownOf_86 rfl (by decide) rfl ?_
      refine v_goto 57 dX0_grownOf_89 (by decide) ?_
      refine V.sub [2, 3, 4, 5, 6, 1, 0] rfl ?_
      exact h
/-! BranchNames.keyOf -/
theorem wX0_keyOf_0 (K : KV) {x0 q1 : Nat} {w : Wd} {sz n : Nat} (h : ∃ (F1 : Nat → Int) (p1 : Nat), (w x0 = some (obX x0 F1 p1)) ∧ (CI mX0_centre K [.ref x0, .ref q1, vI 1] w sz n fun r2 w2 z2 n2 => ∃ (F3 : Nat → Int) (p3 : Nat), (w2 x0 = some (obX x0 F3 p3)) ∧ (CI mX0_centre K [.ref x0, .ref q1, vI 0] w2 z2 n2 fun r4 w4 z4 n4 => ∃ (F5 : Nat → Int) (p5 : Nat), (w4 x0 = some (obX x0 F5 p5)) ∧ (CL mX0_seenAt K [.ref x0, .ref q1, vI r4] w4 z4 n4 fun r6 w6 z6 n6 => (rI r2) ∧ ((0 ≤ r2 → (∃ (F8 : Nat → Int) (p8 : Nat), (w6 x0 = some (obX x0 F8 p8)) ∧ (CL mX0_seenAt K [.ref x0, .ref q1, vI r2] w6 z6 n6 fun r9 w9 z9 n9 => (rL r6) ∧ ((rL r9) ∧ ((1 ≤ K.d) ∧ (K.S (some (vL (max r6 r9))) w9 z9 n9)))))) ∧ (¬ 0 ≤ r2 → (K.S (some (vL r6)) w6 z6 n6))))))) : VX K mX0_keyOf 0 [(0, .ref x0), (1, .ref q1)] [] w sz n := by
  refine v_aload_n 0 dX0_keyOf_0 rfl (isR_ref _) ?_
  refine v_aload_n 1 dX0_keyOf_1 rfl (isR_ref _) ?_
  refine v_iconst dX0_keyOf_2 ?_
  obtain ⟨F1, p1, hw1, h⟩ := h
  refine x_callVI K (As := [.ref q1, vI 1]) dX0_keyOf_3 LX0_65 rfl rfl (Nat.le_of_ble_eq_true rfl) (rc_of hw1 (lay_X0 _ _ _) rfl) h (fun r2 w2 z2 n2 h => ?_)
  refine v_istore_n dX0_keyOf_6 (by decide) rfl ?_
  refine v_aload_n 1 dX0_keyOf_7 rfl (isR_ref _) ?_
  refine v_aload_n 2 dX0_keyOf_8 rfl (isR_ref _) ?_
  refine v_aload_n 1 dX0_keyOf_9 rfl (isR_ref _) ?_
  refine v_aload_n 2 dX0_keyOf_10 rfl (isR_ref _) ?_
  refine v_iconst dX0_keyOf_11 ?_
  obtain ⟨F3, p3, hw3, h⟩ := h
  refine x_callVI K (As := [.ref q1, vI 0]) dX0_keyOf_12 LX0_65 rfl rfl (Nat.le_of_ble_eq_true rfl) (rc_of hw3 (lay_X0 _ _ _) rfl) h (fun r4 w4 z4 n4 h => ?_)
  obtain ⟨F5, p5, hw5, h⟩ := h
  refine x_callVL K (As := [.ref q1, vI r4]) dX0_keyOf_15 LX0_68 rfl rfl (Nat.le_of_ble_eq_true rfl) (rc_of hw5 (lay_X0 _ _ _) rfl) h (fun r6 w6 z6 n6 h => ?_)
  refine v_lstore_n dX0_keyOf_18 (by decide) rfl ?_
  refine v_iload_n 1 dX0_keyOf_19 rfl ?_
  obtain ⟨s7, h⟩ := h
  obtain ⟨ht, hf⟩ := h
  refine v_if_ge 27 dX0_keyOf_20 (by decide) s7 (fun c => ?_) (fun c => ?_)
  · have h := ht c
    refine v_lload_n 0 dX0_keyOf_27 rfl ?_
    refine v_aload_n 2 dX0_keyOf_28 rfl (isR_ref _) ?_
    refine v_aload_n 3 dX0_keyOf_29 rfl (isR_ref _) ?_
    refine v_iload_n 1 dX0_keyOf_30 rfl ?_
    obtain ⟨F8, p8, hw8, h⟩ := h
    refine x_callVL K (As := [.ref q1, vI r2]) dX0_keyOf_31 LX0_68 rfl rfl (Nat.le_of_ble_eq_true rfl) (rc_of hw8 (lay_X0 _ _ _) rfl) h (fun r9 w9 z9 n9 h => ?_)
    obtain ⟨s10, h⟩ := h
    obtain ⟨s11, h⟩ := h
    obtain ⟨s12, h⟩ := h
    refine v_mmaxL dX0_keyOf_34 q585 s10 s11 s12 (Nat.le_of_ble_eq_true rfl) ?_
    exact v_lret dX0_keyOf_37 rfl h
  · have h := hf c
    refine v_lload_n 0 dX0_keyOf_23 rfl ?_
    refine v_goto 37 dX0_keyOf_24 (by decide) ?_
    exact v_lret dX0_keyOf_37 rfl h
/-! BranchNames.lambda$new$4 -/
theorem wX0_lambda_new_4_0 (K : KV) {x0 q1 : Nat} {w : Wd} {sz n : Nat} (h : ∃ (F1 : Nat → Int) (p1 : Nat), (w x0 = some (obX x0 F1 p1)) ∧ (CI mX0_greatestDeep K [.ref x0, .ref q1] w sz n fun r2 w2 z2 n2 => K.S (some (vI (1 + r2))) w2 z2 n2)) : VX K mX0_lambda_new_4 0 [(0, .ref x0), (1, .ref q1)] [] w sz n := by
  refine v_iconst dX0_lambda_new_4_0 ?_
  refine v_aload_n 0 dX0_lambda_new_4_1 rfl (isR_ref _) ?_
  refine v_aload_n 1 dX0_lambda_new_4_2 rfl (isR_ref _) ?_
  obtain ⟨F1, p1, hw1, h⟩ := h
  refine x_callVI K (As := [.ref q1]) dX0_lambda_new_4_3 LX0_689 rfl rfl (Nat.le_of_ble_eq_true rfl) (rc_of hw1 (lay_X0 _ _ _) rfl) h (fun r2 w2 z2 n2 h => ?_)
  refine v_iadd dX0_lambda_new_4_6 ?_
  exact x_iret K dX0_lambda_new_4_7 rfl h
/-! BranchNames.greatestDeep -/
theorem wX0_greatestDeep_0 (K : KV) {x0 q1 : Nat} {w : Wd} {sz n : Nat} (h : ∃ (F1 : Nat → Int) (p1 : Nat), (w x0 = some (obX x0 F1 p1)) ∧ (CV mX0_measures K [.ref x0, .ref q1] w sz n fun w2 z2 n2 => VX K mX0_greatestDeep 9 [(0, .ref x0), (1, .ref q1), (2, vI 0), (3, vI 0)] [] w2 z2 n2)) : VX K mX0_greatestDeep 0 [(0, .ref x0), (1, .ref q1)] [] w sz n := by
  refine v_aload_n 0 dX0_greatestDeep_0 rfl (isR_ref _) ?_
  refine v_aload_n 1 dX0_greatestDeep_1 rfl (isR_ref _) ?_
  obtain ⟨F1, p1, hw1, h⟩ := h
  refine x_callVV K (As := [.ref q1]) dX0_greatestDeep_2 LX0_54 rfl rfl (Nat.le_of_ble_eq_true rfl) (rc_of hw1 (lay_X0 _ _ _) rfl) h (fun w2 z2 n2 h => ?_)
  refine v_iconst dX0_greatestDeep_5 ?_
  refine v_istore_n dX0_greatestDeep_6 (by decide) rfl ?_
  refine v_iconst dX0_greatestDeep_7 ?_
  refine v_istore_n dX0_greatestDeep_8 (by decide) rfl ?_
  refine V.sub [2, 3, 1, 0] rfl ?_
  exact h
theorem wX0_greatestDeep_9 (K : KV) {x2 x3 : Int} {x0 q1 : Nat} {w : Wd} {sz n : Nat} (h : ∃ (F1 : Nat → Int) (P1 : Nat → Option Nat) (A1 : Nat → Int → Int) (M1 : Nat → Int → Int → Int) (N1 : Nat → Int → Int → Option Nat), (w q1 = some (obT F1 P1 A1 M1 N1)) ∧ ((rI x3) ∧ ((rI (F1 4)) ∧ (((F1 4) ≤ x3 → (K.S (some (vI x2)) w sz n)) ∧ (¬ (F1 4) ≤ x3 → (∃ (F4 : Nat → Int) (p4 : Nat), (w x0 = some (obX x0 F4 p4)) ∧ (CI mX0_deep K [.ref x0, .ref q1, vI x3] w sz n fun r5 w5 z5 n5 => (rI x2) ∧ ((rI r5) ∧ ((1 ≤ K.d) ∧ (VX K mX0_greatestDeep 9 [(0, .ref x0), (1, .ref q1), (2, vI (max x2 r5)), (3, vI (x3 + 1))] [] w5 z5 n5)))))))))) : VX K mX0_greatestDeep 9 [(0, .ref x0), (1, .ref q1), (2, vI x2), (3, vI x3)] [] w sz n := by
  refine v_iload_n 3 dX0_greatestDeep_9 rfl ?_
  refine v_aload_n 1 dX0_greatestDeep_10 rfl (isR_ref _) ?_
  obtain ⟨F1, P1, A1, M1, N1, hw1, h⟩ := h
  refine v_get (q := q1) (j := 0) (v := vI (F1 4)) dX0_greatestDeep_11 fX0_44 hw1 rfl (lay_T0 _ _ _ _ _ _) rfl ?_
  obtain ⟨s2, h⟩ := h
  obtain ⟨s3, h⟩ := h
  obtain ⟨ht, hf⟩ := h
  refine v_icmp_ge 34 dX0_greatestDeep_14 (by decide) s2 s3 (fun c => ?_) (fun c => ?_)
  · have h := ht c
    refine v_iload_n 2 dX0_greatestDeep_34 rfl ?_
    exact x_iret K dX0_greatestDeep_35 rfl h
  · have h := hf c
    refine v_iload_n 2 dX0_greatestDeep_17 rfl ?_
    refine v_aload_n 0 dX0_greatestDeep_18 rfl (isR_ref _) ?_
    refine v_aload_n 1 dX0_greatestDeep_19 rfl (isR_ref _) ?_
    refine v_iload_n 3 dX0_greatestDeep_20 rfl ?_
    obtain ⟨F4, p4, hw4, h⟩ := h
    refine x_callVI K (As := [.ref q1, vI x3]) dX0_greatestDeep_21 LX0_58 rfl rfl (Nat.le_of_ble_eq_true rfl) (rc_of hw4 (lay_X0 _ _ _) rfl) h (fun r5 w5 z5 n5 h => ?_)
    obtain ⟨s6, h⟩ := h
    obtain ⟨s7, h⟩ := h
    obtain ⟨s8, h⟩ := h
    refine v_mmax dX0_greatestDeep_24 q523 s6 s7 s8 (Nat.le_of_ble_eq_true rfl) ?_
    refine v_istore_n dX0_greatestDeep_27 (by decide) rfl ?_
    refine v_iinc 3 dX0_greatestDeep_28 rfl (by decide) rfl ?_
    refine v_goto 9 dX0_greatestDeep_31 (by decide) ?_
    refine V.sub [2, 3, 1, 0] rfl ?_
    exact h
/-! BranchNames.prefersLong -/
theorem wX0_prefersLong_0 (K : KV) {q0 q1 : Nat} {w : Wd} {sz n : Nat} (h : ∃ (F1 : Nat → Int) (P1 : Nat → Option Nat) (A1 : Nat → Int → Int), (w q0 = some (obW F1 P1 A1)) ∧ (∃ (F2 : Nat → Int) (P2 : Nat → Option Nat) (A2 : Nat → Int → Int), (w q1 = some (obW F2 P2 A2)) ∧ (K.S (some (vI ((F1 1) - (F2 1)))) w sz n))) : VX K mX0_prefersLong 0 [(0, .ref q0), (1, .ref q1)] [] w sz n := by
  refine v_aload_n 0 dX0_prefersLong_0 rfl (isR_ref _) ?_
  obtain ⟨F1, P1, A1, hw1, h⟩ := h
  refine v_get (q := q0) (j := 0) (v := vI (F1 1)) dX0_prefersLong_1 fX0_177 hw1 rfl (lay_W0 _ _ _ _) rfl ?_
  refine v_aload_n 1 dX0_prefersLong_4 rfl (isR_ref _) ?_
  obtain ⟨F2, P2, A2, hw2, h⟩ := h
  refine v_get (q := q1) (j := 0) (v := vI (F2 1)) dX0_prefersLong_5 fX0_177 hw2 rfl (lay_W0 _ _ _ _) rfl ?_
  refine v_isub dX0_prefersLong_8 ?_
  exact x_iret K dX0_prefersLong_9 rfl h
/-! BranchNames.prefersBranched -/
theorem wX0_prefersBranched_0 (K : KV) {q0 q1 : Nat} {w : Wd} {sz n : Nat} (h : ∃ (F1 : Nat → Int) (P1 : Nat → Option Nat) (A1 : Nat → Int → Int), (w q0 = some (obW F1 P1 A1)) ∧ (∃ (F2 : Nat → Int) (P2 : Nat → Option Nat) (A2 : Nat → Int → Int), (w q1 = some (obW F2 P2 A2)) ∧ (K.S (some (vI ((F1 2) - (F2 2)))) w sz n))) : VX K mX0_prefersBranched 0 [(0, .ref q0), (1, .ref q1)] [] w sz n := by
  refine v_aload_n 0 dX0_prefersBranched_0 rfl (isR_ref _) ?_
  obtain ⟨F1, P1, A1, hw1, h⟩ := h
  refine v_get (q := q0) (j := 0) (v := vI (F1 2)) dX0_prefersBranched_1 fX0_182 hw1 rfl (lay_W0 _ _ _ _) rfl ?_
  refine v_aload_n 1 dX0_prefersBranched_4 rfl (isR_ref _) ?_
  obtain ⟨F2, P2, A2, hw2, h⟩ := h
  refine v_get (q := q1) (j := 0) (v := vI (F2 2)) dX0_prefersBranched_5 fX0_182 hw2 rfl (lay_W0 _ _ _ _) rfl ?_
  refine v_isub dX0_prefersBranched_8 ?_
  exact x_iret K dX0_prefersBranched_9 rfl h
/-! BranchNames.chooser -/
theorem wX0_chooser_0 (K : KV) {q0 : Nat} {w : Wd} {sz n : Nat} (h : (w sz = none) ∧ (CV mX2_init K [.ref sz, .ref q0] (wset w sz (some (obR 2 nF nP))) (sz + 1) (n + 2) fun w2 z2 n2 => K.S (some (va_rf (some sz))) w2 z2 n2)) : VX K mX0_chooser 0 [(0, .ref q0)] [] w sz n := by
  obtain ⟨s1, h⟩ := h
  refine v_new K (ci := 2) (C := RX2) (T := TX2) (N := 2) tyX2 dX0_chooser_0 (by decide) rfl in_X2 tyX2_ok q607 q608 q164 nw2 s1 ?_
  refine v_dup dX0_chooser_3 rfl ?_
  refine v_aload_n 0 dX0_chooser_4 rfl (isR_ref _) ?_
  refine x_callIV K (As := [.ref q0]) dX0_chooser_5 LX0_173 rfl rfl (Nat.le_of_ble_eq_true rfl) h (fun w2 z2 n2 h => ?_)
  exact x_aret K (r := some sz) dX0_chooser_8 rfl (by first | exact Or.inl ⟨_, rfl⟩ | exact Or.inr ⟨_, rfl⟩) h
/-! BranchNames.seeksAll -/
theorem wX0_seeksAll_0 (K : KV) {x2 x3 : Int} {x0 q1 q4 : Nat} {w : Wd} {sz n : Nat} (h : (w sz = none) ∧ (CV mX4_init K [.ref sz, .ref q1, vI x3] (wset w sz (some (obR 4 nF nP))) (sz + 1) (n + 3) fun w2 z2 n2 => VX K mX0_seeksAll 14 [(0, .ref x0), (1, .ref q1), (2, vI x2), (3, vI x3), (4, .ref q4), (5, .ref sz), (6, vI 0)] [] w2 z2 n2)) : VX K mX0_seeksAll 0 [(0, .ref x0), (1, .ref q1), (2, vI x2), (3, vI x3), (4, .ref q4)] [] w sz n := by
  obtain ⟨s1, h⟩ := h
  refine v_new K (ci := 4) (C := RX4) (T := TX4) (N := 3) tyX4 dX0_seeksAll_0 (by decide) rfl in_X4 tyX4_ok q652 q653 q166 nw4 s1 ?_
  refine v_dup dX0_seeksAll_3 rfl ?_
  refine v_aload_n 1 dX0_seeksAll_4 rfl (isR_ref _) ?_
  refine v_iload_n 3 dX0_seeksAll_5 rfl ?_
  refine x_callIV K (As := [.ref q1, vI x3]) dX0_seeksAll_6 LX0_209 rfl rfl (Nat.le_of_ble_eq_true rfl) h (fun w2 z2 n2 h => ?_)
  refine v_astore dX0_seeksAll_9 (by decide) (isR_ref _) rfl ?_
  refine v_iconst dX0_seeksAll_11 ?_
  refine v_istore dX0_seeksAll_12 (by decide) rfl ?_
  refine V.sub [2, 3, 4, 5, 6, 1, 0] rfl ?_
  exact h
theorem wX0_seeksAll_14 (K : KV) {x2 x3 x6 : Int} {x0 q1 q4 q5 : Nat} {w : Wd} {sz n : Nat} (h : ∃ (F1 : Nat → Int) (P1 : Nat → Option Nat) (A1 : Nat → Int → Int) (M1 : Nat → Int → Int → Int) (N1 : Nat → Int → Int → Option Nat), (w q1 = some (obT F1 P1 A1 M1 N1)) ∧ ((rI x6) ∧ ((rI (F1 4)) ∧ (((F1 4) ≤ x6 → (K.S none w sz n)) ∧ (¬ (F1 4) ≤ x6 → ((rI x2) ∧ ((x2 < 0 → (∃ (F5 : Nat → Int) (P5 : Nat → Option Nat), (w q5 = some (obR 4 F5 P5)) ∧ (CV mX4_seeks K [.ref q5, vI x6, vI x3, .ref q4] w sz n fun w6 z6 n6 => VX K mX0_seeksAll 14 [(0, .ref x0), (1, .ref q1), (2, vI x2), (3, vI x3), (4, .ref q4), (5, .ref q5), (6, vI (x6 + 1))] [] w6 z6 n6))) ∧ (¬ x2 < 0 → ((¬ x6 = x2 → (VX K mX0_seeksAll 14 [(0, .ref x0), (1, .ref q1), (2, vI x2), (3, vI x3), (4, .ref q4), (5, .ref q5), (6, vI (x6 + 1))] [] w sz n)) ∧ (x6 = x2 → (∃ (F5 : Nat → Int) (P5 : Nat → Option Nat), (w q5 = some (obR 4 F5 P5)) ∧ (CV mX4_seeks K [.ref q5, vI x6, vI x3, .ref q4] w sz n fun w6 z6 n6 => VX K mX0_seeksAll 14 [(0, .ref x0), (1, .ref q1), (2, vI x2), (3, vI x3), (4, .ref q4), (5, .ref q5), (6, vI (x6 + 1))] [] w6 z6 n6)))))))))))) : VX K mX0_seeksAll 14 [(0, .ref x0), (1, .ref q1), (2, vI x2), (3, vI x3), (4, .ref q4), (5, .ref q5), (6, vI x6)] [] w sz n := by
  refine v_iload 6 dX0_seeksAll_14 rfl ?_
  refine v_aload_n 1 dX0_seeksAll_16 rfl (isR_ref _) ?_
  obtain ⟨F1, P1, A1, M1, N1, hw1, h⟩ := h
  refine v_get (q := q1) (j := 0) (v := vI (F1 4)) dX0_seeksAll_17 fX0_44 hw1 rfl (lay_T0 _ _ _ _ _ _) rfl ?_
  obtain ⟨s2, h⟩ := h
  obtain ⟨s3, h⟩ := h
  obtain ⟨ht, hf⟩ := h
  refine v_icmp_ge 49 dX0_seeksAll_20 (by decide) s2 s3 (fun c => ?_) (fun c => ?_)
  · have h := ht c
    exact v_vret dX0_seeksAll_49 rfl h
  · have h := hf c
    refine v_iload_n 2 dX0_seeksAll_23 rfl ?_
    obtain ⟨s4, h⟩ := h
    obtain ⟨ht, hf⟩ := h
    refine v_if_lt 33 dX0_seeksAll_24 (by decide) s4 (fun c => ?_) (fun c => ?_)
    · have h := ht c
      refine v_aload 5 dX0_seeksAll_33 rfl (isR_ref _) ?_
      refine v_iload 6 dX0_seeksAll_35 rfl ?_
      refine v_iload_n 3 dX0_seeksAll_37 rfl ?_
      refine v_aload 4 dX0_seeksAll_38 rfl (isR_ref _) ?_
      obtain ⟨F5, P5, hw5, h⟩ := h
      refine x_callVV K (As := [vI x6, vI x3, .ref q4]) dX0_seeksAll_40 LX0_212 rfl rfl (Nat.le_of_ble_eq_true rfl) (rc_of hw5 (lay_R0 _ _ _ (by decide)) rfl) h (fun w6 z6 n6 h => ?_)
      refine v_iinc 6 dX0_seeksAll_43 rfl (by decide) rfl ?_
      refine v_goto 14 dX0_seeksAll_46 (by decide) ?_
      refine V.sub [1, 2, 3, 4, 5, 6, 0] rfl ?_
      exact h
    · have h := hf c
      refine v_iload 6 dX0_seeksAll_27 rfl ?_
      refine v_iload_n 2 dX0_seeksAll_29 rfl ?_
      obtain ⟨ht, hf⟩ := h
      refine v_icmp_ne 43 dX0_seeksAll_30 (by decide) s2 s4 (fun c => ?_) (fun c => ?_)
      · have h := ht c
        refine v_iinc 6 dX0_seeksAll_43 rfl (by decide) rfl ?_
        refine v_goto 14 dX0_seeksAll_46 (by decide) ?_
        refine V.sub [1, 2, 3, 4, 5, 6, 0] rfl ?_
        exact h
      · have h := hf c
        refine v_aload 5 dX0_seeksAll_33 rfl (isR_ref _) ?_
        refine v_iload 6 dX0_seeksAll_35 rfl ?_
        refine v_iload_n 3 dX0_seeksAll_37 rfl ?_
        refine v_aload 4 dX0_seeksAll_38 rfl (isR_ref _) ?_
        obtain ⟨F5, P5, hw5, h⟩ := h
        refine x_callVV K (As := [vI x6, vI x3, .ref q4]) dX0_seeksAll_40 LX0_212 rfl rfl (Nat.le_of_ble_eq_true rfl) (rc_of hw5 (lay_R0 _ _ _ (by decide)) rfl) h (fun w6 z6 n6 h => ?_)
        refine v_iinc 6 dX0_seeksAll_43 rfl (by decide) rfl ?_
        refine v_goto 14 dX0_seeksAll_46 (by decide) ?_
        refine V.sub [1, 2, 3, 4, 5, 6, 0] rfl ?_
        exact h
/-! BranchNames.comesIn -/
theorem wX0_comesIn_0 (K : KV) {x1 : Int} {x0 : Nat} {w : Wd} {sz n : Nat} (h : ∃ (F1 : Nat → Int) (p1 : Nat), (w x0 = some (obX x0 F1 p1)) ∧ (VX K mX0_comesIn 5 [(0, .ref x0), (1, vI x1), (2, vI (F1 13))] [] w sz n)) : VX K mX0_comesIn 0 [(0, .ref x0), (1, vI x1)] [] w sz n := by
  refine v_aload_n 0 dX0_comesIn_0 rfl (isR_ref _) ?_
  obtain ⟨F1, p1, hw1, h⟩ := h
  refine v_get (q := x0) (j := 0) (v := vI (F1 13)) dX0_comesIn_1 fX0_96 hw1 rfl (lay_X0 _ _ _) rfl ?_
  refine v_istore_n dX0_comesIn_4 (by decide) rfl ?_
  refine V.sub [1, 2, 0] rfl ?_
  exact h
theorem wX0_comesIn_5 (K : KV) {x1 x2 : Int} {x0 : Nat} {w : Wd} {sz n : Nat} (h : (rI x2) ∧ ((x2 ≤ 0 → ((x2 ≤ 0 → (∃ (F2 : Nat → Int) (p2 : Nat), (w x0 = some (obX x0 F2 p2)) ∧ (VX K mX0_comesIn 49 [(0, .ref x0), (1, vI x1), (2, vI x2), (3, vI (F2 13))] [] w sz n))) ∧ (¬ x2 ≤ 0 → (∃ (F2 : Nat → Int) (p2 : Nat), (w x0 = some (obX x0 F2 p2)) ∧ (∃ (A3 : Nat → Int → Int) (B3 : Nat → Int → Option Nat) (M3 : Nat → Int → Int → Int), (w (x0 + 221) = some (obXA A3 B3 M3)) ∧ ((0 ≤ (x2 - 1) ∧ (x2 - 1) < 80) ∧ ((rI (A3 2 (x2 - 1))) ∧ ((rI x1) ∧ ((¬ (A3 2 (x2 - 1)) = x1 → (VX K mX0_comesIn 49 [(0, .ref x0), (1, vI x1), (2, vI x2), (3, vI (F2 13))] [] w sz n)) ∧ ((A3 2 (x2 - 1)) = x1 → (K.S none w sz n))))))))))) ∧ (¬ x2 ≤ 0 → (∃ (F2 : Nat → Int) (p2 : Nat), (w x0 = some (obX x0 F2 p2)) ∧ (∃ (A3 : Nat → Int → Int) (B3 : Nat → Int → Option Nat) (M3 : Nat → Int → Int → Int), (w (x0 + 221) = some (obXA A3 B3 M3)) ∧ ((0 ≤ (x2 - 1) ∧ (x2 - 1) < 80) ∧ ((rI (A3 2 (x2 - 1))) ∧ ((rI x1) ∧ ((x1 ≤ (A3 2 (x2 - 1)) → ((x2 ≤ 0 → (VX K mX0_comesIn 49 [(0, .ref x0), (1, vI x1), (2, vI x2), (3, vI (F2 13))] [] w sz n)) ∧ (¬ x2 ≤ 0 → ((¬ (A3 2 (x2 - 1)) = x1 → (VX K mX0_comesIn 49 [(0, .ref x0), (1, vI x1), (2, vI x2), (3, vI (F2 13))] [] w sz n)) ∧ ((A3 2 (x2 - 1)) = x1 → (K.S none w sz n)))))) ∧ (¬ x1 ≤ (A3 2 (x2 - 1)) → (VX K mX0_comesIn 5 [(0, .ref x0), (1, vI x1), (2, vI (x2 + (-1)))] [] w sz n))))))))))) : VX K mX0_comesIn 5 [(0, .ref x0), (1, vI x1), (2, vI x2)] [] w sz n := by
  refine v_iload_n 2 dX0_comesIn_5 rfl ?_
  obtain ⟨s1, h⟩ := h
  obtain ⟨ht, hf⟩ := h
  refine v_if_le 27 dX0_comesIn_6 (by decide) s1 (fun c => ?_) (fun c => ?_)
  · have h := ht c
    refine v_iload_n 2 dX0_comesIn_27 rfl ?_
    obtain ⟨ht, hf⟩ := h
    refine v_if_le 44 dX0_comesIn_28 (by decide) s1 (fun c => ?_) (fun c => ?_)
    · have h := ht c
      refine v_aload_n 0 dX0_comesIn_44 rfl (isR_ref _) ?_
      obtain ⟨F2, p2, hw2, h⟩ := h
      refine v_get (q := x0) (j := 0) (v := vI (F2 13)) dX0_comesIn_45 fX0_96 hw2 rfl (lay_X0 _ _ _) rfl ?_
      refine v_istore_n dX0_comesIn_48 (by decide) rfl ?_
      refine V.sub [1, 2, 3, 0] rfl ?_
      exact h
    · have h := hf c
      refine v_aload_n 0 dX0_comesIn_31 rfl (isR_ref _) ?_
      obtain ⟨F2, p2, hw2, h⟩ := h
      refine v_get (q := x0) (j := 0) (v := .ref (x0 + 221 + 32)) dX0_comesIn_32 fX0_99 hw2 rfl (lay_X0 _ _ _) rfl ?_
      refine v_iload_n 2 dX0_comesIn_35 rfl ?_
      refine v_iconst dX0_comesIn_36 ?_
      refine v_isub dX0_comesIn_37 ?_
      obtain ⟨A3, B3, M3, hw3, h⟩ := h
      obtain ⟨s4, h⟩ := h
      refine v_iald (q := x0 + 221) (j := 32) (f := A3 2) dX0_comesIn_38 hw3 rfl (lay_XA 32 rfl) s4 (by decide) ?_
      refine v_iload_n 1 dX0_comesIn_39 rfl ?_
      obtain ⟨s5, h⟩ := h
      obtain ⟨s6, h⟩ := h
      obtain ⟨ht, hf⟩ := h
      refine v_icmp_ne 44 dX0_comesIn_40 (by decide) s5 s6 (fun c => ?_) (fun c => ?_)
      · have h := ht c
        refine v_aload_n 0 dX0_comesIn_44 rfl (isR_ref _) ?_
        refine v_get (q := x0) (j := 0) (v := vI (F2 13)) dX0_comesIn_45 fX0_96 hw2 rfl (lay_X0 _ _ _) rfl ?_
        refine v_istore_n dX0_comesIn_48 (by decide) rfl ?_
        refine V.sub [1, 2, 3, 0] rfl ?_
        exact h
      · have h := hf c
        exact v_vret dX0_comesIn_43 rfl h
  · have h := hf c
    refine v_aload_n 0 dX0_comesIn_9 rfl (isR_ref _) ?_
    obtain ⟨F2, p2, hw2, h⟩ := h
    refine v_get (q := x0) (j := 0) (v := .ref (x0 + 221 + 32)) dX0_comesIn_10 fX0_99 hw2 rfl (lay_X0 _ _ _) rfl ?_
    refine v_iload_n 2 dX0_comesIn_13 rfl ?_
    refine v_iconst dX0_comesIn_14 ?_
    refine v_isub dX0_comesIn_15 ?_
    obtain ⟨A3, B3, M3, hw3, h⟩ := h
    obtain ⟨s4, h⟩ := h
    refine v_iald (q := x0 + 221) (j := 32) (f := A3 2) dX0_comesIn_16 hw3 rfl (lay_XA 32 rfl) s4 (by decide) ?_
    refine v_iload_n 1 dX0_comesIn_17 rfl ?_
    obtain ⟨s5, h⟩ := h
    obtain ⟨s6, h⟩ := h
    obtain ⟨ht, hf⟩ := h
    refine v_icmp_ge 27 dX0_comesIn_18 (by decide) s5 s6 (fun c => ?_) (fun c => ?_)
    · have h := ht c
      refine v_iload_n 2 dX0_comesIn_27 rfl ?_
      obtain ⟨ht, hf⟩ := h
      refine v_if_le 44 dX0_comesIn_28 (by decide) s1 (fun c => ?_) (fun c => ?_)
      · have h := ht c
        refine v_aload_n 0 dX0_comesIn_44 rfl (isR_ref _) ?_
        refine v_get (q := x0) (j := 0) (v := vI (F2 13)) dX0_comesIn_45 fX0_96 hw2 rfl (lay_X0 _ _ _) rfl ?_
        refine v_istore_n dX0_comesIn_48 (by decide) rfl ?_
        refine V.sub [1, 2, 3, 0] rfl ?_
        exact h
      · have h := hf c
        refine v_aload_n 0 dX0_comesIn_31 rfl (isR_ref _) ?_
        refine v_get (q := x0) (j := 0) (v := .ref (x0 + 221 + 32)) dX0_comesIn_32 fX0_99 hw2 rfl (lay_X0 _ _ _) rfl ?_
        refine v_iload_n 2 dX0_comesIn_35 rfl ?_
        refine v_iconst dX0_comesIn_36 ?_
        refine v_isub dX0_comesIn_37 ?_
        refine v_iald (q := x0 + 221) (j := 32) (f := A3 2) dX0_comesIn_38 hw3 rfl (lay_XA 32 rfl) s4 (by decide) ?_
        refine v_iload_n 1 dX0_comesIn_39 rfl ?_
        obtain ⟨ht, hf⟩ := h
        refine v_icmp_ne 44 dX0_comesIn_40 (by decide) s5 s6 (fun c => ?_) (fun c => ?_)
        · have h := ht c
          refine v_aload_n 0 dX0_comesIn_44 rfl (isR_ref _) ?_
          refine v_get (q := x0) (j := 0) (v := vI (F2 13)) dX0_comesIn_45 fX0_96 hw2 rfl (lay_X0 _ _ _) rfl ?_
          refine v_istore_n dX0_comesIn_48 (by decide) rfl ?_
          refine V.sub [1, 2, 3, 0] rfl ?_
          exact h
        · have h := hf c
          exact v_vret dX0_comesIn_43 rfl h
    · have h := hf c
      refine v_iinc 2 dX0_comesIn_21 rfl (by decide) rfl ?_
      refine v_goto 5 dX0_comesIn_24 (by decide) ?_
      refine V.sub [1, 2, 0] rfl ?_
      exact h
theorem wX0_comesIn_49 (K : KV) {x1 x2 x3 : Int} {x0 : Nat} {w : Wd} {sz n : Nat} (h : (rI x3) ∧ ((rI x2) ∧ ((x3 ≤ x2 → (∃ (F3 : Nat → Int) (p3 : Nat), (w x0 = some (obX x0 F3 p3)) ∧ (∃ (A4 : Nat → Int → Int) (B4 : Nat → Int → Option Nat) (M4 : Nat → Int → Int → Int), (w (x0 + 221) = some (obXA A4 B4 M4)) ∧ ((0 ≤ x2 ∧ x2 < 80) ∧ ((K.G.base ≤ x0 + 221) ∧ ((K.G.base ≤ x0) ∧ (K.S none (wset (wset w (x0 + 221) (some (obXA (upA A4 2 x2 x1) B4 M4))) x0 (some (obX x0 (upN F3 13 ((F3 13) + 1)) p3))) sz n))))))) ∧ (¬ x3 ≤ x2 → (∃ (F3 : Nat → Int) (p3 : Nat), (w x0 = some (obX x0 F3 p3)) ∧ (∃ (A4 : Nat → Int → Int) (B4 : Nat → Int → Option Nat) (M4 : Nat → Int → Int → Int), (w (x0 + 221) = some (obXA A4 B4 M4)) ∧ ((0 ≤ (x3 - 1) ∧ (x3 - 1) < 80) ∧ ((0 ≤ x3 ∧ x3 < 80) ∧ ((K.G.base ≤ x0 + 221) ∧ (VX K mX0_comesIn 49 [(0, .ref x0), (1, vI x1), (2, vI x2), (3, vI (x3 + (-1)))] [] (wset w (x0 + 221) (some (obXA (upA A4 2 x3 (A4 2 (x3 - 1))) B4 M4))) sz n)))))))))) : VX K mX0_comesIn 49 [(0, .ref x0), (1, vI x1), (2, vI x2), (3, vI x3)] [] w sz n := by
  refine v_iload_n 3 dX0_comesIn_49 rfl ?_
  refine v_iload_n 2 dX0_comesIn_50 rfl ?_
  obtain ⟨s1, h⟩ := h
  obtain ⟨s2, h⟩ := h
  obtain ⟨ht, hf⟩ := h
  refine v_icmp_le 74 dX0_comesIn_51 (by decide) s1 s2 (fun c => ?_) (fun c => ?_)
  · have h := ht c
    refine v_aload_n 0 dX0_comesIn_74 rfl (isR_ref _) ?_
    obtain ⟨F3, p3, hw3, h⟩ := h
    refine v_get (q := x0) (j := 0) (v := .ref (x0 + 221 + 32)) dX0_comesIn_75 fX0_99 hw3 rfl (lay_X0 _ _ _) rfl ?_
    refine v_iload_n 2 dX0_comesIn_78 rfl ?_
    refine v_iload_n 1 dX0_comesIn_79 rfl ?_
    obtain ⟨A4, B4, M4, hw4, h⟩ := h
    obtain ⟨s5, h⟩ := h
    obtain ⟨s6, h⟩ := h
    refine v_iast (q := x0 + 221) (j := 32) (f := A4 2) (obXA (upA A4 2 x2 x1) B4 M4) dX0_comesIn_80 hw4 rfl (lay_XA 32 rfl) s5 (by decide) (chg_XAa 32 _ _ rfl (by decide)) s6 ?_
    refine v_aload_n 0 dX0_comesIn_81 rfl (isR_ref _) ?_
    refine v_dup dX0_comesIn_82 rfl ?_
    refine v_get (q := x0) (j := 0) (v := vI (F3 13)) dX0_comesIn_83 fX0_96 (ws_ne hw3 (wk_ne hw3 hw4 (show (0 : Nat) ≠ 85 by decide))) rfl (lay_X0 _ _ _) rfl ?_
    refine v_iconst dX0_comesIn_86 ?_
    refine v_iadd dX0_comesIn_87 ?_
    obtain ⟨s7, h⟩ := h
    refine v_put (q := x0) (j := 0) (v := vI ((F3 13) + 1)) (obX x0 (upN F3 13 ((F3 13) + 1)) p3) dX0_comesIn_88 fX0_96 pf0_13 (ws_ne hw3 (wk_ne hw3 hw4 (show (0 : Nat) ≠ 85 by decide))) rfl (lay_X0 _ _ _) (Nat.le_of_ble_eq_true rfl) rfl rfl (chg_X0 rfl) s7 ?_
    exact v_vret dX0_comesIn_91 rfl h
  · have h := hf c
    refine v_aload_n 0 dX0_comesIn_54 rfl (isR_ref _) ?_
    obtain ⟨F3, p3, hw3, h⟩ := h
    refine v_get (q := x0) (j := 0) (v := .ref (x0 + 221 + 32)) dX0_comesIn_55 fX0_99 hw3 rfl (lay_X0 _ _ _) rfl ?_
    refine v_iload_n 3 dX0_comesIn_58 rfl ?_
    refine v_aload_n 0 dX0_comesIn_59 rfl (isR_ref _) ?_
    refine v_get (q := x0) (j := 0) (v := .ref (x0 + 221 + 32)) dX0_comesIn_60 fX0_99 hw3 rfl (lay_X0 _ _ _) rfl ?_
    refine v_iload_n 3 dX0_comesIn_63 rfl ?_
    refine v_iconst dX0_comesIn_64 ?_
    refine v_isub dX0_comesIn_65 ?_
    obtain ⟨A4, B4, M4, hw4, h⟩ := h
    obtain ⟨s5, h⟩ := h
    refine v_iald (q := x0 + 221) (j := 32) (f := A4 2) dX0_comesIn_66 hw4 rfl (lay_XA 32 rfl) s5 (by decide) ?_
    obtain ⟨s6, h⟩ := h
    obtain ⟨s7, h⟩ := h
    refine v_iast (q := x0 + 221) (j := 32) (f := A4 2) (obXA (upA A4 2 x3 (A4 2 (x3 - 1))) B4 M4) dX0_comesIn_67 hw4 rfl (lay_XA 32 rfl) s6 (by decide) (chg_XAa 32 _ _ rfl (by decide)) s7 ?_
    refine v_iinc 3 dX0_comesIn_68 rfl (by decide) rfl ?_
    refine v_goto 49 dX0_comesIn_71 (by decide) ?_
    refine V.sub [1, 2, 3, 0] rfl ?_
    exact h
/-! BranchNames.copied -/
theorem wX0_copied_0 (K : KV) {x0 : Nat} {w : Wd} {sz n : Nat} (h : ∃ (F1 : Nat → Int) (p1 : Nat), (w x0 = some (obX x0 F1 p1)) ∧ ((w sz = none) ∧ ((0 ≤ (F1 13) ∧ (F1 13) ≤ 20000) ∧ (∃ (A4 : Nat → Int → Int) (B4 : Nat → Int → Option Nat) (M4 : Nat → Int → Int → Int), ((wset w sz (some (obA 0 ((Int.toNat (F1 13))) ((fun _ => 0))))) (x0 + 221) = some (obXA A4 B4 M4)) ∧ (((0 : Int) ≤ 0 ∧ 0 + (F1 13) ≤ 80) ∧ (((0 : Int) ≤ 0 ∧ 0 + (F1 13) ≤ (((Int.toNat (F1 13)) : Nat) : Int)) ∧ (((0 : Int) ≤ (F1 13)) ∧ (((Int.toNat (F1 13)) < 2147483648) ∧ ((K.G.base ≤ sz) ∧ ((1 ≤ K.d) ∧ (K.S (some (va_rf (some sz))) (wset w sz (some (obA 0 ((Int.toNat (F1 13))) (cpZ (A4 2) ((fun _ => 0)) 0 0 (F1 13))))) (sz + 1) (n + Int.toNat (F1 13))))))))))))) : VX K mX0_copied 0 [(0, .ref x0)] [] w sz n := by
  refine v_aload_n 0 dX0_copied_0 rfl (isR_ref _) ?_
  obtain ⟨F1, p1, hw1, h⟩ := h
  refine v_get (q := x0) (j := 0) (v := vI (F1 13)) dX0_copied_1 fX0_96 hw1 rfl (lay_X0 _ _ _) rfl ?_
  obtain ⟨s2, h⟩ := h
  obtain ⟨s3, h⟩ := h
  refine x_newI K dX0_copied_4 s3 s2 ?_
  refine v_astore_n dX0_copied_6 (by decide) (isR_ref _) rfl ?_
  refine v_aload_n 1 dX0_copied_7 rfl (isR_ref _) ?_
  refine v_get (q := x0) (j := 0) (v := .ref (x0 + 221 + 32)) dX0_copied_8 fX0_99 (ws_ne hw1 (wf_ne hw1 s2)) rfl (lay_X0 _ _ _) rfl ?_
  refine v_iconst dX0_copied_11 ?_
  refine v_aload_n 0 dX0_copied_12 rfl (isR_ref _) ?_
  refine v_iconst dX0_copied_13 ?_
  refine v_aload_n 1 dX0_copied_14 rfl (isR_ref _) ?_
  refine v_get (q := x0) (j := 0) (v := vI (F1 13)) dX0_copied_15 fX0_96 (ws_ne hw1 (wf_ne hw1 s2)) rfl (lay_X0 _ _ _) rfl ?_
  obtain ⟨A4, B4, M4, hw4, h⟩ := h
  obtain ⟨s5, h⟩ := h
  obtain ⟨s6, h⟩ := h
  obtain ⟨s7, h⟩ := h
  obtain ⟨s8, h⟩ := h
  obtain ⟨s9, h⟩ := h
  obtain ⟨s10, h⟩ := h
  refine v_copy (mk := fun z => vI z) (t := 0) (ty := .int) (q0 := x0 + 221) (j0 := 32) (q1 := sz) (j1 := 0) (f := A4 2) (g := (fun _ => 0)) (obA 0 ((Int.toNat (F1 13))) (cpZ (A4 2) ((fun _ => 0)) 0 0 (F1 13))) dX0_copied_18 q727 q350 q349 q161 (fun _ => rfl) rfl hw4 rfl (lay_XA 32 rfl) (wset_eq _ _ _) rfl (lay_AI _ _ _) s5 s6 s7 (by decide) s8 (fun _ _ _ => rfl) (fun _ _ h => by cases h) (chg_raw rfl rfl rfl) s9 s10 (Nat.le_of_ble_eq_true rfl) ?_
  rw [wset_wset]
  refine v_aload_n 0 dX0_copied_21 rfl (isR_ref _) ?_
  exact x_aret K (r := some sz) dX0_copied_22 rfl (by first | exact Or.inl ⟨_, rfl⟩ | exact Or.inr ⟨_, rfl⟩) h
/-! BranchNames.lists -/
theorem wX0_lists_0 (K : KV) {x1 : Int} {x0 : Nat} {w : Wd} {sz n : Nat} (h : ∃ (F1 : Nat → Int) (p1 : Nat), (w x0 = some (obX x0 F1 p1)) ∧ ((K.G.base ≤ x0) ∧ (VX K mX0_lists 7 [(0, .ref x0), (1, vI x1), (2, vI 0)] [] (wset w x0 (some (obX x0 (upN F1 13 0) p1))) sz n))) : VX K mX0_lists 0 [(0, .ref x0), (1, vI x1)] [] w sz n := by
  refine v_aload_n 0 dX0_lists_0 rfl (isR_ref _) ?_
  refine v_iconst dX0_lists_1 ?_
  obtain ⟨F1, p1, hw1, h⟩ := h
  obtain ⟨s2, h⟩ := h
  refine v_put (q := x0) (j := 0) (v := vI 0) (obX x0 (upN F1 13 0) p1) dX0_lists_2 fX0_96 pf0_13 hw1 rfl (lay_X0 _ _ _) (Nat.le_of_ble_eq_true rfl) rfl rfl (chg_X0 rfl) s2 ?_
  refine v_iconst dX0_lists_5 ?_
  refine v_istore_n dX0_lists_6 (by decide) rfl ?_
  refine V.sub [1, 2, 0] rfl ?_
  exact h
theorem wX0_lists_7 (K : KV) {x1 x2 : Int} {x0 : Nat} {w : Wd} {sz n : Nat} (h : ∃ (F1 : Nat → Int) (p1 : Nat), (w x0 = some (obX x0 F1 p1)) ∧ (∃ (A2 : Nat → Int → Int) (B2 : Nat → Int → Option Nat) (M2 : Nat → Int → Int → Int), (w (x0 + 221) = some (obXA A2 B2 M2)) ∧ ((0 ≤ (x1 - 1) ∧ (x1 - 1) < 11) ∧ (∃ (a4 : Nat), (B2 0 (x1 - 1) = some a4) ∧ (∃ (l5 : Nat) (f5 : Int → Int), (w a4 = some (obA 0 l5 f5)) ∧ ((rI x2) ∧ ((rI (((l5 : Nat) : Int))) ∧ (((((l5 : Nat) : Int)) ≤ x2 → (CQ mX0_copied K [.ref x0] w sz n fun r8 w8 z8 n8 => ∃ (A9 : Nat → Int → Int) (B9 : Nat → Int → Option Nat) (M9 : Nat → Int → Int → Int), (w8 (x0 + 221) = some (obXA A9 B9 M9)) ∧ ((0 ≤ x1 ∧ x1 < 11) ∧ ((K.G.base ≤ x0 + 221) ∧ ((Sto K.G w8 8 r8) ∧ (K.S none (wset w8 (x0 + 221) (some (obXA A9 (upA B9 0 x1 r8) M9))) z8 n8)))))) ∧ (¬ (((l5 : Nat) : Int)) ≤ x2 → (∃ (a8 : Nat), (B2 0 (x1 - 1) = some a8) ∧ (∃ (l9 : Nat) (f9 : Int → Int), (w a8 = some (obA 0 l9 f9)) ∧ ((0 ≤ x2 ∧ x2 < ((l9 : Nat) : Int)) ∧ ((l9 < 2147483648) ∧ (CI mX0_isBy K [.ref x0, .ref (x0 + 133), vI (x1 - 1), vI (f9 x2)] w sz n fun r12 w12 z12 n12 => VX K mX0_lists 45 [(0, .ref x0), (1, vI x1), (2, vI x2), (3, vI r12), (4, vI 0)] [] w12 z12 n12)))))))))))))) : VX K mX0_lists 7 [(0, .ref x0), (1, vI x1), (2, vI x2)] [] w sz n := by
  refine v_iload_n 2 dX0_lists_7 rfl ?_
  refine v_aload_n 0 dX0_lists_8 rfl (isR_ref _) ?_
  obtain ⟨F1, p1, hw1, h⟩ := h
  refine v_get (q := x0) (j := 0) (v := .ref (x0 + 221 + 31)) dX0_lists_9 fX0_108 hw1 rfl (lay_X0 _ _ _) rfl ?_
  refine v_iload_n 1 dX0_lists_12 rfl ?_
  refine v_iconst dX0_lists_13 ?_
  refine v_isub dX0_lists_14 ?_
  obtain ⟨A2, B2, M2, hw2, h⟩ := h
  obtain ⟨s3, h⟩ := h
  refine v_aaldQ (q := x0 + 221) (j := 31) (f := B2 0) (t := 8) (by decide) dX0_lists_15 hw2 rfl (lay_XA 31 rfl) s3 (by decide) ?_
  obtain ⟨a4, ea4, h⟩ := h
  rw [ea4]
  obtain ⟨l5, f5, hw5, h⟩ := h
  refine v_alen (q := a4) (j := 0) dX0_lists_16 hw5 rfl (lay_AI _ _ _) (by decide) ?_
  obtain ⟨s6, h⟩ := h
  obtain ⟨s7, h⟩ := h
  obtain ⟨ht, hf⟩ := h
  refine v_icmp_ge 122 dX0_lists_17 (by decide) s6 s7 (fun c => ?_) (fun c => ?_)
  · have h := ht c
    refine v_aload_n 0 dX0_lists_122 rfl (isR_ref _) ?_
    refine v_get (q := x0) (j := 0) (v := .ref (x0 + 221 + 31)) dX0_lists_123 fX0_108 hw1 rfl (lay_X0 _ _ _) rfl ?_
    refine v_iload_n 1 dX0_lists_126 rfl ?_
    refine v_aload_n 0 dX0_lists_127 rfl (isR_ref _) ?_
    refine x_callVQ K (As := []) dX0_lists_128 LX0_136 rfl rfl (Nat.le_of_ble_eq_true rfl) (rc_of hw1 (lay_X0 _ _ _) rfl) h (fun r8 w8 z8 n8 h => ?_)
    obtain ⟨A9, B9, M9, hw9, h⟩ := h
    obtain ⟨s10, h⟩ := h
    obtain ⟨s11, h⟩ := h
    obtain ⟨s12, h⟩ := h
    refine v_aast (q := x0 + 221) (j := 31) (f := B9 0) (t := 8) (by decide) (obXA A9 (upA B9 0 x1 r8) M9) (r := r8) dX0_lists_131 hw9 rfl (lay_XA 31 rfl) s10 (by decide) s12 (chg_XAq 31 _ _ rfl) s11 ?_
    exact v_vret dX0_lists_132 rfl h
  · have h := hf c
    refine v_aload_n 0 dX0_lists_20 rfl (isR_ref _) ?_
    refine v_aload_n 0 dX0_lists_21 rfl (isR_ref _) ?_
    refine v_get (q := x0) (j := 0) (v := .ref (x0 + 133)) dX0_lists_22 fX0_111 hw1 rfl (lay_X0 _ _ _) rfl ?_
    refine v_iload_n 1 dX0_lists_25 rfl ?_
    refine v_iconst dX0_lists_26 ?_
    refine v_isub dX0_lists_27 ?_
    refine v_aload_n 0 dX0_lists_28 rfl (isR_ref _) ?_
    refine v_get (q := x0) (j := 0) (v := .ref (x0 + 221 + 31)) dX0_lists_29 fX0_108 hw1 rfl (lay_X0 _ _ _) rfl ?_
    refine v_iload_n 1 dX0_lists_32 rfl ?_
    refine v_iconst dX0_lists_33 ?_
    refine v_isub dX0_lists_34 ?_
    refine v_aaldQ (q := x0 + 221) (j := 31) (f := B2 0) (t := 8) (by decide) dX0_lists_35 hw2 rfl (lay_XA 31 rfl) s3 (by decide) ?_
    refine v_iload_n 2 dX0_lists_36 rfl ?_
    obtain ⟨a8, ea8, h⟩ := h
    rw [ea8]
    obtain ⟨l9, f9, hw9, h⟩ := h
    obtain ⟨s10, h⟩ := h
    obtain ⟨s11, h⟩ := h
    refine v_iald (q := a8) (j := 0) (f := f9) dX0_lists_37 hw9 rfl (lay_AI _ _ _) s10 s11 ?_
    refine x_callVI K (As := [.ref (x0 + 133), vI (x1 - 1), vI (f9 x2)]) dX0_lists_38 LX0_115 rfl rfl (Nat.le_of_ble_eq_true rfl) (rc_of hw1 (lay_X0 _ _ _) rfl) h (fun r12 w12 z12 n12 h => ?_)
    refine v_istore_n dX0_lists_41 (by decide) rfl ?_
    refine v_iconst dX0_lists_42 ?_
    refine v_istore dX0_lists_43 (by decide) rfl ?_
    refine V.sub [2, 3, 4, 1, 0] rfl ?_
    exact h
theorem wX0_lists_45 (K : KV) {x1 x2 x3 x4 : Int} {x0 : Nat} {w : Wd} {sz n : Nat} (h : (rI x4) ∧ ((rI (x1 - 1)) ∧ (((x1 - 1) ≤ x4 → (VX K mX0_lists 7 [(0, .ref x0), (1, vI x1), (2, vI (x2 + 1))] [] w sz n)) ∧ (¬ (x1 - 1) ≤ x4 → ((rI x3) ∧ ((x3 = 0 → (VX K mX0_lists 7 [(0, .ref x0), (1, vI x1), (2, vI (x2 + 1))] [] w sz n)) ∧ (¬ x3 = 0 → (∃ (F4 : Nat → Int) (p4 : Nat), (w x0 = some (obX x0 F4 p4)) ∧ (∃ (F5 : Nat → Int) (P5 : Nat → Option Nat) (A5 : Nat → Int → Int) (M5 : Nat → Int → Int → Int) (N5 : Nat → Int → Int → Option Nat), (w (x0 + 133) = some (obT F5 P5 A5 M5 N5)) ∧ (CI mX1_isFull K [.ref (x0 + 133), vI x4] w sz n fun r6 w6 z6 n6 => (rI r6) ∧ ((r6 = 0 → (∃ (F8 : Nat → Int) (p8 : Nat), (w6 x0 = some (obX x0 F8 p8)) ∧ (∃ (F9 : Nat → Int) (P9 : Nat → Option Nat) (A9 : Nat → Int → Int) (M9 : Nat → Int → Int → Int) (N9 : Nat → Int → Int → Option Nat), (w6 (x0 + 89) = some (obT F9 P9 A9 M9 N9)) ∧ (CV mX1_becomes K [.ref (x0 + 89), .ref (x0 + 133)] w6 z6 n6 fun w10 z10 n10 => ∃ (F11 : Nat → Int) (p11 : Nat), (w10 x0 = some (obX x0 F11 p11)) ∧ (∃ (F12 : Nat → Int) (P12 : Nat → Option Nat) (A12 : Nat → Int → Int) (M12 : Nat → Int → Int → Int) (N12 : Nat → Int → Int → Option Nat), (w10 (x0 + 89) = some (obT F12 P12 A12 M12 N12)) ∧ (CI mX1_grows K [.ref (x0 + 89), vI x4] w10 z10 n10 fun r13 w13 z13 n13 => ∃ (F14 : Nat → Int) (p14 : Nat), (w13 x0 = some (obX x0 F14 p14)) ∧ (CL mX0_keyOf K [.ref x0, .ref (x0 + 89)] w13 z13 n13 fun r15 w15 z15 n15 => CL mX0_numberOf K [vL r15] w15 z15 n15 fun r16 w16 z16 n16 => ∃ (F17 : Nat → Int) (p17 : Nat), (w16 x0 = some (obX x0 F17 p17)) ∧ (CV mX0_comesIn K [.ref x0, vI (wI r16)] w16 z16 n16 fun w18 z18 n18 => VX K mX0_lists 45 [(0, .ref x0), (1, vI x1), (2, vI x2), (3, vI x3), (4, vI (x4 + 1))] [] w18 z18 n18)))))))) ∧ (¬ r6 = 0 → (VX K mX0_lists 45 [(0, .ref x0), (1, vI x1), (2, vI x2), (3, vI x3), (4, vI (x4 + 1))] [] w6 z6 n6))))))))))))) : VX K mX0_lists 45 [(0, .ref x0), (1, vI x1), (2, vI x2), (3, vI x3), (4, vI x4)] [] w sz n := by
  refine v_iload 4 dX0_lists_45 rfl ?_
  refine v_iload_n 1 dX0_lists_47 rfl ?_
  refine v_iconst dX0_lists_48 ?_
  refine v_isub dX0_lists_49 ?_
  obtain ⟨s1, h⟩ := h
  obtain ⟨s2, h⟩ := h
  obtain ⟨ht, hf⟩ := h
  refine v_icmp_ge 116 dX0_lists_50 (by decide) s1 s2 (fun c => ?_) (fun c => ?_)
  · have h := ht c
    refine v_iinc 2 dX0_lists_116 rfl (by decide) rfl ?_
    refine v_goto 7 dX0_lists_119 (by decide) ?_
    refine V.sub [1, 2, 0] rfl ?_
    exact h
  · have h := hf c
    refine v_iload_n 3 dX0_lists_53 rfl ?_
    obtain ⟨s3, h⟩ := h
    obtain ⟨ht, hf⟩ := h
    refine v_if_eq 116 dX0_lists_54 (by decide) s3 (fun c => ?_) (fun c => ?_)
    · have h := ht c
      refine v_iinc 2 dX0_lists_116 rfl (by decide) rfl ?_
      refine v_goto 7 dX0_lists_119 (by decide) ?_
      refine V.sub [1, 2, 0] rfl ?_
      exact h
    · have h := hf c
      refine v_aload_n 0 dX0_lists_57 rfl (isR_ref _) ?_
      obtain ⟨F4, p4, hw4, h⟩ := h
      refine v_get (q := x0) (j := 0) (v := .ref (x0 + 133)) dX0_lists_58 fX0_111 hw4 rfl (lay_X0 _ _ _) rfl ?_
      refine v_iload 4 dX0_lists_61 rfl ?_
      obtain ⟨F5, P5, A5, M5, N5, hw5, h⟩ := h
      refine x_callVI K (As := [vI x4]) dX0_lists_63 LX0_118 rfl rfl (Nat.le_of_ble_eq_true rfl) (rc_of hw5 (lay_T0 _ _ _ _ _ _) rfl) h (fun r6 w6 z6 n6 h => ?_)
      obtain ⟨s7, h⟩ := h
      obtain ⟨ht, hf⟩ := h
      refine v_if_eq 72 dX0_lists_66 (by decide) s7 (fun c => ?_) (fun c => ?_)
      · have h := ht c
        refine v_aload_n 0 dX0_lists_72 rfl (isR_ref _) ?_
        obtain ⟨F8, p8, hw8, h⟩ := h
        refine v_get (q := x0) (j := 0) (v := .ref (x0 + 89)) dX0_lists_73 fX0_122 hw8 rfl (lay_X0 _ _ _) rfl ?_
        refine v_aload_n 0 dX0_lists_76 rfl (isR_ref _) ?_
        refine v_get (q := x0) (j := 0) (v := .ref (x0 + 133)) dX0_lists_77 fX0_111 hw8 rfl (lay_X0 _ _ _) rfl ?_
        obtain ⟨F9, P9, A9, M9, N9, hw9, h⟩ := h
        refine x_callVV K (As := [.ref (x0 + 133)]) dX0_lists_80 LX0_125 rfl rfl (Nat.le_of_ble_eq_true rfl) (rc_of hw9 (lay_T0 _ _ _ _ _ _) rfl) h (fun w10 z10 n10 h => ?_)
        refine v_aload_n 0 dX0_lists_83 rfl (isR_ref _) ?_
        obtain ⟨F11, p11, hw11, h⟩ := h
        refine v_get (q := x0) (j := 0) (v := .ref (x0 + 89)) dX0_lists_84 fX0_122 hw11 rfl (lay_X0 _ _ _) rfl ?_
        refine v_iload 4 dX0_lists_87 rfl ?_
        obtain ⟨F12, P12, A12, M12, N12, hw12, h⟩ := h
        refine x_callVI K (As := [vI x4]) dX0_lists_89 LX0_81 rfl rfl (Nat.le_of_ble_eq_true rfl) (rc_of hw12 (lay_T0 _ _ _ _ _ _) rfl) h (fun r13 w13 z13 n13 h => ?_)
        refine v_istore dX0_lists_92 (by decide) rfl ?_
        refine v_aload_n 1 dX0_lists_94 rfl (isR_ref _) ?_
        refine v_aload_n 1 dX0_lists_95 rfl (isR_ref _) ?_
        refine v_aload_n 1 dX0_lists_96 rfl (isR_ref _) ?_
        obtain ⟨F14, p14, hw14, h⟩ := h
        refine v_get (q := x0) (j := 0) (v := .ref (x0 + 89)) dX0_lists_97 fX0_122 hw14 rfl (lay_X0 _ _ _) rfl ?_
        refine x_callVL K (As := [.ref (x0 + 89)]) dX0_lists_100 LX0_128 rfl rfl (Nat.le_of_ble_eq_true rfl) (rc_of hw14 (lay_X0 _ _ _) rfl) h (fun r15 w15 z15 n15 h => ?_)
        refine x_callSL K (As := [vL r15]) dX0_lists_103 LX0_33 rfl rfl (Nat.le_of_ble_eq_true rfl) h (fun r16 w16 z16 n16 h => ?_)
        refine v_l2i dX0_lists_106 ?_
        refine v_wI ?_
        obtain ⟨F17, p17, hw17, h⟩ := h
        refine x_callVV K (As := [vI (wI r16)]) dX0_lists_107 LX0_132 rfl rfl (Nat.le_of_ble_eq_true rfl) (rc_of hw17 (lay_X0 _ _ _) rfl) h (fun w18 z18 n18 h => ?_)
        refine v_iinc 5 dX0_lists_110 rfl (by decide) rfl ?_
        refine v_goto 45 dX0_lists_113 (by decide) ?_
        refine V.sub [2, 3, 4, 5, 0] rfl ?_
        exact h
      · have h := hf c
        refine v_goto 110 dX0_lists_69 (by decide) ?_
        refine v_iinc 4 dX0_lists_110 rfl (by decide) rfl ?_
        refine v_goto 45 dX0_lists_113 (by decide) ?_
        refine V.sub [1, 2, 3, 4, 0] rfl ?_
        exact h
/-! BranchNames.isBy -/
theorem wX0_isBy_0 (K : KV) {x2 x3 : Int} {x0 q1 : Nat} {w : Wd} {sz n : Nat} (h : ∃ (F1 : Nat → Int) (p1 : Nat), (w x0 = some (obX x0 F1 p1)) ∧ (CV mX0_digitsOf_2 K [.ref x0, vI x2, vI x3] w sz n fun w2 z2 n2 => ∃ (F3 : Nat → Int) (p3 : Nat), (w2 x0 = some (obX x0 F3 p3)) ∧ ((K.G.base ≤ x0) ∧ (∃ (F5 : Nat → Int) (P5 : Nat → Option Nat) (A5 : Nat → Int → Int) (M5 : Nat → Int → Int → Int) (N5 : Nat → Int → Int → Option Nat), ((wset w2 x0 (some (obX x0 (upN F3 10 0) p3))) q1 = some (obT F5 P5 A5 M5 N5)) ∧ (CV mX1_begins K [.ref q1] (wset w2 x0 (some (obX x0 (upN F3 10 0) p3))) z2 n2 fun w6 z6 n6 => ∃ (F7 : Nat → Int) (p7 : Nat), (w6 x0 = some (obX x0 F7 p7)) ∧ (CI mX0_isTwig K [.ref x0, .ref q1, vI x2, vI 0] w6 z6 n6 fun r8 w8 z8 n8 => (rI r8) ∧ ((r8 = 0 → (K.S (some (vI 0)) w8 z8 n8)) ∧ (¬ r8 = 0 → (∃ (F10 : Nat → Int) (p10 : Nat), (w8 x0 = some (obX x0 F10 p10)) ∧ ((rI (F10 10)) ∧ ((rI x2) ∧ ((¬ (F10 10) = x2 → (K.S (some (vI 0)) w8 z8 n8)) ∧ ((F10 10) = x2 → (CL mX0_seenAt K [.ref x0, .ref q1, vI 0] w8 z8 n8 fun r13 w13 z13 n13 => CL mX0_numberOf K [vL r13] w13 z13 n13 fun r14 w14 z14 n14 => (rI x3) ∧ ((rL r14) ∧ ((rL x3) ∧ ((¬ (cmpI r14 x3) = 0 → (K.S (some (vI 0)) w14 z14 n14)) ∧ ((cmpI r14 x3) = 0 → (K.S (some (vI 1)) w14 z14 n14))))))))))))))))))) : VX K mX0_isBy 0 [(0, .ref x0), (1, .ref q1), (2, vI x2), (3, vI x3)] [] w sz n := by
  refine v_aload_n 0 dX0_isBy_0 rfl (isR_ref _) ?_
  refine v_iload_n 2 dX0_isBy_1 rfl ?_
  refine v_iload_n 3 dX0_isBy_2 rfl ?_
  obtain ⟨F1, p1, hw1, h⟩ := h
  refine x_callVV K (As := [vI x2, vI x3]) dX0_isBy_3 LX0_89 rfl rfl (Nat.le_of_ble_eq_true rfl) (rc_of hw1 (lay_X0 _ _ _) rfl) h (fun w2 z2 n2 h => ?_)
  refine v_aload_n 0 dX0_isBy_6 rfl (isR_ref _) ?_
  refine v_iconst dX0_isBy_7 ?_
  obtain ⟨F3, p3, hw3, h⟩ := h
  obtain ⟨s4, h⟩ := h
  refine v_put (q := x0) (j := 0) (v := vI 0) (obX x0 (upN F3 10 0) p3) dX0_isBy_8 fX0_78 pf0_10 hw3 rfl (lay_X0 _ _ _) (Nat.le_of_ble_eq_true rfl) rfl rfl (chg_X0 rfl) s4 ?_
  refine v_aload_n 1 dX0_isBy_11 rfl (isR_ref _) ?_
  obtain ⟨F5, P5, A5, M5, N5, hw5, h⟩ := h
  refine x_callVV K (As := []) dX0_isBy_12 LX0_92 rfl rfl (Nat.le_of_ble_eq_true rfl) (rc_of hw5 (lay_T0 _ _ _ _ _ _) rfl) h (fun w6 z6 n6 h => ?_)
  refine v_aload_n 0 dX0_isBy_15 rfl (isR_ref _) ?_
  refine v_aload_n 1 dX0_isBy_16 rfl (isR_ref _) ?_
  refine v_iload_n 2 dX0_isBy_17 rfl ?_
  refine v_iconst dX0_isBy_18 ?_
  obtain ⟨F7, p7, hw7, h⟩ := h
  refine x_callVI K (As := [.ref q1, vI x2, vI 0]) dX0_isBy_19 LX0_85 rfl rfl (Nat.le_of_ble_eq_true rfl) (rc_of hw7 (lay_X0 _ _ _) rfl) h (fun r8 w8 z8 n8 h => ?_)
  obtain ⟨s9, h⟩ := h
  obtain ⟨ht, hf⟩ := h
  refine v_if_eq 52 dX0_isBy_22 (by decide) s9 (fun c => ?_) (fun c => ?_)
  · have h := ht c
    refine v_iconst dX0_isBy_52 ?_
    exact x_zret K dX0_isBy_53 rfl (by decide) h
  · have h := hf c
    refine v_aload_n 0 dX0_isBy_25 rfl (isR_ref _) ?_
    obtain ⟨F10, p10, hw10, h⟩ := h
    refine v_get (q := x0) (j := 0) (v := vI (F10 10)) dX0_isBy_26 fX0_78 hw10 rfl (lay_X0 _ _ _) rfl ?_
    refine v_iload_n 2 dX0_isBy_29 rfl ?_
    obtain ⟨s11, h⟩ := h
    obtain ⟨s12, h⟩ := h
    obtain ⟨ht, hf⟩ := h
    refine v_icmp_ne 52 dX0_isBy_30 (by decide) s11 s12 (fun c => ?_) (fun c => ?_)
    · have h := ht c
      refine v_iconst dX0_isBy_52 ?_
      exact x_zret K dX0_isBy_53 rfl (by decide) h
    · have h := hf c
      refine v_aload_n 0 dX0_isBy_33 rfl (isR_ref _) ?_
      refine v_aload_n 1 dX0_isBy_34 rfl (isR_ref _) ?_
      refine v_iconst dX0_isBy_35 ?_
      refine x_callVL K (As := [.ref q1, vI 0]) dX0_isBy_36 LX0_68 rfl rfl (Nat.le_of_ble_eq_true rfl) (rc_of hw10 (lay_X0 _ _ _) rfl) h (fun r13 w13 z13 n13 h => ?_)
      refine x_callSL K (As := [vL r13]) dX0_isBy_39 LX0_33 rfl rfl (Nat.le_of_ble_eq_true rfl) h (fun r14 w14 z14 n14 h => ?_)
      refine v_iload_n 3 dX0_isBy_42 rfl ?_
      obtain ⟨s15, h⟩ := h
      refine v_i2l dX0_isBy_43 s15 ?_
      obtain ⟨s16, h⟩ := h
      obtain ⟨s17, h⟩ := h
      refine v_lcmp dX0_isBy_44 s16 s17 ?_
      obtain ⟨ht, hf⟩ := h
      refine v_if_ne 52 dX0_isBy_45 (by decide) cmpI_rI (fun c => ?_) (fun c => ?_)
      · have h := ht c
        refine v_iconst dX0_isBy_52 ?_
        exact x_zret K dX0_isBy_53 rfl (by decide) h
      · have h := hf c
        refine v_iconst dX0_isBy_48 ?_
        refine v_goto 53 dX0_isBy_49 (by decide) ?_
        exact x_zret K dX0_isBy_53 rfl (by decide) h
