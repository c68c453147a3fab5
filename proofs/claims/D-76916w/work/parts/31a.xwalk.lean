set_option maxRecDepth 100000
/-! java/lang/AbstractStringBuilder.<init> -/
theorem wJ0_init_0 (K : KV) (hY : XY K.G) {x1 : Int} {x0 : Nat} {w : Wd} {sz n : Nat} (h : (1 ≤ K.d) ∧ ((w sz = none) ∧ ((0 ≤ x1 ∧ x1 ≤ 20000) ∧ (∃ (F4 : Nat → Int) (P4 : Nat → Option Nat), ((wset w sz (some (obA 2 ((Int.toNat x1)) ((fun _ => 0))))) x0 = some (obR 15 F4 P4)) ∧ ((K.G.base ≤ x0) ∧ (K.S none (wset (wset w sz (some (obA 2 ((Int.toNat x1)) ((fun _ => 0))))) x0 (some (obR 15 (upN F4 1 0) (upN P4 0 (some sz))))) (sz + 1) (n + Int.toNat x1))))))) : VX K mJ0_init 0 [(0, .ref x0), (1, vI x1)] [] w sz n := by
  refine v_aload_n 0 dJ0_init_0 rfl (isR_ref _) ?_
  obtain ⟨s1, h⟩ := h
  refine v_objInit dJ0_init_1 q280 q192 q193 s1 (Nat.le_of_ble_eq_true rfl) ?_
  refine v_gets (v := vI 1) hY.1 dJ0_init_4 q281 (Or.inl rfl) ?_
  refine v_if_eq 25 dJ0_init_7 (by decide) (by decide) (fun c => absurd c (by decide)) (fun _ => ?_)
  refine v_aload_n 0 dJ0_init_10 rfl (isR_ref _) ?_
  refine v_iload_n 1 dJ0_init_11 rfl ?_
  obtain ⟨s2, h⟩ := h
  obtain ⟨s3, h⟩ := h
  refine x_newB K dJ0_init_12 s3 s2 ?_
  obtain ⟨F4, P4, hw4, h⟩ := h
  obtain ⟨s5, h⟩ := h
  refine v_put (q := x0) (j := 0) (v := va_rf (some sz)) (obR 15 F4 (upN P4 0 (some sz))) dJ0_init_14 fJ0_15 pf15_0 hw4 rfl (lay_R0 _ _ _ (by decide)) (Nat.le_of_ble_eq_true rfl) (nar_rfA _ (some sz)) (fit_rfA _ (some sz)) (chg_raw rfl rfl rfl) s5 ?_
  refine v_aload_n 0 dJ0_init_17 rfl (isR_ref _) ?_
  refine v_iconst dJ0_init_18 ?_
  refine v_put (q := x0) (j := 0) (v := vI 0) (obR 15 (upN F4 1 0) (upN P4 0 (some sz))) dJ0_init_19 fJ0_22 pf15_1 (wset_eq _ _ _) rfl (lay_R0 _ _ _ (by decide)) (Nat.le_of_ble_eq_true rfl) rfl rfl (chg_raw rfl rfl rfl) s5 ?_
  rw [wset_wset]
  refine v_goto 38 dJ0_init_22 (by decide) ?_
  exact v_vret dJ0_init_38 rfl h
/-! java/lang/AbstractStringBuilder.append -/
theorem wJ0_append_0 (K : KV) (hY : XY K.G) {x0 q1 : Nat} {w : Wd} {sz n : Nat} (h : ∃ (b1 : Nat), (w q1 = some (obS b1)) ∧ (CI mJ2_length K [.ref q1] w sz n fun r2 w2 z2 n2 => ∃ (F3 : Nat → Int) (P3 : Nat → Option Nat), (w2 x0 = some (obR 15 F3 P3)) ∧ (CV mJ0_ensureCapacityInternal K [.ref x0, vI ((F3 3) + r2)] w2 z2 n2 fun w4 z4 n4 => ∃ (F5 : Nat → Int) (P5 : Nat → Option Nat), (w4 x0 = some (obR 15 F5 P5)) ∧ (CV mJ0_putStringAt K [.ref x0, vI (F5 3), .ref q1] w4 z4 n4 fun w6 z6 n6 => ∃ (F7 : Nat → Int) (P7 : Nat → Option Nat), (w6 x0 = some (obR 15 F7 P7)) ∧ ((K.G.base ≤ x0) ∧ (K.S (some (va_rf (some x0))) (wset w6 x0 (some (obR 15 (upN F7 3 ((F7 3) + r2)) P7))) z6 n6)))))) : VX K mJ0_append 0 [(0, .ref x0), (1, .ref q1)] [] w sz n := by
  refine v_aload_n 1 dJ0_append_0 rfl (isR_ref _) ?_
  refine v_ifnonnull (r := some q1) 9 dJ0_append_1 (by decide) (fun a c => ?_) (fun c => by cases c)
  refine v_aload_n 1 dJ0_append_9 rfl (isR_ref _) ?_
  obtain ⟨b1, hw1, h⟩ := h
  refine x_callVI K (As := []) dJ0_append_10 LJ0_32 rfl rfl (Nat.le_of_ble_eq_true rfl) (rc_S hw1) h (fun r2 w2 z2 n2 h => ?_)
  refine v_istore_n dJ0_append_13 (by decide) rfl ?_
  refine v_aload_n 1 dJ0_append_14 rfl (isR_ref _) ?_
  refine v_aload_n 1 dJ0_append_15 rfl (isR_ref _) ?_
  obtain ⟨F3, P3, hw3, h⟩ := h
  refine v_get (q := x0) (j := 0) (v := vI (F3 3)) dJ0_append_16 fJ0_79 hw3 rfl (lay_R0 _ _ _ (by decide)) rfl ?_
  refine v_iload_n 0 dJ0_append_19 rfl ?_
  refine v_iadd dJ0_append_20 ?_
  refine x_callUV K (hY.priv _) (As := [vI ((F3 3) + r2)]) dJ0_append_21 LJ0_100U rfl rfl (Nat.le_of_ble_eq_true rfl) (rc_of hw3 (lay_R0 _ _ _ (by decide)) rfl) h (fun w4 z4 n4 h => ?_)
  refine v_aload_n 1 dJ0_append_24 rfl (isR_ref _) ?_
  refine v_aload_n 1 dJ0_append_25 rfl (isR_ref _) ?_
  obtain ⟨F5, P5, hw5, h⟩ := h
  refine v_get (q := x0) (j := 0) (v := vI (F5 3)) dJ0_append_26 fJ0_79 hw5 rfl (lay_R0 _ _ _ (by decide)) rfl ?_
  refine v_aload_n 2 dJ0_append_29 rfl (isR_ref _) ?_
  refine x_callUV K (hY.priv _) (As := [vI (F5 3), .ref q1]) dJ0_append_30 LJ0_208U rfl rfl (Nat.le_of_ble_eq_true rfl) (rc_of hw5 (lay_R0 _ _ _ (by decide)) rfl) h (fun w6 z6 n6 h => ?_)
  refine v_aload_n 1 dJ0_append_33 rfl (isR_ref _) ?_
  refine v_dup dJ0_append_34 rfl ?_
  obtain ⟨F7, P7, hw7, h⟩ := h
  refine v_get (q := x0) (j := 0) (v := vI (F7 3)) dJ0_append_35 fJ0_79 hw7 rfl (lay_R0 _ _ _ (by decide)) rfl ?_
  refine v_iload_n 0 dJ0_append_38 rfl ?_
  refine v_iadd dJ0_append_39 ?_
  obtain ⟨s8, h⟩ := h
  refine v_put (q := x0) (j := 0) (v := vI ((F7 3) + r2)) (obR 15 (upN F7 3 ((F7 3) + r2)) P7) dJ0_append_40 fJ0_79 pf15_3 hw7 rfl (lay_R0 _ _ _ (by decide)) (Nat.le_of_ble_eq_true rfl) rfl rfl (chg_raw rfl rfl rfl) s8 ?_
  refine v_aload_n 1 dJ0_append_43 rfl (isR_ref _) ?_
  exact x_aret K (r := some x0) dJ0_append_44 rfl (by first | exact Or.inl ⟨_, rfl⟩ | exact Or.inr ⟨_, rfl⟩) h
/-! java/lang/AbstractStringBuilder.appendNull -/
theorem wJ0_appendNull_0 (K : KV) (hY : XY K.G) {x0 : Nat} {w : Wd} {sz n : Nat} (h : ∃ (F1 : Nat → Int) (P1 : Nat → Option Nat), (w x0 = some (obR 15 F1 P1)) ∧ (CV mJ0_ensureCapacityInternal K [.ref x0, vI ((F1 3) + 4)] w sz n fun w2 z2 n2 => ∃ (F3 : Nat → Int) (P3 : Nat → Option Nat), (w2 x0 = some (obR 15 F3 P3)) ∧ (CI mJ0_isLatin1 K [.ref x0] w2 z2 n2 fun r4 w4 z4 n4 => (rI r4) ∧ ((r4 = 0 → (CI mJ3_putCharsAt K [va_rf (P3 0), vI (F3 3), vI 110, vI 117, vI 108, vI 108] w4 z4 n4 fun r6 w6 z6 n6 => ∃ (F7 : Nat → Int) (P7 : Nat → Option Nat), (w6 x0 = some (obR 15 F7 P7)) ∧ ((K.G.base ≤ x0) ∧ (K.S (some (va_rf (some x0))) (wset w6 x0 (some (obR 15 (upN F7 3 r6) P7))) z6 n6)))) ∧ (¬ r4 = 0 → (∃ (a6 : Nat), (P3 0 = some a6) ∧ (∃ (l7 : Nat) (f7 : Int → Int), (w4 a6 = some (obA 2 l7 f7)) ∧ ((0 ≤ (F3 3) ∧ (F3 3) < ((l7 : Nat) : Int)) ∧ ((l7 < 2147483648) ∧ ((K.G.base ≤ a6) ∧ ((0 ≤ ((F3 3) + 1) ∧ ((F3 3) + 1) < ((l7 : Nat) : Int)) ∧ ((0 ≤ (((F3 3) + 1) + 1) ∧ (((F3 3) + 1) + 1) < ((l7 : Nat) : Int)) ∧ ((0 ≤ ((((F3 3) + 1) + 1) + 1) ∧ ((((F3 3) + 1) + 1) + 1) < ((l7 : Nat) : Int)) ∧ (∃ (F14 : Nat → Int) (P14 : Nat → Option Nat), ((wset w4 a6 (some (obA 2 l7 (upZ (upZ (upZ (upZ f7 (F3 3) 110) ((F3 3) + 1) 117) (((F3 3) + 1) + 1) 108) ((((F3 3) + 1) + 1) + 1) 108)))) x0 = some (obR 15 F14 P14)) ∧ ((K.G.base ≤ x0) ∧ (K.S (some (va_rf (some x0))) (wset (wset w4 a6 (some (obA 2 l7 (upZ (upZ (upZ (upZ f7 (F3 3) 110) ((F3 3) + 1) 117) (((F3 3) + 1) + 1) 108) ((((F3 3) + 1) + 1) + 1) 108)))) x0 (some (obR 15 (upN F14 3 (((((F3 3) + 1) + 1) + 1) + 1)) P14))) z4 n4)))))))))))))))) : VX K mJ0_appendNull 0 [(0, .ref x0)] [] w sz n := by
  refine v_aload_n 0 dJ0_appendNull_0 rfl (isR_ref _) ?_
  refine v_aload_n 0 dJ0_appendNull_1 rfl (isR_ref _) ?_
  obtain ⟨F1, P1, hw1, h⟩ := h
  refine v_get (q := x0) (j := 0) (v := vI (F1 3)) dJ0_appendNull_2 fJ0_79 hw1 rfl (lay_R0 _ _ _ (by decide)) rfl ?_
  refine v_iconst dJ0_appendNull_5 ?_
  refine v_iadd dJ0_appendNull_6 ?_
  refine x_callUV K (hY.priv _) (As := [vI ((F1 3) + 4)]) dJ0_appendNull_7 LJ0_100U rfl rfl (Nat.le_of_ble_eq_true rfl) (rc_of hw1 (lay_R0 _ _ _ (by decide)) rfl) h (fun w2 z2 n2 h => ?_)
  refine v_aload_n 0 dJ0_appendNull_10 rfl (isR_ref _) ?_
  obtain ⟨F3, P3, hw3, h⟩ := h
  refine v_get (q := x0) (j := 0) (v := vI (F3 3)) dJ0_appendNull_11 fJ0_79 hw3 rfl (lay_R0 _ _ _ (by decide)) rfl ?_
  refine v_istore_n dJ0_appendNull_14 (by decide) rfl ?_
  refine v_aload_n 1 dJ0_appendNull_15 rfl (isR_ref _) ?_
  refine v_get (q := x0) (j := 0) (v := va_rf (P3 0)) dJ0_appendNull_16 fJ0_15 hw3 rfl (lay_R0 _ _ _ (by decide)) rfl ?_
  refine v_astore_n dJ0_appendNull_19 (by decide) (isR_rf _) rfl ?_
  refine v_aload_n 2 dJ0_appendNull_20 rfl (isR_ref _) ?_
  refine x_callUI K (hY.priv _) (As := []) dJ0_appendNull_21 LJ0_83U rfl rfl (Nat.le_of_ble_eq_true rfl) (rc_of hw3 (lay_R0 _ _ _ (by decide)) rfl) h (fun r4 w4 z4 n4 h => ?_)
  obtain ⟨s5, h⟩ := h
  obtain ⟨ht, hf⟩ := h
  refine v_if_eq 62 dJ0_appendNull_24 (by decide) s5 (fun c => ?_) (fun c => ?_)
  · have h := ht c
    refine v_aload_n 0 dJ0_appendNull_62 rfl (isR_rf _) ?_
    refine v_iload_n 1 dJ0_appendNull_63 rfl ?_
    refine v_bipush dJ0_appendNull_64 rfl ?_
    refine v_bipush dJ0_appendNull_66 rfl ?_
    refine v_bipush dJ0_appendNull_68 rfl ?_
    refine v_bipush dJ0_appendNull_70 rfl ?_
    refine x_callSI K (As := [va_rf (P3 0), vI (F3 3), vI 110, vI 117, vI 108, vI 108]) dJ0_appendNull_72 LJ0_226 rfl rfl (Nat.le_of_ble_eq_true rfl) h (fun r6 w6 z6 n6 h => ?_)
    refine v_istore_n dJ0_appendNull_75 (by decide) rfl ?_
    refine v_aload_n 2 dJ0_appendNull_76 rfl (isR_ref _) ?_
    refine v_iload_n 0 dJ0_appendNull_77 rfl ?_
    obtain ⟨F7, P7, hw7, h⟩ := h
    obtain ⟨s8, h⟩ := h
    refine v_put (q := x0) (j := 0) (v := vI r6) (obR 15 (upN F7 3 r6) P7) dJ0_appendNull_78 fJ0_79 pf15_3 hw7 rfl (lay_R0 _ _ _ (by decide)) (Nat.le_of_ble_eq_true rfl) rfl rfl (chg_raw rfl rfl rfl) s8 ?_
    refine v_aload_n 2 dJ0_appendNull_81 rfl (isR_ref _) ?_
    exact x_aret K (r := some x0) dJ0_appendNull_82 rfl (by first | exact Or.inl ⟨_, rfl⟩ | exact Or.inr ⟨_, rfl⟩) h
  · have h := hf c
    refine v_aload_n 0 dJ0_appendNull_27 rfl (isR_rf _) ?_
    refine v_iload_n 1 dJ0_appendNull_28 rfl ?_
    refine v_iinc 1 dJ0_appendNull_29 rfl (by decide) rfl ?_
    refine v_bipush dJ0_appendNull_32 rfl ?_
    obtain ⟨a6, ea6, h⟩ := h
    rw [ea6]
    obtain ⟨l7, f7, hw7, h⟩ := h
    obtain ⟨s8, h⟩ := h
    obtain ⟨s9, h⟩ := h
    obtain ⟨s10, h⟩ := h
    refine v_bast (q := a6) (j := 0) (f := f7) (obA 2 l7 (upZ f7 (F3 3) 110)) dJ0_appendNull_34 hw7 rfl (lay_AB _ _ _) s8 s9 (by decide) (chg_raw rfl rfl rfl) s10 ?_
    refine v_aload_n 1 dJ0_appendNull_35 rfl (isR_ref _) ?_
    refine v_iload_n 0 dJ0_appendNull_36 rfl ?_
    refine v_iinc 0 dJ0_appendNull_37 rfl (by decide) rfl ?_
    refine v_bipush dJ0_appendNull_40 rfl ?_
    obtain ⟨s11, h⟩ := h
    refine v_bast (q := a6) (j := 0) (f := upZ f7 (F3 3) 110) (obA 2 l7 (upZ (upZ f7 (F3 3) 110) ((F3 3) + 1) 117)) dJ0_appendNull_42 (wset_eq _ _ _) rfl (lay_AB _ _ _) s11 s9 (by decide) (chg_raw rfl rfl rfl) s10 ?_
    rw [wset_wset]
    refine v_aload_n 1 dJ0_appendNull_43 rfl (isR_ref _) ?_
    refine v_iload_n 0 dJ0_appendNull_44 rfl ?_
    refine v_iinc 0 dJ0_appendNull_45 rfl (by decide) rfl ?_
    refine v_bipush dJ0_appendNull_48 rfl ?_
    obtain ⟨s12, h⟩ := h
    refine v_bast (q := a6) (j := 0) (f := upZ (upZ f7 (F3 3) 110) ((F3 3) + 1) 117) (obA 2 l7 (upZ (upZ (upZ f7 (F3 3) 110) ((F3 3) + 1) 117) (((F3 3) + 1) + 1) 108)) dJ0_appendNull_50 (wset_eq _ _ _) rfl (lay_AB _ _ _) s12 s9 (by decide) (chg_raw rfl rfl rfl) s10 ?_
    rw [wset_wset]
    refine v_aload_n 1 dJ0_appendNull_51 rfl (isR_ref _) ?_
    refine v_iload_n 0 dJ0_appendNull_52 rfl ?_
    refine v_iinc 0 dJ0_appendNull_53 rfl (by decide) rfl ?_
    refine v_bipush dJ0_appendNull_56 rfl ?_
    obtain ⟨s13, h⟩ := h
    refine v_bast (q := a6) (j := 0) (f := upZ (upZ (upZ f7 (F3 3) 110) ((F3 3) + 1) 117) (((F3 3) + 1) + 1) 108) (obA 2 l7 (upZ (upZ (upZ (upZ f7 (F3 3) 110) ((F3 3) + 1) 117) (((F3 3) + 1) + 1) 108) ((((F3 3) + 1) + 1) + 1) 108)) dJ0_appendNull_58 (wset_eq _ _ _) rfl (lay_AB _ _ _) s13 s9 (by decide) (chg_raw rfl rfl rfl) s10 ?_
    rw [wset_wset]
    refine v_goto 76 dJ0_appendNull_59 (by decide) ?_
    refine v_aload_n 2 dJ0_appendNull_76 rfl (isR_ref _) ?_
    refine v_iload_n 0 dJ0_appendNull_77 rfl ?_
    obtain ⟨F14, P14, hw14, h⟩ := h
    obtain ⟨s15, h⟩ := h
    refine v_put (q := x0) (j := 0) (v := vI (((((F3 3) + 1) + 1) + 1) + 1)) (obR 15 (upN F14 3 (((((F3 3) + 1) + 1) + 1) + 1)) P14) dJ0_appendNull_78 fJ0_79 pf15_3 hw14 rfl (lay_R0 _ _ _ (by decide)) (Nat.le_of_ble_eq_true rfl) rfl rfl (chg_raw rfl rfl rfl) s15 ?_
    refine v_aload_n 2 dJ0_appendNull_81 rfl (isR_ref _) ?_
    exact x_aret K (r := some x0) dJ0_appendNull_82 rfl (by first | exact Or.inl ⟨_, rfl⟩ | exact Or.inr ⟨_, rfl⟩) h
/-! java/lang/AbstractStringBuilder.ensureCapacityInternal -/
theorem wJ0_ensureCapacityInternal_0 (K : KV) (hY : XY K.G) {x1 : Int} {x0 : Nat} {w : Wd} {sz n : Nat} (h : ∃ (F1 : Nat → Int) (P1 : Nat → Option Nat), (w x0 = some (obR 15 F1 P1)) ∧ (∃ (a2 : Nat), (P1 0 = some a2) ∧ (∃ (l3 : Nat) (f3 : Int → Int), (w a2 = some (obA 2 l3 f3)) ∧ ((rI (x1 - (ishr (((l3 : Nat) : Int)) (F1 1)))) ∧ (((x1 - (ishr (((l3 : Nat) : Int)) (F1 1))) ≤ 0 → (K.S none w sz n)) ∧ (¬ (x1 - (ishr (((l3 : Nat) : Int)) (F1 1))) ≤ 0 → (CI mJ0_newCapacity K [.ref x0, vI x1] w sz n fun r5 w5 z5 n5 => ∃ (F6 : Nat → Int) (P6 : Nat → Option Nat), (w5 x0 = some (obR 15 F6 P6)) ∧ (CQ mJ6_copyOf K [va_rf (P1 0), vI (ishl r5 (F6 1))] w5 z5 n5 fun r7 w7 z7 n7 => ∃ (F8 : Nat → Int) (P8 : Nat → Option Nat), (w7 x0 = some (obR 15 F8 P8)) ∧ ((K.G.base ≤ x0) ∧ (K.S none (wset w7 x0 (some (obR 15 F8 (upN P8 0 r7)))) z7 n7)))))))))) : VX K mJ0_ensureCapacityInternal 0 [(0, .ref x0), (1, vI x1)] [] w sz n := by
  refine v_aload_n 0 dJ0_ensureCapacityInternal_0 rfl (isR_ref _) ?_
  obtain ⟨F1, P1, hw1, h⟩ := h
  refine v_get (q := x0) (j := 0) (v := va_rf (P1 0)) dJ0_ensureCapacityInternal_1 fJ0_15 hw1 rfl (lay_R0 _ _ _ (by decide)) rfl ?_
  obtain ⟨a2, ea2, h⟩ := h
  rw [ea2]
  obtain ⟨l3, f3, hw3, h⟩ := h
  refine v_alen (q := a2) (j := 0) dJ0_ensureCapacityInternal_4 hw3 rfl (lay_AB _ _ _) (by decide) ?_
  refine v_aload_n 0 dJ0_ensureCapacityInternal_5 rfl (isR_ref _) ?_
  refine v_get (q := x0) (j := 0) (v := vI (F1 1)) dJ0_ensureCapacityInternal_6 fJ0_22 hw1 rfl (lay_R0 _ _ _ (by decide)) rfl ?_
  refine v_ishr dJ0_ensureCapacityInternal_9 ?_
  refine v_istore_n dJ0_ensureCapacityInternal_10 (by decide) rfl ?_
  refine v_iload_n 2 dJ0_ensureCapacityInternal_11 rfl ?_
  refine v_iload_n 0 dJ0_ensureCapacityInternal_12 rfl ?_
  refine v_isub dJ0_ensureCapacityInternal_13 ?_
  obtain ⟨s4, h⟩ := h
  obtain ⟨ht, hf⟩ := h
  refine v_if_le 38 dJ0_ensureCapacityInternal_14 (by decide) s4 (fun c => ?_) (fun c => ?_)
  · have h := ht c
    exact v_vret dJ0_ensureCapacityInternal_38 rfl h
  · have h := hf c
    refine v_aload_n 1 dJ0_ensureCapacityInternal_17 rfl (isR_ref _) ?_
    refine v_aload_n 1 dJ0_ensureCapacityInternal_18 rfl (isR_ref _) ?_
    refine v_get (q := x0) (j := 0) (v := va_rf (P1 0)) dJ0_ensureCapacityInternal_19 fJ0_15 hw1 rfl (lay_R0 _ _ _ (by decide)) rfl ?_
    refine v_aload_n 1 dJ0_ensureCapacityInternal_22 rfl (isR_ref _) ?_
    refine v_iload_n 2 dJ0_ensureCapacityInternal_23 rfl ?_
    refine x_callUI K (hY.priv _) (As := [vI x1]) dJ0_ensureCapacityInternal_24 LJ0_104U rfl rfl (by simp only [List.map_cons, List.map_nil, List.sum_cons, List.sum_nil, cat_rf]; exact Nat.le_of_ble_eq_true rfl) (rc_of hw1 (lay_R0 _ _ _ (by decide)) rfl) h (fun r5 w5 z5 n5 h => ?_)
    refine v_aload_n 1 dJ0_ensureCapacityInternal_27 rfl (isR_ref _) ?_
    obtain ⟨F6, P6, hw6, h⟩ := h
    refine v_get (q := x0) (j := 0) (v := vI (F6 1)) dJ0_ensureCapacityInternal_28 fJ0_22 hw6 rfl (lay_R0 _ _ _ (by decide)) rfl ?_
    refine v_ishl dJ0_ensureCapacityInternal_31 ?_
    refine x_callSQ K (As := [va_rf (P1 0), vI (ishl r5 (F6 1))]) dJ0_ensureCapacityInternal_32 LJ0_108 rfl rfl (Nat.le_of_ble_eq_true rfl) h (fun r7 w7 z7 n7 h => ?_)
    obtain ⟨F8, P8, hw8, h⟩ := h
    obtain ⟨s9, h⟩ := h
    refine v_put (q := x0) (j := 0) (v := va_rf r7) (obR 15 F8 (upN P8 0 r7)) dJ0_ensureCapacityInternal_35 fJ0_15 pf15_0 hw8 rfl (lay_R0 _ _ _ (by decide)) (Nat.le_of_ble_eq_true rfl) (nar_rfA _ r7) (fit_rfA _ r7) (chg_raw rfl rfl rfl) s9 ?_
    exact v_vret dJ0_ensureCapacityInternal_38 rfl h
/-! java/lang/AbstractStringBuilder.newCapacity -/
theorem wJ0_newCapacity_0 (K : KV) {x1 : Int} {x0 : Nat} {w : Wd} {sz n : Nat} (h : ∃ (F1 : Nat → Int) (P1 : Nat → Option Nat), (w x0 = some (obR 15 F1 P1)) ∧ (∃ (a2 : Nat), (P1 0 = some a2) ∧ (∃ (l3 : Nat) (f3 : Int → Int), (w a2 = some (obA 2 l3 f3)) ∧ (CI mJ4_newLength K [vI (((l3 : Nat) : Int)), vI ((ishl x1 (F1 1)) - (((l3 : Nat) : Int))), vI ((((l3 : Nat) : Int)) + (ishl 2 (F1 1)))] w sz n fun r4 w4 z4 n4 => (rI r4) ∧ ((¬ r4 = 2147483647 → (∃ (F6 : Nat → Int) (P6 : Nat → Option Nat), (w4 x0 = some (obR 15 F6 P6)) ∧ (K.S (some (vI (ishr r4 (F6 1)))) w4 z4 n4))) ∧ (r4 = 2147483647 → (False))))))) : VX K mJ0_newCapacity 0 [(0, .ref x0), (1, vI x1)] [] w sz n := by
  refine v_aload_n 0 dJ0_newCapacity_0 rfl (isR_ref _) ?_
  obtain ⟨F1, P1, hw1, h⟩ := h
  refine v_get (q := x0) (j := 0) (v := va_rf (P1 0)) dJ0_newCapacity_1 fJ0_15 hw1 rfl (lay_R0 _ _ _ (by decide)) rfl ?_
  obtain ⟨a2, ea2, h⟩ := h
  rw [ea2]
  obtain ⟨l3, f3, hw3, h⟩ := h
  refine v_alen (q := a2) (j := 0) dJ0_newCapacity_4 hw3 rfl (lay_AB _ _ _) (by decide) ?_
  refine v_istore_n dJ0_newCapacity_5 (by decide) rfl ?_
  refine v_iload_n 2 dJ0_newCapacity_6 rfl ?_
  refine v_aload_n 1 dJ0_newCapacity_7 rfl (isR_ref _) ?_
  refine v_get (q := x0) (j := 0) (v := vI (F1 1)) dJ0_newCapacity_8 fJ0_22 hw1 rfl (lay_R0 _ _ _ (by decide)) rfl ?_
  refine v_ishl dJ0_newCapacity_11 ?_
  refine v_istore_n dJ0_newCapacity_12 (by decide) rfl ?_
  refine v_iload_n 0 dJ0_newCapacity_13 rfl ?_
  refine v_iload_n 1 dJ0_newCapacity_14 rfl ?_
  refine v_isub dJ0_newCapacity_15 ?_
  refine v_istore dJ0_newCapacity_16 (by decide) rfl ?_
  refine v_iload_n 2 dJ0_newCapacity_18 rfl ?_
  refine v_iload 0 dJ0_newCapacity_19 rfl ?_
  refine v_iload_n 2 dJ0_newCapacity_21 rfl ?_
  refine v_iconst dJ0_newCapacity_22 ?_
  refine v_aload_n 3 dJ0_newCapacity_23 rfl (isR_ref _) ?_
  refine v_get (q := x0) (j := 0) (v := vI (F1 1)) dJ0_newCapacity_24 fJ0_22 hw1 rfl (lay_R0 _ _ _ (by decide)) rfl ?_
  refine v_ishl dJ0_newCapacity_27 ?_
  refine v_iadd dJ0_newCapacity_28 ?_
  refine x_callSI K (As := [vI (((l3 : Nat) : Int)), vI ((ishl x1 (F1 1)) - (((l3 : Nat) : Int))), vI ((((l3 : Nat) : Int)) + (ishl 2 (F1 1)))]) dJ0_newCapacity_29 LJ0_114 rfl rfl (Nat.le_of_ble_eq_true rfl) h (fun r4 w4 z4 n4 h => ?_)
  refine v_istore dJ0_newCapacity_32 (by decide) rfl ?_
  refine v_iload 0 dJ0_newCapacity_34 rfl ?_
  refine v_ldc (z := 2147483647) dJ0_newCapacity_36 q334 ?_
  obtain ⟨s5, h⟩ := h
  obtain ⟨ht, hf⟩ := h
  refine v_icmp_ne 51 dJ0_newCapacity_38 (by decide) s5 (by decide) (fun c => ?_) (fun c => ?_)
  · have h := ht c
    refine v_iload 0 dJ0_newCapacity_51 rfl ?_
    refine v_aload_n 4 dJ0_newCapacity_53 rfl (isR_ref _) ?_
    obtain ⟨F6, P6, hw6, h⟩ := h
    refine v_get (q := x0) (j := 0) (v := vI (F6 1)) dJ0_newCapacity_54 fJ0_22 hw6 rfl (lay_R0 _ _ _ (by decide)) rfl ?_
    refine v_ishr dJ0_newCapacity_57 ?_
    exact x_iret K dJ0_newCapacity_58 rfl h
  · have h := hf c
    exact h.elim
/-! java/lang/AbstractStringBuilder.isLatin1 -/
theorem wJ0_isLatin1_0 (K : KV) (hY : XY K.G) {x0 : Nat} {w : Wd} {sz n : Nat} (h : ∃ (F1 : Nat → Int) (P1 : Nat → Option Nat), (w x0 = some (obR 15 F1 P1)) ∧ ((rI (F1 1)) ∧ ((¬ (F1 1) = 0 → (K.S (some (vI 0)) w sz n)) ∧ ((F1 1) = 0 → (K.S (some (vI 1)) w sz n))))) : VX K mJ0_isLatin1 0 [(0, .ref x0)] [] w sz n := by
  refine v_gets (v := vI 1) hY.1 dJ0_isLatin1_0 q281 (Or.inl rfl) ?_
  refine v_if_eq 17 dJ0_isLatin1_3 (by decide) (by decide) (fun c => absurd c (by decide)) (fun _ => ?_)
  refine v_aload_n 0 dJ0_isLatin1_6 rfl (isR_ref _) ?_
  obtain ⟨F1, P1, hw1, h⟩ := h
  refine v_get (q := x0) (j := 0) (v := vI (F1 1)) dJ0_isLatin1_7 fJ0_22 hw1 rfl (lay_R0 _ _ _ (by decide)) rfl ?_
  obtain ⟨s2, h⟩ := h
  obtain ⟨ht, hf⟩ := h
  refine v_if_ne 17 dJ0_isLatin1_10 (by decide) s2 (fun c => ?_) (fun c => ?_)
  · have h := ht c
    refine v_iconst dJ0_isLatin1_17 ?_
    exact x_zret K dJ0_isLatin1_18 rfl (by decide) h
  · have h := hf c
    refine v_iconst dJ0_isLatin1_13 ?_
    refine v_goto 18 dJ0_isLatin1_14 (by decide) ?_
    exact x_zret K dJ0_isLatin1_18 rfl (by decide) h
/-! java/lang/AbstractStringBuilder.putStringAt -/
theorem wJ0_putStringAt_0 (K : KV) (hY : XY K.G) {x1 : Int} {x0 q2 : Nat} {w : Wd} {sz n : Nat} (h : ∃ (F1 : Nat → Int) (P1 : Nat → Option Nat), (w x0 = some (obR 15 F1 P1)) ∧ (CV mJ0_inflateIfNeededFor K [.ref x0, .ref q2] w sz n fun w2 z2 n2 => ∃ (F3 : Nat → Int) (P3 : Nat → Option Nat), (w2 x0 = some (obR 15 F3 P3)) ∧ (∃ (b4 : Nat), (w2 q2 = some (obS b4)) ∧ (CV mJ2_getBytes K [.ref q2, va_rf (P3 0), vI x1, vI (F3 1)] w2 z2 n2 fun w5 z5 n5 => K.S none w5 z5 n5)))) : VX K mJ0_putStringAt 0 [(0, .ref x0), (1, vI x1), (2, .ref q2)] [] w sz n := by
  refine v_aload_n 0 dJ0_putStringAt_0 rfl (isR_ref _) ?_
  refine v_aload_n 2 dJ0_putStringAt_1 rfl (isR_ref _) ?_
  obtain ⟨F1, P1, hw1, h⟩ := h
  refine x_callUV K (hY.priv _) (As := [.ref q2]) dJ0_putStringAt_2 LJ0_397U rfl rfl (Nat.le_of_ble_eq_true rfl) (rc_of hw1 (lay_R0 _ _ _ (by decide)) rfl) h (fun w2 z2 n2 h => ?_)
  refine v_aload_n 2 dJ0_putStringAt_5 rfl (isR_ref _) ?_
  refine v_aload_n 0 dJ0_putStringAt_6 rfl (isR_ref _) ?_
  obtain ⟨F3, P3, hw3, h⟩ := h
  refine v_get (q := x0) (j := 0) (v := va_rf (P3 0)) dJ0_putStringAt_7 fJ0_15 hw3 rfl (lay_R0 _ _ _ (by decide)) rfl ?_
  refine v_iload_n 1 dJ0_putStringAt_10 rfl ?_
  refine v_aload_n 0 dJ0_putStringAt_11 rfl (isR_ref _) ?_
  refine v_get (q := x0) (j := 0) (v := vI (F3 1)) dJ0_putStringAt_12 fJ0_22 hw3 rfl (lay_R0 _ _ _ (by decide)) rfl ?_
  obtain ⟨b4, hw4, h⟩ := h
  refine x_callVV K (As := [va_rf (P3 0), vI x1, vI (F3 1)]) dJ0_putStringAt_15 LJ0_399 rfl rfl (Nat.le_of_ble_eq_true rfl) (rc_S hw4) h (fun w5 z5 n5 h => ?_)
  exact v_vret dJ0_putStringAt_18 rfl h
/-! java/lang/AbstractStringBuilder.inflateIfNeededFor -/
theorem wJ0_inflateIfNeededFor_0 (K : KV) (hY : XY K.G) {x0 q1 : Nat} {w : Wd} {sz n : Nat} (h : ∃ (F1 : Nat → Int) (P1 : Nat → Option Nat), (w x0 = some (obR 15 F1 P1)) ∧ (∃ (b2 : Nat), (w q1 = some (obS b2)) ∧ (CI mJ2_coder K [.ref q1] w sz n fun r3 w3 z3 n3 => (rI (F1 1)) ∧ ((rI r3) ∧ (((F1 1) = r3 → (K.S none w3 z3 n3)) ∧ (¬ (F1 1) = r3 → (∃ (F6 : Nat → Int) (P6 : Nat → Option Nat), (w3 x0 = some (obR 15 F6 P6)) ∧ (CV mJ0_inflate K [.ref x0] w3 z3 n3 fun w7 z7 n7 => K.S none w7 z7 n7)))))))) : VX K mJ0_inflateIfNeededFor 0 [(0, .ref x0), (1, .ref q1)] [] w sz n := by
  refine v_gets (v := vI 1) hY.1 dJ0_inflateIfNeededFor_0 q281 (Or.inl rfl) ?_
  refine v_if_eq 21 dJ0_inflateIfNeededFor_3 (by decide) (by decide) (fun c => absurd c (by decide)) (fun _ => ?_)
  refine v_aload_n 0 dJ0_inflateIfNeededFor_6 rfl (isR_ref _) ?_
  obtain ⟨F1, P1, hw1, h⟩ := h
  refine v_get (q := x0) (j := 0) (v := vI (F1 1)) dJ0_inflateIfNeededFor_7 fJ0_22 hw1 rfl (lay_R0 _ _ _ (by decide)) rfl ?_
  refine v_aload_n 1 dJ0_inflateIfNeededFor_10 rfl (isR_ref _) ?_
  obtain ⟨b2, hw2, h⟩ := h
  refine x_callVI K (As := []) dJ0_inflateIfNeededFor_11 LJ0_40 rfl rfl (Nat.le_of_ble_eq_true rfl) (rc_S hw2) h (fun r3 w3 z3 n3 h => ?_)
  obtain ⟨s4, h⟩ := h
  obtain ⟨s5, h⟩ := h
  obtain ⟨ht, hf⟩ := h
  refine v_icmp_eq 21 dJ0_inflateIfNeededFor_14 (by decide) s4 s5 (fun c => ?_) (fun c => ?_)
  · have h := ht c
    exact v_vret dJ0_inflateIfNeededFor_21 rfl h
  · have h := hf c
    refine v_aload_n 0 dJ0_inflateIfNeededFor_17 rfl (isR_ref _) ?_
    obtain ⟨F6, P6, hw6, h⟩ := h
    refine x_callUV K (hY.priv _) (As := []) dJ0_inflateIfNeededFor_18 LJ0_195U rfl rfl (Nat.le_of_ble_eq_true rfl) (rc_of hw6 (lay_R0 _ _ _ (by decide)) rfl) h (fun w7 z7 n7 h => ?_)
    exact v_vret dJ0_inflateIfNeededFor_21 rfl h
/-! java/lang/AbstractStringBuilder.inflate -/
theorem wJ0_inflate_0 (K : KV) (hY : XY K.G) {x0 : Nat} {w : Wd} {sz n : Nat} (h : ∃ (F1 : Nat → Int) (P1 : Nat → Option Nat), (w x0 = some (obR 15 F1 P1)) ∧ (CI mJ0_isLatin1 K [.ref x0] w sz n fun r2 w2 z2 n2 => (rI r2) ∧ ((¬ r2 = 0 → (∃ (F4 : Nat → Int) (P4 : Nat → Option Nat), (w2 x0 = some (obR 15 F4 P4)) ∧ (∃ (a5 : Nat), (P4 0 = some a5) ∧ (∃ (l6 : Nat) (f6 : Int → Int), (w2 a5 = some (obA 2 l6 f6)) ∧ (CQ mJ3_newBytesFor K [vI (((l6 : Nat) : Int))] w2 z2 n2 fun r7 w7 z7 n7 => ∃ (F8 : Nat → Int) (P8 : Nat → Option Nat), (w7 x0 = some (obR 15 F8 P8)) ∧ (CV mJ8_inflate K [va_rf (P8 0), vI 0, va_rf r7, vI 0, vI (F8 3)] w7 z7 n7 fun w9 z9 n9 => ∃ (F10 : Nat → Int) (P10 : Nat → Option Nat), (w9 x0 = some (obR 15 F10 P10)) ∧ ((K.G.base ≤ x0) ∧ (K.S none (wset w9 x0 (some (obR 15 (upN F10 1 1) (upN P10 0 r7)))) z9 n9)))))))) ∧ (r2 = 0 → (K.S none w2 z2 n2))))) : VX K mJ0_inflate 0 [(0, .ref x0)] [] w sz n := by
  refine v_aload_n 0 dJ0_inflate_0 rfl (isR_ref _) ?_
  obtain ⟨F1, P1, hw1, h⟩ := h
  refine x_callUI K (hY.priv _) (As := []) dJ0_inflate_1 LJ0_83U rfl rfl (Nat.le_of_ble_eq_true rfl) (rc_of hw1 (lay_R0 _ _ _ (by decide)) rfl) h (fun r2 w2 z2 n2 h => ?_)
  obtain ⟨s3, h⟩ := h
  obtain ⟨ht, hf⟩ := h
  refine v_if_ne 8 dJ0_inflate_4 (by decide) s3 (fun c => ?_) (fun c => ?_)
  · have h := ht c
    refine v_aload_n 0 dJ0_inflate_8 rfl (isR_ref _) ?_
    obtain ⟨F4, P4, hw4, h⟩ := h
    refine v_get (q := x0) (j := 0) (v := va_rf (P4 0)) dJ0_inflate_9 fJ0_15 hw4 rfl (lay_R0 _ _ _ (by decide)) rfl ?_
    obtain ⟨a5, ea5, h⟩ := h
    rw [ea5]
    obtain ⟨l6, f6, hw6, h⟩ := h
    refine v_alen (q := a5) (j := 0) dJ0_inflate_12 hw6 rfl (lay_AB _ _ _) (by decide) ?_
    refine x_callSQ K (As := [vI (((l6 : Nat) : Int))]) dJ0_inflate_13 LJ0_26 rfl rfl (Nat.le_of_ble_eq_true rfl) h (fun r7 w7 z7 n7 h => ?_)
    refine v_astore_n dJ0_inflate_16 (by decide) (isR_rf _) rfl ?_
    refine v_aload_n 1 dJ0_inflate_17 rfl (isR_ref _) ?_
    obtain ⟨F8, P8, hw8, h⟩ := h
    refine v_get (q := x0) (j := 0) (v := va_rf (P8 0)) dJ0_inflate_18 fJ0_15 hw8 rfl (lay_R0 _ _ _ (by decide)) rfl ?_
    refine v_iconst dJ0_inflate_21 ?_
    refine v_aload_n 0 dJ0_inflate_22 rfl (isR_rf _) ?_
    refine v_iconst dJ0_inflate_23 ?_
    refine v_aload_n 1 dJ0_inflate_24 rfl (isR_ref _) ?_
    refine v_get (q := x0) (j := 0) (v := vI (F8 3)) dJ0_inflate_25 fJ0_79 hw8 rfl (lay_R0 _ _ _ (by decide)) rfl ?_
    refine x_callSV K (As := [va_rf (P8 0), vI 0, va_rf r7, vI 0, vI (F8 3)]) dJ0_inflate_28 LJ0_125 rfl rfl (Nat.le_of_ble_eq_true rfl) h (fun w9 z9 n9 h => ?_)
    refine v_aload_n 1 dJ0_inflate_31 rfl (isR_ref _) ?_
    refine v_aload_n 0 dJ0_inflate_32 rfl (isR_rf _) ?_
    obtain ⟨F10, P10, hw10, h⟩ := h
    obtain ⟨s11, h⟩ := h
    refine v_put (q := x0) (j := 0) (v := va_rf r7) (obR 15 F10 (upN P10 0 r7)) dJ0_inflate_33 fJ0_15 pf15_0 hw10 rfl (lay_R0 _ _ _ (by decide)) (Nat.le_of_ble_eq_true rfl) (nar_rfA _ r7) (fit_rfA _ r7) (chg_raw rfl rfl rfl) s11 ?_
    refine v_aload_n 1 dJ0_inflate_36 rfl (isR_ref _) ?_
    refine v_iconst dJ0_inflate_37 ?_
    refine v_put (q := x0) (j := 0) (v := vI 1) (obR 15 (upN F10 1 1) (upN P10 0 r7)) dJ0_inflate_38 fJ0_22 pf15_1 (wset_eq _ _ _) rfl (lay_R0 _ _ _ (by decide)) (Nat.le_of_ble_eq_true rfl) rfl rfl (chg_raw rfl rfl rfl) s11 ?_
    rw [wset_wset]
    exact v_vret dJ0_inflate_41 rfl h
  · have h := hf c
    exact v_vret dJ0_inflate_7 rfl h
/-! java/lang/AbstractStringBuilder.getValue -/
theorem wJ0_getValue_0 (K : KV) {x0 : Nat} {w : Wd} {sz n : Nat} (h : ∃ (F1 : Nat → Int) (P1 : Nat → Option Nat), (w x0 = some (obR 15 F1 P1)) ∧ (K.S (some (va_rf (P1 0))) w sz n)) : VX K mJ0_getValue 0 [(0, .ref x0)] [] w sz n := by
  refine v_aload_n 0 dJ0_getValue_0 rfl (isR_ref _) ?_
  obtain ⟨F1, P1, hw1, h⟩ := h
  refine v_get (q := x0) (j := 0) (v := va_rf (P1 0)) dJ0_getValue_1 fJ0_15 hw1 rfl (lay_R0 _ _ _ (by decide)) rfl ?_
  exact x_aret K (r := P1 0) dJ0_getValue_4 rfl (by first | exact Or.inl ⟨_, rfl⟩ | exact Or.inr ⟨_, rfl⟩) h
/-! java/lang/AbstractStringBuilder.length -/
theorem wJ0_length_0 (K : KV) {x0 : Nat} {w : Wd} {sz n : Nat} (h : ∃ (F1 : Nat → Int) (P1 : Nat → Option Nat), (w x0 = some (obR 15 F1 P1)) ∧ (K.S (some (vI (F1 3))) w sz n)) : VX K mJ0_length 0 [(0, .ref x0)] [] w sz n := by
  refine v_aload_n 0 dJ0_length_0 rfl (isR_ref _) ?_
  obtain ⟨F1, P1, hw1, h⟩ := h
  refine v_get (q := x0) (j := 0) (v := vI (F1 3)) dJ0_length_1 fJ0_79 hw1 rfl (lay_R0 _ _ _ (by decide)) rfl ?_
  exact x_iret K dJ0_length_4 rfl h
/-! java/lang/AbstractStringBuilder.append -/
theorem wJ0_append_2_0 (K : KV) (hY : XY K.G) {x1 : Int} {x0 : Nat} {w : Wd} {sz n : Nat} (h : ∃ (F1 : Nat → Int) (P1 : Nat → Option Nat), (w x0 = some (obR 15 F1 P1)) ∧ (CV mJ0_ensureCapacityInternal K [.ref x0, vI ((F1 3) + 1)] w sz n fun w2 z2 n2 => ∃ (F3 : Nat → Int) (P3 : Nat → Option Nat), (w2 x0 = some (obR 15 F3 P3)) ∧ (CI mJ0_isLatin1 K [.ref x0] w2 z2 n2 fun r4 w4 z4 n4 => (rI r4) ∧ ((r4 = 0 → (∃ (F6 : Nat → Int) (P6 : Nat → Option Nat), (w4 x0 = some (obR 15 F6 P6)) ∧ (CI mJ0_isLatin1 K [.ref x0] w4 z4 n4 fun r7 w7 z7 n7 => (rI r7) ∧ ((r7 = 0 → (∃ (F9 : Nat → Int) (P9 : Nat → Option Nat), (w7 x0 = some (obR 15 F9 P9)) ∧ ((K.G.base ≤ x0) ∧ (CV mJ3_putCharSB K [va_rf (P9 0), vI (F9 3), vI x1] (wset w7 x0 (some (obR 15 (upN F9 3 ((F9 3) + 1)) P9))) z7 n7 fun w11 z11 n11 => K.S (some (va_rf (some x0))) w11 z11 n11)))) ∧ (¬ r7 = 0 → (∃ (F9 : Nat → Int) (P9 : Nat → Option Nat), (w7 x0 = some (obR 15 F9 P9)) ∧ (CV mJ0_inflate K [.ref x0] w7 z7 n7 fun w10 z10 n10 => ∃ (F11 : Nat → Int) (P11 : Nat → Option Nat), (w10 x0 = some (obR 15 F11 P11)) ∧ ((K.G.base ≤ x0) ∧ (CV mJ3_putCharSB K [va_rf (P11 0), vI (F11 3), vI x1] (wset w10 x0 (some (obR 15 (upN F11 3 ((F11 3) + 1)) P11))) z10 n10 fun w13 z13 n13 => K.S (some (va_rf (some x0))) w13 z13 n13))))))))) ∧ (¬ r4 = 0 → (CI mJ8_canEncode K [vI x1] w4 z4 n4 fun r6 w6 z6 n6 => (rI r6) ∧ ((r6 = 0 → (∃ (F8 : Nat → Int) (P8 : Nat → Option Nat), (w6 x0 = some (obR 15 F8 P8)) ∧ (CI mJ0_isLatin1 K [.ref x0] w6 z6 n6 fun r9 w9 z9 n9 => (rI r9) ∧ ((r9 = 0 → (∃ (F11 : Nat → Int) (P11 : Nat → Option Nat), (w9 x0 = some (obR 15 F11 P11)) ∧ ((K.G.base ≤ x0) ∧ (CV mJ3_putCharSB K [va_rf (P11 0), vI (F11 3), vI x1] (wset w9 x0 (some (obR 15 (upN F11 3 ((F11 3) + 1)) P11))) z9 n9 fun w13 z13 n13 => K.S (some (va_rf (some x0))) w13 z13 n13)))) ∧ (¬ r9 = 0 → (∃ (F11 : Nat → Int) (P11 : Nat → Option Nat), (w9 x0 = some (obR 15 F11 P11)) ∧ (CV mJ0_inflate K [.ref x0] w9 z9 n9 fun w12 z12 n12 => ∃ (F13 : Nat → Int) (P13 : Nat → Option Nat), (w12 x0 = some (obR 15 F13 P13)) ∧ ((K.G.base ≤ x0) ∧ (CV mJ3_putCharSB K [va_rf (P13 0), vI (F13 3), vI x1] (wset w12 x0 (some (obR 15 (upN F13 3 ((F13 3) + 1)) P13))) z12 n12 fun w15 z15 n15 => K.S (some (va_rf (some x0))) w15 z15 n15))))))))) ∧ (¬ r6 = 0 → (∃ (F8 : Nat → Int) (P8 : Nat → Option Nat), (w6 x0 = some (obR 15 F8 P8)) ∧ ((K.G.base ≤ x0) ∧ (∃ (a10 : Nat), (P8 0 = some a10) ∧ (∃ (l11 : Nat) (f11 : Int → Int), ((wset w6 x0 (some (obR 15 (upN F8 3 ((F8 3) + 1)) P8))) a10 = some (obA 2 l11 f11)) ∧ ((0 ≤ (F8 3) ∧ (F8 3) < ((l11 : Nat) : Int)) ∧ ((l11 < 2147483648) ∧ ((K.G.base ≤ a10) ∧ ((-128 ≤ (i2b x1) ∧ (i2b x1) ≤ 127) ∧ (K.S (some (va_rf (some x0))) (wset (wset w6 x0 (some (obR 15 (upN F8 3 ((F8 3) + 1)) P8))) a10 (some (obA 2 l11 (upZ f11 (F8 3) (i2b x1))))) z6 n6))))))))))))))))) : VX K mJ0_append_2 0 [(0, .ref x0), (1, vI x1)] [] w sz n := by
  refine v_aload_n 0 dJ0_append_2_0 rfl (isR_ref _) ?_
  refine v_aload_n 0 dJ0_append_2_1 rfl (isR_ref _) ?_
  obtain ⟨F1, P1, hw1, h⟩ := h
  refine v_get (q := x0) (j := 0) (v := vI (F1 3)) dJ0_append_2_2 fJ0_79 hw1 rfl (lay_R0 _ _ _ (by decide)) rfl ?_
  refine v_iconst dJ0_append_2_5 ?_
  refine v_iadd dJ0_append_2_6 ?_
  refine x_callUV K (hY.priv _) (As := [vI ((F1 3) + 1)]) dJ0_append_2_7 LJ0_100U rfl rfl (Nat.le_of_ble_eq_true rfl) (rc_of hw1 (lay_R0 _ _ _ (by decide)) rfl) h (fun w2 z2 n2 h => ?_)
  refine v_aload_n 0 dJ0_append_2_10 rfl (isR_ref _) ?_
  obtain ⟨F3, P3, hw3, h⟩ := h
  refine x_callUI K (hY.priv _) (As := []) dJ0_append_2_11 LJ0_83U rfl rfl (Nat.le_of_ble_eq_true rfl) (rc_of hw3 (lay_R0 _ _ _ (by decide)) rfl) h (fun r4 w4 z4 n4 h => ?_)
  obtain ⟨s5, h⟩ := h
  obtain ⟨ht, hf⟩ := h
  refine v_if_eq 45 dJ0_append_2_14 (by decide) s5 (fun c => ?_) (fun c => ?_)
  · have h := ht c
    refine v_aload_n 0 dJ0_append_2_45 rfl (isR_ref _) ?_
    obtain ⟨F6, P6, hw6, h⟩ := h
    refine x_callUI K (hY.priv _) (As := []) dJ0_append_2_46 LJ0_83U rfl rfl (Nat.le_of_ble_eq_true rfl) (rc_of hw6 (lay_R0 _ _ _ (by decide)) rfl) h (fun r7 w7 z7 n7 h => ?_)
    obtain ⟨s8, h⟩ := h
    obtain ⟨ht, hf⟩ := h
    refine v_if_eq 56 dJ0_append_2_49 (by decide) s8 (fun c => ?_) (fun c => ?_)
    · have h := ht c
      refine v_aload_n 0 dJ0_append_2_56 rfl (isR_ref _) ?_
      obtain ⟨F9, P9, hw9, h⟩ := h
      refine v_get (q := x0) (j := 0) (v := va_rf (P9 0)) dJ0_append_2_57 fJ0_15 hw9 rfl (lay_R0 _ _ _ (by decide)) rfl ?_
      refine v_aload_n 0 dJ0_append_2_60 rfl (isR_ref _) ?_
      refine v_dup dJ0_append_2_61 rfl ?_
      refine v_get (q := x0) (j := 0) (v := vI (F9 3)) dJ0_append_2_62 fJ0_79 hw9 rfl (lay_R0 _ _ _ (by decide)) rfl ?_
      refine v_dup_x1 dJ0_append_2_65 rfl rfl ?_
      refine v_iconst dJ0_append_2_66 ?_
      refine v_iadd dJ0_append_2_67 ?_
      obtain ⟨s10, h⟩ := h
      refine v_put (q := x0) (j := 0) (v := vI ((F9 3) + 1)) (obR 15 (upN F9 3 ((F9 3) + 1)) P9) dJ0_append_2_68 fJ0_79 pf15_3 hw9 rfl (lay_R0 _ _ _ (by decide)) (Nat.le_of_ble_eq_true rfl) rfl rfl (chg_raw rfl rfl rfl) s10 ?_
      refine v_iload_n 1 dJ0_append_2_71 rfl ?_
      refine x_callSV K (As := [va_rf (P9 0), vI (F9 3), vI x1]) dJ0_append_2_72 LJ0_197 rfl rfl (Nat.le_of_ble_eq_true rfl) h (fun w11 z11 n11 h => ?_)
      refine v_aload_n 0 dJ0_append_2_75 rfl (isR_ref _) ?_
      exact x_aret K (r := some x0) dJ0_append_2_76 rfl (by first | exact Or.inl ⟨_, rfl⟩ | exact Or.inr ⟨_, rfl⟩) h
    · have h := hf c
      refine v_aload_n 0 dJ0_append_2_52 rfl (isR_ref _) ?_
      obtain ⟨F9, P9, hw9, h⟩ := h
      refine x_callUV K (hY.priv _) (As := []) dJ0_append_2_53 LJ0_195U rfl rfl (Nat.le_of_ble_eq_true rfl) (rc_of hw9 (lay_R0 _ _ _ (by decide)) rfl) h (fun w10 z10 n10 h => ?_)
      refine v_aload_n 0 dJ0_append_2_56 rfl (isR_ref _) ?_
      obtain ⟨F11, P11, hw11, h⟩ := h
      refine v_get (q := x0) (j := 0) (v := va_rf (P11 0)) dJ0_append_2_57 fJ0_15 hw11 rfl (lay_R0 _ _ _ (by decide)) rfl ?_
      refine v_aload_n 0 dJ0_append_2_60 rfl (isR_ref _) ?_
      refine v_dup dJ0_append_2_61 rfl ?_
      refine v_get (q := x0) (j := 0) (v := vI (F11 3)) dJ0_append_2_62 fJ0_79 hw11 rfl (lay_R0 _ _ _ (by decide)) rfl ?_
      refine v_dup_x1 dJ0_append_2_65 rfl rfl ?_
      refine v_iconst dJ0_append_2_66 ?_
      refine v_iadd dJ0_append_2_67 ?_
      obtain ⟨s12, h⟩ := h
      refine v_put (q := x0) (j := 0) (v := vI ((F11 3) + 1)) (obR 15 (upN F11 3 ((F11 3) + 1)) P11) dJ0_append_2_68 fJ0_79 pf15_3 hw11 rfl (lay_R0 _ _ _ (by decide)) (Nat.le_of_ble_eq_true rfl) rfl rfl (chg_raw rfl rfl rfl) s12 ?_
      refine v_iload_n 1 dJ0_append_2_71 rfl ?_
      refine x_callSV K (As := [va_rf (P11 0), vI (F11 3), vI x1]) dJ0_append_2_72 LJ0_197 rfl rfl (Nat.le_of_ble_eq_true rfl) h (fun w13 z13 n13 h => ?_)
      refine v_aload_n 0 dJ0_append_2_75 rfl (isR_ref _) ?_
      exact x_aret K (r := some x0) dJ0_append_2_76 rfl (by first | exact Or.inl ⟨_, rfl⟩ | exact Or.inr ⟨_, rfl⟩) h
  · have h := hf c
    refine v_iload_n 1 dJ0_append_2_17 rfl ?_
    refine x_callSI K (As := [vI x1]) dJ0_append_2_18 LJ0_191 rfl rfl (Nat.le_of_ble_eq_true rfl) h (fun r6 w6 z6 n6 h => ?_)
    obtain ⟨s7, h⟩ := h
    obtain ⟨ht, hf⟩ := h
    refine v_if_eq 45 dJ0_append_2_21 (by decide) s7 (fun c => ?_) (fun c => ?_)
    · have h := ht c
      refine v_aload_n 0 dJ0_append_2_45 rfl (isR_ref _) ?_
      obtain ⟨F8, P8, hw8, h⟩ := h
      refine x_callUI K (hY.priv _) (As := []) dJ0_append_2_46 LJ0_83U rfl rfl (Nat.le_of_ble_eq_true rfl) (rc_of hw8 (lay_R0 _ _ _ (by decide)) rfl) h (fun r9 w9 z9 n9 h => ?_)
      obtain ⟨s10, h⟩ := h
      obtain ⟨ht, hf⟩ := h
      refine v_if_eq 56 dJ0_append_2_49 (by decide) s10 (fun c => ?_) (fun c => ?_)
      · have h := ht c
        refine v_aload_n 0 dJ0_append_2_56 rfl (isR_ref _) ?_
        obtain ⟨F11, P11, hw11, h⟩ := h
        refine v_get (q := x0) (j := 0) (v := va_rf (P11 0)) dJ0_append_2_57 fJ0_15 hw11 rfl (lay_R0 _ _ _ (by decide)) rfl ?_
        refine v_aload_n 0 dJ0_append_2_60 rfl (isR_ref _) ?_
        refine v_dup dJ0_append_2_61 rfl ?_
        refine v_get (q := x0) (j := 0) (v := vI (F11 3)) dJ0_append_2_62 fJ0_79 hw11 rfl (lay_R0 _ _ _ (by decide)) rfl ?_
        refine v_dup_x1 dJ0_append_2_65 rfl rfl ?_
        refine v_iconst dJ0_append_2_66 ?_
        refine v_iadd dJ0_append_2_67 ?_
        obtain ⟨s12, h⟩ := h
        refine v_put (q := x0) (j := 0) (v := vI ((F11 3) + 1)) (obR 15 (upN F11 3 ((F11 3) + 1)) P11) dJ0_append_2_68 fJ0_79 pf15_3 hw11 rfl (lay_R0 _ _ _ (by decide)) (Nat.le_of_ble_eq_true rfl) rfl rfl (chg_raw rfl rfl rfl) s12 ?_
        refine v_iload_n 1 dJ0_append_2_71 rfl ?_
        refine x_callSV K (As := [va_rf (P11 0), vI (F11 3), vI x1]) dJ0_append_2_72 LJ0_197 rfl rfl (Nat.le_of_ble_eq_true rfl) h (fun w13 z13 n13 h => ?_)
        refine v_aload_n 0 dJ0_append_2_75 rfl (isR_ref _) ?_
        exact x_aret K (r := some x0) dJ0_append_2_76 rfl (by first | exact Or.inl ⟨_, rfl⟩ | exact Or.inr ⟨_, rfl⟩) h
      · have h := hf c
        refine v_aload_n 0 dJ0_append_2_52 rfl (isR_ref _) ?_
        obtain ⟨F11, P11, hw11, h⟩ := h
        refine x_callUV K (hY.priv _) (As := []) dJ0_append_2_53 LJ0_195U rfl rfl (Nat.le_of_ble_eq_true rfl) (rc_of hw11 (lay_R0 _ _ _ (by decide)) rfl) h (fun w12 z12 n12 h => ?_)
        refine v_aload_n 0 dJ0_append_2_56 rfl (isR_ref _) ?_
        obtain ⟨F13, P13, hw13, h⟩ := h
        refine v_get (q := x0) (j := 0) (v := va_rf (P13 0)) dJ0_append_2_57 fJ0_15 hw13 rfl (lay_R0 _ _ _ (by decide)) rfl ?_
        refine v_aload_n 0 dJ0_append_2_60 rfl (isR_ref _) ?_
        refine v_dup dJ0_append_2_61 rfl ?_
        refine v_get (q := x0) (j := 0) (v := vI (F13 3)) dJ0_append_2_62 fJ0_79 hw13 rfl (lay_R0 _ _ _ (by decide)) rfl ?_
        refine v_dup_x1 dJ0_append_2_65 rfl rfl ?_
        refine v_iconst dJ0_append_2_66 ?_
        refine v_iadd dJ0_append_2_67 ?_
        obtain ⟨s14, h⟩ := h
        refine v_put (q := x0) (j := 0) (v := vI ((F13 3) + 1)) (obR 15 (upN F13 3 ((F13 3) + 1)) P13) dJ0_append_2_68 fJ0_79 pf15_3 hw13 rfl (lay_R0 _ _ _ (by decide)) (Nat.le_of_ble_eq_true rfl) rfl rfl (chg_raw rfl rfl rfl) s14 ?_
        refine v_iload_n 1 dJ0_append_2_71 rfl ?_
        refine x_callSV K (As := [va_rf (P13 0), vI (F13 3), vI x1]) dJ0_append_2_72 LJ0_197 rfl rfl (Nat.le_of_ble_eq_true rfl) h (fun w15 z15 n15 h => ?_)
        refine v_aload_n 0 dJ0_append_2_75 rfl (isR_ref _) ?_
        exact x_aret K (r := some x0) dJ0_append_2_76 rfl (by first | exact Or.inl ⟨_, rfl⟩ | exact Or.inr ⟨_, rfl⟩) h
    · have h := hf c
      refine v_aload_n 0 dJ0_append_2_24 rfl (isR_ref _) ?_
      obtain ⟨F8, P8, hw8, h⟩ := h
      refine v_get (q := x0) (j := 0) (v := va_rf (P8 0)) dJ0_append_2_25 fJ0_15 hw8 rfl (lay_R0 _ _ _ (by decide)) rfl ?_
      refine v_aload_n 0 dJ0_append_2_28 rfl (isR_ref _) ?_
      refine v_dup dJ0_append_2_29 rfl ?_
      refine v_get (q := x0) (j := 0) (v := vI (F8 3)) dJ0_append_2_30 fJ0_79 hw8 rfl (lay_R0 _ _ _ (by decide)) rfl ?_
      refine v_dup_x1 dJ0_append_2_33 rfl rfl ?_
      refine v_iconst dJ0_append_2_34 ?_
      refine v_iadd dJ0_append_2_35 ?_
      obtain ⟨s9, h⟩ := h
      refine v_put (q := x0) (j := 0) (v := vI ((F8 3) + 1)) (obR 15 (upN F8 3 ((F8 3) + 1)) P8) dJ0_append_2_36 fJ0_79 pf15_3 hw8 rfl (lay_R0 _ _ _ (by decide)) (Nat.le_of_ble_eq_true rfl) rfl rfl (chg_raw rfl rfl rfl) s9 ?_
      refine v_iload_n 1 dJ0_append_2_39 rfl ?_
      refine v_i2b dJ0_append_2_40 ?_
      obtain ⟨a10, ea10, h⟩ := h
      rw [ea10]
      obtain ⟨l11, f11, hw11, h⟩ := h
      obtain ⟨s12, h⟩ := h
      obtain ⟨s13, h⟩ := h
      obtain ⟨s14, h⟩ := h
      obtain ⟨s15, h⟩ := h
      refine v_bast (q := a10) (j := 0) (f := f11) (obA 2 l11 (upZ f11 (F8 3) (i2b x1))) dJ0_append_2_41 hw11 rfl (lay_AB _ _ _) s12 s13 s15 (chg_raw rfl rfl rfl) s14 ?_
      refine v_goto 75 dJ0_append_2_42 (by decide) ?_
      refine v_aload_n 0 dJ0_append_2_75 rfl (isR_ref _) ?_
      exact x_aret K (r := some x0) dJ0_append_2_76 rfl (by first | exact Or.inl ⟨_, rfl⟩ | exact Or.inr ⟨_, rfl⟩) h
/-! java/lang/AbstractStringBuilder.append -/
theorem wJ0_append_3_0 (K : KV) (hY : XY K.G) {x1 : Int} {x0 : Nat} {w : Wd} {sz n : Nat} (h : ∃ (F1 : Nat → Int) (P1 : Nat → Option Nat), (w x0 = some (obR 15 F1 P1)) ∧ (CI mJ9_stringSize K [vI x1] w sz n fun r2 w2 z2 n2 => ∃ (F3 : Nat → Int) (P3 : Nat → Option Nat), (w2 x0 = some (obR 15 F3 P3)) ∧ (CV mJ0_ensureCapacityInternal K [.ref x0, vI ((F1 3) + r2)] w2 z2 n2 fun w4 z4 n4 => ∃ (F5 : Nat → Int) (P5 : Nat → Option Nat), (w4 x0 = some (obR 15 F5 P5)) ∧ (CI mJ0_isLatin1 K [.ref x0] w4 z4 n4 fun r6 w6 z6 n6 => (rI r6) ∧ ((r6 = 0 → (∃ (F8 : Nat → Int) (P8 : Nat → Option Nat), (w6 x0 = some (obR 15 F8 P8)) ∧ (CI mJ3_getChars K [vI x1, vI (F1 3), vI ((F1 3) + r2), va_rf (P8 0)] w6 z6 n6 fun r9 w9 z9 n9 => ∃ (F10 : Nat → Int) (P10 : Nat → Option Nat), (w9 x0 = some (obR 15 F10 P10)) ∧ ((K.G.base ≤ x0) ∧ (K.S (some (va_rf (some x0))) (wset w9 x0 (some (obR 15 (upN F10 3 ((F1 3) + r2)) P10))) z9 n9))))) ∧ (¬ r6 = 0 → (∃ (F8 : Nat → Int) (P8 : Nat → Option Nat), (w6 x0 = some (obR 15 F8 P8)) ∧ (CI mJ9_getChars K [vI x1, vI ((F1 3) + r2), va_rf (P8 0)] w6 z6 n6 fun r9 w9 z9 n9 => ∃ (F10 : Nat → Int) (P10 : Nat → Option Nat), (w9 x0 = some (obR 15 F10 P10)) ∧ ((K.G.base ≤ x0) ∧ (K.S (some (va_rf (some x0))) (wset w9 x0 (some (obR 15 (upN F10 3 ((F1 3) + r2)) P10))) z9 n9)))))))))) : VX K mJ0_append_3 0 [(0, .ref x0), (1, vI x1)] [] w sz n := by
  refine v_aload_n 0 dJ0_append_3_0 rfl (isR_ref _) ?_
  obtain ⟨F1, P1, hw1, h⟩ := h
  refine v_get (q := x0) (j := 0) (v := vI (F1 3)) dJ0_append_3_1 fJ0_79 hw1 rfl (lay_R0 _ _ _ (by decide)) rfl ?_
  refine v_istore_n dJ0_append_3_4 (by decide) rfl ?_
  refine v_iload_n 0 dJ0_append_3_5 rfl ?_
  refine v_iload_n 2 dJ0_append_3_6 rfl ?_
  refine x_callSI K (As := [vI x1]) dJ0_append_3_7 LJ0_245 rfl rfl (Nat.le_of_ble_eq_true rfl) h (fun r2 w2 z2 n2 h => ?_)
  refine v_iadd dJ0_append_3_10 ?_
  refine v_istore_n dJ0_append_3_11 (by decide) rfl ?_
  refine v_aload_n 2 dJ0_append_3_12 rfl (isR_ref _) ?_
  refine v_iload_n 0 dJ0_append_3_13 rfl ?_
  obtain ⟨F3, P3, hw3, h⟩ := h
  refine x_callUV K (hY.priv _) (As := [vI ((F1 3) + r2)]) dJ0_append_3_14 LJ0_100U rfl rfl (Nat.le_of_ble_eq_true rfl) (rc_of hw3 (lay_R0 _ _ _ (by decide)) rfl) h (fun w4 z4 n4 h => ?_)
  refine v_aload_n 2 dJ0_append_3_17 rfl (isR_ref _) ?_
  obtain ⟨F5, P5, hw5, h⟩ := h
  refine x_callUI K (hY.priv _) (As := []) dJ0_append_3_18 LJ0_83U rfl rfl (Nat.le_of_ble_eq_true rfl) (rc_of hw5 (lay_R0 _ _ _ (by decide)) rfl) h (fun r6 w6 z6 n6 h => ?_)
  obtain ⟨s7, h⟩ := h
  obtain ⟨ht, hf⟩ := h
  refine v_if_eq 37 dJ0_append_3_21 (by decide) s7 (fun c => ?_) (fun c => ?_)
  · have h := ht c
    refine v_iload_n 3 dJ0_append_3_37 rfl ?_
    refine v_iload_n 1 dJ0_append_3_38 rfl ?_
    refine v_iload_n 0 dJ0_append_3_39 rfl ?_
    refine v_aload_n 2 dJ0_append_3_40 rfl (isR_ref _) ?_
    obtain ⟨F8, P8, hw8, h⟩ := h
    refine v_get (q := x0) (j := 0) (v := va_rf (P8 0)) dJ0_append_3_41 fJ0_15 hw8 rfl (lay_R0 _ _ _ (by decide)) rfl ?_
    refine x_callSI K (As := [vI x1, vI (F1 3), vI ((F1 3) + r2), va_rf (P8 0)]) dJ0_append_3_44 LJ0_251 rfl rfl (Nat.le_of_ble_eq_true rfl) h (fun r9 w9 z9 n9 h => ?_)
    refine v_pop dJ0_append_3_47 rfl ?_
    refine v_aload_n 2 dJ0_append_3_48 rfl (isR_ref _) ?_
    refine v_iload_n 0 dJ0_append_3_49 rfl ?_
    obtain ⟨F10, P10, hw10, h⟩ := h
    obtain ⟨s11, h⟩ := h
    refine v_put (q := x0) (j := 0) (v := vI ((F1 3) + r2)) (obR 15 (upN F10 3 ((F1 3) + r2)) P10) dJ0_append_3_50 fJ0_79 pf15_3 hw10 rfl (lay_R0 _ _ _ (by decide)) (Nat.le_of_ble_eq_true rfl) rfl rfl (chg_raw rfl rfl rfl) s11 ?_
    refine v_aload_n 2 dJ0_append_3_53 rfl (isR_ref _) ?_
    exact x_aret K (r := some x0) dJ0_append_3_54 rfl (by first | exact Or.inl ⟨_, rfl⟩ | exact Or.inr ⟨_, rfl⟩) h
  · have h := hf c
    refine v_iload_n 3 dJ0_append_3_24 rfl ?_
    refine v_iload_n 0 dJ0_append_3_25 rfl ?_
    refine v_aload_n 2 dJ0_append_3_26 rfl (isR_ref _) ?_
    obtain ⟨F8, P8, hw8, h⟩ := h
    refine v_get (q := x0) (j := 0) (v := va_rf (P8 0)) dJ0_append_3_27 fJ0_15 hw8 rfl (lay_R0 _ _ _ (by decide)) rfl ?_
    refine x_callSI K (As := [vI x1, vI ((F1 3) + r2), va_rf (P8 0)]) dJ0_append_3_30 LJ0_248 rfl rfl (Nat.le_of_ble_eq_true rfl) h (fun r9 w9 z9 n9 h => ?_)
    refine v_pop dJ0_append_3_33 rfl ?_
    refine v_goto 48 dJ0_append_3_34 (by decide) ?_
    refine v_aload_n 2 dJ0_append_3_48 rfl (isR_ref _) ?_
    refine v_iload_n 0 dJ0_append_3_49 rfl ?_
    obtain ⟨F10, P10, hw10, h⟩ := h
    obtain ⟨s11, h⟩ := h
    refine v_put (q := x0) (j := 0) (v := vI ((F1 3) + r2)) (obR 15 (upN F10 3 ((F1 3) + r2)) P10) dJ0_append_3_50 fJ0_79 pf15_3 hw10 rfl (lay_R0 _ _ _ (by decide)) (Nat.le_of_ble_eq_true rfl) rfl rfl (chg_raw rfl rfl rfl) s11 ?_
    refine v_aload_n 2 dJ0_append_3_53 rfl (isR_ref _) ?_
    exact x_aret K (r := some x0) dJ0_append_3_54 rfl (by first | exact Or.inl ⟨_, rfl⟩ | exact Or.inr ⟨_, rfl⟩) h
/-! java/lang/StringBuilder.<init> -/
theorem wJ1_init_0 (K : KV) {x0 : Nat} {w : Wd} {sz n : Nat} (h : CV mJ0_init K [.ref x0, vI 16] w sz n fun w1 z1 n1 => K.S none w1 z1 n1) : VX K mJ1_init 0 [(0, .ref x0)] [] w sz n := by
  refine v_aload_n 0 dJ1_init_0 rfl (isR_ref _) ?_
  refine v_bipush dJ1_init_1 rfl ?_
  refine x_callIV K (As := [vI 16]) dJ1_init_3 LJ1_1 rfl rfl (Nat.le_of_ble_eq_true rfl) h (fun w1 z1 n1 h => ?_)
  exact v_vret dJ1_init_6 rfl h
/-! java/lang/StringBuilder.append -/
theorem wJ1_append_0 (K : KV) {x0 q1 : Nat} {w : Wd} {sz n : Nat} (h : ∃ (F1 : Nat → Int) (P1 : Nat → Option Nat), (w x0 = some (obR 15 F1 P1)) ∧ (CQ mJ0_append K [.ref x0, .ref q1] w sz n fun r2 w2 z2 n2 => K.S (some (va_rf (some x0))) w2 z2 n2)) : VX K mJ1_append 0 [(0, .ref x0), (1, .ref q1)] [] w sz n := by
  refine v_aload_n 0 dJ1_append_0 rfl (isR_ref _) ?_
  refine v_aload_n 1 dJ1_append_1 rfl (isR_ref _) ?_
  obtain ⟨F1, P1, hw1, h⟩ := h
  refine x_callSUQ K (As := [.ref q1]) dJ1_append_2 LJ1_29SU rfl rfl (Nat.le_of_ble_eq_true rfl) (rc_of (C := "java/lang/StringBuilder") hw1 (lay_R0 _ _ _ (by decide)) rfl) h (fun r2 w2 z2 n2 h => ?_)
  refine v_pop dJ1_append_5 (cat_rf _) ?_
  refine v_aload_n 0 dJ1_append_6 rfl (isR_ref _) ?_
  exact x_aret K (r := some x0) dJ1_append_7 rfl (by first | exact Or.inl ⟨_, rfl⟩ | exact Or.inr ⟨_, rfl⟩) h
/-! java/lang/StringBuilder.toString -/
theorem wJ1_toString_0 (K : KV) {x0 : Nat} {w : Wd} {sz n : Nat} (h : (w sz = none) ∧ (CV mJ2_init K [.ref sz, .ref x0] (wset w sz (some (obR 16 nF nP))) (sz + 1) (n + 4) fun w2 z2 n2 => K.S (some (va_rf (some sz))) w2 z2 n2)) : VX K mJ1_toString 0 [(0, .ref x0)] [] w sz n := by
  obtain ⟨s1, h⟩ := h
  refine v_new K (ci := 16) (C := RJ2) (T := TJ2) (N := 4) tyJ2 dJ1_toString_0 (by decide) rfl in_J2 tyJ2_ok q430 q431 q156 nw16 s1 ?_
  refine v_dup dJ1_toString_3 rfl ?_
  refine v_aload_n 0 dJ1_toString_4 rfl (isR_ref _) ?_
  refine x_callIV K (As := [.ref x0]) dJ1_toString_5 LJ1_137 rfl rfl (Nat.le_of_ble_eq_true rfl) h (fun w2 z2 n2 h => ?_)
  exact x_aret K (r := some sz) dJ1_toString_8 rfl (by first | exact Or.inl ⟨_, rfl⟩ | exact Or.inr ⟨_, rfl⟩) h
/-! java/lang/StringBuilder.length -/
theorem wJ1_length_0 (K : KV) {x0 : Nat} {w : Wd} {sz n : Nat} (h : ∃ (F1 : Nat → Int) (P1 : Nat → Option Nat), (w x0 = some (obR 15 F1 P1)) ∧ (CI mJ0_length K [.ref x0] w sz n fun r2 w2 z2 n2 => K.S (some (vI r2)) w2 z2 n2)) : VX K mJ1_length 0 [(0, .ref x0)] [] w sz n := by
  refine v_aload_n 0 dJ1_length_0 rfl (isR_ref _) ?_
  obtain ⟨F1, P1, hw1, h⟩ := h
  refine x_callSUI K (As := []) dJ1_length_1 LJ1_343SU rfl rfl (Nat.le_of_ble_eq_true rfl) (rc_of (C := "java/lang/StringBuilder") hw1 (lay_R0 _ _ _ (by decide)) rfl) h (fun r2 w2 z2 n2 h => ?_)
  exact x_iret K dJ1_length_4 rfl h
/-! java/lang/StringBuilder.append -/
theorem wJ1_append_2_0 (K : KV) {x1 : Int} {x0 : Nat} {w : Wd} {sz n : Nat} (h : ∃ (F1 : Nat → Int) (P1 : Nat → Option Nat), (w x0 = some (obR 15 F1 P1)) ∧ (CQ mJ0_append_2 K [.ref x0, vI x1] w sz n fun r2 w2 z2 n2 => K.S (some (va_rf (some x0))) w2 z2 n2)) : VX K mJ1_append_2 0 [(0, .ref x0), (1, vI x1)] [] w sz n := by
  refine v_aload_n 0 dJ1_append_2_0 rfl (isR_ref _) ?_
  refine v_iload_n 1 dJ1_append_2_1 rfl ?_
  obtain ⟨F1, P1, hw1, h⟩ := h
  refine x_callSUQ K (As := [vI x1]) dJ1_append_2_2 LJ1_50SU rfl rfl (Nat.le_of_ble_eq_true rfl) (rc_of (C := "java/lang/StringBuilder") hw1 (lay_R0 _ _ _ (by decide)) rfl) h (fun r2 w2 z2 n2 h => ?_)
  refine v_pop dJ1_append_2_5 (cat_rf _) ?_
  refine v_aload_n 0 dJ1_append_2_6 rfl (isR_ref _) ?_
  exact x_aret K (r := some x0) dJ1_append_2_7 rfl (by first | exact Or.inl ⟨_, rfl⟩ | exact Or.inr ⟨_, rfl⟩) h
/-! java/lang/StringBuilder.append -/
theorem wJ1_append_3_0 (K : KV) {x1 : Int} {x0 : Nat} {w : Wd} {sz n : Nat} (h : ∃ (F1 : Nat → Int) (P1 : Nat → Option Nat), (w x0 = some (obR 15 F1 P1)) ∧ (CQ mJ0_append_3 K [.ref x0, vI x1] w sz n fun r2 w2 z2 n2 => K.S (some (va_rf (some x0))) w2 z2 n2)) : VX K mJ1_append_3 0 [(0, .ref x0), (1, vI x1)] [] w sz n := by
  refine v_aload_n 0 dJ1_append_3_0 rfl (isR_ref _) ?_
  refine v_iload_n 1 dJ1_append_3_1 rfl ?_
  obtain ⟨F1, P1, hw1, h⟩ := h
  refine x_callSUQ K (As := [vI x1]) dJ1_append_3_2 LJ1_53SU rfl rfl (Nat.le_of_ble_eq_true rfl) (rc_of (C := "java/lang/StringBuilder") hw1 (lay_R0 _ _ _ (by decide)) rfl) h (fun r2 w2 z2 n2 h => ?_)
  refine v_pop dJ1_append_3_5 (cat_rf _) ?_
  refine v_aload_n 0 dJ1_append_3_6 rfl (isR_ref _) ?_
  exact x_aret K (r := some x0) dJ1_append_3_7 rfl (by first | exact Or.inl ⟨_, rfl⟩ | exact Or.inr ⟨_, rfl⟩) h
/-! java/util/AbstractCollection.<init> -/
theorem wJ10_init_0 (K : KV) {x0 : Nat} {w : Wd} {sz n : Nat} (h : (1 ≤ K.d) ∧ (K.S none w sz n)) : VX K mJ10_init 0 [(0, .ref x0)] [] w sz n := by
  refine v_aload_n 0 dJ10_init_0 rfl (isR_ref _) ?_
  obtain ⟨s1, h⟩ := h
  refine v_objInit dJ10_init_1 q1012 q192 q193 s1 (Nat.le_of_ble_eq_true rfl) ?_
  exact v_vret dJ10_init_4 rfl h
/-! java/util/AbstractList.<init> -/
theorem wJ11_init_0 (K : KV) {x0 : Nat} {w : Wd} {sz n : Nat} (h : CV mJ10_init K [.ref x0] w sz n fun w1 z1 n1 => ∃ (F2 : Nat → Int) (P2 : Nat → Option Nat), (w1 x0 = some (obR 17 F2 P2)) ∧ ((K.G.base ≤ x0) ∧ (K.S none (wset w1 x0 (some (obR 17 (upN F2 0 0) P2))) z1 n1))) : VX K mJ11_init 0 [(0, .ref x0)] [] w sz n := by
  refine v_aload_n 0 dJ11_init_0 rfl (isR_ref _) ?_
  refine x_callIV K (As := []) dJ11_init_1 LJ11_1 rfl rfl (Nat.le_of_ble_eq_true rfl) h (fun w1 z1 n1 h => ?_)
  refine v_aload_n 0 dJ11_init_4 rfl (isR_ref _) ?_
  refine v_iconst dJ11_init_5 ?_
  obtain ⟨F2, P2, hw2, h⟩ := h
  obtain ⟨s3, h⟩ := h
  refine v_put (q := x0) (j := 0) (v := vI 0) (obR 17 (upN F2 0 0) P2) dJ11_init_6 fJ11_7 pf17_0 hw2 rfl (lay_R0 _ _ _ (by decide)) (Nat.le_of_ble_eq_true rfl) rfl rfl (chg_raw rfl rfl rfl) s3 ?_
  exact v_vret dJ11_init_9 rfl h
/-! java/util/ArrayList.<init> -/
theorem wJ12_init_0 (K : KV) (hY : XY K.G) {x0 : Nat} {w : Wd} {sz n : Nat} (h : CV mJ11_init K [.ref x0] w sz n fun w1 z1 n1 => ∃ (F2 : Nat → Int) (P2 : Nat → Option Nat), (w1 x0 = some (obR 17 F2 P2)) ∧ ((K.G.base ≤ x0) ∧ (K.S none (wset w1 x0 (some (obR 17 F2 (upN P2 1 (some (K.G.ad 102)))))) z1 n1))) : VX K mJ12_init 0 [(0, .ref x0)] [] w sz n := by
  refine v_aload_n 0 dJ12_init_0 rfl (isR_ref _) ?_
  refine x_callIV K (As := []) dJ12_init_1 LJ12_1 rfl rfl (Nat.le_of_ble_eq_true rfl) h (fun w1 z1 n1 h => ?_)
  refine v_aload_n 0 dJ12_init_4 rfl (isR_ref _) ?_
  refine v_gets (v := .ref (K.G.ad 102)) hY.2.2.2.1 dJ12_init_5 q1013 (Or.inl rfl) ?_
  obtain ⟨F2, P2, hw2, h⟩ := h
  obtain ⟨s3, h⟩ := h
  refine v_put (q := x0) (j := 0) (v := va_rf (some (K.G.ad 102))) (obR 17 F2 (upN P2 1 (some (K.G.ad 102)))) dJ12_init_8 fJ12_9 pf17_1 hw2 rfl (lay_R0 _ _ _ (by decide)) (Nat.le_of_ble_eq_true rfl) (nar_rfA _ (some (K.G.ad 102))) (fit_rfA _ (some (K.G.ad 102))) (chg_raw rfl rfl rfl) s3 ?_
  exact v_vret dJ12_init_11 rfl h
/-! java/util/ArrayList.size -/
theorem wJ12_size_0 (K : KV) {x0 : Nat} {w : Wd} {sz n : Nat} (h : ∃ (F1 : Nat → Int) (P1 : Nat → Option Nat), (w x0 = some (obR 17 F1 P1)) ∧ (K.S (some (vI (F1 2))) w sz n)) : VX K mJ12_size 0 [(0, .ref x0)] [] w sz n := by
  refine v_aload_n 0 dJ12_size_0 rfl (isR_ref _) ?_
  obtain ⟨F1, P1, hw1, h⟩ := h
  refine v_get (q := x0) (j := 0) (v := vI (F1 2)) dJ12_size_1 fJ12_48 hw1 rfl (lay_R0 _ _ _ (by decide)) rfl ?_
  exact x_iret K dJ12_size_4 rfl h
/-! java/util/ArrayList.get -/
theorem wJ12_get_0 (K : KV) {x1 : Int} {x0 : Nat} {w : Wd} {sz n : Nat} (h : ∃ (F1 : Nat → Int) (P1 : Nat → Option Nat), (w x0 = some (obR 17 F1 P1)) ∧ (CI mJ13_checkIndex K [vI x1, vI (F1 2)] w sz n fun r2 w2 z2 n2 => ∃ (F3 : Nat → Int) (P3 : Nat → Option Nat), (w2 x0 = some (obR 17 F3 P3)) ∧ (CQ mJ12_elementData K [.ref x0, vI x1] w2 z2 n2 fun r4 w4 z4 n4 => K.S (some (va_rf r4)) w4 z4 n4))) : VX K mJ12_get 0 [(0, .ref x0), (1, vI x1)] [] w sz n := by
  refine v_iload_n 1 dJ12_get_0 rfl ?_
  refine v_aload_n 0 dJ12_get_1 rfl (isR_ref _) ?_
  obtain ⟨F1, P1, hw1, h⟩ := h
  refine v_get (q := x0) (j := 0) (v := vI (F1 2)) dJ12_get_2 fJ12_48 hw1 rfl (lay_R0 _ _ _ (by decide)) rfl ?_
  refine x_callSI K (As := [vI x1, vI (F1 2)]) dJ12_get_5 LJ12_118 rfl rfl (Nat.le_of_ble_eq_true rfl) h (fun r2 w2 z2 n2 h => ?_)
  refine v_pop dJ12_get_8 rfl ?_
  refine v_aload_n 0 dJ12_get_9 rfl (isR_ref _) ?_
  refine v_iload_n 1 dJ12_get_10 rfl ?_
  obtain ⟨F3, P3, hw3, h⟩ := h
  refine x_callVQ K (As := [vI x1]) dJ12_get_11 LJ12_123 rfl rfl (Nat.le_of_ble_eq_true rfl) (rc_of hw3 (lay_R0 _ _ _ (by decide)) rfl) h (fun r4 w4 z4 n4 h => ?_)
  exact x_aret K (r := r4) dJ12_get_14 rfl (by first | exact Or.inl ⟨_, rfl⟩ | exact Or.inr ⟨_, rfl⟩) h
/-! java/util/ArrayList.elementData -/
theorem wJ12_elementData_0 (K : KV) {x1 : Int} {x0 : Nat} {w : Wd} {sz n : Nat} (h : ∃ (F1 : Nat → Int) (P1 : Nat → Option Nat), (w x0 = some (obR 17 F1 P1)) ∧ (∃ (a2 : Nat), (P1 1 = some a2) ∧ (∃ (l3 : Nat) (g3 : Int → Option Nat), (w a2 = some (obQ 7 l3 g3)) ∧ ((0 ≤ x1 ∧ x1 < ((l3 : Nat) : Int)) ∧ ((l3 < 2147483648) ∧ (K.S (some (va_rf (g3 x1))) w sz n)))))) : VX K mJ12_elementData 0 [(0, .ref x0), (1, vI x1)] [] w sz n := by
  refine v_aload_n 0 dJ12_elementData_0 rfl (isR_ref _) ?_
  obtain ⟨F1, P1, hw1, h⟩ := h
  refine v_get (q := x0) (j := 0) (v := va_rf (P1 1)) dJ12_elementData_1 fJ12_9 hw1 rfl (lay_R0 _ _ _ (by decide)) rfl ?_
  refine v_iload_n 1 dJ12_elementData_4 rfl ?_
  obtain ⟨a2, ea2, h⟩ := h
  rw [ea2]
  obtain ⟨l3, g3, hw3, h⟩ := h
  obtain ⟨s4, h⟩ := h
  obtain ⟨s5, h⟩ := h
  refine v_aaldQ (q := a2) (j := 0) (f := g3) (t := 7) (by decide) dJ12_elementData_5 hw3 rfl (lay_Q7 _ _ _) s4 s5 ?_
  exact x_aret K (r := g3 x1) dJ12_elementData_6 rfl (by first | exact Or.inl ⟨_, rfl⟩ | exact Or.inr ⟨_, rfl⟩) h
/-! java/util/ArrayList.add -/
theorem wJ12_add_0 (K : KV) {x1 : Int} {x0 q2 : Nat} {w : Wd} {sz n : Nat} (h : ∃ (F1 : Nat → Int) (P1 : Nat → Option Nat), (w x0 = some (obR 17 F1 P1)) ∧ (CV mJ12_rangeCheckForAdd K [.ref x0, vI x1] w sz n fun w2 z2 n2 => ∃ (F3 : Nat → Int) (P3 : Nat → Option Nat), (w2 x0 = some (obR 17 F3 P3)) ∧ ((K.G.base ≤ x0) ∧ (∃ (a5 : Nat), (P3 1 = some a5) ∧ (∃ (l6 : Nat) (g6 : Int → Option Nat), ((wset w2 x0 (some (obR 17 (upN F3 0 ((F3 0) + 1)) P3))) a5 = some (obQ 7 l6 g6)) ∧ ((rI (F3 2)) ∧ ((rI (((l6 : Nat) : Int))) ∧ ((¬ (F3 2) = (((l6 : Nat) : Int)) → (((0 : Int) ≤ x1 ∧ x1 + ((F3 2) - x1) ≤ ((l6 : Nat) : Int)) ∧ (((0 : Int) ≤ (x1 + 1) ∧ (x1 + 1) + ((F3 2) - x1) ≤ ((l6 : Nat) : Int)) ∧ (((0 : Int) ≤ ((F3 2) - x1)) ∧ ((l6 < 2147483648) ∧ ((K.G.base ≤ a5) ∧ ((1 ≤ K.d) ∧ ((∀ i : Int, 0 ≤ i → i < ((F3 2) - x1) → ∀ y, g6 (x1 + i) = some y → StoA K.G (wset w2 x0 (some (obR 17 (upN F3 0 ((F3 0) + 1)) P3))) 7 y) ∧ ((0 ≤ x1 ∧ x1 < ((l6 : Nat) : Int)) ∧ ((Sto K.G (wset (wset w2 x0 (some (obR 17 (upN F3 0 ((F3 0) + 1)) P3))) a5 (some (obQ 7 l6 (cpQ g6 g6 x1 (x1 + 1) ((F3 2) - x1))))) 7 (some q2)) ∧ (K.S none (wset (wset w2 x0 (some (obR 17 (upN (upN F3 0 ((F3 0) + 1)) 2 ((F3 2) + 1)) P3))) a5 (some (obQ 7 l6 (upZ (cpQ g6 g6 x1 (x1 + 1) ((F3 2) - x1)) x1 (some q2))))) z2 n2))))))))))) ∧ ((F3 2) = (((l6 : Nat) : Int)) → (CQ mJ12_grow K [.ref x0] (wset w2 x0 (some (obR 17 (upN F3 0 ((F3 0) + 1)) P3))) z2 n2 fun r9 w9 z9 n9 => ∃ (a10 : Nat), (r9 = some a10) ∧ (∃ (l11 : Nat) (g11 : Int → Option Nat), (w9 a10 = some (obQ 7 l11 g11)) ∧ (((0 : Int) ≤ x1 ∧ x1 + ((F3 2) - x1) ≤ ((l11 : Nat) : Int)) ∧ (((0 : Int) ≤ (x1 + 1) ∧ (x1 + 1) + ((F3 2) - x1) ≤ ((l11 : Nat) : Int)) ∧ (((0 : Int) ≤ ((F3 2) - x1)) ∧ ((l11 < 2147483648) ∧ ((K.G.base ≤ a10) ∧ ((1 ≤ K.d) ∧ ((∀ i : Int, 0 ≤ i → i < ((F3 2) - x1) → ∀ y, g11 (x1 + i) = some y → StoA K.G w9 7 y) ∧ ((0 ≤ x1 ∧ x1 < ((l11 : Nat) : Int)) ∧ ((Sto K.G (wset w9 a10 (some (obQ 7 l11 (cpQ g11 g11 x1 (x1 + 1) ((F3 2) - x1))))) 7 (some q2)) ∧ (∃ (F21 : Nat → Int) (P21 : Nat → Option Nat), ((wset w9 a10 (some (obQ 7 l11 (upZ (cpQ g11 g11 x1 (x1 + 1) ((F3 2) - x1)) x1 (some q2))))) x0 = some (obR 17 F21 P21)) ∧ (K.S none (wset (wset w9 a10 (some (obQ 7 l11 (upZ (cpQ g11 g11 x1 (x1 + 1) ((F3 2) - x1)) x1 (some q2))))) x0 (some (obR 17 (upN F21 2 ((F3 2) + 1)) P21))) z9 n9)))))))))))))))))))))) : VX K mJ12_add 0 [(0, .ref x0), (1, vI x1), (2, .ref q2)] [] w sz n := by
  refine v_aload_n 0 dJ12_add_0 rfl (isR_ref _) ?_
  refine v_iload_n 1 dJ12_add_1 rfl ?_
  obtain ⟨F1, P1, hw1, h⟩ := h
  refine x_callVV K (As := [vI x1]) dJ12_add_2 LJ12_135 rfl rfl (Nat.le_of_ble_eq_true rfl) (rc_of hw1 (lay_R0 _ _ _ (by decide)) rfl) h (fun w2 z2 n2 h => ?_)
  refine v_aload_n 0 dJ12_add_5 rfl (isR_ref _) ?_
  refine v_dup dJ12_add_6 rfl ?_
  obtain ⟨F3, P3, hw3, h⟩ := h
  refine v_get (q := x0) (j := 0) (v := vI (F3 0)) dJ12_add_7 fJ12_63 hw3 rfl (lay_R0 _ _ _ (by decide)) rfl ?_
  refine v_iconst dJ12_add_10 ?_
  refine v_iadd dJ12_add_11 ?_
  obtain ⟨s4, h⟩ := h
  refine v_put (q := x0) (j := 0) (v := vI ((F3 0) + 1)) (obR 17 (upN F3 0 ((F3 0) + 1)) P3) dJ12_add_12 fJ12_63 pf17_0 hw3 rfl (lay_R0 _ _ _ (by decide)) (Nat.le_of_ble_eq_true rfl) rfl rfl (chg_raw rfl rfl rfl) s4 ?_
  refine v_aload_n 0 dJ12_add_15 rfl (isR_ref _) ?_
  refine v_get (q := x0) (j := 0) (v := vI (F3 2)) dJ12_add_16 fJ12_48 (wset_eq _ _ _) rfl (lay_R0 _ _ _ (by decide)) rfl ?_
  refine v_dup dJ12_add_19 rfl ?_
  refine v_istore_n dJ12_add_20 (by decide) rfl ?_
  refine v_aload_n 1 dJ12_add_21 rfl (isR_ref _) ?_
  refine v_get (q := x0) (j := 0) (v := va_rf (P3 1)) dJ12_add_22 fJ12_9 (wset_eq _ _ _) rfl (lay_R0 _ _ _ (by decide)) rfl ?_
  refine v_dup dJ12_add_25 (cat_rf _) ?_
  refine v_astore dJ12_add_26 (by decide) (isR_rf _) rfl ?_
  obtain ⟨a5, ea5, h⟩ := h
  rw [ea5]
  obtain ⟨l6, g6, hw6, h⟩ := h
  refine v_alen (q := a5) (j := 0) dJ12_add_28 hw6 rfl (lay_Q7 _ _ _) (by decide) ?_
  obtain ⟨s7, h⟩ := h
  obtain ⟨s8, h⟩ := h
  obtain ⟨ht, hf⟩ := h
  refine v_icmp_ne 38 dJ12_add_29 (by decide) s7 s8 (fun c => ?_) (fun c => ?_)
  · have h := ht c
    refine v_aload 0 dJ12_add_38 rfl (isR_ref _) ?_
    refine v_iload_n 3 dJ12_add_40 rfl ?_
    refine v_aload 0 dJ12_add_41 rfl (isR_ref _) ?_
    refine v_iload_n 3 dJ12_add_43 rfl ?_
    refine v_iconst dJ12_add_44 ?_
    refine v_iadd dJ12_add_45 ?_
    refine v_iload_n 1 dJ12_add_46 rfl ?_
    refine v_iload_n 3 dJ12_add_47 rfl ?_
    refine v_isub dJ12_add_48 ?_
    obtain ⟨s9, h⟩ := h
    obtain ⟨s10, h⟩ := h
    obtain ⟨s11, h⟩ := h
    obtain ⟨s12, h⟩ := h
    obtain ⟨s13, h⟩ := h
    obtain ⟨s14, h⟩ := h
    obtain ⟨s15, h⟩ := h
    refine v_copyQ (q0 := a5) (j0 := 0) (q1 := a5) (j1 := 0) (f := g6) (g := g6) (obQ 7 l6 (cpQ g6 g6 x1 (x1 + 1) ((F3 2) - x1))) dJ12_add_49 q1171 q350 q349 q161 hw6 rfl (lay_Q7 _ _ _) hw6 rfl (lay_Q7 _ _ _) s9 s10 s11 s12 s12 s15 (chg_raw rfl rfl rfl) s13 s14 (Nat.le_of_ble_eq_true rfl) ?_
    refine v_aload 0 dJ12_add_52 rfl (isR_ref _) ?_
    refine v_iload_n 3 dJ12_add_54 rfl ?_
    refine v_aload_n 4 dJ12_add_55 rfl (isR_ref _) ?_
    obtain ⟨s16, h⟩ := h
    obtain ⟨s17, h⟩ := h
    refine v_aast (q := a5) (j := 0) (f := cpQ g6 g6 x1 (x1 + 1) ((F3 2) - x1)) (t := 7) (by decide) (obQ 7 l6 (upZ (cpQ g6 g6 x1 (x1 + 1) ((F3 2) - x1)) x1 (some q2))) (r := some q2) dJ12_add_56 (wset_eq _ _ _) rfl (lay_Q7 _ _ _) s16 s12 s17 (chg_raw rfl rfl rfl) s13 ?_
    rw [wset_wset]
    refine v_aload_n 2 dJ12_add_57 rfl (isR_ref _) ?_
    refine v_iload_n 1 dJ12_add_58 rfl ?_
    refine v_iconst dJ12_add_59 ?_
    refine v_iadd dJ12_add_60 ?_
    refine v_put (q := x0) (j := 0) (v := vI ((F3 2) + 1)) (obR 17 (upN (upN F3 0 ((F3 0) + 1)) 2 ((F3 2) + 1)) P3) dJ12_add_61 fJ12_48 pf17_2 (ws_ne (wset_eq _ _ _) (Ne.symm (wk_ne hw6 (wset_eq _ _ _) (show (67 : Nat) ≠ 17 by decide)))) rfl (lay_R0 _ _ _ (by decide)) (Nat.le_of_ble_eq_true rfl) rfl rfl (chg_raw rfl rfl rfl) s4 ?_
    rw [wset_comm _ _ _ (wk_ne hw6 (wset_eq _ _ _) (show (67 : Nat) ≠ 17 by decide))]
    rw [wset_wset]
    exact v_vret dJ12_add_64 rfl h
  · have h := hf c
    refine v_aload_n 2 dJ12_add_32 rfl (isR_ref _) ?_
    refine x_callVQ K (As := []) dJ12_add_33 LJ12_129 rfl rfl (Nat.le_of_ble_eq_true rfl) (rc_of (wset_eq _ _ _) (lay_R0 _ _ _ (by decide)) rfl) h (fun r9 w9 z9 n9 h => ?_)
    refine v_astore dJ12_add_36 (by decide) (isR_rf _) rfl ?_
    refine v_aload 0 dJ12_add_38 rfl (isR_rf _) ?_
    refine v_iload_n 3 dJ12_add_40 rfl ?_
    refine v_aload 0 dJ12_add_41 rfl (isR_rf _) ?_
    refine v_iload_n 3 dJ12_add_43 rfl ?_
    refine v_iconst dJ12_add_44 ?_
    refine v_iadd dJ12_add_45 ?_
    refine v_iload_n 1 dJ12_add_46 rfl ?_
    refine v_iload_n 3 dJ12_add_47 rfl ?_
    refine v_isub dJ12_add_48 ?_
    obtain ⟨a10, ea10, h⟩ := h
    rw [ea10]
    obtain ⟨l11, g11, hw11, h⟩ := h
    obtain ⟨s12, h⟩ := h
    obtain ⟨s13, h⟩ := h
    obtain ⟨s14, h⟩ := h
    obtain ⟨s15, h⟩ := h
    obtain ⟨s16, h⟩ := h
    obtain ⟨s17, h⟩ := h
    obtain ⟨s18, h⟩ := h
    refine v_copyQ (q0 := a10) (j0 := 0) (q1 := a10) (j1 := 0) (f := g11) (g := g11) (obQ 7 l11 (cpQ g11 g11 x1 (x1 + 1) ((F3 2) - x1))) dJ12_add_49 q1171 q350 q349 q161 hw11 rfl (lay_Q7 _ _ _) hw11 rfl (lay_Q7 _ _ _) s12 s13 s14 s15 s15 s18 (chg_raw rfl rfl rfl) s16 s17 (Nat.le_of_ble_eq_true rfl) ?_
    refine v_aload 0 dJ12_add_52 rfl (isR_ref _) ?_
    refine v_iload_n 3 dJ12_add_54 rfl ?_
    refine v_aload_n 4 dJ12_add_55 rfl (isR_ref _) ?_
    obtain ⟨s19, h⟩ := h
    obtain ⟨s20, h⟩ := h
    refine v_aast (q := a10) (j := 0) (f := cpQ g11 g11 x1 (x1 + 1) ((F3 2) - x1)) (t := 7) (by decide) (obQ 7 l11 (upZ (cpQ g11 g11 x1 (x1 + 1) ((F3 2) - x1)) x1 (some q2))) (r := some q2) dJ12_add_56 (wset_eq _ _ _) rfl (lay_Q7 _ _ _) s19 s15 s20 (chg_raw rfl rfl rfl) s16 ?_
    rw [wset_wset]
    refine v_aload_n 2 dJ12_add_57 rfl (isR_ref _) ?_
    refine v_iload_n 1 dJ12_add_58 rfl ?_
    refine v_iconst dJ12_add_59 ?_
    refine v_iadd dJ12_add_60 ?_
    obtain ⟨F21, P21, hw21, h⟩ := h
    refine v_put (q := x0) (j := 0) (v := vI ((F3 2) + 1)) (obR 17 (upN F21 2 ((F3 2) + 1)) P21) dJ12_add_61 fJ12_48 pf17_2 hw21 rfl (lay_R0 _ _ _ (by decide)) (Nat.le_of_ble_eq_true rfl) rfl rfl (chg_raw rfl rfl rfl) s4 ?_
    exact v_vret dJ12_add_64 rfl h
/-! java/util/ArrayList.rangeCheckForAdd -/
theorem wJ12_rangeCheckForAdd_0 (K : KV) {x1 : Int} {x0 : Nat} {w : Wd} {sz n : Nat} (h : ∃ (F1 : Nat → Int) (P1 : Nat → Option Nat), (w x0 = some (obR 17 F1 P1)) ∧ ((rI x1) ∧ ((rI (F1 2)) ∧ (((F1 2) < x1 → (False)) ∧ (¬ (F1 2) < x1 → ((0 ≤ x1 → (K.S none w sz n)) ∧ (¬ 0 ≤ x1 → (False)))))))) : VX K mJ12_rangeCheckForAdd 0 [(0, .ref x0), (1, vI x1)] [] w sz n := by
  refine v_iload_n 1 dJ12_rangeCheckForAdd_0 rfl ?_
  refine v_aload_n 0 dJ12_rangeCheckForAdd_1 rfl (isR_ref _) ?_
  obtain ⟨F1, P1, hw1, h⟩ := h
  refine v_get (q := x0) (j := 0) (v := vI (F1 2)) dJ12_rangeCheckForAdd_2 fJ12_48 hw1 rfl (lay_R0 _ _ _ (by decide)) rfl ?_
  obtain ⟨s2, h⟩ := h
  obtain ⟨s3, h⟩ := h
  obtain ⟨ht, hf⟩ := h
  refine v_icmp_gt 12 dJ12_rangeCheckForAdd_5 (by decide) s2 s3 (fun c => ?_) (fun c => ?_)
  · have h := ht c
    exact h.elim
  · have h := hf c
    refine v_iload_n 1 dJ12_rangeCheckForAdd_8 rfl ?_
    obtain ⟨ht, hf⟩ := h
    refine v_if_ge 25 dJ12_rangeCheckForAdd_9 (by decide) s2 (fun c => ?_) (fun c => ?_)
    · have h := ht c
      exact v_vret dJ12_rangeCheckForAdd_25 rfl h
    · have h := hf c
      exact h.elim
/-! java/util/ArrayList.grow -/
theorem wJ12_grow_0 (K : KV) {x0 : Nat} {w : Wd} {sz n : Nat} (h : ∃ (F1 : Nat → Int) (P1 : Nat → Option Nat), (w x0 = some (obR 17 F1 P1)) ∧ (CQ mJ12_grow_2 K [.ref x0, vI ((F1 2) + 1)] w sz n fun r2 w2 z2 n2 => K.S (some (va_rf r2)) w2 z2 n2)) : VX K mJ12_grow 0 [(0, .ref x0)] [] w sz n := by
  refine v_aload_n 0 dJ12_grow_0 rfl (isR_ref _) ?_
  refine v_aload_n 0 dJ12_grow_1 rfl (isR_ref _) ?_
  obtain ⟨F1, P1, hw1, h⟩ := h
  refine v_get (q := x0) (j := 0) (v := vI (F1 2)) dJ12_grow_2 fJ12_48 hw1 rfl (lay_R0 _ _ _ (by decide)) rfl ?_
  refine v_iconst dJ12_grow_5 ?_
  refine v_iadd dJ12_grow_6 ?_
  refine x_callVQ K (As := [vI ((F1 2) + 1)]) dJ12_grow_7 LJ12_69 rfl rfl (Nat.le_of_ble_eq_true rfl) (rc_of hw1 (lay_R0 _ _ _ (by decide)) rfl) h (fun r2 w2 z2 n2 h => ?_)
  exact x_aret K (r := r2) dJ12_grow_10 rfl (by first | exact Or.inl ⟨_, rfl⟩ | exact Or.inr ⟨_, rfl⟩) h
/-! java/util/ArrayList.grow -/
theorem wJ12_grow_2_0 (K : KV) (hY : XY K.G) {x1 : Int} {x0 : Nat} {w : Wd} {sz n : Nat} (h : ∃ (F1 : Nat → Int) (P1 : Nat → Option Nat), (w x0 = some (obR 17 F1 P1)) ∧ (∃ (a2 : Nat), (P1 1 = some a2) ∧ (∃ (l3 : Nat) (g3 : Int → Option Nat), (w a2 = some (obQ 7 l3 g3)) ∧ ((rI (((l3 : Nat) : Int))) ∧ ((0 < (((l3 : Nat) : Int)) → (CI mJ4_newLength K [vI (((l3 : Nat) : Int)), vI (x1 - (((l3 : Nat) : Int))), vI (ishr (((l3 : Nat) : Int)) 1)] w sz n fun r5 w5 z5 n5 => ∃ (F6 : Nat → Int) (P6 : Nat → Option Nat), (w5 x0 = some (obR 17 F6 P6)) ∧ (CQ mJ6_copyOf_2 K [va_rf (P6 1), vI r5] w5 z5 n5 fun r7 w7 z7 n7 => ∃ (F8 : Nat → Int) (P8 : Nat → Option Nat), (w7 x0 = some (obR 17 F8 P8)) ∧ ((K.G.base ≤ x0) ∧ (K.S (some (va_rf r7)) (wset w7 x0 (some (obR 17 F8 (upN P8 1 r7)))) z7 n7))))) ∧ (¬ 0 < (((l3 : Nat) : Int)) → (((P1 1 : Option Nat) = some (K.G.ad 102) → ((rI x1) ∧ ((1 ≤ K.d) ∧ ((w sz = none) ∧ ((0 ≤ (max 10 x1) ∧ (max 10 x1) ≤ 20000) ∧ ((K.G.base ≤ x0) ∧ (K.S (some (va_rf (some sz))) (wset (wset w sz (some (obQ 7 ((Int.toNat (max 10 x1))) ((fun _ => none))))) x0 (some (obR 17 F1 (upN P1 1 (some sz))))) (sz + 1) (n + Int.toNat (max 10 x1))))))))) ∧ (¬ (P1 1 : Option Nat) = some (K.G.ad 102) → (CI mJ4_newLength K [vI (((l3 : Nat) : Int)), vI (x1 - (((l3 : Nat) : Int))), vI (ishr (((l3 : Nat) : Int)) 1)] w sz n fun r5 w5 z5 n5 => ∃ (F6 : Nat → Int) (P6 : Nat → Option Nat), (w5 x0 = some (obR 17 F6 P6)) ∧ (CQ mJ6_copyOf_2 K [va_rf (P6 1), vI r5] w5 z5 n5 fun r7 w7 z7 n7 => ∃ (F8 : Nat → Int) (P8 : Nat → Option Nat), (w7 x0 = some (obR 17 F8 P8)) ∧ ((K.G.base ≤ x0) ∧ (K.S (some (va_rf r7)) (wset w7 x0 (some (obR 17 F8 (upN P8 1 r7)))) z7 n7)))))))))))) : VX K mJ12_grow_2 0 [(0, .ref x0), (1, vI x1)] [] w sz n := by
  refine v_aload_n 0 dJ12_grow_2_0 rfl (isR_ref _) ?_
  obtain ⟨F1, P1, hw1, h⟩ := h
  refine v_get (q := x0) (j := 0) (v := va_rf (P1 1)) dJ12_grow_2_1 fJ12_9 hw1 rfl (lay_R0 _ _ _ (by decide)) rfl ?_
  obtain ⟨a2, ea2, h⟩ := h
  rw [ea2]
  obtain ⟨l3, g3, hw3, h⟩ := h
  refine v_alen (q := a2) (j := 0) dJ12_grow_2_4 hw3 rfl (lay_Q7 _ _ _) (by decide) ?_
  refine v_istore_n dJ12_grow_2_5 (by decide) rfl ?_
  refine v_iload_n 0 dJ12_grow_2_6 rfl ?_
  obtain ⟨s4, h⟩ := h
  obtain ⟨ht, hf⟩ := h
  refine v_if_gt 20 dJ12_grow_2_7 (by decide) s4 (fun c => ?_) (fun c => ?_)
  · have h := ht c
    refine v_iload_n 0 dJ12_grow_2_20 rfl ?_
    refine v_iload_n 2 dJ12_grow_2_21 rfl ?_
    refine v_iload_n 0 dJ12_grow_2_22 rfl ?_
    refine v_isub dJ12_grow_2_23 ?_
    refine v_iload_n 0 dJ12_grow_2_24 rfl ?_
    refine v_iconst dJ12_grow_2_25 ?_
    refine v_ishr dJ12_grow_2_26 ?_
    refine x_callSI K (As := [vI (((l3 : Nat) : Int)), vI (x1 - (((l3 : Nat) : Int))), vI (ishr (((l3 : Nat) : Int)) 1)]) dJ12_grow_2_27 LJ12_73 rfl rfl (Nat.le_of_ble_eq_true rfl) h (fun r5 w5 z5 n5 h => ?_)
    refine v_istore_n dJ12_grow_2_30 (by decide) rfl ?_
    refine v_aload_n 2 dJ12_grow_2_31 rfl (isR_ref _) ?_
    refine v_aload_n 2 dJ12_grow_2_32 rfl (isR_ref _) ?_
    obtain ⟨F6, P6, hw6, h⟩ := h
    refine v_get (q := x0) (j := 0) (v := va_rf (P6 1)) dJ12_grow_2_33 fJ12_9 hw6 rfl (lay_R0 _ _ _ (by decide)) rfl ?_
    refine v_iload_n 0 dJ12_grow_2_36 rfl ?_
    refine x_callSQ K (As := [va_rf (P6 1), vI r5]) dJ12_grow_2_37 LJ12_66 rfl rfl (Nat.le_of_ble_eq_true rfl) h (fun r7 w7 z7 n7 h => ?_)
    refine v_dup_x1 dJ12_grow_2_40 (cat_rf _) rfl ?_
    obtain ⟨F8, P8, hw8, h⟩ := h
    obtain ⟨s9, h⟩ := h
    refine v_put (q := x0) (j := 0) (v := va_rf r7) (obR 17 F8 (upN P8 1 r7)) dJ12_grow_2_41 fJ12_9 pf17_1 hw8 rfl (lay_R0 _ _ _ (by decide)) (Nat.le_of_ble_eq_true rfl) (nar_rfA _ r7) (fit_rfA _ r7) (chg_raw rfl rfl rfl) s9 ?_
    exact x_aret K (r := r7) dJ12_grow_2_44 rfl (by first | exact Or.inl ⟨_, rfl⟩ | exact Or.inr ⟨_, rfl⟩) h
  · have h := hf c
    refine v_aload_n 1 dJ12_grow_2_10 rfl (isR_ref _) ?_
    refine v_get (q := x0) (j := 0) (v := va_rf (P1 1)) dJ12_grow_2_11 fJ12_9 hw1 rfl (lay_R0 _ _ _ (by decide)) rfl ?_
    refine v_gets (v := .ref (K.G.ad 102)) hY.2.2.2.1 dJ12_grow_2_14 q1013 (Or.inl rfl) ?_
    obtain ⟨ht, hf⟩ := h
    refine v_acmp_eq (rx := P1 1) (ry := some (K.G.ad 102)) 45 dJ12_grow_2_17 (by decide) (fun c => ?_) (fun c => ?_)
    · have h := ht c
      refine v_aload_n 1 dJ12_grow_2_45 rfl (isR_ref _) ?_
      refine v_bipush dJ12_grow_2_46 rfl ?_
      refine v_iload_n 2 dJ12_grow_2_48 rfl ?_
      obtain ⟨s5, h⟩ := h
      obtain ⟨s6, h⟩ := h
      refine v_mmax dJ12_grow_2_49 q1169 (by decide) s5 s6 (Nat.le_of_ble_eq_true rfl) ?_
      obtain ⟨s7, h⟩ := h
      obtain ⟨s8, h⟩ := h
      refine v_newQ (t := 7) (by decide) (fun _ => rfl) (by decide) dJ12_grow_2_52 q1170 s8 s7 ?_
      refine v_dup_x1 dJ12_grow_2_55 rfl rfl ?_
      obtain ⟨s9, h⟩ := h
      refine v_put (q := x0) (j := 0) (v := va_rf (some sz)) (obR 17 F1 (upN P1 1 (some sz))) dJ12_grow_2_56 fJ12_9 pf17_1 (ws_ne hw1 (wf_ne hw1 s7)) rfl (lay_R0 _ _ _ (by decide)) (Nat.le_of_ble_eq_true rfl) (nar_rfA _ (some sz)) (fit_rfA _ (some sz)) (chg_raw rfl rfl rfl) s9 ?_
      exact x_aret K (r := some sz) dJ12_grow_2_59 rfl (by first | exact Or.inl ⟨_, rfl⟩ | exact Or.inr ⟨_, rfl⟩) h
    · have h := hf c
      refine v_iload_n 0 dJ12_grow_2_20 rfl ?_
      refine v_iload_n 2 dJ12_grow_2_21 rfl ?_
      refine v_iload_n 0 dJ12_grow_2_22 rfl ?_
      refine v_isub dJ12_grow_2_23 ?_
      refine v_iload_n 0 dJ12_grow_2_24 rfl ?_
      refine v_iconst dJ12_grow_2_25 ?_
      refine v_ishr dJ12_grow_2_26 ?_
      refine x_callSI K (As := [vI (((l3 : Nat) : Int)), vI (x1 - (((l3 : Nat) : Int))), vI (ishr (((l3 : Nat) : Int)) 1)]) dJ12_grow_2_27 LJ12_73 rfl rfl (Nat.le_of_ble_eq_true rfl) h (fun r5 w5 z5 n5 h => ?_)
      refine v_istore_n dJ12_grow_2_30 (by decide) rfl ?_
      refine v_aload_n 2 dJ12_grow_2_31 rfl (isR_ref _) ?_
      refine v_aload_n 2 dJ12_grow_2_32 rfl (isR_ref _) ?_
      obtain ⟨F6, P6, hw6, h⟩ := h
      refine v_get (q := x0) (j := 0) (v := va_rf (P6 1)) dJ12_grow_2_33 fJ12_9 hw6 rfl (lay_R0 _ _ _ (by decide)) rfl ?_
      refine v_iload_n 0 dJ12_grow_2_36 rfl ?_
      refine x_callSQ K (As := [va_rf (P6 1), vI r5]) dJ12_grow_2_37 LJ12_66 rfl rfl (Nat.le_of_ble_eq_true rfl) h (fun r7 w7 z7 n7 h => ?_)
      refine v_dup_x1 dJ12_grow_2_40 (cat_rf _) rfl ?_
      obtain ⟨F8, P8, hw8, h⟩ := h
      obtain ⟨s9, h⟩ := h
      refine v_put (q := x0) (j := 0) (v := va_rf r7) (obR 17 F8 (upN P8 1 r7)) dJ12_grow_2_41 fJ12_9 pf17_1 hw8 rfl (lay_R0 _ _ _ (by decide)) (Nat.le_of_ble_eq_true rfl) (nar_rfA _ r7) (fit_rfA _ r7) (chg_raw rfl rfl rfl) s9 ?_
      exact x_aret K (r := r7) dJ12_grow_2_44 rfl (by first | exact Or.inl ⟨_, rfl⟩ | exact Or.inr ⟨_, rfl⟩) h
/-! java/util/ArrayList.add -/
theorem wJ12_add_2_0 (K : KV) {x0 q1 : Nat} {w : Wd} {sz n : Nat} (h : ∃ (F1 : Nat → Int) (P1 : Nat → Option Nat), (w x0 = some (obR 17 F1 P1)) ∧ ((K.G.base ≤ x0) ∧ (CV mJ12_add_3 K [.ref x0, .ref q1, va_rf (P1 1), vI (F1 2)] (wset w x0 (some (obR 17 (upN F1 0 ((F1 0) + 1)) P1))) sz n fun w3 z3 n3 => K.S (some (vI 1)) w3 z3 n3))) : VX K mJ12_add_2 0 [(0, .ref x0), (1, .ref q1)] [] w sz n := by
  refine v_aload_n 0 dJ12_add_2_0 rfl (isR_ref _) ?_
  refine v_dup dJ12_add_2_1 rfl ?_
  obtain ⟨F1, P1, hw1, h⟩ := h
  refine v_get (q := x0) (j := 0) (v := vI (F1 0)) dJ12_add_2_2 fJ12_63 hw1 rfl (lay_R0 _ _ _ (by decide)) rfl ?_
  refine v_iconst dJ12_add_2_5 ?_
  refine v_iadd dJ12_add_2_6 ?_
  obtain ⟨s2, h⟩ := h
  refine v_put (q := x0) (j := 0) (v := vI ((F1 0) + 1)) (obR 17 (upN F1 0 ((F1 0) + 1)) P1) dJ12_add_2_7 fJ12_63 pf17_0 hw1 rfl (lay_R0 _ _ _ (by decide)) (Nat.le_of_ble_eq_true rfl) rfl rfl (chg_raw rfl rfl rfl) s2 ?_
  refine v_aload_n 0 dJ12_add_2_10 rfl (isR_ref _) ?_
  refine v_aload_n 1 dJ12_add_2_11 rfl (isR_ref _) ?_
  refine v_aload_n 0 dJ12_add_2_12 rfl (isR_ref _) ?_
  refine v_get (q := x0) (j := 0) (v := va_rf (P1 1)) dJ12_add_2_13 fJ12_9 (wset_eq _ _ _) rfl (lay_R0 _ _ _ (by decide)) rfl ?_
  refine v_aload_n 0 dJ12_add_2_16 rfl (isR_ref _) ?_
  refine v_get (q := x0) (j := 0) (v := vI (F1 2)) dJ12_add_2_17 fJ12_48 (wset_eq _ _ _) rfl (lay_R0 _ _ _ (by decide)) rfl ?_
  refine x_callVV K (As := [.ref q1, va_rf (P1 1), vI (F1 2)]) dJ12_add_2_20 LJ12_131 rfl rfl (Nat.le_of_ble_eq_true rfl) (rc_of (wset_eq _ _ _) (lay_R0 _ _ _ (by decide)) rfl) h (fun w3 z3 n3 h => ?_)
  refine v_iconst dJ12_add_2_23 ?_
  exact x_zret K dJ12_add_2_24 rfl (by decide) h
/-! java/util/ArrayList.add -/
theorem wJ12_add_3_0 (K : KV) {x3 : Int} {x0 q1 q2 : Nat} {w : Wd} {sz n : Nat} (h : ∃ (l1 : Nat) (g1 : Int → Option Nat), (w q2 = some (obQ 7 l1 g1)) ∧ ((rI x3) ∧ ((rI (((l1 : Nat) : Int))) ∧ ((¬ x3 = (((l1 : Nat) : Int)) → ((0 ≤ x3 ∧ x3 < ((l1 : Nat) : Int)) ∧ ((l1 < 2147483648) ∧ ((K.G.base ≤ q2) ∧ ((Sto K.G w 7 (some q1)) ∧ (∃ (F8 : Nat → Int) (P8 : Nat → Option Nat), ((wset w q2 (some (obQ 7 l1 (upZ g1 x3 (some q1))))) x0 = some (obR 17 F8 P8)) ∧ ((K.G.base ≤ x0) ∧ (K.S none (wset (wset w q2 (some (obQ 7 l1 (upZ g1 x3 (some q1))))) x0 (some (obR 17 (upN F8 2 (x3 + 1)) P8))) sz n)))))))) ∧ (x3 = (((l1 : Nat) : Int)) → (∃ (F4 : Nat → Int) (P4 : Nat → Option Nat), (w x0 = some (obR 17 F4 P4)) ∧ (CQ mJ12_grow K [.ref x0] w sz n fun r5 w5 z5 n5 => ∃ (a6 : Nat), (r5 = some a6) ∧ (∃ (l7 : Nat) (g7 : Int → Option Nat), (w5 a6 = some (obQ 7 l7 g7)) ∧ ((0 ≤ x3 ∧ x3 < ((l7 : Nat) : Int)) ∧ ((l7 < 2147483648) ∧ ((K.G.base ≤ a6) ∧ ((Sto K.G w5 7 (some q1)) ∧ (∃ (F12 : Nat → Int) (P12 : Nat → Option Nat), ((wset w5 a6 (some (obQ 7 l7 (upZ g7 x3 (some q1))))) x0 = some (obR 17 F12 P12)) ∧ ((K.G.base ≤ x0) ∧ (K.S none (wset (wset w5 a6 (some (obQ 7 l7 (upZ g7 x3 (some q1))))) x0 (some (obR 17 (upN F12 2 (x3 + 1)) P12))) z5 n5))))))))))))))) : VX K mJ12_add_3 0 [(0, .ref x0), (1, .ref q1), (2, .ref q2), (3, vI x3)] [] w sz n := by
  refine v_iload_n 3 dJ12_add_3_0 rfl ?_
  refine v_aload_n 2 dJ12_add_3_1 rfl (isR_ref _) ?_
  obtain ⟨l1, g1, hw1, h⟩ := h
  refine v_alen (q := q2) (j := 0) dJ12_add_3_2 hw1 rfl (lay_Q7 _ _ _) (by decide) ?_
  obtain ⟨s2, h⟩ := h
  obtain ⟨s3, h⟩ := h
  obtain ⟨ht, hf⟩ := h
  refine v_icmp_ne 11 dJ12_add_3_3 (by decide) s2 s3 (fun c => ?_) (fun c => ?_)
  · have h := ht c
    refine v_aload_n 2 dJ12_add_3_11 rfl (isR_ref _) ?_
    refine v_iload_n 3 dJ12_add_3_12 rfl ?_
    refine v_aload_n 1 dJ12_add_3_13 rfl (isR_ref _) ?_
    obtain ⟨s4, h⟩ := h
    obtain ⟨s5, h⟩ := h
    obtain ⟨s6, h⟩ := h
    obtain ⟨s7, h⟩ := h
    refine v_aast (q := q2) (j := 0) (f := g1) (t := 7) (by decide) (obQ 7 l1 (upZ g1 x3 (some q1))) (r := some q1) dJ12_add_3_14 hw1 rfl (lay_Q7 _ _ _) s4 s5 s7 (chg_raw rfl rfl rfl) s6 ?_
    refine v_aload_n 0 dJ12_add_3_15 rfl (isR_ref _) ?_
    refine v_iload_n 3 dJ12_add_3_16 rfl ?_
    refine v_iconst dJ12_add_3_17 ?_
    refine v_iadd dJ12_add_3_18 ?_
    obtain ⟨F8, P8, hw8, h⟩ := h
    obtain ⟨s9, h⟩ := h
    refine v_put (q := x0) (j := 0) (v := vI (x3 + 1)) (obR 17 (upN F8 2 (x3 + 1)) P8) dJ12_add_3_19 fJ12_48 pf17_2 hw8 rfl (lay_R0 _ _ _ (by decide)) (Nat.le_of_ble_eq_true rfl) rfl rfl (chg_raw rfl rfl rfl) s9 ?_
    exact v_vret dJ12_add_3_22 rfl h
  · have h := hf c
    refine v_aload_n 0 dJ12_add_3_6 rfl (isR_ref _) ?_
    obtain ⟨F4, P4, hw4, h⟩ := h
    refine x_callVQ K (As := []) dJ12_add_3_7 LJ12_129 rfl rfl (Nat.le_of_ble_eq_true rfl) (rc_of hw4 (lay_R0 _ _ _ (by decide)) rfl) h (fun r5 w5 z5 n5 h => ?_)
    refine v_astore_n dJ12_add_3_10 (by decide) (isR_rf _) rfl ?_
    refine v_aload_n 0 dJ12_add_3_11 rfl (isR_rf _) ?_
    refine v_iload_n 3 dJ12_add_3_12 rfl ?_
    refine v_aload_n 2 dJ12_add_3_13 rfl (isR_ref _) ?_
    obtain ⟨a6, ea6, h⟩ := h
    rw [ea6]
    obtain ⟨l7, g7, hw7, h⟩ := h
    obtain ⟨s8, h⟩ := h
    obtain ⟨s9, h⟩ := h
    obtain ⟨s10, h⟩ := h
    obtain ⟨s11, h⟩ := h
    refine v_aast (q := a6) (j := 0) (f := g7) (t := 7) (by decide) (obQ 7 l7 (upZ g7 x3 (some q1))) (r := some q1) dJ12_add_3_14 hw7 rfl (lay_Q7 _ _ _) s8 s9 s11 (chg_raw rfl rfl rfl) s10 ?_
    refine v_aload_n 1 dJ12_add_3_15 rfl (isR_ref _) ?_
    refine v_iload_n 3 dJ12_add_3_16 rfl ?_
    refine v_iconst dJ12_add_3_17 ?_
    refine v_iadd dJ12_add_3_18 ?_
    obtain ⟨F12, P12, hw12, h⟩ := h
    obtain ⟨s13, h⟩ := h
    refine v_put (q := x0) (j := 0) (v := vI (x3 + 1)) (obR 17 (upN F12 2 (x3 + 1)) P12) dJ12_add_3_19 fJ12_48 pf17_2 hw12 rfl (lay_R0 _ _ _ (by decide)) (Nat.le_of_ble_eq_true rfl) rfl rfl (chg_raw rfl rfl rfl) s13 ?_
    exact v_vret dJ12_add_3_22 rfl h
/-! java/util/Objects.checkIndex -/
theorem wJ13_checkIndex_0 (K : KV) {x0 x1 : Int} {w : Wd} {sz n : Nat} (h : CI mJ7_checkIndex K [vI x0, vI x1, .null] w sz n fun r1 w1 z1 n1 => K.S (some (vI r1)) w1 z1 n1) : VX K mJ13_checkIndex 0 [(0, vI x0), (1, vI x1)] [] w sz n := by
  refine v_iload_n 0 dJ13_checkIndex_0 rfl ?_
  refine v_iload_n 1 dJ13_checkIndex_1 rfl ?_
  refine v_null dJ13_checkIndex_2 ?_
  refine x_callSI K (As := [vI x0, vI x1, .null]) dJ13_checkIndex_3 LJ13_105 rfl rfl (Nat.le_of_ble_eq_true rfl) h (fun r1 w1 z1 n1 h => ?_)
  exact x_iret K dJ13_checkIndex_6 rfl h
/-! java/lang/Throwable.<init> -/
theorem wJ14_inita_0 (K : KV) (hY : XY K.G) {x0 : Nat} {w : Wd} {sz n : Nat} (h : (1 ≤ K.d) ∧ (∃ (F2 : Nat → Int) (P2 : Nat → Option Nat), (w x0 = some (obR 10 F2 P2)) ∧ ((K.G.base ≤ x0) ∧ (∀ g4 : Option Nat, (∀ g5 : Option Nat, (False)))))) : VX K mJ14_init 0 [(0, .ref x0)] [] w sz n := by
  refine v_aload_n 0 dJ14_init_0 rfl (isR_ref _) ?_
  obtain ⟨s1, h⟩ := h
  refine v_objInit dJ14_init_1 q1412 q192 q193 s1 (Nat.le_of_ble_eq_true rfl) ?_
  refine v_aload_n 0 dJ14_init_4 rfl (isR_ref _) ?_
  refine v_aload_n 0 dJ14_init_5 rfl (isR_ref _) ?_
  obtain ⟨F2, P2, hw2, h⟩ := h
  obtain ⟨s3, h⟩ := h
  refine v_put (q := x0) (j := 0) (v := va_rf (some x0)) (obR 10 F2 (upN P2 0 (some x0))) dJ14_init_6 fJ14_7a pf10_0 hw2 rfl (lay_R0 _ _ _ (by decide)) (Nat.le_of_ble_eq_true rfl) (nar_rf _ (some x0)) (fit_rf _ (some x0)) (chg_raw rfl rfl rfl) s3 ?_
  refine v_aload_n 0 dJ14_init_9 rfl (isR_ref _) ?_
  obtain ⟨g4, hzg4⟩ := hY.2.2.2.2.2.1
  have h := h g4
  refine v_gets (v := va_rf g4) hzg4 dJ14_init_10 q1413 (Or.inl rfl) ?_
  refine v_put (q := x0) (j := 0) (v := va_rf g4) (obR 10 F2 (upN (upN P2 0 (some x0)) 1 g4)) dJ14_init_13 fJ14_17a pf10_1 (wset_eq _ _ _) rfl (lay_R0 _ _ _ (by decide)) (Nat.le_of_ble_eq_true rfl) (nar_rfA _ g4) (fit_rfA _ g4) (chg_raw rfl rfl rfl) s3 ?_
  rw [wset_wset]
  refine v_aload_n 0 dJ14_init_16 rfl (isR_ref _) ?_
  obtain ⟨g5, hzg5⟩ := hY.2.2.2.2.2.2.1
  have h := h g5
  refine v_gets (v := va_rf g5) hzg5 dJ14_init_17 q1415 (Or.inl rfl) ?_
  refine v_put (q := x0) (j := 0) (v := va_rf g5) (obR 10 F2 (upN (upN (upN P2 0 (some x0)) 1 g4) 2 g5)) dJ14_init_20 fJ14_24a pf10_2 (wset_eq _ _ _) rfl (lay_R0 _ _ _ (by decide)) (Nat.le_of_ble_eq_true rfl) (nar_rf _ g5) (fit_rf _ g5) (chg_raw rfl rfl rfl) s3 ?_
  rw [wset_wset]
  refine v_aload_n 0 dJ14_init_23 rfl (isR_ref _) ?_
  exact h.elim
/-! java/lang/Throwable.<init> -/
theorem wJ14_init_2a_0 (K : KV) (hY : XY K.G) {x3 x4 : Int} {x0 q1 q2 : Nat} {w : Wd} {sz n : Nat} (h : (1 ≤ K.d) ∧ (∃ (F2 : Nat → Int) (P2 : Nat → Option Nat), (w x0 = some (obR 10 F2 P2)) ∧ ((K.G.base ≤ x0) ∧ (∀ g4 : Option Nat, (∀ g5 : Option Nat, ((rI x4) ∧ ((x4 = 0 → ((rI x3) ∧ ((¬ x3 = 0 → (K.S none (wset w x0 (some (obR 10 F2 (upN (upN (upN (upN (upN (upN P2 0 (some x0)) 1 g4) 2 g5) 1 none) 3 (some q1)) 0 (some q2))))) sz n)) ∧ (x3 = 0 → (K.S none (wset w x0 (some (obR 10 F2 (upN (upN (upN (upN (upN (upN (upN P2 0 (some x0)) 1 g4) 2 g5) 1 none) 3 (some q1)) 0 (some q2)) 2 none)))) sz n))))) ∧ (¬ x4 = 0 → (False))))))))) : VX K mJ14_init_2 0 [(0, .ref x0), (1, .ref q1), (2, .ref q2), (3, vI x3), (4, vI x4)] [] w sz n := by
  refine v_aload_n 0 dJ14_init_2_0 rfl (isR_ref _) ?_
  obtain ⟨s1, h⟩ := h
  refine v_objInit dJ14_init_2_1 q1412 q192 q193 s1 (Nat.le_of_ble_eq_true rfl) ?_
  refine v_aload_n 0 dJ14_init_2_4 rfl (isR_ref _) ?_
  refine v_aload_n 0 dJ14_init_2_5 rfl (isR_ref _) ?_
  obtain ⟨F2, P2, hw2, h⟩ := h
  obtain ⟨s3, h⟩ := h
  refine v_put (q := x0) (j := 0) (v := va_rf (some x0)) (obR 10 F2 (upN P2 0 (some x0))) dJ14_init_2_6 fJ14_7a pf10_0 hw2 rfl (lay_R0 _ _ _ (by decide)) (Nat.le_of_ble_eq_true rfl) (nar_rf _ (some x0)) (fit_rf _ (some x0)) (chg_raw rfl rfl rfl) s3 ?_
  refine v_aload_n 0 dJ14_init_2_9 rfl (isR_ref _) ?_
  obtain ⟨g4, hzg4⟩ := hY.2.2.2.2.2.1
  have h := h g4
  refine v_gets (v := va_rf g4) hzg4 dJ14_init_2_10 q1413 (Or.inl rfl) ?_
  refine v_put (q := x0) (j := 0) (v := va_rf g4) (obR 10 F2 (upN (upN P2 0 (some x0)) 1 g4)) dJ14_init_2_13 fJ14_17a pf10_1 (wset_eq _ _ _) rfl (lay_R0 _ _ _ (by decide)) (Nat.le_of_ble_eq_true rfl) (nar_rfA _ g4) (fit_rfA _ g4) (chg_raw rfl rfl rfl) s3 ?_
  rw [wset_wset]
  refine v_aload_n 0 dJ14_init_2_16 rfl (isR_ref _) ?_
  obtain ⟨g5, hzg5⟩ := hY.2.2.2.2.2.2.1
  have h := h g5
  refine v_gets (v := va_rf g5) hzg5 dJ14_init_2_17 q1415 (Or.inl rfl) ?_
  refine v_put (q := x0) (j := 0) (v := va_rf g5) (obR 10 F2 (upN (upN (upN P2 0 (some x0)) 1 g4) 2 g5)) dJ14_init_2_20 fJ14_24a pf10_2 (wset_eq _ _ _) rfl (lay_R0 _ _ _ (by decide)) (Nat.le_of_ble_eq_true rfl) (nar_rf _ g5) (fit_rf _ g5) (chg_raw rfl rfl rfl) s3 ?_
  rw [wset_wset]
  refine v_iload 4 dJ14_init_2_23 rfl ?_
  obtain ⟨s6, h⟩ := h
  obtain ⟨ht, hf⟩ := h
  refine v_if_eq 36 dJ14_init_2_25 (by decide) s6 (fun c => ?_) (fun c => ?_)
  · have h := ht c
    refine v_aload_n 0 dJ14_init_2_36 rfl (isR_ref _) ?_
    refine v_null dJ14_init_2_37 ?_
    refine v_put (q := x0) (j := 0) (v := va_rf none) (obR 10 F2 (upN (upN (upN (upN P2 0 (some x0)) 1 g4) 2 g5) 1 none)) dJ14_init_2_38 fJ14_17a pf10_1 (wset_eq _ _ _) rfl (lay_R0 _ _ _ (by decide)) (Nat.le_of_ble_eq_true rfl) (nar_rfA _ none) (fit_rfA _ none) (chg_raw rfl rfl rfl) s3 ?_
    rw [wset_wset]
    refine v_aload_n 0 dJ14_init_2_41 rfl (isR_ref _) ?_
    refine v_aload_n 1 dJ14_init_2_42 rfl (isR_ref _) ?_
    refine v_put (q := x0) (j := 0) (v := va_rf (some q1)) (obR 10 F2 (upN (upN (upN (upN (upN P2 0 (some x0)) 1 g4) 2 g5) 1 none) 3 (some q1))) dJ14_init_2_43 fJ14_31a pf10_3 (wset_eq _ _ _) rfl (lay_R0 _ _ _ (by decide)) (Nat.le_of_ble_eq_true rfl) (nar_rf _ (some q1)) (fit_rf _ (some q1)) (chg_raw rfl rfl rfl) s3 ?_
    rw [wset_wset]
    refine v_aload_n 0 dJ14_init_2_46 rfl (isR_ref _) ?_
    refine v_aload_n 2 dJ14_init_2_47 rfl (isR_ref _) ?_
    refine v_put (q := x0) (j := 0) (v := va_rf (some q2)) (obR 10 F2 (upN (upN (upN (upN (upN (upN P2 0 (some x0)) 1 g4) 2 g5) 1 none) 3 (some q1)) 0 (some q2))) dJ14_init_2_48 fJ14_7a pf10_0 (wset_eq _ _ _) rfl (lay_R0 _ _ _ (by decide)) (Nat.le_of_ble_eq_true rfl) (nar_rf _ (some q2)) (fit_rf _ (some q2)) (chg_raw rfl rfl rfl) s3 ?_
    rw [wset_wset]
    refine v_iload_n 3 dJ14_init_2_51 rfl ?_
    obtain ⟨s7, h⟩ := h
    obtain ⟨ht, hf⟩ := h
    refine v_if_ne 60 dJ14_init_2_52 (by decide) s7 (fun c => ?_) (fun c => ?_)
    · have h := ht c
      exact v_vret dJ14_init_2_60 rfl h
    · have h := hf c
      refine v_aload_n 0 dJ14_init_2_55 rfl (isR_ref _) ?_
      refine v_null dJ14_init_2_56 ?_
      refine v_put (q := x0) (j := 0) (v := va_rf none) (obR 10 F2 (upN (upN (upN (upN (upN (upN (upN P2 0 (some x0)) 1 g4) 2 g5) 1 none) 3 (some q1)) 0 (some q2)) 2 none)) dJ14_init_2_57 fJ14_24a pf10_2 (wset_eq _ _ _) rfl (lay_R0 _ _ _ (by decide)) (Nat.le_of_ble_eq_true rfl) (nar_rf _ none) (fit_rf _ none) (chg_raw rfl rfl rfl) s3 ?_
      rw [wset_wset]
      exact v_vret dJ14_init_2_60 rfl h
  · have h := hf c
    refine v_aload_n 0 dJ14_init_2_28 rfl (isR_ref _) ?_
    exact h.elim
/-! java/lang/Exception.<init> -/
theorem wJ15_init_0 (K : KV) {x3 x4 : Int} {x0 q1 q2 : Nat} {w : Wd} {sz n : Nat} (h : CV mJ14_init_2 K [.ref x0, .ref q1, .ref q2, vI x3, vI x4] w sz n fun w1 z1 n1 => K.S none w1 z1 n1) : VX K mJ15_init 0 [(0, .ref x0), (1, .ref q1), (2, .ref q2), (3, vI x3), (4, vI x4)] [] w sz n := by
  refine v_aload_n 0 dJ15_init_0 rfl (isR_ref _) ?_
  refine v_aload_n 1 dJ15_init_1 rfl (isR_ref _) ?_
  refine v_aload_n 2 dJ15_init_2 rfl (isR_ref _) ?_
  refine v_iload_n 3 dJ15_init_3 rfl ?_
  refine v_iload 4 dJ15_init_4 rfl ?_
  refine x_callIV K (As := [.ref q1, .ref q2, vI x3, vI x4]) dJ15_init_6 LJ15_16 rfl rfl (Nat.le_of_ble_eq_true rfl) h (fun w1 z1 n1 h => ?_)
  exact v_vret dJ15_init_9 rfl h
/-! java/lang/Object.<init> -/
theorem wJ16_init_0 (K : KV) {x0 : Nat} {w : Wd} {sz n : Nat} (h : K.S none w sz n) : VX K mJ16_init 0 [(0, .ref x0)] [] w sz n := by
  exact v_vret dJ16_init_0 rfl h
/-! java/lang/String.checkBoundsBeginEnd -/
theorem wJ2_checkBoundsBeginEnd_0 (K : KV) (hY : XY K.G) {x0 x1 x2 : Int} {w : Wd} {sz n : Nat} (h : ∀ g1 : Option Nat, (CI mJ7_checkFromToIndex K [vI x0, vI x1, vI x2, va_rf g1] w sz n fun r2 w2 z2 n2 => K.S none w2 z2 n2)) : VX K mJ2_checkBoundsBeginEnd 0 [(0, vI x0), (1, vI x1), (2, vI x2)] [] w sz n := by
  refine v_iload_n 0 dJ2_checkBoundsBeginEnd_0 rfl ?_
  refine v_iload_n 1 dJ2_checkBoundsBeginEnd_1 rfl ?_
  refine v_iload_n 2 dJ2_checkBoundsBeginEnd_2 rfl ?_
  obtain ⟨g1, hzg1⟩ := hY.2.2.2.2.1
  have h := h g1
  refine v_gets (v := va_rf g1) hzg1 dJ2_checkBoundsBeginEnd_3 q368 (Or.inl rfl) ?_
  refine x_callSI K (As := [vI x0, vI x1, vI x2, va_rf g1]) dJ2_checkBoundsBeginEnd_6 LJ2_1062 rfl rfl (Nat.le_of_ble_eq_true rfl) h (fun r2 w2 z2 n2 h => ?_)
  refine v_pop dJ2_checkBoundsBeginEnd_9 rfl ?_
  exact v_vret dJ2_checkBoundsBeginEnd_10 rfl h
/-! java/lang/String.length -/
theorem wJ2_length_0 (K : KV) {x0 : Nat} {w : Wd} {sz n : Nat} (h : ∃ (b1 : Nat), (w x0 = some (obS b1)) ∧ (∃ (l2 : Nat) (f2 : Int → Int), (w b1 = some (obA 2 l2 f2)) ∧ (CI mJ2_coder K [.ref x0] w sz n fun r3 w3 z3 n3 => K.S (some (vI (ishr (((l2 : Nat) : Int)) r3))) w3 z3 n3))) : VX K mJ2_length 0 [(0, .ref x0)] [] w sz n := by
  refine v_aload_n 0 dJ2_length_0 rfl (isR_ref _) ?_
  obtain ⟨b1, hw1, h⟩ := h
  refine v_getS0 dJ2_length_1 fJ2_9 hw1 ?_
  obtain ⟨l2, f2, hw2, h⟩ := h
  refine v_alen (q := b1) (j := 0) dJ2_length_4 hw2 rfl (lay_AB _ _ _) (by decide) ?_
  refine v_aload_n 0 dJ2_length_5 rfl (isR_ref _) ?_
  refine x_callVI K (As := []) dJ2_length_6 LJ2_335 rfl rfl (Nat.le_of_ble_eq_true rfl) (rc_S hw1) h (fun r3 w3 z3 n3 h => ?_)
  refine v_ishr dJ2_length_9 ?_
  exact x_iret K dJ2_length_10 rfl h
/-! java/lang/String.coder -/
theorem wJ2_coder_0 (K : KV) (hY : XY K.G) {x0 : Nat} {w : Wd} {sz n : Nat} (h : ∃ (b1 : Nat), (w x0 = some (obS b1)) ∧ (K.S (some (vI 0)) w sz n)) : VX K mJ2_coder 0 [(0, .ref x0)] [] w sz n := by
  refine v_gets (v := vI 1) hY.1 dJ2_coder_0 q390 (Or.inl rfl) ?_
  refine v_if_eq 13 dJ2_coder_3 (by decide) (by decide) (fun c => absurd c (by decide)) (fun _ => ?_)
  refine v_aload_n 0 dJ2_coder_6 rfl (isR_ref _) ?_
  obtain ⟨b1, hw1, h⟩ := h
  refine v_getS1 dJ2_coder_7 fJ2_15 hw1 ?_
  refine v_goto 14 dJ2_coder_10 (by decide) ?_
  exact x_bret K dJ2_coder_14 rfl (by decide) h
/-! java/lang/String.checkBoundsOffCount -/
theorem wJ2_checkBoundsOffCount_0 (K : KV) (hY : XY K.G) {x0 x1 x2 : Int} {w : Wd} {sz n : Nat} (h : ∀ g1 : Option Nat, (CI mJ7_checkFromIndexSize K [vI x0, vI x1, vI x2, va_rf g1] w sz n fun r2 w2 z2 n2 => K.S (some (vI r2)) w2 z2 n2)) : VX K mJ2_checkBoundsOffCount 0 [(0, vI x0), (1, vI x1), (2, vI x2)] [] w sz n := by
  refine v_iload_n 0 dJ2_checkBoundsOffCount_0 rfl ?_
  refine v_iload_n 1 dJ2_checkBoundsOffCount_1 rfl ?_
  refine v_iload_n 2 dJ2_checkBoundsOffCount_2 rfl ?_
  obtain ⟨g1, hzg1⟩ := hY.2.2.2.2.1
  have h := h g1
  refine v_gets (v := va_rf g1) hzg1 dJ2_checkBoundsOffCount_3 q368 (Or.inl rfl) ?_
  refine x_callSI K (As := [vI x0, vI x1, vI x2, va_rf g1]) dJ2_checkBoundsOffCount_6 LJ2_1065 rfl rfl (Nat.le_of_ble_eq_true rfl) h (fun r2 w2 z2 n2 h => ?_)
  exact x_iret K dJ2_checkBoundsOffCount_9 rfl h
/-! java/lang/String.getBytes -/
theorem wJ2_getBytes_0 (K : KV) {x2 x3 : Int} {x0 q1 : Nat} {w : Wd} {sz n : Nat} (h : ∃ (b1 : Nat), (w x0 = some (obS b1)) ∧ (CI mJ2_coder K [.ref x0] w sz n fun r2 w2 z2 n2 => (rI r2) ∧ ((rI x3) ∧ ((¬ r2 = x3 → (∃ (b5 : Nat), (w2 x0 = some (obS b5)) ∧ (∃ (l6 : Nat) (f6 : Int → Int), (w2 b5 = some (obA 2 l6 f6)) ∧ (CV mJ8_inflate K [.ref b5, vI 0, .ref q1, vI x2, vI (((l6 : Nat) : Int))] w2 z2 n2 fun w7 z7 n7 => K.S none w7 z7 n7)))) ∧ (r2 = x3 → (∃ (b5 : Nat), (w2 x0 = some (obS b5)) ∧ (∃ (l6 : Nat) (f6 : Int → Int), (w2 b5 = some (obA 2 l6 f6)) ∧ (∃ (l7 : Nat) (f7 : Int → Int), (w2 q1 = some (obA 2 l7 f7)) ∧ (((0 : Int) ≤ 0 ∧ 0 + (((l6 : Nat) : Int)) ≤ ((l6 : Nat) : Int)) ∧ (((0 : Int) ≤ (ishl x2 x3) ∧ (ishl x2 x3) + (((l6 : Nat) : Int)) ≤ ((l7 : Nat) : Int)) ∧ (((0 : Int) ≤ (((l6 : Nat) : Int))) ∧ ((l6 < 2147483648) ∧ ((l7 < 2147483648) ∧ ((K.G.base ≤ q1) ∧ ((1 ≤ K.d) ∧ ((∀ i : Int, 0 ≤ i → i < (((l6 : Nat) : Int)) → -128 ≤ f6 (0 + i) ∧ f6 (0 + i) ≤ 127) ∧ (K.S none (wset w2 q1 (some (obA 2 l7 (cpZ f6 f7 0 (ishl x2 x3) (((l6 : Nat) : Int)))))) z2 n2))))))))))))))))) : VX K mJ2_getBytes 0 [(0, .ref x0), (1, .ref q1), (2, vI x2), (3, vI x3)] [] w sz n := by
  refine v_aload_n 0 dJ2_getBytes_0 rfl (isR_ref _) ?_
  obtain ⟨b1, hw1, h⟩ := h
  refine x_callVI K (As := []) dJ2_getBytes_1 LJ2_335 rfl rfl (Nat.le_of_ble_eq_true rfl) (rc_S hw1) h (fun r2 w2 z2 n2 h => ?_)
  refine v_iload_n 3 dJ2_getBytes_4 rfl ?_
  obtain ⟨s3, h⟩ := h
  obtain ⟨s4, h⟩ := h
  obtain ⟨ht, hf⟩ := h
  refine v_icmp_ne 28 dJ2_getBytes_5 (by decide) s3 s4 (fun c => ?_) (fun c => ?_)
  · have h := ht c
    refine v_aload_n 0 dJ2_getBytes_28 rfl (isR_ref _) ?_
    obtain ⟨b5, hw5, h⟩ := h
    refine v_getS0 dJ2_getBytes_29 fJ2_9 hw5 ?_
    refine v_iconst dJ2_getBytes_32 ?_
    refine v_aload_n 1 dJ2_getBytes_33 rfl (isR_ref _) ?_
    refine v_iload_n 2 dJ2_getBytes_34 rfl ?_
    refine v_aload_n 0 dJ2_getBytes_35 rfl (isR_ref _) ?_
    refine v_getS0 dJ2_getBytes_36 fJ2_9 hw5 ?_
    obtain ⟨l6, f6, hw6, h⟩ := h
    refine v_alen (q := b5) (j := 0) dJ2_getBytes_39 hw6 rfl (lay_AB _ _ _) (by decide) ?_
    refine x_callSV K (As := [.ref b5, vI 0, .ref q1, vI x2, vI (((l6 : Nat) : Int))]) dJ2_getBytes_40 LJ2_106 rfl rfl (Nat.le_of_ble_eq_true rfl) h (fun w7 z7 n7 h => ?_)
    exact v_vret dJ2_getBytes_43 rfl h
  · have h := hf c
    refine v_aload_n 0 dJ2_getBytes_8 rfl (isR_ref _) ?_
    obtain ⟨b5, hw5, h⟩ := h
    refine v_getS0 dJ2_getBytes_9 fJ2_9 hw5 ?_
    refine v_iconst dJ2_getBytes_12 ?_
    refine v_aload_n 1 dJ2_getBytes_13 rfl (isR_ref _) ?_
    refine v_iload_n 2 dJ2_getBytes_14 rfl ?_
    refine v_iload_n 3 dJ2_getBytes_15 rfl ?_
    refine v_ishl dJ2_getBytes_16 ?_
    refine v_aload_n 0 dJ2_getBytes_17 rfl (isR_ref _) ?_
    refine v_getS0 dJ2_getBytes_18 fJ2_9 hw5 ?_
    obtain ⟨l6, f6, hw6, h⟩ := h
    refine v_alen (q := b5) (j := 0) dJ2_getBytes_21 hw6 rfl (lay_AB _ _ _) (by decide) ?_
    obtain ⟨l7, f7, hw7, h⟩ := h
    obtain ⟨s8, h⟩ := h
    obtain ⟨s9, h⟩ := h
    obtain ⟨s10, h⟩ := h
    obtain ⟨s11, h⟩ := h
    obtain ⟨s12, h⟩ := h
    obtain ⟨s13, h⟩ := h
    obtain ⟨s14, h⟩ := h
    obtain ⟨s15, h⟩ := h
    refine v_copy (mk := fun z => vI z) (t := 2) (ty := .byte) (q0 := b5) (j0 := 0) (q1 := q1) (j1 := 0) (f := f6) (g := f7) (obA 2 l7 (cpZ f6 f7 0 (ishl x2 x3) (((l6 : Nat) : Int)))) dJ2_getBytes_22 q423 q350 q349 q161 (fun _ => rfl) rfl hw6 rfl (lay_AB _ _ _) hw7 rfl (lay_AB _ _ _) s8 s9 s10 s11 s12 (fun i h1 h2 => byte_fit (s15 i h1 h2)) (fun _ _ h => by cases h) (chg_raw rfl rfl rfl) s13 s14 (Nat.le_of_ble_eq_true rfl) ?_
    refine v_goto 43 dJ2_getBytes_25 (by decide) ?_
    exact v_vret dJ2_getBytes_43 rfl h
/-! java/lang/String.<init> -/
theorem wJ2_init_0 (K : KV) {x0 q1 : Nat} {w : Wd} {sz n : Nat} (h : CV mJ2_init_2 K [.ref x0, .ref q1, .null] w sz n fun w1 z1 n1 => K.S none w1 z1 n1) : VX K mJ2_init 0 [(0, .ref x0), (1, .ref q1)] [] w sz n := by
  refine v_aload_n 0 dJ2_init_0 rfl (isR_ref _) ?_
  refine v_aload_n 1 dJ2_init_1 rfl (isR_ref _) ?_
  refine v_null dJ2_init_2 ?_
  refine x_callIV K (As := [.ref q1, .null]) dJ2_init_3 LJ2_489 rfl rfl (Nat.le_of_ble_eq_true rfl) h (fun w1 z1 n1 h => ?_)
  exact v_vret dJ2_init_6 rfl h
/-! java/lang/String.<init> -/
theorem wJ2_init_2_0 (K : KV) (hY : XY K.G) {x0 q1 q2 : Nat} {w : Wd} {sz n : Nat} (h : (1 ≤ K.d) ∧ (∃ (F2 : Nat → Int) (P2 : Nat → Option Nat), (w q1 = some (obR 15 F2 P2)) ∧ (CQ mJ0_getValue K [.ref q1] w sz n fun r3 w3 z3 n3 => ∃ (F4 : Nat → Int) (P4 : Nat → Option Nat), (w3 q1 = some (obR 15 F4 P4)) ∧ (CI mJ1_length K [.ref q1] w3 z3 n3 fun r5 w5 z5 n5 => ∃ (F6 : Nat → Int) (P6 : Nat → Option Nat), (w5 q1 = some (obR 15 F6 P6)) ∧ (CI mJ0_isLatin1 K [.ref q1] w5 z5 n5 fun r7 w7 z7 n7 => (rI r7) ∧ ((r7 = 0 → (∃ (F9 : Nat → Int) (P9 : Nat → Option Nat), (w7 q1 = some (obR 15 F9 P9)) ∧ ((rI (F9 2)) ∧ (((F9 2) = 0 → (∃ (F11 : Nat → Int) (P11 : Nat → Option Nat), (w7 x0 = some (obR 16 F11 P11)) ∧ ((K.G.base ≤ x0) ∧ (CQ mJ6_copyOfRange K [va_rf r3, vI 0, vI (ishl r5 1)] (wset w7 x0 (some (obR 16 (upN F11 1 1) P11))) z7 n7 fun r13 w13 z13 n13 => ∃ (F14 : Nat → Int) (P14 : Nat → Option Nat), (w13 x0 = some (obR 16 F14 P14)) ∧ (∃ (b15 : Nat), (r13 = some b15) ∧ ((F14 1 = 0) ∧ (K.S none (wset (wset w13 x0 (some (obR 16 F14 (upN P14 0 r13)))) x0 (some (obS b15))) z13 n13))))))) ∧ (¬ (F9 2) = 0 → (CQ mJ3_compress K [va_rf r3, vI 0, vI r5] w7 z7 n7 fun r11 w11 z11 n11 => ∃ (F12 : Nat → Int) (P12 : Nat → Option Nat), (w11 x0 = some (obR 16 F12 P12)) ∧ ((K.G.base ≤ x0) ∧ (CI mJ3_coderFromArrayLen K [va_rf r11, vI r5] (wset w11 x0 (some (obR 16 F12 (upN P12 0 r11)))) z11 n11 fun r14 w14 z14 n14 => ∃ (F15 : Nat → Int) (P15 : Nat → Option Nat), (w14 x0 = some (obR 16 F15 P15)) ∧ (False))))))))) ∧ (¬ r7 = 0 → (∃ (F9 : Nat → Int) (P9 : Nat → Option Nat), (w7 x0 = some (obR 16 F9 P9)) ∧ ((K.G.base ≤ x0) ∧ (CQ mJ6_copyOfRange K [va_rf r3, vI 0, vI r5] (wset w7 x0 (some (obR 16 (upN F9 1 0) P9))) z7 n7 fun r11 w11 z11 n11 => ∃ (F12 : Nat → Int) (P12 : Nat → Option Nat), (w11 x0 = some (obR 16 F12 P12)) ∧ (∃ (b13 : Nat), (r11 = some b13) ∧ ((F12 1 = 0) ∧ (K.S none (wset (wset w11 x0 (some (obR 16 F12 (upN P12 0 r11)))) x0 (some (obS b13))) z11 n11))))))))))))) : VX K mJ2_init_2 0 [(0, .ref x0), (1, .ref q1), (2, .ref q2)] [] w sz n := by
  refine v_aload_n 0 dJ2_init_2_0 rfl (isR_ref _) ?_
  obtain ⟨s1, h⟩ := h
  refine v_objInit dJ2_init_2_1 q438 q192 q193 s1 (Nat.le_of_ble_eq_true rfl) ?_
  refine v_aload_n 1 dJ2_init_2_4 rfl (isR_ref _) ?_
  obtain ⟨F2, P2, hw2, h⟩ := h
  refine x_callUQ K (hY.priv _) (As := []) dJ2_init_2_5 LJ2_552U rfl rfl (Nat.le_of_ble_eq_true rfl) (rc_of hw2 (lay_R0 _ _ _ (by decide)) rfl) h (fun r3 w3 z3 n3 h => ?_)
  refine v_astore_n dJ2_init_2_8 (by decide) (isR_rf _) rfl ?_
  refine v_aload_n 2 dJ2_init_2_9 rfl (isR_ref _) ?_
  obtain ⟨F4, P4, hw4, h⟩ := h
  refine x_callUI K (hY.priv _) (As := []) dJ2_init_2_10 LJ2_549U rfl rfl (Nat.le_of_ble_eq_true rfl) (rc_of hw4 (lay_R0 _ _ _ (by decide)) rfl) h (fun r5 w5 z5 n5 h => ?_)
  refine v_istore (ls' := [(4, vI r5), (3, va_rf r3), (0, .ref x0), (1, .ref q1), (2, .ref q2)]) dJ2_init_2_13 (by decide) (by generalize r3 = z9; cases z9 <;> rfl) ?_
  refine v_aload_n 3 dJ2_init_2_15 rfl (isR_ref _) ?_
  obtain ⟨F6, P6, hw6, h⟩ := h
  refine x_callUI K (hY.priv _) (As := []) dJ2_init_2_16 LJ2_1047U rfl rfl (Nat.le_of_ble_eq_true rfl) (rc_of hw6 (lay_R0 _ _ _ (by decide)) rfl) h (fun r7 w7 z7 n7 h => ?_)
  obtain ⟨s8, h⟩ := h
  obtain ⟨ht, hf⟩ := h
  refine v_if_eq 41 dJ2_init_2_19 (by decide) s8 (fun c => ?_) (fun c => ?_)
  · have h := ht c
    refine v_gets (v := vI 1) hY.1 dJ2_init_2_41 q390 (Or.inl rfl) ?_
    refine v_if_eq 79 dJ2_init_2_44 (by decide) (by decide) (fun c => absurd c (by decide)) (fun _ => ?_)
    refine v_aload_n 3 dJ2_init_2_47 rfl (isR_ref _) ?_
    obtain ⟨F9, P9, hw9, h⟩ := h
    refine v_get (q := q1) (j := 0) (v := vI (F9 2)) dJ2_init_2_48 fJ2_1048 hw9 rfl (lay_R0 _ _ _ (by decide)) rfl ?_
    obtain ⟨s10, h⟩ := h
    obtain ⟨ht, hf⟩ := h
    refine v_if_eq 79 dJ2_init_2_51 (by decide) s10 (fun c => ?_) (fun c => ?_)
    · have h := ht c
      refine v_aload_n 2 dJ2_init_2_79 rfl (isR_ref _) ?_
      refine v_iconst dJ2_init_2_80 ?_
      obtain ⟨F11, P11, hw11, h⟩ := h
      obtain ⟨s12, h⟩ := h
      refine v_putF (q := x0) (j := 0) (v := vI 1) (obR 16 (upN F11 1 1) P11) dJ2_init_2_81 foJ2_15 pfF16_1 rfl hw11 rfl (lay_R0 _ _ _ (by decide)) (Nat.le_of_ble_eq_true rfl) rfl rfl (chg_raw rfl rfl rfl) s12 ?_
      refine v_aload_n 2 dJ2_init_2_84 rfl (isR_ref _) ?_
      refine v_aload_n 1 dJ2_init_2_85 rfl (isR_rf _) ?_
      refine v_iconst dJ2_init_2_86 ?_
      refine v_iload 0 dJ2_init_2_87 rfl ?_
      refine v_iconst dJ2_init_2_89 ?_
      refine v_ishl dJ2_init_2_90 ?_
      refine x_callSQ K (As := [va_rf r3, vI 0, vI (ishl r5 1)]) dJ2_init_2_91 LJ2_54 rfl rfl (Nat.le_of_ble_eq_true rfl) h (fun r13 w13 z13 n13 h => ?_)
      obtain ⟨F14, P14, hw14, h⟩ := h
      refine v_putF (q := x0) (j := 0) (v := va_rf r13) (obR 16 F14 (upN P14 0 r13)) dJ2_init_2_94 foJ2_9 pfF16_0 rfl hw14 rfl (lay_R0 _ _ _ (by decide)) (Nat.le_of_ble_eq_true rfl) (nar_rfA _ r13) (fit_rfA _ r13) (chg_raw rfl rfl rfl) s12 ?_
      obtain ⟨b15, eb15, h⟩ := h
      obtain ⟨s16, h⟩ := h
      refine V.world (toS (q := x0) (b := b15) (wset_eq _ _ _) eb15 s16) ?_
      exact v_vret dJ2_init_2_97 rfl h
    · have h := hf c
      refine v_aload_n 2 dJ2_init_2_54 rfl (isR_ref _) ?_
      refine v_aload_n 1 dJ2_init_2_55 rfl (isR_rf _) ?_
      refine v_iconst dJ2_init_2_56 ?_
      refine v_iload 0 dJ2_init_2_57 rfl ?_
      refine x_callSQ K (As := [va_rf r3, vI 0, vI r5]) dJ2_init_2_59 LJ2_1051 rfl rfl (Nat.le_of_ble_eq_true rfl) h (fun r11 w11 z11 n11 h => ?_)
      obtain ⟨F12, P12, hw12, h⟩ := h
      obtain ⟨s13, h⟩ := h
      refine v_putF (q := x0) (j := 0) (v := va_rf r11) (obR 16 F12 (upN P12 0 r11)) dJ2_init_2_62 foJ2_9 pfF16_0 rfl hw12 rfl (lay_R0 _ _ _ (by decide)) (Nat.le_of_ble_eq_true rfl) (nar_rfA _ r11) (fit_rfA _ r11) (chg_raw rfl rfl rfl) s13 ?_
      refine v_aload_n 2 dJ2_init_2_65 rfl (isR_ref _) ?_
      refine v_aload_n 2 dJ2_init_2_66 rfl (isR_ref _) ?_
      refine v_get (q := x0) (j := 0) (v := va_rf r11) dJ2_init_2_67 fJ2_9 (wset_eq _ _ _) rfl (lay_R0 _ _ _ (by decide)) rfl ?_
      refine v_iload 0 dJ2_init_2_70 rfl ?_
      refine x_callSI K (As := [va_rf r11, vI r5]) dJ2_init_2_72 LJ2_47 rfl rfl (Nat.le_of_ble_eq_true rfl) h (fun r14 w14 z14 n14 h => ?_)
      obtain ⟨F15, P15, hw15, h⟩ := h
      exact h.elim
  · have h := hf c
    refine v_aload_n 2 dJ2_init_2_22 rfl (isR_ref _) ?_
    refine v_iconst dJ2_init_2_23 ?_
    obtain ⟨F9, P9, hw9, h⟩ := h
    obtain ⟨s10, h⟩ := h
    refine v_putF (q := x0) (j := 0) (v := vI 0) (obR 16 (upN F9 1 0) P9) dJ2_init_2_24 foJ2_15 pfF16_1 rfl hw9 rfl (lay_R0 _ _ _ (by decide)) (Nat.le_of_ble_eq_true rfl) rfl rfl (chg_raw rfl rfl rfl) s10 ?_
    refine v_aload_n 2 dJ2_init_2_27 rfl (isR_ref _) ?_
    refine v_aload_n 1 dJ2_init_2_28 rfl (isR_rf _) ?_
    refine v_iconst dJ2_init_2_29 ?_
    refine v_iload 0 dJ2_init_2_30 rfl ?_
    refine x_callSQ K (As := [va_rf r3, vI 0, vI r5]) dJ2_init_2_32 LJ2_54 rfl rfl (Nat.le_of_ble_eq_true rfl) h (fun r11 w11 z11 n11 h => ?_)
    obtain ⟨F12, P12, hw12, h⟩ := h
    refine v_putF (q := x0) (j := 0) (v := va_rf r11) (obR 16 F12 (upN P12 0 r11)) dJ2_init_2_35 foJ2_9 pfF16_0 rfl hw12 rfl (lay_R0 _ _ _ (by decide)) (Nat.le_of_ble_eq_true rfl) (nar_rfA _ r11) (fit_rfA _ r11) (chg_raw rfl rfl rfl) s10 ?_
    refine v_goto 97 dJ2_init_2_38 (by decide) ?_
    obtain ⟨b13, eb13, h⟩ := h
    obtain ⟨s14, h⟩ := h
    refine V.world (toS (q := x0) (b := b13) (wset_eq _ _ _) eb13 s14) ?_
    exact v_vret dJ2_init_2_97 rfl h
/-! java/lang/String.charAt -/
theorem wJ2_charAt_0 (K : KV) {x1 : Int} {x0 : Nat} {w : Wd} {sz n : Nat} (h : ∃ (b1 : Nat), (w x0 = some (obS b1)) ∧ (CI mJ2_isLatin1 K [.ref x0] w sz n fun r2 w2 z2 n2 => (rI r2) ∧ ((r2 = 0 → (∃ (b4 : Nat), (w2 x0 = some (obS b4)) ∧ (CI mJ3_charAt K [.ref b4, vI x1] w2 z2 n2 fun r5 w5 z5 n5 => (0 ≤ r5 ∧ r5 < 256) ∧ (K.S (some (vI r5)) w5 z5 n5)))) ∧ (¬ r2 = 0 → (∃ (b4 : Nat), (w2 x0 = some (obS b4)) ∧ (CI mJ8_charAt K [.ref b4, vI x1] w2 z2 n2 fun r5 w5 z5 n5 => (0 ≤ r5 ∧ r5 < 256) ∧ (K.S (some (vI r5)) w5 z5 n5))))))) : VX K mJ2_charAt 0 [(0, .ref x0), (1, vI x1)] [] w sz n := by
  refine v_aload_n 0 dJ2_charAt_0 rfl (isR_ref _) ?_
  obtain ⟨b1, hw1, h⟩ := h
  refine x_callVI K (As := []) dJ2_charAt_1 LJ2_492 rfl rfl (Nat.le_of_ble_eq_true rfl) (rc_S hw1) h (fun r2 w2 z2 n2 h => ?_)
  obtain ⟨s3, h⟩ := h
  obtain ⟨ht, hf⟩ := h
  refine v_if_eq 16 dJ2_charAt_4 (by decide) s3 (fun c => ?_) (fun c => ?_)
  · have h := ht c
    refine v_aload_n 0 dJ2_charAt_16 rfl (isR_ref _) ?_
    obtain ⟨b4, hw4, h⟩ := h
    refine v_getS0 dJ2_charAt_17 fJ2_9 hw4 ?_
    refine v_iload_n 1 dJ2_charAt_20 rfl ?_
    refine x_callSI K (As := [.ref b4, vI x1]) dJ2_charAt_21 LJ2_498 rfl rfl (Nat.le_of_ble_eq_true rfl) h (fun r5 w5 z5 n5 h => ?_)
    obtain ⟨s6, h⟩ := h
    exact x_cret K dJ2_charAt_24 rfl s6 h
  · have h := hf c
    refine v_aload_n 0 dJ2_charAt_7 rfl (isR_ref _) ?_
    obtain ⟨b4, hw4, h⟩ := h
    refine v_getS0 dJ2_charAt_8 fJ2_9 hw4 ?_
    refine v_iload_n 1 dJ2_charAt_11 rfl ?_
    refine x_callSI K (As := [.ref b4, vI x1]) dJ2_charAt_12 LJ2_495 rfl rfl (Nat.le_of_ble_eq_true rfl) h (fun r5 w5 z5 n5 h => ?_)
    obtain ⟨s6, h⟩ := h
    exact x_cret K dJ2_charAt_15 rfl s6 h
/-! java/lang/String.isLatin1 -/
theorem wJ2_isLatin1_0 (K : KV) (hY : XY K.G) {x0 : Nat} {w : Wd} {sz n : Nat} (h : ∃ (b1 : Nat), (w x0 = some (obS b1)) ∧ (K.S (some (vI 1)) w sz n)) : VX K mJ2_isLatin1 0 [(0, .ref x0)] [] w sz n := by
  refine v_gets (v := vI 1) hY.1 dJ2_isLatin1_0 q390 (Or.inl rfl) ?_
  refine v_if_eq 17 dJ2_isLatin1_3 (by decide) (by decide) (fun c => absurd c (by decide)) (fun _ => ?_)
  refine v_aload_n 0 dJ2_isLatin1_6 rfl (isR_ref _) ?_
  obtain ⟨b1, hw1, h⟩ := h
  refine v_getS1 dJ2_isLatin1_7 fJ2_15 hw1 ?_
  refine v_if_ne 17 dJ2_isLatin1_10 (by decide) (by decide) (fun c => absurd (by decide) c) (fun _ => ?_)
  refine v_iconst dJ2_isLatin1_13 ?_
  refine v_goto 18 dJ2_isLatin1_14 (by decide) ?_
  exact x_zret K dJ2_isLatin1_18 rfl (by decide) h
/-! java/lang/String.checkIndex -/
theorem wJ2_checkIndex_0 (K : KV) (hY : XY K.G) {x0 x1 : Int} {w : Wd} {sz n : Nat} (h : ∀ g1 : Option Nat, (CI mJ7_checkIndex K [vI x0, vI x1, va_rf g1] w sz n fun r2 w2 z2 n2 => K.S none w2 z2 n2)) : VX K mJ2_checkIndex 0 [(0, vI x0), (1, vI x1)] [] w sz n := by
  refine v_iload_n 0 dJ2_checkIndex_0 rfl ?_
  refine v_iload_n 1 dJ2_checkIndex_1 rfl ?_
  obtain ⟨g1, hzg1⟩ := hY.2.2.2.2.1
  have h := h g1
  refine v_gets (v := va_rf g1) hzg1 dJ2_checkIndex_2 q368 (Or.inl rfl) ?_
  refine x_callSI K (As := [vI x0, vI x1, va_rf g1]) dJ2_checkIndex_5 LJ2_1059 rfl rfl (Nat.le_of_ble_eq_true rfl) h (fun r2 w2 z2 n2 h => ?_)
  refine v_pop dJ2_checkIndex_8 rfl ?_
  exact v_vret dJ2_checkIndex_9 rfl h
/-! java/lang/StringUTF16.newBytesFor -/
theorem wJ3_newBytesFor_0 (K : KV) {x0 : Int} {w : Wd} {sz n : Nat} (h : CI mJ3_newBytesLength K [vI x0] w sz n fun r1 w1 z1 n1 => (w1 z1 = none) ∧ ((0 ≤ r1 ∧ r1 ≤ 20000) ∧ (K.S (some (va_rf (some z1))) (wset w1 z1 (some (obA 2 ((Int.toNat r1)) ((fun _ => 0))))) (z1 + 1) (n1 + Int.toNat r1)))) : VX K mJ3_newBytesFor 0 [(0, vI x0)] [] w sz n := by
  refine v_iload_n 0 dJ3_newBytesFor_0 rfl ?_
  refine x_callSI K (As := [vI x0]) dJ3_newBytesFor_1 LJ3_11 rfl rfl (Nat.le_of_ble_eq_true rfl) h (fun r1 w1 z1 n1 h => ?_)
  obtain ⟨s2, h⟩ := h
  obtain ⟨s3, h⟩ := h
  refine x_newB K dJ3_newBytesFor_4 s3 s2 ?_
  exact x_aret K (r := some z1) dJ3_newBytesFor_6 rfl (by first | exact Or.inl ⟨_, rfl⟩ | exact Or.inr ⟨_, rfl⟩) h
/-! java/lang/StringUTF16.newBytesLength -/
theorem wJ3_newBytesLength_0 (K : KV) {x0 : Int} {w : Wd} {sz n : Nat} (h : (rI x0) ∧ ((0 ≤ x0 → ((x0 < 1073741823 → (K.S (some (vI (ishl x0 1))) w sz n)) ∧ (¬ x0 < 1073741823 → (False)))) ∧ (¬ 0 ≤ x0 → (False)))) : VX K mJ3_newBytesLength 0 [(0, vI x0)] [] w sz n := by
  refine v_iload_n 0 dJ3_newBytesLength_0 rfl ?_
  obtain ⟨s1, h⟩ := h
  obtain ⟨ht, hf⟩ := h
  refine v_if_ge 12 dJ3_newBytesLength_1 (by decide) s1 (fun c => ?_) (fun c => ?_)
  · have h := ht c
    refine v_iload_n 0 dJ3_newBytesLength_12 rfl ?_
    refine v_ldc (z := 1073741823) dJ3_newBytesLength_13 q289 ?_
    obtain ⟨ht, hf⟩ := h
    refine v_icmp_lt 55 dJ3_newBytesLength_15 (by decide) s1 (by decide) (fun c => ?_) (fun c => ?_)
    · have h := ht c
      refine v_iload_n 0 dJ3_newBytesLength_55 rfl ?_
      refine v_iconst dJ3_newBytesLength_56 ?_
      refine v_ishl dJ3_newBytesLength_57 ?_
      exact x_iret K dJ3_newBytesLength_58 rfl h
    · have h := hf c
      exact h.elim
  · have h := hf c
    exact h.elim
/-! java/lang/StringUTF16.putCharsAt -/
theorem wJ3_putCharsAt_0 (K : KV) (hY : XY K.G) {x1 x2 x3 x4 x5 : Int} {q0 : Nat} {w : Wd} {sz n : Nat} (h : CV mJ3_checkBoundsBeginEnd K [vI x1, vI (x1 + 4), .ref q0] w sz n fun w1 z1 n1 => CV mJ3_putChar K [.ref q0, vI x1, vI x2] w1 z1 n1 fun w2 z2 n2 => CV mJ3_putChar K [.ref q0, vI (x1 + 1), vI x3] w2 z2 n2 fun w3 z3 n3 => CV mJ3_putChar K [.ref q0, vI ((x1 + 1) + 1), vI x4] w3 z3 n3 fun w4 z4 n4 => CV mJ3_putChar K [.ref q0, vI (((x1 + 1) + 1) + 1), vI x5] w4 z4 n4 fun w5 z5 n5 => False) : VX K mJ3_putCharsAt 0 [(0, .ref q0), (1, vI x1), (2, vI x2), (3, vI x3), (4, vI x4), (5, vI x5)] [] w sz n := by
  refine v_iload_n 1 dJ3_putCharsAt_0 rfl ?_
  refine v_iconst dJ3_putCharsAt_1 ?_
  refine v_iadd dJ3_putCharsAt_2 ?_
  refine v_istore dJ3_putCharsAt_3 (by decide) rfl ?_
  refine v_iload_n 2 dJ3_putCharsAt_5 rfl ?_
  refine v_iload 0 dJ3_putCharsAt_6 rfl ?_
  refine v_aload_n 1 dJ3_putCharsAt_8 rfl (isR_ref _) ?_
  refine x_callSV K (As := [vI x1, vI (x1 + 4), .ref q0]) dJ3_putCharsAt_9 LJ3_96 rfl rfl (Nat.le_of_ble_eq_true rfl) h (fun w1 z1 n1 h => ?_)
  refine v_aload_n 1 dJ3_putCharsAt_12 rfl (isR_ref _) ?_
  refine v_iload_n 2 dJ3_putCharsAt_13 rfl ?_
  refine v_iinc 2 dJ3_putCharsAt_14 rfl (by decide) rfl ?_
  refine v_iload_n 3 dJ3_putCharsAt_17 rfl ?_
  refine x_callSV K (As := [.ref q0, vI x1, vI x2]) dJ3_putCharsAt_18 LJ3_111 rfl rfl (Nat.le_of_ble_eq_true rfl) h (fun w2 z2 n2 h => ?_)
  refine v_aload_n 2 dJ3_putCharsAt_21 rfl (isR_ref _) ?_
  refine v_iload_n 0 dJ3_putCharsAt_22 rfl ?_
  refine v_iinc 0 dJ3_putCharsAt_23 rfl (by decide) rfl ?_
  refine v_iload_n 4 dJ3_putCharsAt_26 rfl ?_
  refine x_callSV K (As := [.ref q0, vI (x1 + 1), vI x3]) dJ3_putCharsAt_27 LJ3_111 rfl rfl (Nat.le_of_ble_eq_true rfl) h (fun w3 z3 n3 h => ?_)
  refine v_aload_n 2 dJ3_putCharsAt_30 rfl (isR_ref _) ?_
  refine v_iload_n 0 dJ3_putCharsAt_31 rfl ?_
  refine v_iinc 0 dJ3_putCharsAt_32 rfl (by decide) rfl ?_
  refine v_iload 5 dJ3_putCharsAt_35 rfl ?_
  refine x_callSV K (As := [.ref q0, vI ((x1 + 1) + 1), vI x4]) dJ3_putCharsAt_37 LJ3_111 rfl rfl (Nat.le_of_ble_eq_true rfl) h (fun w4 z4 n4 h => ?_)
  refine v_aload_n 2 dJ3_putCharsAt_40 rfl (isR_ref _) ?_
  refine v_iload_n 0 dJ3_putCharsAt_41 rfl ?_
  refine v_iinc 0 dJ3_putCharsAt_42 rfl (by decide) rfl ?_
  refine v_iload 6 dJ3_putCharsAt_45 rfl ?_
  refine x_callSV K (As := [.ref q0, vI (((x1 + 1) + 1) + 1), vI x5]) dJ3_putCharsAt_47 LJ3_111 rfl rfl (Nat.le_of_ble_eq_true rfl) h (fun w5 z5 n5 h => ?_)
  exact h.elim
/-! java/lang/StringUTF16.checkBoundsBeginEnd -/
theorem wJ3_checkBoundsBeginEnd_0 (K : KV) {x0 x1 : Int} {q2 : Nat} {w : Wd} {sz n : Nat} (h : CI mJ3_length K [.ref q2] w sz n fun r1 w1 z1 n1 => CV mJ2_checkBoundsBeginEnd K [vI x0, vI x1, vI r1] w1 z1 n1 fun w2 z2 n2 => K.S none w2 z2 n2) : VX K mJ3_checkBoundsBeginEnd 0 [(0, vI x0), (1, vI x1), (2, .ref q2)] [] w sz n := by
  refine v_iload_n 0 dJ3_checkBoundsBeginEnd_0 rfl ?_
  refine v_iload_n 1 dJ3_checkBoundsBeginEnd_1 rfl ?_
  refine v_aload_n 2 dJ3_checkBoundsBeginEnd_2 rfl (isR_ref _) ?_
  refine x_callSI K (As := [.ref q2]) dJ3_checkBoundsBeginEnd_3 LJ3_48 rfl rfl (Nat.le_of_ble_eq_true rfl) h (fun r1 w1 z1 n1 h => ?_)
  refine x_callSV K (As := [vI x0, vI x1, vI r1]) dJ3_checkBoundsBeginEnd_6 LJ3_241 rfl rfl (Nat.le_of_ble_eq_true rfl) h (fun w2 z2 n2 h => ?_)
  exact v_vret dJ3_checkBoundsBeginEnd_9 rfl h
/-! java/lang/StringUTF16.length -/
theorem wJ3_length_0 (K : KV) {q0 : Nat} {w : Wd} {sz n : Nat} (h : ∃ (l1 : Nat) (f1 : Int → Int), (w q0 = some (obA 2 l1 f1)) ∧ (K.S (some (vI (ishr (((l1 : Nat) : Int)) 1))) w sz n)) : VX K mJ3_length 0 [(0, .ref q0)] [] w sz n := by
  refine v_aload_n 0 dJ3_length_0 rfl (isR_ref _) ?_
  obtain ⟨l1, f1, hw1, h⟩ := h
  refine v_alen (q := q0) (j := 0) dJ3_length_1 hw1 rfl (lay_AB _ _ _) (by decide) ?_
  refine v_iconst dJ3_length_2 ?_
  refine v_ishr dJ3_length_3 ?_
  exact x_iret K dJ3_length_4 rfl h
/-! java/lang/StringUTF16.putChar -/
theorem wJ3_putChar_0 (K : KV) (hY : XY K.G) {x1 x2 : Int} {q0 : Nat} {w : Wd} {sz n : Nat} (h : False) : VX K mJ3_putChar 0 [(0, .ref q0), (1, vI x1), (2, vI x2)] [] w sz n := by
  exact h.elim
/-! java/lang/StringUTF16.inflate -/
theorem wJ3_inflate_0 (K : KV) {x1 x3 x4 : Int} {q0 q2 : Nat} {w : Wd} {sz n : Nat} (h : CV mJ3_checkBoundsOffCount K [vI x3, vI x4, .ref q2] w sz n fun w1 z1 n1 => VX K mJ3_inflate 10 [(0, .ref q0), (1, vI x1), (2, .ref q2), (3, vI x3), (4, vI x4), (5, vI 0)] [] w1 z1 n1) : VX K mJ3_inflate 0 [(0, .ref q0), (1, vI x1), (2, .ref q2), (3, vI x3), (4, vI x4)] [] w sz n := by
  refine v_iload_n 3 dJ3_inflate_0 rfl ?_
  refine v_iload 4 dJ3_inflate_1 rfl ?_
  refine v_aload_n 2 dJ3_inflate_3 rfl (isR_ref _) ?_
  refine x_callSV K (As := [vI x3, vI x4, .ref q2]) dJ3_inflate_4 LJ3_173 rfl rfl (Nat.le_of_ble_eq_true rfl) h (fun w1 z1 n1 h => ?_)
  refine v_iconst dJ3_inflate_7 ?_
  refine v_istore dJ3_inflate_8 (by decide) rfl ?_
  refine V.sub [1, 2, 3, 4, 5, 0] rfl ?_
  exact h
theorem wJ3_inflate_10 (K : KV) {x1 x3 x4 x5 : Int} {q0 q2 : Nat} {w : Wd} {sz n : Nat} (h : (rI x5) ∧ ((rI x4) ∧ ((x4 ≤ x5 → (K.S none w sz n)) ∧ (¬ x4 ≤ x5 → (∃ (l3 : Nat) (f3 : Int → Int), (w q0 = some (obA 2 l3 f3)) ∧ ((0 ≤ x1 ∧ x1 < ((l3 : Nat) : Int)) ∧ ((l3 < 2147483648) ∧ (CV mJ3_putChar K [.ref q2, vI x3, vI (iand (f3 x1) 255)] w sz n fun w6 z6 n6 => VX K mJ3_inflate 10 [(0, .ref q0), (1, vI (x1 + 1)), (2, .ref q2), (3, vI (x3 + 1)), (4, vI x4), (5, vI (x5 + 1))] [] w6 z6 n6)))))))) : VX K mJ3_inflate 10 [(0, .ref q0), (1, vI x1), (2, .ref q2), (3, vI x3), (4, vI x4), (5, vI x5)] [] w sz n := by
  refine v_iload 5 dJ3_inflate_10 rfl ?_
  refine v_iload 4 dJ3_inflate_12 rfl ?_
  obtain ⟨s1, h⟩ := h
  obtain ⟨s2, h⟩ := h
  obtain ⟨ht, hf⟩ := h
  refine v_icmp_ge 41 dJ3_inflate_14 (by decide) s1 s2 (fun c => ?_) (fun c => ?_)
  · have h := ht c
    exact v_vret dJ3_inflate_41 rfl h
  · have h := hf c
    refine v_aload_n 2 dJ3_inflate_17 rfl (isR_ref _) ?_
    refine v_iload_n 3 dJ3_inflate_18 rfl ?_
    refine v_iinc 3 dJ3_inflate_19 rfl (by decide) rfl ?_
    refine v_aload_n 1 dJ3_inflate_22 rfl (isR_ref _) ?_
    refine v_iload_n 2 dJ3_inflate_23 rfl ?_
    refine v_iinc 2 dJ3_inflate_24 rfl (by decide) rfl ?_
    obtain ⟨l3, f3, hw3, h⟩ := h
    obtain ⟨s4, h⟩ := h
    obtain ⟨s5, h⟩ := h
    refine v_bald (q := q0) (j := 0) (f := f3) dJ3_inflate_27 hw3 rfl (lay_AB _ _ _) s4 s5 ?_
    refine v_sipush dJ3_inflate_28 rfl ?_
    refine v_iand dJ3_inflate_31 ?_
    refine x_callSV K (As := [.ref q2, vI x3, vI (iand (f3 x1) 255)]) dJ3_inflate_32 LJ3_111 rfl rfl (Nat.le_of_ble_eq_true rfl) h (fun w6 z6 n6 h => ?_)
    refine v_iinc 5 dJ3_inflate_35 rfl (by decide) rfl ?_
    refine v_goto 10 dJ3_inflate_38 (by decide) ?_
    refine V.sub [3, 1, 4, 2, 5, 0] rfl ?_
    exact h
/-! java/lang/StringUTF16.checkBoundsOffCount -/
theorem wJ3_checkBoundsOffCount_0 (K : KV) {x0 x1 : Int} {q2 : Nat} {w : Wd} {sz n : Nat} (h : CI mJ3_length K [.ref q2] w sz n fun r1 w1 z1 n1 => CI mJ2_checkBoundsOffCount K [vI x0, vI x1, vI r1] w1 z1 n1 fun r2 w2 z2 n2 => K.S none w2 z2 n2) : VX K mJ3_checkBoundsOffCount 0 [(0, vI x0), (1, vI x1), (2, .ref q2)] [] w sz n := by
  refine v_iload_n 0 dJ3_checkBoundsOffCount_0 rfl ?_
  refine v_iload_n 1 dJ3_checkBoundsOffCount_1 rfl ?_
  refine v_aload_n 2 dJ3_checkBoundsOffCount_2 rfl (isR_ref _) ?_
  refine x_callSI K (As := [.ref q2]) dJ3_checkBoundsOffCount_3 LJ3_48 rfl rfl (Nat.le_of_ble_eq_true rfl) h (fun r1 w1 z1 n1 h => ?_)
  refine x_callSI K (As := [vI x0, vI x1, vI r1]) dJ3_checkBoundsOffCount_6 LJ3_419 rfl rfl (Nat.le_of_ble_eq_true rfl) h (fun r2 w2 z2 n2 h => ?_)
  refine v_pop dJ3_checkBoundsOffCount_9 rfl ?_
  exact v_vret dJ3_checkBoundsOffCount_10 rfl h
/-! java/lang/StringUTF16.compress -/
theorem wJ3_compress_0 (K : KV) {x1 x2 : Int} {q0 : Nat} {w : Wd} {sz n : Nat} (h : (w sz = none) ∧ ((0 ≤ x2 ∧ x2 ≤ 20000) ∧ (CI mJ3_compress_2 K [.ref q0, vI x1, .ref sz, vI 0, vI x2] (wset w sz (some (obA 2 ((Int.toNat x2)) ((fun _ => 0))))) (sz + 1) (n + Int.toNat x2) fun r3 w3 z3 n3 => (rI r3) ∧ ((rI x2) ∧ ((r3 = x2 → (K.S (some (va_rf (some sz))) w3 z3 n3)) ∧ (¬ r3 = x2 → (CI mJ3_newBytesLength K [vI (x1 + x2)] w3 z3 n3 fun r6 w6 z6 n6 => CQ mJ6_copyOfRange K [.ref q0, vI (ishl x1 1), vI r6] w6 z6 n6 fun r7 w7 z7 n7 => CI mJ3_getChar K [va_rf r7, vI r3] w7 z7 n7 fun r8 w8 z8 n8 => (rI r8) ∧ ((255 < r8 → (K.S (some (va_rf r7)) w8 z8 n8)) ∧ (¬ 255 < r8 → (CI mJ3_compress_2 K [va_rf r7, vI 0, .ref sz, vI 0, vI x2] w8 z8 n8 fun r10 w10 z10 n10 => (rI r10) ∧ ((r10 = x2 → (K.S (some (va_rf (some sz))) w10 z10 n10)) ∧ (¬ r10 = x2 → (K.S (some (va_rf r7)) w10 z10 n10))))))))))))) : VX K mJ3_compress 0 [(0, .ref q0), (1, vI x1), (2, vI x2)] [] w sz n := by
  refine v_iload_n 2 dJ3_compress_0 rfl ?_
  obtain ⟨s1, h⟩ := h
  obtain ⟨s2, h⟩ := h
  refine x_newB K dJ3_compress_1 s2 s1 ?_
  refine v_astore_n dJ3_compress_3 (by decide) (isR_ref _) rfl ?_
  refine v_aload_n 1 dJ3_compress_4 rfl (isR_ref _) ?_
  refine v_iload_n 2 dJ3_compress_5 rfl ?_
  refine v_aload_n 0 dJ3_compress_6 rfl (isR_ref _) ?_
  refine v_iconst dJ3_compress_7 ?_
  refine v_iload_n 3 dJ3_compress_8 rfl ?_
  refine x_callSI K (As := [.ref q0, vI x1, .ref sz, vI 0, vI x2]) dJ3_compress_9 LJ3_123 rfl rfl (Nat.le_of_ble_eq_true rfl) h (fun r3 w3 z3 n3 h => ?_)
  refine v_istore dJ3_compress_12 (by decide) rfl ?_
  refine v_iload 0 dJ3_compress_14 rfl ?_
  refine v_iload_n 4 dJ3_compress_16 rfl ?_
  obtain ⟨s4, h⟩ := h
  obtain ⟨s5, h⟩ := h
  obtain ⟨ht, hf⟩ := h
  refine v_icmp_eq 64 dJ3_compress_17 (by decide) s4 s5 (fun c => ?_) (fun c => ?_)
  · have h := ht c
    refine v_aload_n 1 dJ3_compress_64 rfl (isR_ref _) ?_
    exact x_aret K (r := some sz) dJ3_compress_65 rfl (by first | exact Or.inl ⟨_, rfl⟩ | exact Or.inr ⟨_, rfl⟩) h
  · have h := hf c
    refine v_aload_n 2 dJ3_compress_20 rfl (isR_ref _) ?_
    refine v_iload_n 3 dJ3_compress_21 rfl ?_
    refine v_iconst dJ3_compress_22 ?_
    refine v_ishl dJ3_compress_23 ?_
    refine v_iload_n 3 dJ3_compress_24 rfl ?_
    refine v_iload_n 4 dJ3_compress_25 rfl ?_
    refine v_iadd dJ3_compress_26 ?_
    refine x_callSI K (As := [vI (x1 + x2)]) dJ3_compress_27 LJ3_11 rfl rfl (Nat.le_of_ble_eq_true rfl) h (fun r6 w6 z6 n6 h => ?_)
    refine x_callSQ K (As := [.ref q0, vI (ishl x1 1), vI r6]) dJ3_compress_30 LJ3_126 rfl rfl (Nat.le_of_ble_eq_true rfl) h (fun r7 w7 z7 n7 h => ?_)
    refine v_astore dJ3_compress_33 (by decide) (isR_rf _) rfl ?_
    refine v_aload 0 dJ3_compress_35 rfl (isR_rf _) ?_
    refine v_iload 1 dJ3_compress_37 rfl ?_
    refine x_callSI K (As := [va_rf r7, vI r3]) dJ3_compress_39 LJ3_71 rfl rfl (Nat.le_of_ble_eq_true rfl) h (fun r8 w8 z8 n8 h => ?_)
    refine v_sipush dJ3_compress_42 rfl ?_
    obtain ⟨s9, h⟩ := h
    obtain ⟨ht, hf⟩ := h
    refine v_icmp_gt 61 dJ3_compress_45 (by decide) s9 (by decide) (fun c => ?_) (fun c => ?_)
    · have h := ht c
      refine v_aload 0 dJ3_compress_61 rfl (isR_rf _) ?_
      exact x_aret K (r := r7) dJ3_compress_63 rfl (by first | exact Or.inl ⟨_, rfl⟩ | exact Or.inr ⟨_, rfl⟩) h
    · have h := hf c
      refine v_aload 0 dJ3_compress_48 rfl (isR_rf _) ?_
      refine v_iconst dJ3_compress_50 ?_
      refine v_aload_n 2 dJ3_compress_51 rfl (isR_ref _) ?_
      refine v_iconst dJ3_compress_52 ?_
      refine v_iload_n 5 dJ3_compress_53 rfl ?_
      refine x_callSI K (As := [va_rf r7, vI 0, .ref sz, vI 0, vI x2]) dJ3_compress_54 LJ3_123 rfl rfl (Nat.le_of_ble_eq_true rfl) h (fun r10 w10 z10 n10 h => ?_)
      refine v_iload_n 5 dJ3_compress_57 rfl ?_
      obtain ⟨s11, h⟩ := h
      obtain ⟨ht, hf⟩ := h
      refine v_icmp_eq 64 dJ3_compress_58 (by decide) s11 s5 (fun c => ?_) (fun c => ?_)
      · have h := ht c
        refine v_aload_n 2 dJ3_compress_64 rfl (isR_ref _) ?_
        exact x_aret K (r := some sz) dJ3_compress_65 rfl (by first | exact Or.inl ⟨_, rfl⟩ | exact Or.inr ⟨_, rfl⟩) h
      · have h := hf c
        refine v_aload 0 dJ3_compress_61 rfl (isR_rf _) ?_
        exact x_aret K (r := r7) dJ3_compress_63 rfl (by first | exact Or.inl ⟨_, rfl⟩ | exact Or.inr ⟨_, rfl⟩) h
/-! java/lang/StringUTF16.compress -/
theorem wJ3_compress_2_0 (K : KV) {x1 x3 x4 : Int} {q0 q2 : Nat} {w : Wd} {sz n : Nat} (h : CV mJ3_checkBoundsOffCount K [vI x1, vI x4, .ref q0] w sz n fun w1 z1 n1 => VX K mJ3_compress_2 10 [(0, .ref q0), (1, vI x1), (2, .ref q2), (3, vI x3), (4, vI x4), (5, vI 0)] [] w1 z1 n1) : VX K mJ3_compress_2 0 [(0, .ref q0), (1, vI x1), (2, .ref q2), (3, vI x3), (4, vI x4)] [] w sz n := by
  refine v_iload_n 1 dJ3_compress_2_0 rfl ?_
  refine v_iload 4 dJ3_compress_2_1 rfl ?_
  refine v_aload_n 0 dJ3_compress_2_3 rfl (isR_ref _) ?_
  refine x_callSV K (As := [vI x1, vI x4, .ref q0]) dJ3_compress_2_4 LJ3_173 rfl rfl (Nat.le_of_ble_eq_true rfl) h (fun w1 z1 n1 h => ?_)
  refine v_iconst dJ3_compress_2_7 ?_
  refine v_istore dJ3_compress_2_8 (by decide) rfl ?_
  refine V.sub [1, 2, 3, 4, 5, 0] rfl ?_
  exact h
theorem wJ3_compress_2_10 (K : KV) {x1 x3 x4 x5 : Int} {q0 q2 : Nat} {w : Wd} {sz n : Nat} (h : (rI x5) ∧ ((rI x4) ∧ ((x4 ≤ x5 → (K.S (some (vI x4)) w sz n)) ∧ (¬ x4 ≤ x5 → (CI mJ3_getChar K [.ref q0, vI x1] w sz n fun r3 w3 z3 n3 => (rI r3) ∧ ((r3 ≤ 255 → (∃ (l5 : Nat) (f5 : Int → Int), (w3 q2 = some (obA 2 l5 f5)) ∧ ((0 ≤ x3 ∧ x3 < ((l5 : Nat) : Int)) ∧ ((l5 < 2147483648) ∧ ((K.G.base ≤ q2) ∧ ((-128 ≤ (i2b r3) ∧ (i2b r3) ≤ 127) ∧ (VX K mJ3_compress_2 10 [(0, .ref q0), (1, vI (x1 + 1)), (2, .ref q2), (3, vI (x3 + 1)), (4, vI x4), (5, vI (x5 + 1))] [] (wset w3 q2 (some (obA 2 l5 (upZ f5 x3 (i2b r3))))) z3 n3))))))) ∧ (¬ r3 ≤ 255 → (K.S (some (vI x5)) w3 z3 n3)))))))) : VX K mJ3_compress_2 10 [(0, .ref q0), (1, vI x1), (2, .ref q2), (3, vI x3), (4, vI x4), (5, vI x5)] [] w sz n := by
  refine v_iload 5 dJ3_compress_2_10 rfl ?_
  refine v_iload 4 dJ3_compress_2_12 rfl ?_
  obtain ⟨s1, h⟩ := h
  obtain ⟨s2, h⟩ := h
  obtain ⟨ht, hf⟩ := h
  refine v_icmp_ge 53 dJ3_compress_2_14 (by decide) s1 s2 (fun c => ?_) (fun c => ?_)
  · have h := ht c
    refine v_iload 4 dJ3_compress_2_53 rfl ?_
    exact x_iret K dJ3_compress_2_55 rfl h
  · have h := hf c
    refine v_aload_n 0 dJ3_compress_2_17 rfl (isR_ref _) ?_
    refine v_iload_n 1 dJ3_compress_2_18 rfl ?_
    refine x_callSI K (As := [.ref q0, vI x1]) dJ3_compress_2_19 LJ3_71 rfl rfl (Nat.le_of_ble_eq_true rfl) h (fun r3 w3 z3 n3 h => ?_)
    refine v_istore dJ3_compress_2_22 (by decide) rfl ?_
    refine v_iload 0 dJ3_compress_2_24 rfl ?_
    refine v_sipush dJ3_compress_2_26 rfl ?_
    obtain ⟨s4, h⟩ := h
    obtain ⟨ht, hf⟩ := h
    refine v_icmp_le 35 dJ3_compress_2_29 (by decide) s4 (by decide) (fun c => ?_) (fun c => ?_)
    · have h := ht c
      refine v_aload_n 3 dJ3_compress_2_35 rfl (isR_ref _) ?_
      refine v_iload_n 4 dJ3_compress_2_36 rfl ?_
      refine v_iload 0 dJ3_compress_2_37 rfl ?_
      refine v_i2b dJ3_compress_2_39 ?_
      obtain ⟨l5, f5, hw5, h⟩ := h
      obtain ⟨s6, h⟩ := h
      obtain ⟨s7, h⟩ := h
      obtain ⟨s8, h⟩ := h
      obtain ⟨s9, h⟩ := h
      refine v_bast (q := q2) (j := 0) (f := f5) (obA 2 l5 (upZ f5 x3 (i2b r3))) dJ3_compress_2_40 hw5 rfl (lay_AB _ _ _) s6 s7 s9 (chg_raw rfl rfl rfl) s8 ?_
      refine v_iinc 2 dJ3_compress_2_41 rfl (by decide) rfl ?_
      refine v_iinc 4 dJ3_compress_2_44 rfl (by decide) rfl ?_
      refine v_iinc 6 dJ3_compress_2_47 rfl (by decide) rfl ?_
      refine v_goto 10 dJ3_compress_2_50 (by decide) ?_
      refine V.sub [4, 2, 5, 1, 6, 0] rfl ?_
      exact h
    · have h := hf c
      refine v_iload 6 dJ3_compress_2_32 rfl ?_
      exact x_iret K dJ3_compress_2_34 rfl h
/-! java/lang/StringUTF16.getChar -/
theorem wJ3_getChar_0 (K : KV) (hY : XY K.G) {x1 : Int} {q0 : Nat} {w : Wd} {sz n : Nat} (h : False) : VX K mJ3_getChar 0 [(0, .ref q0), (1, vI x1)] [] w sz n := by
  exact h.elim
/-! java/lang/StringUTF16.coderFromArrayLen -/
theorem wJ3_coderFromArrayLen_0 (K : KV) {x1 : Int} {q0 : Nat} {w : Wd} {sz n : Nat} (h : ∃ (l1 : Nat) (f1 : Int → Int), (w q0 = some (obA 2 l1 f1)) ∧ ((-128 ≤ (i2b (iushr (x1 - (((l1 : Nat) : Int))) 31)) ∧ (i2b (iushr (x1 - (((l1 : Nat) : Int))) 31)) ≤ 127) ∧ (K.S (some (vI (i2b (iushr (x1 - (((l1 : Nat) : Int))) 31)))) w sz n))) : VX K mJ3_coderFromArrayLen 0 [(0, .ref q0), (1, vI x1)] [] w sz n := by
  refine v_iload_n 1 dJ3_coderFromArrayLen_0 rfl ?_
  refine v_aload_n 0 dJ3_coderFromArrayLen_1 rfl (isR_ref _) ?_
  obtain ⟨l1, f1, hw1, h⟩ := h
  refine v_alen (q := q0) (j := 0) dJ3_coderFromArrayLen_2 hw1 rfl (lay_AB _ _ _) (by decide) ?_
  refine v_isub dJ3_coderFromArrayLen_3 ?_
  refine v_bipush dJ3_coderFromArrayLen_4 rfl ?_
  refine v_iushr dJ3_coderFromArrayLen_6 ?_
  refine v_i2b dJ3_coderFromArrayLen_7 ?_
  obtain ⟨s2, h⟩ := h
  exact x_bret K dJ3_coderFromArrayLen_8 rfl s2 h
/-! java/lang/StringUTF16.charAt -/
theorem wJ3_charAt_0 (K : KV) {x1 : Int} {q0 : Nat} {w : Wd} {sz n : Nat} (h : CV mJ3_checkIndex K [vI x1, .ref q0] w sz n fun w1 z1 n1 => CI mJ3_getChar K [.ref q0, vI x1] w1 z1 n1 fun r2 w2 z2 n2 => (0 ≤ r2 ∧ r2 < 256) ∧ (K.S (some (vI r2)) w2 z2 n2)) : VX K mJ3_charAt 0 [(0, .ref q0), (1, vI x1)] [] w sz n := by
  refine v_iload_n 1 dJ3_charAt_0 rfl ?_
  refine v_aload_n 0 dJ3_charAt_1 rfl (isR_ref _) ?_
  refine x_callSV K (As := [vI x1, .ref q0]) dJ3_charAt_2 LJ3_67 rfl rfl (Nat.le_of_ble_eq_true rfl) h (fun w1 z1 n1 h => ?_)
  refine v_aload_n 0 dJ3_charAt_5 rfl (isR_ref _) ?_
  refine v_iload_n 1 dJ3_charAt_6 rfl ?_
  refine x_callSI K (As := [.ref q0, vI x1]) dJ3_charAt_7 LJ3_71 rfl rfl (Nat.le_of_ble_eq_true rfl) h (fun r2 w2 z2 n2 h => ?_)
  obtain ⟨s3, h⟩ := h
  exact x_cret K dJ3_charAt_10 rfl s3 h
/-! java/lang/StringUTF16.checkIndex -/
theorem wJ3_checkIndex_0 (K : KV) {x0 : Int} {q1 : Nat} {w : Wd} {sz n : Nat} (h : CI mJ3_length K [.ref q1] w sz n fun r1 w1 z1 n1 => CV mJ2_checkIndex K [vI x0, vI r1] w1 z1 n1 fun w2 z2 n2 => K.S none w2 z2 n2) : VX K mJ3_checkIndex 0 [(0, vI x0), (1, .ref q1)] [] w sz n := by
  refine v_iload_n 0 dJ3_checkIndex_0 rfl ?_
  refine v_aload_n 1 dJ3_checkIndex_1 rfl (isR_ref _) ?_
  refine x_callSI K (As := [.ref q1]) dJ3_checkIndex_2 LJ3_48 rfl rfl (Nat.le_of_ble_eq_true rfl) h (fun r1 w1 z1 n1 h => ?_)
  refine x_callSV K (As := [vI x0, vI r1]) dJ3_checkIndex_5 LJ3_414 rfl rfl (Nat.le_of_ble_eq_true rfl) h (fun w2 z2 n2 h => ?_)
  exact v_vret dJ3_checkIndex_8 rfl h
/-! java/lang/StringUTF16.putCharSB -/
theorem wJ3_putCharSB_0 (K : KV) {x1 x2 : Int} {q0 : Nat} {w : Wd} {sz n : Nat} (h : CV mJ3_checkIndex K [vI x1, .ref q0] w sz n fun w1 z1 n1 => CV mJ3_putChar K [.ref q0, vI x1, vI x2] w1 z1 n1 fun w2 z2 n2 => K.S none w2 z2 n2) : VX K mJ3_putCharSB 0 [(0, .ref q0), (1, vI x1), (2, vI x2)] [] w sz n := by
  refine v_iload_n 1 dJ3_putCharSB_0 rfl ?_
  refine v_aload_n 0 dJ3_putCharSB_1 rfl (isR_ref _) ?_
  refine x_callSV K (As := [vI x1, .ref q0]) dJ3_putCharSB_2 LJ3_67 rfl rfl (Nat.le_of_ble_eq_true rfl) h (fun w1 z1 n1 h => ?_)
  refine v_aload_n 0 dJ3_putCharSB_5 rfl (isR_ref _) ?_
  refine v_iload_n 1 dJ3_putCharSB_6 rfl ?_
  refine v_iload_n 2 dJ3_putCharSB_7 rfl ?_
  refine x_callSV K (As := [.ref q0, vI x1, vI x2]) dJ3_putCharSB_8 LJ3_111 rfl rfl (Nat.le_of_ble_eq_true rfl) h (fun w2 z2 n2 h => ?_)
  exact v_vret dJ3_putCharSB_11 rfl h
/-! java/lang/StringUTF16.getChars -/
theorem wJ3_getChars_0 (K : KV) (hY : XY K.G) {x0 x1 x2 : Int} {q3 : Nat} {w : Wd} {sz n : Nat} (h : CV mJ3_checkBoundsBeginEnd K [vI x1, vI x2, .ref q3] w sz n fun w1 z1 n1 => CI mJ3_getChars_2 K [vI x0, vI x2, .ref q3] w1 z1 n1 fun r2 w2 z2 n2 => False) : VX K mJ3_getChars 0 [(0, vI x0), (1, vI x1), (2, vI x2), (3, .ref q3)] [] w sz n := by
  refine v_iload_n 1 dJ3_getChars_0 rfl ?_
  refine v_iload_n 2 dJ3_getChars_1 rfl ?_
  refine v_aload_n 3 dJ3_getChars_2 rfl (isR_ref _) ?_
  refine x_callSV K (As := [vI x1, vI x2, .ref q3]) dJ3_getChars_3 LJ3_96 rfl rfl (Nat.le_of_ble_eq_true rfl) h (fun w1 z1 n1 h => ?_)
  refine v_iload_n 0 dJ3_getChars_6 rfl ?_
  refine v_iload_n 2 dJ3_getChars_7 rfl ?_
  refine v_aload_n 3 dJ3_getChars_8 rfl (isR_ref _) ?_
  refine x_callSI K (As := [vI x0, vI x2, .ref q3]) dJ3_getChars_9 LJ3_393 rfl rfl (Nat.le_of_ble_eq_true rfl) h (fun r2 w2 z2 n2 h => ?_)
  refine v_istore dJ3_getChars_12 (by decide) rfl ?_
  exact h.elim
/-! java/lang/StringUTF16.getChars -/
theorem wJ3_getChars_2_0 (K : KV) {x0 x1 : Int} {q2 : Nat} {w : Wd} {sz n : Nat} (h : (rI x0) ∧ ((0 ≤ x0 → (VX K mJ3_getChars_2 22 [(0, vI (-x0)), (2, .ref q2), (5, vI x1), (6, vI 0)] [] w sz n)) ∧ (¬ 0 ≤ x0 → (VX K mJ3_getChars_2 22 [(0, vI x0), (2, .ref q2), (5, vI x1), (6, vI 1)] [] w sz n)))) : VX K mJ3_getChars_2 0 [(0, vI x0), (1, vI x1), (2, .ref q2)] [] w sz n := by
  refine v_iload_n 1 dJ3_getChars_2_0 rfl ?_
  refine v_istore dJ3_getChars_2_1 (by decide) rfl ?_
  refine v_iload_n 1 dJ3_getChars_2_3 rfl ?_
  obtain ⟨s1, h⟩ := h
  obtain ⟨ht, hf⟩ := h
  refine v_if_ge 11 dJ3_getChars_2_4 (by decide) s1 (fun c => ?_) (fun c => ?_)
  · have h := ht c
    refine v_iconst dJ3_getChars_2_11 ?_
    refine v_istore dJ3_getChars_2_12 (by decide) rfl ?_
    refine v_iload 0 dJ3_getChars_2_14 rfl ?_
    refine v_if_ne 22 dJ3_getChars_2_16 (by decide) (by decide) (fun c => absurd (by decide) c) (fun _ => ?_)
    refine v_iload_n 2 dJ3_getChars_2_19 rfl ?_
    refine v_ineg dJ3_getChars_2_20 ?_
    refine v_istore_n dJ3_getChars_2_21 (by decide) rfl ?_
    refine V.sub [0, 4, 2, 1] rfl ?_
    exact h
  · have h := hf c
    refine v_iconst dJ3_getChars_2_7 ?_
    refine v_goto 12 dJ3_getChars_2_8 (by decide) ?_
    refine v_istore dJ3_getChars_2_12 (by decide) rfl ?_
    refine v_iload 0 dJ3_getChars_2_14 rfl ?_
    refine v_if_ne 22 dJ3_getChars_2_16 (by decide) (by decide) (fun _ => ?_) (fun c => absurd c (by decide))
    refine V.sub [2, 4, 1, 0] rfl ?_
    exact h
theorem wJ3_getChars_2_22 (K : KV) (hY : XY K.G) {x0 x5 x6 : Int} {q2 : Nat} {w : Wd} {sz n : Nat} (h : (rI x0) ∧ ((((-100)) < x0 → (∃ (l2 : Nat) (f2 : Int → Int), (w (K.G.ad 101) = some (obA 2 l2 f2)) ∧ ((0 ≤ (-x0) ∧ (-x0) < ((l2 : Nat) : Int)) ∧ ((l2 < 2147483648) ∧ (CV mJ3_putChar K [.ref q2, vI (x5 + (-1)), vI (f2 (-x0))] w sz n fun w5 z5 n5 => (((-9)) ≤ x0 → ((rI x6) ∧ ((x6 = 0 → (K.S (some (vI (x5 + (-1)))) w5 z5 n5)) ∧ (¬ x6 = 0 → (CV mJ3_putChar K [.ref q2, vI ((x5 + (-1)) + (-1)), vI 45] w5 z5 n5 fun w7 z7 n7 => K.S (some (vI ((x5 + (-1)) + (-1)))) w7 z7 n7))))) ∧ (¬ ((-9)) ≤ x0 → (∃ (l6 : Nat) (f6 : Int → Int), (w5 (K.G.ad 100) = some (obA 2 l6 f6)) ∧ ((0 ≤ (-x0) ∧ (-x0) < ((l6 : Nat) : Int)) ∧ ((l6 < 2147483648) ∧ (CV mJ3_putChar K [.ref q2, vI ((x5 + (-1)) + (-1)), vI (f6 (-x0))] w5 z5 n5 fun w9 z9 n9 => (rI x6) ∧ ((x6 = 0 → (K.S (some (vI ((x5 + (-1)) + (-1)))) w9 z9 n9)) ∧ (¬ x6 = 0 → (CV mJ3_putChar K [.ref q2, vI (((x5 + (-1)) + (-1)) + (-1)), vI 45] w9 z9 n9 fun w11 z11 n11 => K.S (some (vI (((x5 + (-1)) + (-1)) + (-1)))) w11 z11 n11))))))))))))) ∧ (¬ ((-100)) < x0 → (∃ (l2 : Nat) (f2 : Int → Int), (w (K.G.ad 101) = some (obA 2 l2 f2)) ∧ ((0 ≤ (((Int.tdiv x0 100) * 100) - x0) ∧ (((Int.tdiv x0 100) * 100) - x0) < ((l2 : Nat) : Int)) ∧ ((l2 < 2147483648) ∧ (CV mJ3_putChar K [.ref q2, vI (x5 + (-1)), vI (f2 (((Int.tdiv x0 100) * 100) - x0))] w sz n fun w5 z5 n5 => ∃ (l6 : Nat) (f6 : Int → Int), (w5 (K.G.ad 100) = some (obA 2 l6 f6)) ∧ ((0 ≤ (((Int.tdiv x0 100) * 100) - x0) ∧ (((Int.tdiv x0 100) * 100) - x0) < ((l6 : Nat) : Int)) ∧ ((l6 < 2147483648) ∧ (CV mJ3_putChar K [.ref q2, vI ((x5 + (-1)) + (-1)), vI (f6 (((Int.tdiv x0 100) * 100) - x0))] w5 z5 n5 fun w9 z9 n9 => VX K mJ3_getChars_2 22 [(0, vI (Int.tdiv x0 100)), (2, .ref q2), (5, vI ((x5 + (-1)) + (-1))), (6, vI x6)] [] w9 z9 n9)))))))))) : VX K mJ3_getChars_2 22 [(0, vI x0), (2, .ref q2), (5, vI x5), (6, vI x6)] [] w sz n := by
  refine v_iload_n 0 dJ3_getChars_2_22 rfl ?_
  refine v_bipush dJ3_getChars_2_23 rfl ?_
  obtain ⟨s1, h⟩ := h
  obtain ⟨ht, hf⟩ := h
  refine v_icmp_gt 76 dJ3_getChars_2_25 (by decide) s1 (by decide) (fun c => ?_) (fun c => ?_)
  · have h := ht c
    refine v_aload_n 1 dJ3_getChars_2_76 rfl (isR_ref _) ?_
    refine v_iinc 2 dJ3_getChars_2_77 rfl (by decide) rfl ?_
    refine v_iload 0 dJ3_getChars_2_80 rfl ?_
    refine v_gets (v := .ref (K.G.ad 101)) hY.2.2.1 dJ3_getChars_2_82 q1207 (Or.inl rfl) ?_
    refine v_iload_n 1 dJ3_getChars_2_85 rfl ?_
    refine v_ineg dJ3_getChars_2_86 ?_
    obtain ⟨l2, f2, hw2, h⟩ := h
    obtain ⟨s3, h⟩ := h
    obtain ⟨s4, h⟩ := h
    refine v_bald (q := K.G.ad 101) (j := 0) (f := f2) dJ3_getChars_2_87 hw2 rfl (lay_AB _ _ _) s3 s4 ?_
    refine x_callSV K (As := [.ref q2, vI (x5 + (-1)), vI (f2 (-x0))]) dJ3_getChars_2_88 LJ3_111 rfl rfl (Nat.le_of_ble_eq_true rfl) h (fun w5 z5 n5 h => ?_)
    refine v_iload_n 1 dJ3_getChars_2_91 rfl ?_
    refine v_bipush dJ3_getChars_2_92 rfl ?_
    obtain ⟨ht, hf⟩ := h
    refine v_icmp_ge 112 dJ3_getChars_2_94 (by decide) s1 (by decide) (fun c => ?_) (fun c => ?_)
    · have h := ht c
      refine v_iload 3 dJ3_getChars_2_112 rfl ?_
      obtain ⟨s6, h⟩ := h
      obtain ⟨ht, hf⟩ := h
      refine v_if_eq 128 dJ3_getChars_2_114 (by decide) s6 (fun c => ?_) (fun c => ?_)
      · have h := ht c
        refine v_iload 0 dJ3_getChars_2_128 rfl ?_
        exact x_iret K dJ3_getChars_2_130 rfl h
      · have h := hf c
        refine v_aload_n 2 dJ3_getChars_2_117 rfl (isR_ref _) ?_
        refine v_iinc 0 dJ3_getChars_2_118 rfl (by decide) rfl ?_
        refine v_iload 0 dJ3_getChars_2_121 rfl ?_
        refine v_bipush dJ3_getChars_2_123 rfl ?_
        refine x_callSV K (As := [.ref q2, vI ((x5 + (-1)) + (-1)), vI 45]) dJ3_getChars_2_125 LJ3_111 rfl rfl (Nat.le_of_ble_eq_true rfl) h (fun w7 z7 n7 h => ?_)
        refine v_iload 0 dJ3_getChars_2_128 rfl ?_
        exact x_iret K dJ3_getChars_2_130 rfl h
    · have h := hf c
      refine v_aload_n 2 dJ3_getChars_2_97 rfl (isR_ref _) ?_
      refine v_iinc 0 dJ3_getChars_2_98 rfl (by decide) rfl ?_
      refine v_iload 0 dJ3_getChars_2_101 rfl ?_
      refine v_gets (v := .ref (K.G.ad 100)) hY.2.1 dJ3_getChars_2_103 q1208 (Or.inl rfl) ?_
      refine v_iload_n 1 dJ3_getChars_2_106 rfl ?_
      refine v_ineg dJ3_getChars_2_107 ?_
      obtain ⟨l6, f6, hw6, h⟩ := h
      obtain ⟨s7, h⟩ := h
      obtain ⟨s8, h⟩ := h
      refine v_bald (q := K.G.ad 100) (j := 0) (f := f6) dJ3_getChars_2_108 hw6 rfl (lay_AB _ _ _) s7 s8 ?_
      refine x_callSV K (As := [.ref q2, vI ((x5 + (-1)) + (-1)), vI (f6 (-x0))]) dJ3_getChars_2_109 LJ3_111 rfl rfl (Nat.le_of_ble_eq_true rfl) h (fun w9 z9 n9 h => ?_)
      refine v_iload 3 dJ3_getChars_2_112 rfl ?_
      obtain ⟨s10, h⟩ := h
      obtain ⟨ht, hf⟩ := h
      refine v_if_eq 128 dJ3_getChars_2_114 (by decide) s10 (fun c => ?_) (fun c => ?_)
      · have h := ht c
        refine v_iload 0 dJ3_getChars_2_128 rfl ?_
        exact x_iret K dJ3_getChars_2_130 rfl h
      · have h := hf c
        refine v_aload_n 2 dJ3_getChars_2_117 rfl (isR_ref _) ?_
        refine v_iinc 0 dJ3_getChars_2_118 rfl (by decide) rfl ?_
        refine v_iload 0 dJ3_getChars_2_121 rfl ?_
        refine v_bipush dJ3_getChars_2_123 rfl ?_
        refine x_callSV K (As := [.ref q2, vI (((x5 + (-1)) + (-1)) + (-1)), vI 45]) dJ3_getChars_2_125 LJ3_111 rfl rfl (Nat.le_of_ble_eq_true rfl) h (fun w11 z11 n11 h => ?_)
        refine v_iload 0 dJ3_getChars_2_128 rfl ?_
        exact x_iret K dJ3_getChars_2_130 rfl h
  · have h := hf c
    refine v_iload_n 0 dJ3_getChars_2_28 rfl ?_
    refine v_bipush dJ3_getChars_2_29 rfl ?_
    refine v_idiv dJ3_getChars_2_31 s1 (by decide) (by decide) ?_
    refine v_istore_n dJ3_getChars_2_32 (by decide) rfl ?_
    refine v_iload_n 0 dJ3_getChars_2_33 rfl ?_
    refine v_bipush dJ3_getChars_2_34 rfl ?_
    refine v_imul dJ3_getChars_2_36 ?_
    refine v_iload_n 1 dJ3_getChars_2_37 rfl ?_
    refine v_isub dJ3_getChars_2_38 ?_
    refine v_istore dJ3_getChars_2_39 (by decide) rfl ?_
    refine v_iload_n 1 dJ3_getChars_2_41 rfl ?_
    refine v_istore_n dJ3_getChars_2_42 (by decide) rfl ?_
    refine v_aload_n 3 dJ3_getChars_2_43 rfl (isR_ref _) ?_
    refine v_iinc 4 dJ3_getChars_2_44 rfl (by decide) rfl ?_
    refine v_iload 0 dJ3_getChars_2_47 rfl ?_
    refine v_gets (v := .ref (K.G.ad 101)) hY.2.2.1 dJ3_getChars_2_49 q1207 (Or.inl rfl) ?_
    refine v_iload 2 dJ3_getChars_2_52 rfl ?_
    obtain ⟨l2, f2, hw2, h⟩ := h
    obtain ⟨s3, h⟩ := h
    obtain ⟨s4, h⟩ := h
    refine v_bald (q := K.G.ad 101) (j := 0) (f := f2) dJ3_getChars_2_54 hw2 rfl (lay_AB _ _ _) s3 s4 ?_
    refine x_callSV K (As := [.ref q2, vI (x5 + (-1)), vI (f2 (((Int.tdiv x0 100) * 100) - x0))]) dJ3_getChars_2_55 LJ3_111 rfl rfl (Nat.le_of_ble_eq_true rfl) h (fun w5 z5 n5 h => ?_)
    refine v_aload_n 4 dJ3_getChars_2_58 rfl (isR_ref _) ?_
    refine v_iinc 0 dJ3_getChars_2_59 rfl (by decide) rfl ?_
    refine v_iload 0 dJ3_getChars_2_62 rfl ?_
    refine v_gets (v := .ref (K.G.ad 100)) hY.2.1 dJ3_getChars_2_64 q1208 (Or.inl rfl) ?_
    refine v_iload 2 dJ3_getChars_2_67 rfl ?_
    obtain ⟨l6, f6, hw6, h⟩ := h
    obtain ⟨s7, h⟩ := h
    obtain ⟨s8, h⟩ := h
    refine v_bald (q := K.G.ad 100) (j := 0) (f := f6) dJ3_getChars_2_69 hw6 rfl (lay_AB _ _ _) s7 s8 ?_
    refine x_callSV K (As := [.ref q2, vI ((x5 + (-1)) + (-1)), vI (f6 (((Int.tdiv x0 100) * 100) - x0))]) dJ3_getChars_2_70 LJ3_111 rfl rfl (Nat.le_of_ble_eq_true rfl) h (fun w9 z9 n9 h => ?_)
    refine v_goto 22 dJ3_getChars_2_73 (by decide) ?_
    refine V.sub [1, 4, 0, 5] rfl ?_
    exact h
/-! jdk/internal/util/ArraysSupport.newLength -/
theorem wJ4_newLength_0 (K : KV) {x0 x1 x2 : Int} {w : Wd} {sz n : Nat} (h : (rI x1) ∧ ((rI x2) ∧ ((1 ≤ K.d) ∧ ((rI (x0 + (max x1 x2))) ∧ (((x0 + (max x1 x2)) ≤ 0 → (CI mJ4_hugeLength K [vI x0, vI x1] w sz n fun r5 w5 z5 n5 => K.S (some (vI r5)) w5 z5 n5)) ∧ (¬ (x0 + (max x1 x2)) ≤ 0 → ((2147483639 < (x0 + (max x1 x2)) → (CI mJ4_hugeLength K [vI x0, vI x1] w sz n fun r5 w5 z5 n5 => K.S (some (vI r5)) w5 z5 n5)) ∧ (¬ 2147483639 < (x0 + (max x1 x2)) → (K.S (some (vI (x0 + (max x1 x2)))) w sz n))))))))) : VX K mJ4_newLength 0 [(0, vI x0), (1, vI x1), (2, vI x2)] [] w sz n := by
  refine v_iload_n 0 dJ4_newLength_0 rfl ?_
  refine v_iload_n 1 dJ4_newLength_1 rfl ?_
  refine v_iload_n 2 dJ4_newLength_2 rfl ?_
  obtain ⟨s1, h⟩ := h
  obtain ⟨s2, h⟩ := h
  obtain ⟨s3, h⟩ := h
  refine v_mmax dJ4_newLength_3 q327 s1 s2 s3 (Nat.le_of_ble_eq_true rfl) ?_
  refine v_iadd dJ4_newLength_6 ?_
  refine v_istore_n dJ4_newLength_7 (by decide) rfl ?_
  refine v_iconst dJ4_newLength_8 ?_
  refine v_iload_n 0 dJ4_newLength_9 rfl ?_
  obtain ⟨s4, h⟩ := h
  obtain ⟨ht, hf⟩ := h
  refine v_icmp_ge 21 dJ4_newLength_10 (by decide) (by decide) s4 (fun c => ?_) (fun c => ?_)
  · have h := ht c
    refine v_iload_n 1 dJ4_newLength_21 rfl ?_
    refine v_iload_n 2 dJ4_newLength_22 rfl ?_
    refine x_callSI K (As := [vI x0, vI x1]) dJ4_newLength_23 LJ4_201 rfl rfl (Nat.le_of_ble_eq_true rfl) h (fun r5 w5 z5 n5 h => ?_)
    exact x_iret K dJ4_newLength_26 rfl h
  · have h := hf c
    refine v_iload_n 0 dJ4_newLength_13 rfl ?_
    refine v_ldc (z := 2147483639) dJ4_newLength_14 q330 ?_
    obtain ⟨ht, hf⟩ := h
    refine v_icmp_gt 21 dJ4_newLength_16 (by decide) s4 (by decide) (fun c => ?_) (fun c => ?_)
    · have h := ht c
      refine v_iload_n 1 dJ4_newLength_21 rfl ?_
      refine v_iload_n 2 dJ4_newLength_22 rfl ?_
      refine x_callSI K (As := [vI x0, vI x1]) dJ4_newLength_23 LJ4_201 rfl rfl (Nat.le_of_ble_eq_true rfl) h (fun r5 w5 z5 n5 h => ?_)
      exact x_iret K dJ4_newLength_26 rfl h
    · have h := hf c
      refine v_iload_n 0 dJ4_newLength_19 rfl ?_
      exact x_iret K dJ4_newLength_20 rfl h
/-! jdk/internal/util/ArraysSupport.hugeLength -/
theorem wJ4_hugeLength_0 (K : KV) {x0 x1 : Int} {w : Wd} {sz n : Nat} (h : (rI (x0 + x1)) ∧ ((0 ≤ (x0 + x1) → ((2147483639 < (x0 + x1) → (K.S (some (vI (x0 + x1))) w sz n)) ∧ (¬ 2147483639 < (x0 + x1) → (K.S (some (vI 2147483639)) w sz n)))) ∧ (¬ 0 ≤ (x0 + x1) → (False)))) : VX K mJ4_hugeLength 0 [(0, vI x0), (1, vI x1)] [] w sz n := by
  refine v_iload_n 0 dJ4_hugeLength_0 rfl ?_
  refine v_iload_n 1 dJ4_hugeLength_1 rfl ?_
  refine v_iadd dJ4_hugeLength_2 ?_
  refine v_istore_n dJ4_hugeLength_3 (by decide) rfl ?_
  refine v_iload_n 0 dJ4_hugeLength_4 rfl ?_
  obtain ⟨s1, h⟩ := h
  obtain ⟨ht, hf⟩ := h
  refine v_if_ge 49 dJ4_hugeLength_5 (by decide) s1 (fun c => ?_) (fun c => ?_)
  · have h := ht c
    refine v_iload_n 0 dJ4_hugeLength_49 rfl ?_
    refine v_ldc (z := 2147483639) dJ4_hugeLength_50 q330 ?_
    obtain ⟨ht, hf⟩ := h
    refine v_icmp_gt 58 dJ4_hugeLength_52 (by decide) s1 (by decide) (fun c => ?_) (fun c => ?_)
    · have h := ht c
      refine v_iload_n 0 dJ4_hugeLength_58 rfl ?_
      exact x_iret K dJ4_hugeLength_59 rfl h
    · have h := hf c
      refine v_ldc (z := 2147483639) dJ4_hugeLength_55 q330 ?_
      exact x_iret K dJ4_hugeLength_57 rfl h
  · have h := hf c
    exact h.elim
/-! java/lang/Math.max -/
theorem wJ5_max_0 (K : KV) {x0 x1 : Int} {w : Wd} {sz n : Nat} (h : (rI x0) ∧ ((rI x1) ∧ ((x0 < x1 → (K.S (some (vI x1)) w sz n)) ∧ (¬ x0 < x1 → (K.S (some (vI x0)) w sz n))))) : VX K mJ5_max 0 [(0, vI x0), (1, vI x1)] [] w sz n := by
  refine v_iload_n 0 dJ5_max_0 rfl ?_
  refine v_iload_n 1 dJ5_max_1 rfl ?_
  obtain ⟨s1, h⟩ := h
  obtain ⟨s2, h⟩ := h
  obtain ⟨ht, hf⟩ := h
  refine v_icmp_lt 9 dJ5_max_2 (by decide) s1 s2 (fun c => ?_) (fun c => ?_)
  · have h := ht c
    refine v_iload_n 1 dJ5_max_9 rfl ?_
    exact x_iret K dJ5_max_10 rfl h
  · have h := hf c
    refine v_iload_n 0 dJ5_max_5 rfl ?_
    refine v_goto 10 dJ5_max_6 (by decide) ?_
    exact x_iret K dJ5_max_10 rfl h
/-! java/lang/Math.min -/
theorem wJ5_min_0 (K : KV) {x0 x1 : Int} {w : Wd} {sz n : Nat} (h : (rI x0) ∧ ((rI x1) ∧ ((x1 < x0 → (K.S (some (vI x1)) w sz n)) ∧ (¬ x1 < x0 → (K.S (some (vI x0)) w sz n))))) : VX K mJ5_min 0 [(0, vI x0), (1, vI x1)] [] w sz n := by
  refine v_iload_n 0 dJ5_min_0 rfl ?_
  refine v_iload_n 1 dJ5_min_1 rfl ?_
  obtain ⟨s1, h⟩ := h
  obtain ⟨s2, h⟩ := h
  obtain ⟨ht, hf⟩ := h
  refine v_icmp_gt 9 dJ5_min_2 (by decide) s1 s2 (fun c => ?_) (fun c => ?_)
  · have h := ht c
    refine v_iload_n 1 dJ5_min_9 rfl ?_
    exact x_iret K dJ5_min_10 rfl h
  · have h := hf c
    refine v_iload_n 0 dJ5_min_5 rfl ?_
    refine v_goto 10 dJ5_min_6 (by decide) ?_
    exact x_iret K dJ5_min_10 rfl h
/-! java/lang/Math.max -/
theorem wJ5_max_2_0 (K : KV) {x0 x2 : Int} {w : Wd} {sz n : Nat} (h : (rL x0) ∧ ((rL x2) ∧ (((cmpI x0 x2) < 0 → (K.S (some (vL x2)) w sz n)) ∧ (¬ (cmpI x0 x2) < 0 → (K.S (some (vL x0)) w sz n))))) : VX K mJ5_max_2 0 [(0, vL x0), (2, vL x2)] [] w sz n := by
  refine v_lload_n 0 dJ5_max_2_0 rfl ?_
  refine v_lload_n 1 dJ5_max_2_1 rfl ?_
  obtain ⟨s1, h⟩ := h
  obtain ⟨s2, h⟩ := h
  refine v_lcmp dJ5_max_2_2 s1 s2 ?_
  obtain ⟨ht, hf⟩ := h
  refine v_if_lt 10 dJ5_max_2_3 (by decide) cmpI_rI (fun c => ?_) (fun c => ?_)
  · have h := ht c
    refine v_lload_n 1 dJ5_max_2_10 rfl ?_
    exact v_lret dJ5_max_2_11 rfl h
  · have h := hf c
    refine v_lload_n 0 dJ5_max_2_6 rfl ?_
    refine v_goto 11 dJ5_max_2_7 (by decide) ?_
    exact v_lret dJ5_max_2_11 rfl h
/-! java/util/Arrays.copyOf -/
theorem wJ6_copyOf_0 (K : KV) {x1 : Int} {q0 : Nat} {w : Wd} {sz n : Nat} (h : ∃ (l1 : Nat) (f1 : Int → Int), (w q0 = some (obA 2 l1 f1)) ∧ ((rI x1) ∧ ((rI (((l1 : Nat) : Int))) ∧ ((¬ x1 = (((l1 : Nat) : Int)) → ((w sz = none) ∧ ((0 ≤ x1 ∧ x1 ≤ 20000) ∧ ((1 ≤ K.d) ∧ (((0 : Int) ≤ 0 ∧ 0 + (min (((l1 : Nat) : Int)) x1) ≤ ((l1 : Nat) : Int)) ∧ (((0 : Int) ≤ 0 ∧ 0 + (min (((l1 : Nat) : Int)) x1) ≤ (((Int.toNat x1) : Nat) : Int)) ∧ (((0 : Int) ≤ (min (((l1 : Nat) : Int)) x1)) ∧ ((l1 < 2147483648) ∧ (((Int.toNat x1) < 2147483648) ∧ ((K.G.base ≤ sz) ∧ ((∀ i : Int, 0 ≤ i → i < (min (((l1 : Nat) : Int)) x1) → -128 ≤ f1 (0 + i) ∧ f1 (0 + i) ≤ 127) ∧ (K.S (some (va_rf (some sz))) (wset w sz (some (obA 2 ((Int.toNat x1)) (cpZ f1 ((fun _ => 0)) 0 0 (min (((l1 : Nat) : Int)) x1))))) (sz + 1) (n + Int.toNat x1))))))))))))) ∧ (x1 = (((l1 : Nat) : Int)) → ((w sz = none) ∧ ((l1 ≤ 20000) ∧ ((1 ≤ K.d) ∧ ((∀ i : Int, 0 ≤ i → i < ((l1 : Nat) : Int) → -128 ≤ f1 i ∧ f1 i ≤ 127) ∧ (K.S (some (va_rf (some sz))) (wset w sz (some (obA 2 l1 f1))) (sz + 1) (n + l1))))))))))) : VX K mJ6_copyOf 0 [(0, .ref q0), (1, vI x1)] [] w sz n := by
  refine v_iload_n 1 dJ6_copyOf_0 rfl ?_
  refine v_aload_n 0 dJ6_copyOf_1 rfl (isR_ref _) ?_
  obtain ⟨l1, f1, hw1, h⟩ := h
  refine v_alen (q := q0) (j := 0) dJ6_copyOf_2 hw1 rfl (lay_AB _ _ _) (by decide) ?_
  obtain ⟨s2, h⟩ := h
  obtain ⟨s3, h⟩ := h
  obtain ⟨ht, hf⟩ := h
  refine v_icmp_ne 14 dJ6_copyOf_3 (by decide) s2 s3 (fun c => ?_) (fun c => ?_)
  · have h := ht c
    refine v_iload_n 1 dJ6_copyOf_14 rfl ?_
    obtain ⟨s4, h⟩ := h
    obtain ⟨s5, h⟩ := h
    refine x_newB K dJ6_copyOf_15 s5 s4 ?_
    refine v_astore_n dJ6_copyOf_17 (by decide) (isR_ref _) rfl ?_
    refine v_aload_n 1 dJ6_copyOf_18 rfl (isR_ref _) ?_
    refine v_iconst dJ6_copyOf_19 ?_
    refine v_aload_n 0 dJ6_copyOf_20 rfl (isR_ref _) ?_
    refine v_iconst dJ6_copyOf_21 ?_
    refine v_aload_n 1 dJ6_copyOf_22 rfl (isR_ref _) ?_
    refine v_alen (q := q0) (j := 0) dJ6_copyOf_23 (ws_ne hw1 (wf_ne hw1 s4)) rfl (lay_AB _ _ _) (by decide) ?_
    refine v_iload_n 2 dJ6_copyOf_24 rfl ?_
    obtain ⟨s6, h⟩ := h
    refine v_mmin dJ6_copyOf_25 q345 s3 s2 s6 (Nat.le_of_ble_eq_true rfl) ?_
    obtain ⟨s7, h⟩ := h
    obtain ⟨s8, h⟩ := h
    obtain ⟨s9, h⟩ := h
    obtain ⟨s10, h⟩ := h
    obtain ⟨s11, h⟩ := h
    obtain ⟨s12, h⟩ := h
    obtain ⟨s13, h⟩ := h
    refine v_copy (mk := fun z => vI z) (t := 2) (ty := .byte) (q0 := q0) (j0 := 0) (q1 := sz) (j1 := 0) (f := f1) (g := (fun _ => 0)) (obA 2 ((Int.toNat x1)) (cpZ f1 ((fun _ => 0)) 0 0 (min (((l1 : Nat) : Int)) x1))) dJ6_copyOf_28 q348 q350 q349 q161 (fun _ => rfl) rfl (ws_ne hw1 (wf_ne hw1 s4)) rfl (lay_AB _ _ _) (wset_eq _ _ _) rfl (lay_AB _ _ _) s7 s8 s9 s10 s11 (fun i h1 h2 => byte_fit (s13 i h1 h2)) (fun _ _ h => by cases h) (chg_raw rfl rfl rfl) s12 s6 (Nat.le_of_ble_eq_true rfl) ?_
    rw [wset_wset]
    refine v_aload_n 0 dJ6_copyOf_31 rfl (isR_ref _) ?_
    exact x_aret K (r := some sz) dJ6_copyOf_32 rfl (by first | exact Or.inl ⟨_, rfl⟩ | exact Or.inr ⟨_, rfl⟩) h
  · have h := hf c
    refine v_aload_n 0 dJ6_copyOf_6 rfl (isR_ref _) ?_
    obtain ⟨s4, h⟩ := h
    obtain ⟨s5, h⟩ := h
    obtain ⟨s6, h⟩ := h
    obtain ⟨s7, h⟩ := h
    refine v_cloneB (q := q0) (j := 0) (f := f1) dJ6_copyOf_7 q338 q339 q340 q341 q342 q343 hw1 rfl (lay_AB _ _ _) s5 s7 s4 s6 (Nat.le_of_ble_eq_true rfl) ?_
    refine v_castA2 dJ6_copyOf_10 q344 (wset_eq _ _ _) ?_
    exact x_aret K (r := some sz) dJ6_copyOf_13 rfl (by first | exact Or.inl ⟨_, rfl⟩ | exact Or.inr ⟨_, rfl⟩) h
/-! java/util/Arrays.copyOfRange -/
theorem wJ6_copyOfRange_0 (K : KV) {x1 x2 : Int} {q0 : Nat} {w : Wd} {sz n : Nat} (h : (rI x1) ∧ ((¬ x1 = 0 → (CQ mJ6_copyOfRangeByte K [.ref q0, vI x1, vI x2] w sz n fun r2 w2 z2 n2 => K.S (some (va_rf r2)) w2 z2 n2)) ∧ (x1 = 0 → (∃ (l2 : Nat) (f2 : Int → Int), (w q0 = some (obA 2 l2 f2)) ∧ ((rI x2) ∧ ((rI (((l2 : Nat) : Int))) ∧ ((x2 = (((l2 : Nat) : Int)) → ((w sz = none) ∧ ((l2 ≤ 20000) ∧ ((1 ≤ K.d) ∧ ((∀ i : Int, 0 ≤ i → i < ((l2 : Nat) : Int) → -128 ≤ f2 i ∧ f2 i ≤ 127) ∧ (K.S (some (va_rf (some sz))) (wset w sz (some (obA 2 l2 f2))) (sz + 1) (n + l2))))))) ∧ (¬ x2 = (((l2 : Nat) : Int)) → (CQ mJ6_copyOfRangeByte K [.ref q0, vI x1, vI x2] w sz n fun r5 w5 z5 n5 => K.S (some (va_rf r5)) w5 z5 n5))))))))) : VX K mJ6_copyOfRange 0 [(0, .ref q0), (1, vI x1), (2, vI x2)] [] w sz n := by
  refine v_iload_n 1 dJ6_copyOfRange_0 rfl ?_
  obtain ⟨s1, h⟩ := h
  obtain ⟨ht, hf⟩ := h
  refine v_if_ne 10 dJ6_copyOfRange_1 (by decide) s1 (fun c => ?_) (fun c => ?_)
  · have h := ht c
    refine v_aload_n 0 dJ6_copyOfRange_10 rfl (isR_ref _) ?_
    refine v_iload_n 1 dJ6_copyOfRange_11 rfl ?_
    refine v_iload_n 2 dJ6_copyOfRange_12 rfl ?_
    refine x_callSQ K (As := [.ref q0, vI x1, vI x2]) dJ6_copyOfRange_13 LJ6_339 rfl rfl (Nat.le_of_ble_eq_true rfl) h (fun r2 w2 z2 n2 h => ?_)
    exact x_aret K (r := r2) dJ6_copyOfRange_16 rfl (by first | exact Or.inl ⟨_, rfl⟩ | exact Or.inr ⟨_, rfl⟩) h
  · have h := hf c
    refine v_iload_n 2 dJ6_copyOfRange_4 rfl ?_
    refine v_aload_n 0 dJ6_copyOfRange_5 rfl (isR_ref _) ?_
    obtain ⟨l2, f2, hw2, h⟩ := h
    refine v_alen (q := q0) (j := 0) dJ6_copyOfRange_6 hw2 rfl (lay_AB _ _ _) (by decide) ?_
    obtain ⟨s3, h⟩ := h
    obtain ⟨s4, h⟩ := h
    obtain ⟨ht, hf⟩ := h
    refine v_icmp_eq 17 dJ6_copyOfRange_7 (by decide) s3 s4 (fun c => ?_) (fun c => ?_)
    · have h := ht c
      refine v_aload_n 0 dJ6_copyOfRange_17 rfl (isR_ref _) ?_
      obtain ⟨s5, h⟩ := h
      obtain ⟨s6, h⟩ := h
      obtain ⟨s7, h⟩ := h
      obtain ⟨s8, h⟩ := h
      refine v_cloneB (q := q0) (j := 0) (f := f2) dJ6_copyOfRange_18 q338 q339 q340 q341 q342 q343 hw2 rfl (lay_AB _ _ _) s6 s8 s5 s7 (Nat.le_of_ble_eq_true rfl) ?_
      refine v_castA2 dJ6_copyOfRange_21 q344 (wset_eq _ _ _) ?_
      exact x_aret K (r := some sz) dJ6_copyOfRange_24 rfl (by first | exact Or.inl ⟨_, rfl⟩ | exact Or.inr ⟨_, rfl⟩) h
    · have h := hf c
      refine v_aload_n 0 dJ6_copyOfRange_10 rfl (isR_ref _) ?_
      refine v_iload_n 1 dJ6_copyOfRange_11 rfl ?_
      refine v_iload_n 2 dJ6_copyOfRange_12 rfl ?_
      refine x_callSQ K (As := [.ref q0, vI x1, vI x2]) dJ6_copyOfRange_13 LJ6_339 rfl rfl (Nat.le_of_ble_eq_true rfl) h (fun r5 w5 z5 n5 h => ?_)
      exact x_aret K (r := r5) dJ6_copyOfRange_16 rfl (by first | exact Or.inl ⟨_, rfl⟩ | exact Or.inr ⟨_, rfl⟩) h
/-! java/util/Arrays.copyOfRangeByte -/
theorem wJ6_copyOfRangeByte_0 (K : KV) {x1 x2 : Int} {q0 : Nat} {w : Wd} {sz n : Nat} (h : CV mJ6_checkLength K [vI x1, vI x2] w sz n fun w1 z1 n1 => (w1 z1 = none) ∧ ((0 ≤ (x2 - x1) ∧ (x2 - x1) ≤ 20000) ∧ (∃ (l4 : Nat) (f4 : Int → Int), ((wset w1 z1 (some (obA 2 ((Int.toNat (x2 - x1))) ((fun _ => 0))))) q0 = some (obA 2 l4 f4)) ∧ ((q0 ≠ z1) ∧ ((rI ((((l4 : Nat) : Int)) - x1)) ∧ ((rI (x2 - x1)) ∧ ((1 ≤ K.d) ∧ (((0 : Int) ≤ x1 ∧ x1 + (min ((((l4 : Nat) : Int)) - x1) (x2 - x1)) ≤ ((l4 : Nat) : Int)) ∧ (((0 : Int) ≤ 0 ∧ 0 + (min ((((l4 : Nat) : Int)) - x1) (x2 - x1)) ≤ (((Int.toNat (x2 - x1)) : Nat) : Int)) ∧ (((0 : Int) ≤ (min ((((l4 : Nat) : Int)) - x1) (x2 - x1))) ∧ ((l4 < 2147483648) ∧ (((Int.toNat (x2 - x1)) < 2147483648) ∧ ((K.G.base ≤ z1) ∧ ((∀ i : Int, 0 ≤ i → i < (min ((((l4 : Nat) : Int)) - x1) (x2 - x1)) → -128 ≤ f4 (x1 + i) ∧ f4 (x1 + i) ≤ 127) ∧ (K.S (some (va_rf (some z1))) (wset w1 z1 (some (obA 2 ((Int.toNat (x2 - x1))) (cpZ f4 ((fun _ => 0)) x1 0 (min ((((l4 : Nat) : Int)) - x1) (x2 - x1)))))) (z1 + 1) (n1 + Int.toNat (x2 - x1))))))))))))))))) : VX K mJ6_copyOfRangeByte 0 [(0, .ref q0), (1, vI x1), (2, vI x2)] [] w sz n := by
  refine v_iload_n 1 dJ6_copyOfRangeByte_0 rfl ?_
  refine v_iload_n 2 dJ6_copyOfRangeByte_1 rfl ?_
  refine x_callSV K (As := [vI x1, vI x2]) dJ6_copyOfRangeByte_2 LJ6_343 rfl rfl (Nat.le_of_ble_eq_true rfl) h (fun w1 z1 n1 h => ?_)
  refine v_iload_n 2 dJ6_copyOfRangeByte_5 rfl ?_
  refine v_iload_n 1 dJ6_copyOfRangeByte_6 rfl ?_
  refine v_isub dJ6_copyOfRangeByte_7 ?_
  refine v_istore_n dJ6_copyOfRangeByte_8 (by decide) rfl ?_
  refine v_iload_n 0 dJ6_copyOfRangeByte_9 rfl ?_
  obtain ⟨s2, h⟩ := h
  obtain ⟨s3, h⟩ := h
  refine x_newB K dJ6_copyOfRangeByte_10 s3 s2 ?_
  refine v_astore dJ6_copyOfRangeByte_12 (by decide) (isR_ref _) rfl ?_
  refine v_aload_n 2 dJ6_copyOfRangeByte_14 rfl (isR_ref _) ?_
  refine v_iload_n 3 dJ6_copyOfRangeByte_15 rfl ?_
  refine v_aload 0 dJ6_copyOfRangeByte_16 rfl (isR_ref _) ?_
  refine v_iconst dJ6_copyOfRangeByte_18 ?_
  refine v_aload_n 2 dJ6_copyOfRangeByte_19 rfl (isR_ref _) ?_
  obtain ⟨l4, f4, hw4, h⟩ := h
  obtain ⟨s5, h⟩ := h
  refine v_alen (q := q0) (j := 0) dJ6_copyOfRangeByte_20 hw4 rfl (lay_AB _ _ _) (by decide) ?_
  refine v_iload_n 3 dJ6_copyOfRangeByte_21 rfl ?_
  refine v_isub dJ6_copyOfRangeByte_22 ?_
  refine v_iload_n 1 dJ6_copyOfRangeByte_23 rfl ?_
  obtain ⟨s6, h⟩ := h
  obtain ⟨s7, h⟩ := h
  obtain ⟨s8, h⟩ := h
  refine v_mmin dJ6_copyOfRangeByte_24 q345 s6 s7 s8 (Nat.le_of_ble_eq_true rfl) ?_
  obtain ⟨s9, h⟩ := h
  obtain ⟨s10, h⟩ := h
  obtain ⟨s11, h⟩ := h
  obtain ⟨s12, h⟩ := h
  obtain ⟨s13, h⟩ := h
  obtain ⟨s14, h⟩ := h
  obtain ⟨s15, h⟩ := h
  refine v_copy (mk := fun z => vI z) (t := 2) (ty := .byte) (q0 := q0) (j0 := 0) (q1 := z1) (j1 := 0) (f := f4) (g := (fun _ => 0)) (obA 2 ((Int.toNat (x2 - x1))) (cpZ f4 ((fun _ => 0)) x1 0 (min ((((l4 : Nat) : Int)) - x1) (x2 - x1)))) dJ6_copyOfRangeByte_27 q348 q350 q349 q161 (fun _ => rfl) rfl hw4 rfl (lay_AB _ _ _) (wset_eq _ _ _) rfl (lay_AB _ _ _) s9 s10 s11 s12 s13 (fun i h1 h2 => byte_fit (s15 i h1 h2)) (fun _ _ h => by cases h) (chg_raw rfl rfl rfl) s14 s8 (Nat.le_of_ble_eq_true rfl) ?_
  rw [wset_wset]
  refine v_aload 0 dJ6_copyOfRangeByte_30 rfl (isR_ref _) ?_
  exact x_aret K (r := some z1) dJ6_copyOfRangeByte_32 rfl (by first | exact Or.inl ⟨_, rfl⟩ | exact Or.inr ⟨_, rfl⟩) h
/-! java/util/Arrays.checkLength -/
theorem wJ6_checkLength_0 (K : KV) {x0 x1 : Int} {w : Wd} {sz n : Nat} (h : (rI x1) ∧ ((rI x0) ∧ ((x0 ≤ x1 → (K.S none w sz n)) ∧ (¬ x0 ≤ x1 → (False))))) : VX K mJ6_checkLength 0 [(0, vI x0), (1, vI x1)] [] w sz n := by
  refine v_iload_n 1 dJ6_checkLength_0 rfl ?_
  refine v_iload_n 0 dJ6_checkLength_1 rfl ?_
  obtain ⟨s1, h⟩ := h
  obtain ⟨s2, h⟩ := h
  obtain ⟨ht, hf⟩ := h
  refine v_icmp_ge 37 dJ6_checkLength_2 (by decide) s1 s2 (fun c => ?_) (fun c => ?_)
  · have h := ht c
    exact v_vret dJ6_checkLength_37 rfl h
  · have h := hf c
    exact h.elim
/-! java/util/Arrays.copyOf -/
theorem wJ6_copyOf_2_0 (K : KV) {x1 : Int} {q0 : Nat} {w : Wd} {sz n : Nat} (h : False) : VX K mJ6_copyOf_2 0 [(0, .ref q0), (1, vI x1)] [] w sz n := by
  refine v_aload_n 0 dJ6_copyOf_2_0 rfl (isR_ref _) ?_
  refine v_iload_n 1 dJ6_copyOf_2_1 rfl ?_
  refine v_aload_n 0 dJ6_copyOf_2_2 rfl (isR_ref _) ?_
  exact h.elim
/-! java/util/Arrays.copyOf -/
theorem wJ6_copyOf_3_0 (K : KV) {x1 : Int} {q0 q2 : Nat} {w : Wd} {sz n : Nat} (h : False) : VX K mJ6_copyOf_3 0 [(0, .ref q0), (1, vI x1), (2, .ref q2)] [] w sz n := by
  refine v_aload_n 2 dJ6_copyOf_3_0 rfl (isR_ref _) ?_
  exact h.elim
/-! jdk/internal/util/Preconditions.checkFromToIndex -/
theorem wJ7_checkFromToIndex_0 (K : KV) {x0 x1 x2 : Int} {q3 : Nat} {w : Wd} {sz n : Nat} (h : (rI x0) ∧ ((x0 < 0 → (False)) ∧ (¬ x0 < 0 → ((rI x1) ∧ ((x1 < x0 → (False)) ∧ (¬ x1 < x0 → ((rI x2) ∧ ((x1 ≤ x2 → (K.S (some (vI x0)) w sz n)) ∧ (¬ x1 ≤ x2 → (False)))))))))) : VX K mJ7_checkFromToIndex 0 [(0, vI x0), (1, vI x1), (2, vI x2), (3, .ref q3)] [] w sz n := by
  refine v_iload_n 0 dJ7_checkFromToIndex_0 rfl ?_
  obtain ⟨s1, h⟩ := h
  obtain ⟨ht, hf⟩ := h
  refine v_if_lt 14 dJ7_checkFromToIndex_1 (by decide) s1 (fun c => ?_) (fun c => ?_)
  · have h := ht c
    refine v_aload_n 3 dJ7_checkFromToIndex_14 rfl (isR_ref _) ?_
    refine v_iload_n 0 dJ7_checkFromToIndex_15 rfl ?_
    refine v_iload_n 1 dJ7_checkFromToIndex_16 rfl ?_
    refine v_iload_n 2 dJ7_checkFromToIndex_17 rfl ?_
    exact h.elim
  · have h := hf c
    refine v_iload_n 0 dJ7_checkFromToIndex_4 rfl ?_
    refine v_iload_n 1 dJ7_checkFromToIndex_5 rfl ?_
    obtain ⟨s2, h⟩ := h
    obtain ⟨ht, hf⟩ := h
    refine v_icmp_gt 14 dJ7_checkFromToIndex_6 (by decide) s1 s2 (fun c => ?_) (fun c => ?_)
    · have h := ht c
      refine v_aload_n 3 dJ7_checkFromToIndex_14 rfl (isR_ref _) ?_
      refine v_iload_n 0 dJ7_checkFromToIndex_15 rfl ?_
      refine v_iload_n 1 dJ7_checkFromToIndex_16 rfl ?_
      refine v_iload_n 2 dJ7_checkFromToIndex_17 rfl ?_
      exact h.elim
    · have h := hf c
      refine v_iload_n 1 dJ7_checkFromToIndex_9 rfl ?_
      refine v_iload_n 2 dJ7_checkFromToIndex_10 rfl ?_
      obtain ⟨s3, h⟩ := h
      obtain ⟨ht, hf⟩ := h
      refine v_icmp_le 22 dJ7_checkFromToIndex_11 (by decide) s2 s3 (fun c => ?_) (fun c => ?_)
      · have h := ht c
        refine v_iload_n 0 dJ7_checkFromToIndex_22 rfl ?_
        exact x_iret K dJ7_checkFromToIndex_23 rfl h
      · have h := hf c
        refine v_aload_n 3 dJ7_checkFromToIndex_14 rfl (isR_ref _) ?_
        refine v_iload_n 0 dJ7_checkFromToIndex_15 rfl ?_
        refine v_iload_n 1 dJ7_checkFromToIndex_16 rfl ?_
        refine v_iload_n 2 dJ7_checkFromToIndex_17 rfl ?_
        exact h.elim
/-! jdk/internal/util/Preconditions.checkFromIndexSize -/
theorem wJ7_checkFromIndexSize_0 (K : KV) {x0 x1 x2 : Int} {q3 : Nat} {w : Wd} {sz n : Nat} (h : (rI (ior (ior x2 x0) x1)) ∧ (((ior (ior x2 x0) x1) < 0 → (False)) ∧ (¬ (ior (ior x2 x0) x1) < 0 → ((rI x1) ∧ ((rI (x2 - x0)) ∧ ((x1 ≤ (x2 - x0) → (K.S (some (vI x0)) w sz n)) ∧ (¬ x1 ≤ (x2 - x0) → (False)))))))) : VX K mJ7_checkFromIndexSize 0 [(0, vI x0), (1, vI x1), (2, vI x2), (3, .ref q3)] [] w sz n := by
  refine v_iload_n 2 dJ7_checkFromIndexSize_0 rfl ?_
  refine v_iload_n 0 dJ7_checkFromIndexSize_1 rfl ?_
  refine v_ior dJ7_checkFromIndexSize_2 ?_
  refine v_iload_n 1 dJ7_checkFromIndexSize_3 rfl ?_
  refine v_ior dJ7_checkFromIndexSize_4 ?_
  obtain ⟨s1, h⟩ := h
  obtain ⟨ht, hf⟩ := h
  refine v_if_lt 15 dJ7_checkFromIndexSize_5 (by decide) s1 (fun c => ?_) (fun c => ?_)
  · have h := ht c
    refine v_aload_n 3 dJ7_checkFromIndexSize_15 rfl (isR_ref _) ?_
    refine v_iload_n 0 dJ7_checkFromIndexSize_16 rfl ?_
    refine v_iload_n 1 dJ7_checkFromIndexSize_17 rfl ?_
    refine v_iload_n 2 dJ7_checkFromIndexSize_18 rfl ?_
    exact h.elim
  · have h := hf c
    refine v_iload_n 1 dJ7_checkFromIndexSize_8 rfl ?_
    refine v_iload_n 2 dJ7_checkFromIndexSize_9 rfl ?_
    refine v_iload_n 0 dJ7_checkFromIndexSize_10 rfl ?_
    refine v_isub dJ7_checkFromIndexSize_11 ?_
    obtain ⟨s2, h⟩ := h
    obtain ⟨s3, h⟩ := h
    obtain ⟨ht, hf⟩ := h
    refine v_icmp_le 23 dJ7_checkFromIndexSize_12 (by decide) s2 s3 (fun c => ?_) (fun c => ?_)
    · have h := ht c
      refine v_iload_n 0 dJ7_checkFromIndexSize_23 rfl ?_
      exact x_iret K dJ7_checkFromIndexSize_24 rfl h
    · have h := hf c
      refine v_aload_n 3 dJ7_checkFromIndexSize_15 rfl (isR_ref _) ?_
      refine v_iload_n 0 dJ7_checkFromIndexSize_16 rfl ?_
      refine v_iload_n 1 dJ7_checkFromIndexSize_17 rfl ?_
      refine v_iload_n 2 dJ7_checkFromIndexSize_18 rfl ?_
      exact h.elim
/-! jdk/internal/util/Preconditions.checkIndex -/
theorem wJ7_checkIndex_0 (K : KV) {x0 x1 : Int} {q2 : Nat} {w : Wd} {sz n : Nat} (h : (rI x0) ∧ ((x0 < 0 → (False)) ∧ (¬ x0 < 0 → ((rI x1) ∧ ((x0 < x1 → (K.S (some (vI x0)) w sz n)) ∧ (¬ x0 < x1 → (False))))))) : VX K mJ7_checkIndex 0 [(0, vI x0), (1, vI x1), (2, .ref q2)] [] w sz n := by
  refine v_iload_n 0 dJ7_checkIndex_0 rfl ?_
  obtain ⟨s1, h⟩ := h
  obtain ⟨ht, hf⟩ := h
  refine v_if_lt 9 dJ7_checkIndex_1 (by decide) s1 (fun c => ?_) (fun c => ?_)
  · have h := ht c
    refine v_aload_n 2 dJ7_checkIndex_9 rfl (isR_ref _) ?_
    refine v_iload_n 0 dJ7_checkIndex_10 rfl ?_
    refine v_iload_n 1 dJ7_checkIndex_11 rfl ?_
    exact h.elim
  · have h := hf c
    refine v_iload_n 0 dJ7_checkIndex_4 rfl ?_
    refine v_iload_n 1 dJ7_checkIndex_5 rfl ?_
    obtain ⟨s2, h⟩ := h
    obtain ⟨ht, hf⟩ := h
    refine v_icmp_lt 16 dJ7_checkIndex_6 (by decide) s1 s2 (fun c => ?_) (fun c => ?_)
    · have h := ht c
      refine v_iload_n 0 dJ7_checkIndex_16 rfl ?_
      exact x_iret K dJ7_checkIndex_17 rfl h
    · have h := hf c
      refine v_aload_n 2 dJ7_checkIndex_9 rfl (isR_ref _) ?_
      refine v_iload_n 0 dJ7_checkIndex_10 rfl ?_
      refine v_iload_n 1 dJ7_checkIndex_11 rfl ?_
      exact h.elim
/-! java/lang/StringLatin1.inflate -/
theorem wJ8_inflate_0 (K : KV) {x1 x3 x4 : Int} {q0 q2 : Nat} {w : Wd} {sz n : Nat} (h : CV mJ3_inflate K [.ref q0, vI x1, .ref q2, vI x3, vI x4] w sz n fun w1 z1 n1 => K.S none w1 z1 n1) : VX K mJ8_inflate 0 [(0, .ref q0), (1, vI x1), (2, .ref q2), (3, vI x3), (4, vI x4)] [] w sz n := by
  refine v_aload_n 0 dJ8_inflate_0 rfl (isR_ref _) ?_
  refine v_iload_n 1 dJ8_inflate_1 rfl ?_
  refine v_aload_n 2 dJ8_inflate_2 rfl (isR_ref _) ?_
  refine v_iload_n 3 dJ8_inflate_3 rfl ?_
  refine v_iload 4 dJ8_inflate_4 rfl ?_
  refine x_callSV K (As := [.ref q0, vI x1, .ref q2, vI x3, vI x4]) dJ8_inflate_6 LJ8_240 rfl rfl (Nat.le_of_ble_eq_true rfl) h (fun w1 z1 n1 h => ?_)
  exact v_vret dJ8_inflate_9 rfl h
/-! java/lang/StringLatin1.charAt -/
theorem wJ8_charAt_0 (K : KV) {x1 : Int} {q0 : Nat} {w : Wd} {sz n : Nat} (h : ∃ (l1 : Nat) (f1 : Int → Int), (w q0 = some (obA 2 l1 f1)) ∧ (CV mJ2_checkIndex K [vI x1, vI (((l1 : Nat) : Int))] w sz n fun w2 z2 n2 => ∃ (l3 : Nat) (f3 : Int → Int), (w2 q0 = some (obA 2 l3 f3)) ∧ ((0 ≤ x1 ∧ x1 < ((l3 : Nat) : Int)) ∧ ((l3 < 2147483648) ∧ ((0 ≤ (i2c (iand (f3 x1) 255)) ∧ (i2c (iand (f3 x1) 255)) < 256) ∧ (K.S (some (vI (i2c (iand (f3 x1) 255)))) w2 z2 n2)))))) : VX K mJ8_charAt 0 [(0, .ref q0), (1, vI x1)] [] w sz n := by
  refine v_iload_n 1 dJ8_charAt_0 rfl ?_
  refine v_aload_n 0 dJ8_charAt_1 rfl (isR_ref _) ?_
  obtain ⟨l1, f1, hw1, h⟩ := h
  refine v_alen (q := q0) (j := 0) dJ8_charAt_2 hw1 rfl (lay_AB _ _ _) (by decide) ?_
  refine x_callSV K (As := [vI x1, vI (((l1 : Nat) : Int))]) dJ8_charAt_3 LJ8_9 rfl rfl (Nat.le_of_ble_eq_true rfl) h (fun w2 z2 n2 h => ?_)
  refine v_aload_n 0 dJ8_charAt_6 rfl (isR_ref _) ?_
  refine v_iload_n 1 dJ8_charAt_7 rfl ?_
  obtain ⟨l3, f3, hw3, h⟩ := h
  obtain ⟨s4, h⟩ := h
  obtain ⟨s5, h⟩ := h
  refine v_bald (q := q0) (j := 0) (f := f3) dJ8_charAt_8 hw3 rfl (lay_AB _ _ _) s4 s5 ?_
  refine v_sipush dJ8_charAt_9 rfl ?_
  refine v_iand dJ8_charAt_12 ?_
  refine v_i2c dJ8_charAt_13 ?_
  obtain ⟨s6, h⟩ := h
  exact x_cret K dJ8_charAt_14 rfl s6 h
/-! java/lang/StringLatin1.canEncode -/
theorem wJ8_canEncode_0 (K : KV) {x0 : Int} {w : Wd} {sz n : Nat} (h : (rI x0) ∧ ((255 < x0 → (K.S (some (vI 0)) w sz n)) ∧ (¬ 255 < x0 → (K.S (some (vI 1)) w sz n)))) : VX K mJ8_canEncode 0 [(0, vI x0)] [] w sz n := by
  refine v_iload_n 0 dJ8_canEncode_0 rfl ?_
  refine v_sipush dJ8_canEncode_1 rfl ?_
  obtain ⟨s1, h⟩ := h
  obtain ⟨ht, hf⟩ := h
  refine v_icmp_gt 11 dJ8_canEncode_4 (by decide) s1 (by decide) (fun c => ?_) (fun c => ?_)
  · have h := ht c
    refine v_iconst dJ8_canEncode_11 ?_
    exact x_zret K dJ8_canEncode_12 rfl (by decide) h
  · have h := hf c
    refine v_iconst dJ8_canEncode_7 ?_
    refine v_goto 12 dJ8_canEncode_8 (by decide) ?_
    exact x_zret K dJ8_canEncode_12 rfl (by decide) h
