set_option maxRecDepth 100000
theorem wJ7_checkIndexq_0 (K : KV) {x0 x1 : Int} {q2 : Option Nat} {w : Wd} {sz n : Nat} (h : (rI x0) ∧ ((x0 < 0 → (False)) ∧ (¬ x0 < 0 → ((rI x1) ∧ ((x0 < x1 → (K.S (some (vI x0)) w sz n)) ∧ (¬ x0 < x1 → (False))))))) : VX K mJ7_checkIndex 0 [(0, vI x0), (1, vI x1), (2, va_rf q2)] [] w sz n := by
  refine v_iload_n 0 dJ7_checkIndex_0 rfl ?_
  obtain ⟨s1, h⟩ := h
  obtain ⟨ht, hf⟩ := h
  refine v_if_lt 9 dJ7_checkIndex_1 (by decide) s1 (fun c => ?_) (fun c => ?_)
  · have h := ht c
    refine v_aload_n 2 dJ7_checkIndex_9 rfl (isR_rf _) ?_
    refine v_iload_n 0 dJ7_checkIndex_10 rfl ?_
    refine v_iload_n 1 dJ7_checkIndex_11 rfl ?_
    exact h.elim
  · have h := hf c
    refine v_iload_n 0 dJ7_checkIndex_4 rfl ?_
    refine v_iload_n 1 dJ7_checkIndex_5 rfl ?_
    obtain ⟨s2, h⟩ := h
    obtain ⟨ht, hf⟩ := h
    refine v_icmp_lt 16 dJ7_checkIndex_6 (by decide) s1 s2 (fun c => ?_) (fun c => ?_)
    · have h := ht c
      refine v_iload_n 0 dJ7_checkIndex_16 rfl ?_
      exact x_iret K dJ7_checkIndex_17 rfl h
    · have h := hf c
      refine v_aload_n 2 dJ7_checkIndex_9 rfl (isR_rf _) ?_
      refine v_iload_n 0 dJ7_checkIndex_10 rfl ?_
      refine v_iload_n 1 dJ7_checkIndex_11 rfl ?_
      exact h.elim
theorem wJ7_checkFromToIndexq_0 (K : KV) {x0 x1 x2 : Int} {q3 : Option Nat} {w : Wd} {sz n : Nat} (h : (rI x0) ∧ ((x0 < 0 → (False)) ∧ (¬ x0 < 0 → ((rI x1) ∧ ((x1 < x0 → (False)) ∧ (¬ x1 < x0 → ((rI x2) ∧ ((x1 ≤ x2 → (K.S (some (vI x0)) w sz n)) ∧ (¬ x1 ≤ x2 → (False)))))))))) : VX K mJ7_checkFromToIndex 0 [(0, vI x0), (1, vI x1), (2, vI x2), (3, va_rf q3)] [] w sz n := by
  refine v_iload_n 0 dJ7_checkFromToIndex_0 rfl ?_
  obtain ⟨s1, h⟩ := h
  obtain ⟨ht, hf⟩ := h
  refine v_if_lt 14 dJ7_checkFromToIndex_1 (by decide) s1 (fun c => ?_) (fun c => ?_)
  · have h := ht c
    refine v_aload_n 3 dJ7_checkFromToIndex_14 rfl (isR_rf _) ?_
    refine v_iload_n 0 dJ7_checkFromToIndex_15 rfl ?_
    refine v_iload_n 1 dJ7_checkFromToIndex_16 rfl ?_
    refine v_iload_n 2 dJ7_checkFromToIndex_17 rfl ?_
    exact h.elim
  · have h := hf c
    refine v_iload_n 0 dJ7_checkFromToIndex_4 rfl ?_
    refine v_iload_n 1 dJ7_checkFromToIndex_5 rfl ?_
    obtain ⟨s2, h⟩ := h
    obtain ⟨ht, hf⟩ := h
    refine v_icmp_gt 14 dJ7_checkFromToIndex_6 (by decide) s1 s2 (fun c => ?_) (fun c => ?_)
    · have h := ht c
      refine v_aload_n 3 dJ7_checkFromToIndex_14 rfl (isR_rf _) ?_
      refine v_iload_n 0 dJ7_checkFromToIndex_15 rfl ?_
      refine v_iload_n 1 dJ7_checkFromToIndex_16 rfl ?_
      refine v_iload_n 2 dJ7_checkFromToIndex_17 rfl ?_
      exact h.elim
    · have h := hf c
      refine v_iload_n 1 dJ7_checkFromToIndex_9 rfl ?_
      refine v_iload_n 2 dJ7_checkFromToIndex_10 rfl ?_
      obtain ⟨s3, h⟩ := h
      obtain ⟨ht, hf⟩ := h
      refine v_icmp_le 22 dJ7_checkFromToIndex_11 (by decide) s2 s3 (fun c => ?_) (fun c => ?_)
      · have h := ht c
        refine v_iload_n 0 dJ7_checkFromToIndex_22 rfl ?_
        exact x_iret K dJ7_checkFromToIndex_23 rfl h
      · have h := hf c
        refine v_aload_n 3 dJ7_checkFromToIndex_14 rfl (isR_rf _) ?_
        refine v_iload_n 0 dJ7_checkFromToIndex_15 rfl ?_
        refine v_iload_n 1 dJ7_checkFromToIndex_16 rfl ?_
        refine v_iload_n 2 dJ7_checkFromToIndex_17 rfl ?_
        exact h.elim
theorem wJ7_checkFromIndexSizeq_0 (K : KV) {x0 x1 x2 : Int} {q3 : Option Nat} {w : Wd} {sz n : Nat} (h : (rI (ior (ior x2 x0) x1)) ∧ (((ior (ior x2 x0) x1) < 0 → (False)) ∧ (¬ (ior (ior x2 x0) x1) < 0 → ((rI x1) ∧ ((rI (x2 - x0)) ∧ ((x1 ≤ (x2 - x0) → (K.S (some (vI x0)) w sz n)) ∧ (¬ x1 ≤ (x2 - x0) → (False)))))))) : VX K mJ7_checkFromIndexSize 0 [(0, vI x0), (1, vI x1), (2, vI x2), (3, va_rf q3)] [] w sz n := by
  refine v_iload_n 2 dJ7_checkFromIndexSize_0 rfl ?_
  refine v_iload_n 0 dJ7_checkFromIndexSize_1 rfl ?_
  refine v_ior dJ7_checkFromIndexSize_2 ?_
  refine v_iload_n 1 dJ7_checkFromIndexSize_3 rfl ?_
  refine v_ior dJ7_checkFromIndexSize_4 ?_
  obtain ⟨s1, h⟩ := h
  obtain ⟨ht, hf⟩ := h
  refine v_if_lt 15 dJ7_checkFromIndexSize_5 (by decide) s1 (fun c => ?_) (fun c => ?_)
  · have h := ht c
    refine v_aload_n 3 dJ7_checkFromIndexSize_15 rfl (isR_rf _) ?_
    refine v_iload_n 0 dJ7_checkFromIndexSize_16 rfl ?_
    refine v_iload_n 1 dJ7_checkFromIndexSize_17 rfl ?_
    refine v_iload_n 2 dJ7_checkFromIndexSize_18 rfl ?_
    exact h.elim
  · have h := hf c
    refine v_iload_n 1 dJ7_checkFromIndexSize_8 rfl ?_
    refine v_iload_n 2 dJ7_checkFromIndexSize_9 rfl ?_
    refine v_iload_n 0 dJ7_checkFromIndexSize_10 rfl ?_
    refine v_isub dJ7_checkFromIndexSize_11 ?_
    obtain ⟨s2, h⟩ := h
    obtain ⟨s3, h⟩ := h
    obtain ⟨ht, hf⟩ := h
    refine v_icmp_le 23 dJ7_checkFromIndexSize_12 (by decide) s2 s3 (fun c => ?_) (fun c => ?_)
    · have h := ht c
      refine v_iload_n 0 dJ7_checkFromIndexSize_23 rfl ?_
      exact x_iret K dJ7_checkFromIndexSize_24 rfl h
    · have h := hf c
      refine v_aload_n 3 dJ7_checkFromIndexSize_15 rfl (isR_rf _) ?_
      refine v_iload_n 0 dJ7_checkFromIndexSize_16 rfl ?_
      refine v_iload_n 1 dJ7_checkFromIndexSize_17 rfl ?_
      refine v_iload_n 2 dJ7_checkFromIndexSize_18 rfl ?_
      exact h.elim
