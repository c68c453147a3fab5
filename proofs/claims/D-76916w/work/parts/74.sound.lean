set_option maxRecDepth 100000
/-! what both hold stays sound -/
theorem SgOk.draw {s : Sg} (h : SgOk s) {T : Tr} (hT : ∃ d, TrOk T d) (h12 : T.1 ≤ 12) : SgOk (T, s.2) := ⟨hT, h12, h.2.2⟩
theorem SgOk.grow {s : Sg} (h : SgOk s) (a : Int) : SgOk (opGrow s a).2 := by
  unfold opGrow
  by_cases c : isAt s a = true
  · rw [if_pos c]
    have hc := of_decide_eq_true c
    split
    · exact h
    · next c2 =>
      obtain ⟨d, hT⟩ := h.1
      have haT : inT s.D a := ⟨hc.1, by omega⟩
      have hdg := hT.deg a
      have h12 := h.2.1
      exact h.draw ⟨_, hT.grow haT (by omega) (by omega)⟩ (by show s.D.1 + 1 ≤ 12; omega)
  · rw [if_neg c]; exact h
theorem SgOk.cut {s : Sg} (h : SgOk s) (a : Int) : SgOk (opCut s a).2 := by
  unfold opCut
  by_cases c : isAt s a = true
  · rw [if_pos c]
    have hc := of_decide_eq_true c
    split
    · next c2 =>
      obtain ⟨d, hT⟩ := h.1
      have h12 := h.2.1
      exact h.draw ⟨_, hT.cut ⟨hc.1, by omega⟩ c2⟩ (by show s.D.1 - 1 ≤ 12; omega)
    · exact h
  · rw [if_neg c]; exact h
theorem SgOk.take (hLO : LstOk) {s : Sg} (h : SgOk s) (n i : Int) : SgOk (opTake s n i).2 := by
  unfold opTake
  by_cases c : isLd n i = true
  · rw [if_pos c]
    split
    · next C hC =>
      have hc : (decide (1 ≤ n ∧ n ≤ 10)) = true := (Bool.and_eq_true_iff.mp c).1
      have hn := of_decide_eq_true hc
      have h1 := canT_ok (by omega) (by omega) hC
      have h2 := (canT_some hC).2.1
      exact h.draw h1 (by omega)
    · exact h
  · rw [if_neg c]; exact h
theorem SgOk.code {s : Sg} (h : SgOk s) (n v : Int) : SgOk (opCode s n v).2 := by
  unfold opCode
  split
  · next c =>
    split
    · next C hC =>
      have h1 := canT_ok (by omega) (by omega) hC
      have h2 := (canT_some hC).2.1
      exact h.draw h1 (by omega)
    · exact h
  · exact h
theorem SgOk.feed {s : Sg} (h : SgOk s) (c : Int) : SgOk (opFeed s c).2 := by
  unfold opFeed
  obtain ⟨h1, h2, h3, h4, h5, h6, h7⟩ := h
  split
  · next hc =>
    split
    · exact ⟨h1, h2, h3, h4, h5, h6, h7⟩
    · next hl =>
      refine ⟨h1, h2, h3, ?_, fun x hx => ?_, h6, h7⟩
      · show (s.tp ++ [c]).length ≤ 80
        rw [List.length_append, List.length_singleton]; omega
      · rcases List.mem_append.mp hx with hx | hx
        · exact h5 x hx
        · rw [List.mem_singleton.mp hx]; exact hc
  · exact ⟨h1, h2, h3, h4, h5, h6, h7⟩
theorem SgOk.clear {s : Sg} (h : SgOk s) : SgOk (opClear s).2 :=
  ⟨h.1, h.2.1, h.2.2.1, Nat.zero_le _, fun x hx => absurd hx List.not_mem_nil, h.2.2.2.2.2⟩
theorem SgOk.image {s : Sg} (h : SgOk s) : SgOk (opImage s).2 :=
  ⟨h.1, h.2.1, fun T hT => by
    have e : s.D = T := Option.some.inj hT
    rw [← e]; exact ⟨h.1, h.2.1⟩, h.2.2.2⟩
theorem SgOk.undo {s : Sg} (h : SgOk s) : SgOk (opUndo s).2 := by
  unfold opUndo
  split
  · next T hT =>
    obtain ⟨h1, h2⟩ := h.2.2.1 T hT
    exact h.draw h1 h2
  · exact h
theorem i2b_rng (z : Int) : -128 ≤ i2b z ∧ i2b z ≤ 127 := by
  unfold i2b
  rw [Int8.toInt_toInt32]
  have h1 := Int8.le_toInt (iI z).toInt8
  have h2 := Int8.toInt_lt (iI z).toInt8
  omega
theorem SgOk.row {s : Sg} (h : SgOk s) {r : Int} {p : Int × List Int} (hp : rwOk p) : SgOk (s.setR r p) :=
  ⟨h.1, h.2.1, h.2.2.1, h.2.2.2.1, h.2.2.2.2.1, h.2.2.2.2.2.1, fun q q1 q2 => by
    show rwOk (if q = r then p else s.rw q)
    split
    · exact hp
    · exact h.2.2.2.2.2.2 q q1 q2⟩
theorem itOk.zero (k : Int) : itOk k 0 := by
  unfold itOk
  split
  · decide
  · split <;> decide
theorem itOk.getD {k : Int} {l : List Int} (h : ∀ v ∈ l, itOk k v) (i : Nat) : itOk k (l.getD i 0) := by
  by_cases c : i < l.length
  · exact h _ (getD_mem c)
  · rw [List.getD_eq_getElem?_getD, List.getElem?_eq_none (by omega)]; exact itOk.zero k
theorem SgOk.opR {s : Sg} (h : SgOk s) (r k n : Int) : SgOk (opRow s r k n).2 := by
  unfold opRow
  split
  · split
    · next c =>
      split
      · next c2 =>
        refine h.row ⟨c.1, ?_, fun v hv => ?_⟩
        · show (if k = -1 then [] else tab n.toNat fun _ => 0).length ≤ 40
          split
          · exact Nat.zero_le _
          · rw [tab_len]; omega
        · have hv : v ∈ (if k = -1 then [] else tab n.toNat fun _ => 0) := hv
          split at hv
          · cases hv
          · obtain ⟨i, -, rfl⟩ := tab_mem hv
            exact itOk.zero k
      · exact h
    · exact h
  · exact h
theorem SgOk.opP {s : Sg} (h : SgOk s) (r i : Int) {v : Int} (hv : rL v) : SgOk (opPut s r i v).2 := by
  unfold opPut
  split
  · next c =>
    have hc := of_decide_eq_true c
    have hr := h.2.2.2.2.2.2 r hc.1 (by omega)
    split
    · exact h
    · split
      · refine h.row ⟨hr.1, by rw [tab_len]; exact hr.2.1, fun x hx => ?_⟩
        obtain ⟨j, -, rfl⟩ := tab_mem hx
        split
        · unfold itOk heldI
          split
          · exact wI_rI _
          · split
            · exact hv
            · exact i2b_rng _
        · exact itOk.getD hr.2.2 j
      · exact h
  · exact h
theorem SgOk.opF (hLO : LstOk) {s : Sg} (h : SgOk s) (r n : Int) : SgOk (opFill s r n).2 := by
  unfold opFill
  split
  · next c =>
    obtain ⟨c1, c2⟩ := Bool.and_eq_true_iff.mp c
    have hc := of_decide_eq_true c1
    have hn := of_decide_eq_true c2
    have hr := h.2.2.2.2.2.2 r hc.1 (by omega)
    split
    · exact h
    · split
      · exact h
      · next k1 k2 =>
        refine h.row ⟨hr.1, by rw [tab_len]; exact hr.2.1, fun x hx => ?_⟩
        obtain ⟨j, -, rfl⟩ := tab_mem hx
        split
        · next hj =>
          have h6 := (hLO n.toNat (by omega) (by omega)).2 _ (getD_mem hj)
          rw [show ((n.toNat : Nat) : Int) = n by omega] at h6
          have := p5_le (x := n) (by omega)
          have hk := hr.1
          unfold itOk
          split
          · have h7 := h6.1; have h8 := h6.2.1; omega
          · rw [if_pos (by omega)]
            have h7 := h6.1; have h8 := h6.2.1; omega
        · exact itOk.getD hr.2.2 j
  · exact h
theorem SgOk.opC {s : Sg} (h : SgOk s) (r i o j n : Int) : SgOk (opCopy s r i o j n).2 := by
  unfold opCopy
  split
  · next c =>
    obtain ⟨c1, c2⟩ := Bool.and_eq_true_iff.mp c
    have hc := of_decide_eq_true c1
    have hn := of_decide_eq_true c2
    have hr := h.2.2.2.2.2.2 r hc.1 (by omega)
    have ho := h.2.2.2.2.2.2 o hn.1 (by omega)
    split
    · exact h
    · split
      · exact h
      · next k1 k2 =>
        split
        · refine h.row ⟨ho.1, by rw [tab_len]; exact ho.2.1, fun x hx => ?_⟩
          obtain ⟨q, -, rfl⟩ := tab_mem hx
          have e : (s.rw r).1 = (s.rw o).1 := Decidable.of_not_not k2
          split
          · rw [← e]; exact itOk.getD hr.2.2 _
          · exact itOk.getD ho.2.2 q
        · exact h
  · exact h
