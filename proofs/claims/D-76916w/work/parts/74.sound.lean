set_option maxRecDepth 100000
/-! what both hold stays sound -/
theorem SgOk.draw {s : Sg} (h : SgOk s) {T : Tr} (hT : ∃ d, TrOk T d) (h12 : T.1 ≤ 12) : SgOk (T, s.2) := ⟨hT, h12, h.2.2⟩
theorem SgOk.grow {s : Sg} (h : SgOk s) (a : Int) : SgOk (opGrow s a).2 := by
  unfold opGrow
  by_cases c : isAt s a = true
  · rw [if_pos c]
    have hc := of_decide_eq_true c
    split
    · exact h
    · next c2 =>
      obtain ⟨d, hT⟩ := h.1
      have haT : inT s.D a := ⟨hc.1, by omega⟩
      have hdg := hT.deg a
      have h12 := h.2.1
      exact h.draw ⟨_, hT.grow haT (by omega) (by omega)⟩ (by show s.D.1 + 1 ≤ 12; omega)
  · rw [if_neg c]; exact h
theorem SgOk.cut {s : Sg} (h : SgOk s) (a : Int) : SgOk (opCut s a).2 := by
  unfold opCut
  by_cases c : isAt s a = true
  · rw [if_pos c]
    have hc := of_decide_eq_true c
    split
    · next c2 =>
      obtain ⟨d, hT⟩ := h.1
      have h12 := h.2.1
      exact h.draw ⟨_, hT.cut ⟨hc.1, by omega⟩ c2⟩ (by show s.D.1 - 1 ≤ 12; omega)
    · exact h
  · rw [if_neg c]; exact h
theorem SgOk.take (hLO : LstOk) {s : Sg} (h : SgOk s) (n i : Int) : SgOk (opTake s n i).2 := by
  unfold opTake
  by_cases c : isLd n i = true
  · rw [if_pos c]
    split
    · next C hC =>
      have hc : (decide (1 ≤ n ∧ n ≤ 10)) = true := (Bool.and_eq_true_iff.mp c).1
      have hn := of_decide_eq_true hc
      have h1 := canT_ok (by omega) (by omega) hC
      have h2 := (canT_some hC).2.1
      exact h.draw h1 (by omega)
    · exact h
  · rw [if_neg c]; exact h
theorem SgOk.code {s : Sg} (h : SgOk s) (n v : Int) : SgOk (opCode s n v).2 := by
  unfold opCode
  split
  · next c =>
    split
    · next C hC =>
      have h1 := canT_ok (by omega) (by omega) hC
      have h2 := (canT_some hC).2.1
      exact h.draw h1 (by omega)
    · exact h
  · exact h
theorem SgOk.feed {s : Sg} (h : SgOk s) (c : Int) : SgOk (opFeed s c).2 := by
  unfold opFeed
  obtain ⟨h1, h2, h3, h4, h5, h6, h7⟩ := h
  split
  · next hc =>
    split
    · exact ⟨h1, h2, h3, h4, h5, h6, h7⟩
    · next hl =>
      refine ⟨h1, h2, h3, ?_, fun x hx => ?_, h6, h7⟩
      · show (s.tp ++ [c]).length ≤ 80
        rw [List.length_append, List.length_singleton]; omega
      · rcases List.mem_append.mp hx with hx | hx
        · exact h5 x hx
        · rw [List.mem_singleton.mp hx]; exact hc
  · exact ⟨h1, h2, h3, h4, h5, h6, h7⟩
theorem SgOk.clear {s : Sg} (h : SgOk s) : SgOk (opClear s).2 :=
  ⟨h.1, h.2.1, h.2.2.1, Nat.zero_le _, fun x hx => absurd hx List.not_mem_nil, h.2.2.2.2.2⟩
theorem SgOk.image {s : Sg} (h : SgOk s) : SgOk (opImage s).2 :=
  ⟨h.1, h.2.1, fun T hT => by
    have e : s.D = T := Option.some.inj hT
    rw [← e]; exact ⟨h.1, h.2.1⟩, h.2.2.2⟩
theorem SgOk.undo {s : Sg} (h : SgOk s) : SgOk (opUndo s).2 := by
  unfold opUndo
  split
  · next T hT =>
    obtain ⟨h1, h2⟩ := h.2.2.1 T hT
    exact h.draw h1 h2
  · exact h
