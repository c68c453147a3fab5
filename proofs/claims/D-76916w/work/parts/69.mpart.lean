set_option maxRecDepth 100000
/-! parts of a name: the reference -/
/-- the branches of a level: their numbers and names -/
def NLS (own : Int) (bl : List (Int × List Int)) (A : Nat → Int → Int) : Prop := ∀ k : Nat, k < bl.length → A 11 (own + (k : Int)) = (bl.getD k (0, [])).1 ∧ NMat (own + (k : Int)) (bl.getD k (0, [])).2 A
abbrev nmk (bl : List (Int × List Int)) (k : Nat) : List Int := (bl.getD k (0, [])).2
theorem mem_getD2 {bl : List (Int × List Int)} {q : Int × List Int} (h : q ∈ bl) : ∃ k : Nat, k < bl.length ∧ bl.getD k (0, []) = q := by
  obtain ⟨k, hk, e⟩ := List.getElem_of_mem h
  exact ⟨k, hk, by rw [List.getD_eq_getElem?_getD, List.getElem?_eq_getElem hk]; exact e⟩
theorem getD_mem2 {bl : List (Int × List Int)} {k : Nat} (h : k < bl.length) : bl.getD k (0, []) ∈ bl := by
  rw [List.getD_eq_getElem?_getD, List.getElem?_eq_getElem h]; exact List.getElem_mem h
theorem NMat.rI {x y : Int} {s t : List Int} {A : Nat → Int → Int} (h1 : NMat x s A) (h2 : NMat y t A) : rI (cmpM s t) := by
  refine cmpM_rI h1.2.2.1 h2.2.2.1 ?_ ?_
  · have := h1.2.1; omega
  · have := h2.2.1; omega
theorem c_nextPart {K : KM} (hk : MK K 4) {own : Int} {bl : List (Int × List Int)} (hown : 0 ≤ own ∧ own + (bl.length : Int) ≤ 156) {j : Int} (hj : j = -1 ∨ 0 ≤ j ∧ j < (bl.length : Int)) {F : Nat → Int} {A : Nat → Int → Int} {Φ : PI} (hB : NLS own bl A)
    (hN : (∀ k : Nat, k < bl.length → ¬ (j = -1 ∨ 0 < cmpN (nmk bl k) (nmk bl j.toNat))) → Φ (-1) F A)
    (hY : ∀ k : Nat, k < bl.length → (j = -1 ∨ 0 < cmpN (nmk bl k) (nmk bl j.toNat)) → (∀ k' : Nat, k' < bl.length → (j = -1 ∨ 0 < cmpN (nmk bl k') (nmk bl j.toNat)) → ¬ cmpN (nmk bl k') (nmk bl k) < 0) → Φ (k : Int) F A) : RI mX5_nextPart K [.ref K.m, vI own, vI (bl.length : Int), vI j] F A Φ := by
  refine RI.w (n := 3) hk (fun K1 hk1 hS => wX5_nextPart_0 K1 hk1.1 ?_)
  have key : ∀ (m i : Nat) (best : Int), i + m = bl.length → ((best = -1 ∧ ∀ k : Nat, k < i → ¬ (j = -1 ∨ 0 < cmpN (nmk bl k) (nmk bl j.toNat))) ∨ ∃ b : Nat, best = (b : Int) ∧ b < i ∧ (j = -1 ∨ 0 < cmpN (nmk bl b) (nmk bl j.toNat)) ∧ ∀ k' : Nat, k' < i → (j = -1 ∨ 0 < cmpN (nmk bl k') (nmk bl j.toNat)) → ¬ cmpN (nmk bl k') (nmk bl b) < 0) → VM K1 mX5_nextPart 6 [(0, .ref K1.m), (1, vI own), (2, vI (bl.length : Int)), (3, vI j), (4, vI best), (5, vI (i : Int))] [] F A := by
    intro m
    induction m with
    | zero =>
      intro i best him hbest
      refine wX5_nextPart_6 K1 hk1.1 ⟨by omega, by omega, fun _ => hS _ _ _ ?_, fun c => by omega⟩
      rcases hbest with ⟨e, h1⟩ | ⟨b, e, h1, h2, h3⟩
      · rw [e]; exact hN fun k hk9 => h1 k (by omega)
      · rw [e]; exact hY b (by omega) h2 fun k' hk' => h3 k' (by omega)
    | succ m ih =>
      intro i best him hbest
      have hi : i < bl.length := by omega
      -- it may not be
      have skip : ¬ (j = -1 ∨ 0 < cmpN (nmk bl i) (nmk bl j.toNat)) → VM K1 mX5_nextPart 6 [(0, .ref K1.m), (1, vI own), (2, vI (bl.length : Int)), (3, vI j), (4, vI best), (5, vI ((i : Int) + 1))] [] F A := by
        intro hno
        have := ih (i + 1) best (by omega) (by
          rcases hbest with ⟨e, h1⟩ | ⟨b, e, h1, h2, h3⟩
          · refine Or.inl ⟨e, fun k hk9 => ?_⟩
            rcases Nat.lt_or_ge k i with h4 | h4
            · exact h1 k h4
            · rw [show k = i by omega]; exact hno
          · refine Or.inr ⟨b, e, by omega, h2, fun k' hk' hm => ?_⟩
            rcases Nat.lt_or_ge k' i with h4 | h4
            · exact h3 k' h4 hm
            · rw [show k' = i by omega] at hm; exact absurd hm hno)
        exact this
      -- it is no better
      have keep : (∃ b : Nat, best = (b : Int) ∧ b < i ∧ ¬ cmpN (nmk bl i) (nmk bl b) < 0) → VM K1 mX5_nextPart 6 [(0, .ref K1.m), (1, vI own), (2, vI (bl.length : Int)), (3, vI j), (4, vI best), (5, vI ((i : Int) + 1))] [] F A := by
        rintro ⟨b0, e0, -, hge⟩
        have := ih (i + 1) best (by omega) (by
          rcases hbest with ⟨e, h1⟩ | ⟨b, e, h1, h2, h3⟩
          · omega
          · refine Or.inr ⟨b, e, by omega, h2, fun k' hk' hm => ?_⟩
            rcases Nat.lt_or_ge k' i with h4 | h4
            · exact h3 k' h4 hm
            · rw [show k' = i by omega, show b = b0 by omega]; exact hge)
        exact this
      -- it is the best so far
      have take1 : (j = -1 ∨ 0 < cmpN (nmk bl i) (nmk bl j.toNat)) → (best = -1 ∨ ∃ b : Nat, best = (b : Int) ∧ b < i ∧ cmpN (nmk bl i) (nmk bl b) < 0) → VM K1 mX5_nextPart 6 [(0, .ref K1.m), (1, vI own), (2, vI (bl.length : Int)), (3, vI j), (4, vI (i : Int)), (5, vI ((i : Int) + 1))] [] F A := by
        intro hmay hb
        have := ih (i + 1) (i : Int) (by omega) (Or.inr ⟨i, rfl, by omega, hmay, fun k' hk' hm => by
          rcases Nat.lt_or_ge k' i with h4 | h4
          · rcases hbest with ⟨e, h1⟩ | ⟨b, e, h1, h2, h3⟩
            · exact absurd hm (h1 k' h4)
            · rcases hb with hb | ⟨b0, e0, -, hlt⟩
              · omega
              · have h5 := h3 k' h4 hm
                rw [show b = b0 by omega] at h5
                intro h6
                exact h5 (cmpN_trans h6 hlt)
          · rw [show k' = i by omega, cmpN_self]; decide⟩)
        exact this
      have hNi : NMat (own + (i : Int)) (nmk bl i) A := (hB i hi).2
      have hbi : rI best := by
        rcases hbest with ⟨e, -⟩ | ⟨b, e, h1, -⟩ <;> omega
      have f1 : (i : Int) < (bl.length : Int) := by clear hbest skip keep take1; omega
      have f2 : 0 ≤ (i : Int) := by clear hbest skip keep take1; omega
      have f3 : own + (i : Int) < 156 ∧ 0 ≤ own + (i : Int) := by clear hbest skip keep take1; omega
      have hbest2 : True → (best = -1 ∨ ∃ b : Nat, best = (b : Int) ∧ b < i ∧ (j = -1 ∨ 0 < cmpN (nmk bl b) (nmk bl j.toNat))) := fun _ => hbest.imp (fun h => h.1) (fun ⟨b, h⟩ => ⟨b, h.1, h.2.1, h.2.2.1⟩)
      clear hbest
      refine wX5_nextPart_6 K1 hk1.1 ⟨by omega, by omega, fun c => by omega, fun _ => ⟨by omega, fun c => ⟨hbi, fun c2 => take1 (Or.inl c) (Or.inl c2), fun c2 => ?_⟩, fun c => ?_⟩⟩
      · rcases hbest2 trivial with e | ⟨b, e, h1, -⟩
        · exact absurd e c2
        · have hNb : NMat (own + (b : Int)) (nmk bl b) A := (hB b (by omega)).2
          have hsg := cmpM_sgn (nmk bl i) (nmk bl b)
          rw [e]
          refine c_comparesNames hk1 (by omega) (by omega) hNi hNb ⟨NMat.rI hNi hNb, fun c3 => ?_, fun c3 => ?_⟩
          · rw [← e]; exact keep ⟨b, e, h1, by have := hsg.2; omega⟩
          · exact take1 (Or.inl c) (Or.inr ⟨b, e, h1, by have := hsg.2; omega⟩)
      · have hj2 := hj.resolve_left c
        have hNj : NMat (own + ((j.toNat : Nat) : Int)) (nmk bl j.toNat) A := (hB j.toNat (by omega)).2
        rw [show ((j.toNat : Nat) : Int) = j by omega] at hNj
        have hsg := cmpM_sgn (nmk bl i) (nmk bl j.toNat)
        refine c_comparesNames hk1 (by omega) (by omega) hNi hNj ⟨NMat.rI hNi hNj, fun c3 => skip (fun hh => by have := hsg.1; have := hsg.2; have := hh.resolve_left c; omega), fun c3 => ?_⟩
        have hmay : j = -1 ∨ 0 < cmpN (nmk bl i) (nmk bl j.toNat) := Or.inr (by have := hsg.1; have := hsg.2; omega)
        refine ⟨hbi, fun c2 => take1 hmay (Or.inl c2), fun c2 => ?_⟩
        rcases hbest2 trivial with e | ⟨b, e, h1, -⟩
        · exact absurd e c2
        · have hNb : NMat (own + (b : Int)) (nmk bl b) A := (hB b (by omega)).2
          have hsg2 := cmpM_sgn (nmk bl i) (nmk bl b)
          rw [e]
          refine c_comparesNames hk1 (by omega) (by omega) hNi hNb ⟨NMat.rI hNi hNb, fun c4 => ?_, fun c4 => ?_⟩
          · rw [← e]; exact keep ⟨b, e, h1, by have := hsg2.2; omega⟩
          · exact take1 hmay (Or.inr ⟨b, e, h1, by have := hsg2.2; omega⟩)
  exact key bl.length 0 (-1) (by omega) (Or.inl ⟨rfl, fun k hk9 => by omega⟩)
/-- what lies below the text that is written stays -/
theorem NLS.fr {own : Int} {bl : List (Int × List Int)} {A A' : Nat → Int → Int} (h : NLS own bl A) (hA : agA [10] A A') {top : Int} (hz : ∀ z, z < top → A' 10 z = A 10 z) (ht : ∀ k : Nat, k < bl.length → A 12 (own + (k : Int)) + ((nmk bl k).length : Int) ≤ top) : NLS own bl A' := by
  intro k hk9
  obtain ⟨h1, h2, h3, h4, h5⟩ := h k hk9
  have h6 : A 12 (own + (k : Int)) + ((bl.getD k (0, [])).2.length : Int) ≤ top := ht k hk9
  refine ⟨by rw [hA 11 (by decide)]; exact h1, by rw [hA 13 (by decide)]; exact h2, by rw [hA 12 (by decide)]; exact h3, h4, ?_⟩
  rw [hA 12 (by decide)]
  exact h5.ext fun z z1 z2 => hz z (by omega)
theorem jn_snoc (sep : Int) : ∀ (l : List (List Int)) (x : List Int), jn sep (l ++ [x]) = if l = [] then x else jn sep l ++ sep :: x
  | [], x => rfl
  | [y], x => rfl
  | y :: z :: l, x => by
    have := jn_snoc sep (z :: l) x
    rw [if_neg (by simp)] at this
    rw [if_neg (by simp)]
    show y ++ sep :: jn sep ((z :: l) ++ [x]) = (y ++ sep :: jn sep (z :: l)) ++ sep :: x
    rw [this, List.append_assoc]; rfl
theorem c_putsPart {K : KM} (hk : MK K 11) {own : Int} {bl : List (Int × List Int)} (hown : 0 ≤ own ∧ own + (bl.length : Int) ≤ 156) (h8 : bl.length ≤ 8) (hn99 : ∀ q ∈ bl, 0 ≤ q.1 ∧ q.1 ≤ 99) {j : Nat} (hj : j < bl.length) {b : Int} {l : List Int} {F : Nat → Int} {A : Nat → Int → Int} {Φ : PV} (hB : NLS own bl A) (hb : 0 ≤ b) (hT : TX b l F A) (hbel : ∀ k : Nat, k < bl.length → A 12 (own + (k : Int)) + ((nmk bl k).length : Int) ≤ b) (hlen : b + (l.length : Int) + ((nmk bl j).length : Int) + 40 ≤ 16384) (h : PX b l (partT bl (nmk bl j)) F A Φ) : RV mX5_putsPart K [.ref K.m, vI own, vI (bl.length : Int), vI (j : Int)] F A Φ := by
  refine RV.w (n := 10) hk (fun K1 hk1 hS => wX5_putsPart_0 K1 hk1.1 ?_)
  generalize ht : nmk bl j = t at h hlen
  have hNj := (hB j hj).2
  rw [show (bl.getD j (0, [])).2 = t from ht] at hNj
  -- the name, in brackets or not
  have last : ∀ (l2 : List Int) (br : Bool) (m i : Nat) (F' : Nat → Int) (A' : Nat → Int → Int), i + m = t.length → agF [19] F F' → agA [10] A A' → (∀ z, z < b + (l.length : Int) → A' 10 z = A 10 z) → TX b (l ++ (l2 ++ t.take i)) F' A' → b + (l.length : Int) + (l2.length : Int) + (t.length : Int) + 1 ≤ 16384 → (∀ F' A', agF [19] F F' → agA [10] A A' → (∀ z, z < b + (l.length : Int) → A' 10 z = A 10 z) → TX b (l ++ (l2 ++ t ++ (if br then [41] else []))) F' A' → SV K1 F' A') → VM K1 mX5_putsPart 117 [(0, .ref K1.m), (1, vI own), (3, vI (j : Int)), (5, vI (bz br)), (6, vI (i : Int))] [] F' A' := by
    intro l2 br m
    induction m with
    | zero =>
      intro i F' A' him g1 g2 g3 g4 hlen h
      rw [List.take_of_length_le (by omega)] at g4
      refine wX5_putsPart_117 K1 hk1.1 ?_
      rw [g2 13 (by decide), hNj.1]
      refine ⟨by omega, by omega, by omega, fun _ => brz (fun e => ?_) (fun e => ?_), fun c => by omega⟩
      · refine h F' A' g1 g2 g3 ?_
        rw [e, if_neg (by decide), List.append_nil]; exact g4
      · refine c_puts (hk1.le (by decide)) hb g4 (by rw [List.length_append, List.length_append]; omega) fun F2 A2 k1 k2 k3 k4 => h F2 A2 (g1.tr k1) (g2.tr k2) (fun z hz => by rw [k3 z (by rw [List.length_append]; omega)]; exact g3 z hz) ?_
        rw [e, if_pos rfl]
        rw [List.append_assoc] at k4; exact k4
    | succ m ih =>
      intro i F' A' him g1 g2 g3 g4 hlen h
      have hti : i < t.length := by omega
      have h12b := hbel j hj
      rw [ht] at h12b
      have e1 : A' 10 (A 12 (own + (j : Int)) + (i : Int)) = t.getD i 0 := by
        rw [g3 _ (by omega)]; exact hNj.2.2.2 i hti
      have hp := hNj.2.1
      refine wX5_putsPart_117 K1 hk1.1 ?_
      rw [g2 13 (by decide), hNj.1, g2 12 (by decide), e1]
      refine ⟨by omega, by omega, by omega, fun c => by omega, fun _ => ⟨by omega, c_puts (hk1.le (by decide)) hb g4 (by rw [List.length_append, List.length_append, List.length_take]; omega) fun F2 A2 k1 k2 k3 k4 => ?_⟩⟩
      have := ih (i + 1) F2 A2 (by omega) (g1.tr k1) (g2.tr k2) (fun z hz => by rw [k3 z (by rw [List.length_append]; omega)]; exact g3 z hz) (by
        have e2 : t.take (i + 1) = t.take i ++ [t.getD i 0] := by
          rw [List.take_succ, List.getElem?_eq_getElem hti, List.getD_eq_getElem?_getD, List.getElem?_eq_getElem hti]; rfl
        rw [e2]
        rw [List.append_assoc, List.append_assoc] at k4; exact k4) hlen h
      exact this
  -- the numbers of those that are like it
  have nums : ∀ (m i : Nat) (ns : List Int) (F' : Nat → Int) (A' : Nat → Int → Int), i + m = bl.length → ns ++ (((bl.drop i).filter fun q => q.2 == t).map fun q => q.1) = numsT bl t → agF [19] F F' → agA [10] A A' → (∀ z, z < b + (l.length : Int) → A' 10 z = A 10 z) → TX b (l ++ jn 44 (ns.map dec)) F' A' → VM K1 mX5_putsPart 6 [(0, .ref K1.m), (1, vI own), (2, vI (bl.length : Int)), (3, vI (j : Int)), (4, vI (ns.length : Int)), (5, vI (i : Int))] [] F' A' := by
    intro m
    induction m with
    | zero =>
      intro i ns F' A' him hns g1 g2 g3 g4
      rw [List.drop_eq_nil_of_le (by omega), List.filter_nil, List.map_nil, List.append_nil] at hns
      have hnl : ns.length ≤ 8 := by rw [hns]; exact Nat.le_trans (numsT_le bl t) h8
      have hjl := jn_len (sep := 44) (M := 2) (l := ns.map dec) (fun x hx => by
        obtain ⟨z, -, rfl⟩ := List.mem_map.mp hx
        exact (dec_len z).2)
      rw [List.length_map] at hjl
      refine wX5_putsPart_6 K1 hk1.1 hk1.2.1.1 ⟨by omega, by omega, fun _ => c_puts (hk1.le (by decide)) hb g4 (by rw [List.length_append]; omega) fun F2 A2 k1 k2 k3 k4 => ⟨by omega, fun c => ?_, fun c => ?_⟩, fun c => by omega⟩
      · -- one alone
        have hN2 : NMat (own + (j : Int)) t A2 := by
          refine ⟨by rw [k2 13 (by decide), g2 13 (by decide)]; exact hNj.1, ?_⟩
          rw [k2 12 (by decide), g2 12 (by decide)]
          have h12b := hbel j hj
          rw [ht] at h12b
          exact ⟨hNj.2.1, hNj.2.2.1, hNj.2.2.2.ext fun z z1 z2 => by rw [k3 z (by rw [List.length_append]; omega), g3 z (by omega)]⟩
        have kz : ∀ z, z < b + (l.length : Int) → A2 10 z = A 10 z := fun z hz => by rw [k3 z (by rw [List.length_append]; omega)]; exact g3 z hz
        refine ⟨by omega, ?_⟩
        rw [hN2.1]
        refine c_hasDigit (hk1.le (by decide)) hN2.2 (brz (fun e => ?_) (fun e => ?_))
        · rw [e]
          refine last (jn 44 (ns.map dec) ++ [45]) false t.length 0 F2 A2 (by omega) (g1.tr k1) (g2.tr k2) kz (by rw [List.take_zero, List.append_nil, ← List.append_assoc]; exact k4) (by rw [List.length_append, List.length_singleton]; omega) fun F9 A9 q1 q2 q3 q4 => hS _ _ (h F9 A9 q1 q2 q3 ?_)
          unfold partT
          rw [← hns, if_neg (by omega), List.nil_append]
          unfold brk
          rw [e, if_neg (by decide)]
          rw [if_neg (by decide), List.append_nil, List.append_assoc] at q4
          exact q4
        · rw [e]
          refine c_puts (hk1.le (by decide)) hb k4 (by rw [List.length_append, List.length_append, List.length_singleton]; omega) fun F3 A3 j1 j2 j3 j4 => last (jn 44 (ns.map dec) ++ [45, 40]) true t.length 0 F3 A3 (by omega) ((g1.tr k1).tr j1) ((g2.tr k2).tr j2) (fun z hz => by rw [j3 z (by rw [List.length_append, List.length_append]; omega)]; exact kz z hz) (by
            rw [List.take_zero, List.append_nil]
            rw [List.append_assoc, List.append_assoc] at j4; exact j4) (by rw [List.length_append]; show _ + ((_ + 2 : Nat) : Int) + _ + 1 ≤ _; omega) fun F9 A9 q1 q2 q3 q4 => hS _ _ (h F9 A9 q1 q2 q3 ?_)
          unfold partT
          rw [← hns, if_neg (by omega), List.nil_append]
          unfold brk
          rw [e, if_pos rfl]
          rw [if_pos rfl, List.append_assoc, List.append_assoc] at q4
          exact q4
      · -- many of them
        refine c_putsMany (hk1.le (by decide)) (k := (ns.length : Int) - 2) (by omega) hb k4 (by rw [List.length_append, List.length_append, List.length_singleton]; omega) fun F5 A5 p1 p2 p3 p4 => ?_
        have hml := mny_len' ((ns.length : Int) - 2)
        have kz : ∀ z, z < b + (l.length : Int) → A5 10 z = A 10 z := fun z hz => by rw [p3 z (by rw [List.length_append, List.length_append]; omega), k3 z (by rw [List.length_append]; omega)]; exact g3 z hz
        have hN2 : NMat (own + (j : Int)) t A5 := by
          refine ⟨by rw [p2 13 (by decide), k2 13 (by decide), g2 13 (by decide)]; exact hNj.1, ?_⟩
          rw [p2 12 (by decide), k2 12 (by decide), g2 12 (by decide)]
          have h12b := hbel j hj
          rw [ht] at h12b
          exact ⟨hNj.2.1, hNj.2.2.1, hNj.2.2.2.ext fun z z1 z2 => kz z (by omega)⟩
        refine ⟨by omega, ?_⟩
        rw [hN2.1]
        refine c_hasDigit (hk1.le (by decide)) hN2.2 (brz (fun e => ?_) (fun e => ?_))
        · rw [e]
          refine last (jn 44 (ns.map dec) ++ 45 :: mny ((ns.length : Int) - 2)) false t.length 0 F5 A5 (by omega) ((g1.tr k1).tr p1) ((g2.tr k2).tr p2) kz (by
            rw [List.take_zero, List.append_nil]
            rw [List.append_assoc, List.append_assoc] at p4; exact p4) (by rw [List.length_append, List.length_cons]; omega) fun F9 A9 q1 q2 q3 q4 => hS _ _ (h F9 A9 q1 q2 q3 ?_)
          unfold partT
          rw [← hns, if_pos (by omega)]
          unfold brk
          rw [e, if_neg (by decide)]
          rw [if_neg (by decide), List.append_nil, List.append_assoc] at q4
          exact q4
        · rw [e]
          refine c_puts (hk1.le (by decide)) hb p4 (by rw [List.length_append, List.length_append, List.length_append, List.length_singleton]; omega) fun F3 A3 j1 j2 j3 j4 => last (jn 44 (ns.map dec) ++ 45 :: (mny ((ns.length : Int) - 2) ++ [40])) true t.length 0 F3 A3 (by omega) (((g1.tr k1).tr p1).tr j1) (((g2.tr k2).tr p2).tr j2) (fun z hz => by rw [j3 z (by rw [List.length_append, List.length_append, List.length_append]; omega)]; exact kz z hz) (by
            rw [List.take_zero, List.append_nil]
            rw [List.append_assoc, List.append_assoc, List.append_assoc] at j4; exact j4) (by rw [List.length_append, List.length_cons, List.length_append, List.length_singleton]; omega) fun F9 A9 q1 q2 q3 q4 => hS _ _ (h F9 A9 q1 q2 q3 ?_)
          unfold partT
          rw [← hns, if_pos (by omega)]
          unfold brk
          rw [e, if_pos rfl]
          rw [if_pos rfl, List.append_assoc, List.append_assoc, List.cons_append, List.append_assoc] at q4
          exact q4
    | succ m ih =>
      intro i ns F' A' him hns g1 g2 g3 g4
      have hi : i < bl.length := by omega
      have hdrop : bl.drop i = bl.getD i (0, []) :: bl.drop (i + 1) := by
        rw [List.drop_eq_getElem_cons hi, List.getD_eq_getElem?_getD, List.getElem?_eq_getElem hi]; rfl
      rw [hdrop, List.filter_cons] at hns
      have hnl : ns.length ≤ 8 := by
        have := congrArg List.length hns
        rw [List.length_append] at this
        have := numsT_le bl t
        omega
      have hjl := jn_len (sep := 44) (M := 2) (l := ns.map dec) (fun x hx => by
        obtain ⟨z, -, rfl⟩ := List.mem_map.mp hx
        exact (dec_len z).2)
      rw [List.length_map] at hjl
      have hB' : NLS own bl A' := hB.fr g2 (top := b) (fun z hz => g3 z (by omega)) hbel
      have hNi : NMat (own + (i : Int)) (nmk bl i) A' := (hB' i hi).2
      have hNj' : NMat (own + (j : Int)) (nmk bl j) A' := (hB' j hj).2
      have hsg := cmpM_sgn (nmk bl i) (nmk bl j)
      refine wX5_putsPart_6 K1 hk1.1 hk1.2.1.1 ⟨by omega, by omega, fun c => by omega, fun _ => c_comparesNames (hk1.le (by decide)) (by omega) (by omega) hNi hNj' ⟨NMat.rI hNi hNj', fun c => ?_, fun c => ⟨by omega, fun c2 => ⟨by omega, ?_⟩, fun c2 => ?_⟩⟩⟩
      · have hne : ¬ (bl.getD i (0, [])).2 = t := fun hh => c (by rw [hsg.1, ht]; rw [show nmk bl i = t from hh]; exact cmpN_self t)
        rw [if_neg (by simpa using hne)] at hns
        have := ih (i + 1) ns F' A' (by omega) hns g1 g2 g3 g4
        exact this
      · have heq : (bl.getD i (0, [])).2 = t := by
          have := cmpN_zero (hsg.1.mp c); rw [ht] at this; exact this
        have hq := hn99 _ (getD_mem2 hi)
        have hns0 : ns = [] := List.length_eq_zero_iff.mp (by omega)
        rw [if_pos (by simpa using heq), List.map_cons] at hns
        rw [(hB' i hi).1]
        refine c_putsNumber (hk1.le (by decide)) hq hb g4 (by rw [List.length_append]; omega) fun F2 A2 k1 k2 k3 k4 => ?_
        have := ih (i + 1) (ns ++ [(bl.getD i (0, [])).1]) F2 A2 (by omega) (by rw [List.append_assoc]; exact hns) (g1.tr k1) (g2.tr k2) (fun z hz => by rw [k3 z (by rw [List.length_append]; omega)]; exact g3 z hz) (by
          rw [List.map_append, List.map_cons, List.map_nil, jn_snoc, if_pos (by rw [hns0]; rfl)]
          rw [hns0] at k4
          have k4 : TX b ((l ++ []) ++ dec (bl.getD i (0, [])).1) F2 A2 := k4
          rw [List.append_nil] at k4; exact k4)
        rw [List.length_append, List.length_singleton] at this
        exact this
      · have heq : (bl.getD i (0, [])).2 = t := by
          have := cmpN_zero (hsg.1.mp c); rw [ht] at this; exact this
        have hq := hn99 _ (getD_mem2 hi)
        have hns0 : ns.map dec ≠ [] := fun hh => by
          have := congrArg List.length hh
          rw [List.length_map, List.length_nil] at this
          omega
        rw [if_pos (by simpa using heq), List.map_cons] at hns
        refine c_puts (hk1.le (by decide)) hb g4 (by rw [List.length_append]; omega) fun F1 A1 j1 j2 j3 j4 => ⟨by omega, ?_⟩
        rw [j2 11 (by decide), (hB' i hi).1]
        refine c_putsNumber (hk1.le (by decide)) hq hb j4 (by rw [List.length_append, List.length_append, List.length_singleton]; omega) fun F2 A2 k1 k2 k3 k4 => ?_
        have := ih (i + 1) (ns ++ [(bl.getD i (0, [])).1]) F2 A2 (by omega) (by rw [List.append_assoc]; exact hns) ((g1.tr j1).tr k1) ((g2.tr j2).tr k2) (fun z hz => by rw [k3 z (by rw [List.length_append, List.length_append]; omega), j3 z (by rw [List.length_append]; omega)]; exact g3 z hz) (by
          rw [List.map_append, List.map_cons, List.map_nil, jn_snoc, if_neg hns0]
          rw [List.append_assoc, List.append_assoc] at k4
          exact k4)
        rw [List.length_append, List.length_singleton] at this
        exact this
  have := nums bl.length 0 [] F A (by omega) (by rw [List.nil_append, List.drop_zero]; rfl) (agF.rf _ _) (agA.rf _ _) (fun _ _ => rfl) (by show TX b (l ++ []) F A; rw [List.append_nil]; exact hT)
  exact this
