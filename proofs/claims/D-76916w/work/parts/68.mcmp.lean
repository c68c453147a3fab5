set_option maxRecDepth 100000
/-! comparisons of the reference -/
theorem c_isLetter {K : KM} (hk : MK K 1) {c : Int} (hc : rI c) {F : Nat → Int} {A : Nat → Int → Int} {Φ : PI} (h : Φ (bz (isLt c)) F A) : RI mX5_isLetter K [vI c] F A Φ := by
  unfold isLt at h
  refine RI.ws (n := 0) hk (fun K1 hk1 hS => wX5_isLetter_0 K1 hk1.1 ⟨hc, fun c1 => hS _ _ _ ?_, fun c1 => ⟨fun c2 => hS _ _ _ ?_, fun c2 => hS _ _ _ ?_⟩⟩)
  · rwa [decide_eq_false (by omega)] at h
  · rwa [decide_eq_false (by omega)] at h
  · rwa [decide_eq_true (by omega)] at h
theorem c_isDigit {K : KM} (hk : MK K 1) {c : Int} (hc : rI c) {F : Nat → Int} {A : Nat → Int → Int} {Φ : PI} (h : Φ (bz (isDg c)) F A) : RI mX5_isDigit K [vI c] F A Φ := by
  unfold isDg at h
  refine RI.ws (n := 0) hk (fun K1 hk1 hS => wX5_isDigit_0 K1 hk1.1 ⟨hc, fun c1 => hS _ _ _ ?_, fun c1 => ⟨fun c2 => hS _ _ _ ?_, fun c2 => hS _ _ _ ?_⟩⟩)
  · rwa [decide_eq_false (by omega)] at h
  · rwa [decide_eq_false (by omega)] at h
  · rwa [decide_eq_true (by omega)] at h
/-- a piece of the text -/
abbrev PC10 (a : Int) (s : List Int) (A : Nat → Int → Int) : Prop := (0 ≤ a ∧ a + (s.length : Int) ≤ 16384) ∧ byt s ∧ arr (A 10) a s
theorem c_compares {K : KM} (hk : MK K 1) {a b : Int} {s t : List Int} {F : Nat → Int} {A : Nat → Int → Int} {Φ : PI} (hs : PC10 a s A) (ht : PC10 b t A) (h : Φ (cmpT s t) F A) : RI mX5_compares K [.ref K.m, vI a, vI (s.length : Int), vI b, vI (t.length : Int)] F A Φ := by
  refine RI.w (n := 0) hk (fun K1 hk1 hS => wX5_compares_0 K1 hk1.1 ?_)
  have key : ∀ (m k : Nat), k + m = s.length → k ≤ t.length → cmpT (s.drop k) (t.drop k) = cmpT s t → VM K1 mX5_compares 3 [(0, .ref K1.m), (1, vI a), (2, vI (s.length : Int)), (3, vI b), (4, vI (t.length : Int)), (5, vI (k : Int))] [] F A := by
    intro m
    induction m with
    | zero =>
      intro k hk9 hkt he
      rw [List.drop_eq_nil_of_le (as := s) (by omega), cmpT_nil_l, List.length_drop] at he
      refine wX5_compares_3 K1 hk1.1 ⟨by omega, by omega, fun _ => hS _ _ _ ?_, fun c => by omega⟩
      rwa [show (s.length : Int) - (t.length : Int) = cmpT s t by omega]
    | succ m ih =>
      intro k hk9 hkt he
      refine wX5_compares_3 K1 hk1.1 ⟨by omega, by omega, fun c => by omega, fun _ => ⟨by omega, fun c => hS _ _ _ ?_, fun c => ?_⟩⟩
      · rw [List.drop_eq_nil_of_le (as := t) (by omega), cmpT_nil_r, List.length_drop] at he
        rwa [show (s.length : Int) - (t.length : Int) = cmpT s t by omega]
      · have e1 := hs.2.2 k (by omega)
        have e2 := ht.2.2 k (by omega)
        have r1 := hs.2.1 _ (getD_mem (l := s) (i := k) (by omega))
        have r2 := ht.2.1 _ (getD_mem (l := t) (i := k) (by omega))
        rw [drop_cons (by omega), drop_cons (l := t) (by omega), cmpT_cons] at he
        rw [e1, e2]
        refine ⟨by omega, by omega, by omega, by omega, fun c2 => ?_, fun c2 => hS _ _ _ ?_⟩
        · rw [if_pos c2] at he
          exact ih (k + 1) (by omega) (by omega) he
        · rw [if_neg c2] at he
          rw [he]; exact h
  exact key s.length 0 (by omega) (Nat.zero_le _) rfl
theorem c_hasDigit {K : KM} (hk : MK K 2) {a : Int} {s : List Int} {F : Nat → Int} {A : Nat → Int → Int} {Φ : PI} (hs : PC10 a s A) (h : Φ (bz (s.any isDg)) F A) : RI mX5_hasDigit K [.ref K.m, vI a, vI (s.length : Int)] F A Φ := by
  refine RI.w (n := 1) hk (fun K1 hk1 hS => wX5_hasDigit_0 K1 hk1.1 ?_)
  have key : ∀ (m k : Nat), k + m = s.length → (s.drop k).any isDg = s.any isDg → VM K1 mX5_hasDigit 2 [(0, .ref K1.m), (1, vI a), (2, vI (s.length : Int)), (3, vI (k : Int))] [] F A := by
    intro m
    induction m with
    | zero =>
      intro k hk9 he
      rw [List.drop_eq_nil_of_le (as := s) (by omega)] at he
      have he : false = s.any isDg := he
      rw [← he] at h
      exact wX5_hasDigit_2 K1 hk1.1 ⟨by omega, by omega, fun _ => hS _ _ _ h, fun c => by omega⟩
    | succ m ih =>
      intro k hk9 he
      have e1 := hs.2.2 k (by omega)
      have r1 := hs.2.1 _ (getD_mem (l := s) (i := k) (by omega))
      rw [drop_cons (by omega), List.any_cons] at he
      refine wX5_hasDigit_2 K1 hk1.1 ?_
      rw [e1]
      refine ⟨by omega, by omega, fun c => by omega, fun _ => ⟨by omega, c_isDigit hk1 (by omega) (brz (fun e => ?_) (fun e => hS _ _ _ ?_))⟩⟩
      · rw [e, Bool.false_or] at he
        exact ih (k + 1) (by omega) he
      · rw [e, Bool.true_or] at he
        rw [← he] at h; exact h
  exact key s.length 0 (by omega) rfl
theorem lets_cons (c : Int) (l : List Int) : lets (c :: l) = if isLt c then c :: lets l else lets l := by
  unfold lets; rw [List.filter_cons]
theorem c_comparesLetters {K : KM} (hk : MK K 2) {a b : Int} {s t : List Int} {F : Nat → Int} {A : Nat → Int → Int} {Φ : PI} (hs : PC10 a s A) (ht : PC10 b t A) (h : Φ (cmpL (lets s) (lets t)) F A) : RI mX5_comparesLetters K [.ref K.m, vI a, vI (s.length : Int), vI b, vI (t.length : Int)] F A Φ := by
  refine RI.w (n := 1) hk (fun K1 hk1 hS => wX5_comparesLetters_0 K1 hk1.1 ?_)
  have key : ∀ (m i j : Nat), (s.length - i) + (t.length - j) ≤ m → i ≤ s.length → j ≤ t.length → cmpL (lets (s.drop i)) (lets (t.drop j)) = cmpL (lets s) (lets t) →
      ((i = s.length ∨ isLt (s.getD i 0) = true) → VM K1 mX5_comparesLetters 33 [(0, .ref K1.m), (1, vI a), (2, vI (s.length : Int)), (3, vI b), (4, vI (t.length : Int)), (5, vI (i : Int)), (6, vI (j : Int))] [] F A) ∧
      VM K1 mX5_comparesLetters 6 [(0, .ref K1.m), (1, vI a), (2, vI (s.length : Int)), (3, vI b), (4, vI (t.length : Int)), (5, vI (i : Int)), (6, vI (j : Int))] [] F A := by
    intro m
    induction m with
    | zero =>
      intro i j hm hi hj he
      have hi2 : i = s.length := by omega
      have hj2 : j = t.length := by omega
      rw [List.drop_eq_nil_of_le (as := s) (by omega), List.drop_eq_nil_of_le (as := t) (by omega)] at he
      have he : 0 - 0 = cmpL (lets s) (lets t) := he
      have h33 : VM K1 mX5_comparesLetters 33 [(0, .ref K1.m), (1, vI a), (2, vI (s.length : Int)), (3, vI b), (4, vI (t.length : Int)), (5, vI (i : Int)), (6, vI (j : Int))] [] F A := by
        refine wX5_comparesLetters_33 K1 hk1.1 ⟨by omega, by omega, fun _ => ⟨by omega, by omega, fun _ => ⟨fun _ => ⟨fun _ => hS _ _ _ (by rw [he]; exact h), fun c => by omega⟩, fun c => by omega⟩, fun c => by omega⟩, fun c => by omega⟩
      exact ⟨fun _ => h33, wX5_comparesLetters_6 K1 hk1.1 ⟨by omega, by omega, fun _ => h33, fun c => by omega⟩⟩
    | succ m ih =>
      intro i j hm hi hj he
      have h33 : (i = s.length ∨ isLt (s.getD i 0) = true) → VM K1 mX5_comparesLetters 33 [(0, .ref K1.m), (1, vI a), (2, vI (s.length : Int)), (3, vI b), (4, vI (t.length : Int)), (5, vI (i : Int)), (6, vI (j : Int))] [] F A := by
        intro hil
        -- what the ends answer
        have e0 : i = s.length → j = t.length → cmpL (lets s) (lets t) = 0 - 0 := fun h1 h2 => by
          rw [← he, List.drop_eq_nil_of_le (as := s) (by omega), List.drop_eq_nil_of_le (as := t) (by omega)]; rfl
        have e1 : i = s.length → (j < t.length ∧ isLt (t.getD j 0) = true) → cmpL (lets s) (lets t) = 0 - 1 := fun h1 h2 => by
          rw [← he, List.drop_eq_nil_of_le (as := s) (by omega), drop_cons h2.1, lets_cons, if_pos h2.2]; rfl
        have e2 : i < s.length → j = t.length → cmpL (lets s) (lets t) = 1 - 0 := fun h1 h2 => by
          rw [← he, List.drop_eq_nil_of_le (as := t) (by omega), drop_cons h1, lets_cons, if_pos (hil.resolve_left (by omega))]; rfl
        have e3 : i < s.length → (j < t.length ∧ isLt (t.getD j 0) = true) → cmpL (lets s) (lets t) = if s.getD i 0 = t.getD j 0 then cmpL (lets (s.drop (i + 1))) (lets (t.drop (j + 1))) else s.getD i 0 - t.getD j 0 := fun h1 h2 => by
          rw [← he, drop_cons h1, lets_cons, if_pos (hil.resolve_left (by omega)), drop_cons h2.1, lets_cons, if_pos h2.2]; rfl
        refine wX5_comparesLetters_33 K1 hk1.1 ⟨by omega, by omega, fun c => ⟨by omega, by omega, fun c2 => ⟨fun _ => ⟨fun _ => hS _ _ _ (by rw [← e0 (by omega) (by omega)]; exact h), fun c3 => by omega⟩, fun c3 => by omega⟩, fun c2 => ⟨fun c3 => by omega, fun c3 => ⟨fun c4 => by omega, fun _ => ⟨fun _ => hS _ _ _ (by rw [← e2 (by omega) (by omega)]; exact h), fun c5 => by omega⟩⟩⟩⟩, fun c => ?_⟩
        have q2 := ht.2.2 j (by omega)
        have r2 := ht.2.1 _ (getD_mem (l := t) (i := j) (by omega))
        rw [q2]
        refine ⟨by omega, c_isLetter hk1 (by omega) (brz' (fun e => ⟨by omega, by omega, fun c2 => ⟨fun _ => ⟨fun c3 => by omega, fun _ => hS _ _ _ (by rw [← e1 (by omega) ⟨by omega, e⟩]; exact h)⟩, fun c3 => by omega⟩, fun c2 => ⟨fun _ => ?_, fun c3 => by omega⟩⟩) (fun e => ?_))⟩
        · have q1 := hs.2.2 i (by omega)
          have r1 := hs.2.1 _ (getD_mem (l := s) (i := i) (by omega))
          have e9 := e3 (by omega) ⟨by omega, e⟩
          rw [q1, q2]
          refine ⟨by omega, by omega, by omega, fun c4 => ?_, fun c4 => hS _ _ _ ?_⟩
          · rw [if_pos c4] at e9
            exact (ih (i + 1) (j + 1) (by omega) (by omega) (by omega) e9.symm).2
          · rw [if_neg c4] at e9
            rw [← e9]; exact h
        · have e9 : cmpL (lets (s.drop i)) (lets (t.drop (j + 1))) = cmpL (lets s) (lets t) := by
            rw [← he, drop_cons (l := t) (i := j) (by omega), lets_cons, if_neg (by rw [e]; decide)]
          exact (ih i (j + 1) (by omega) (by omega) (by omega) e9).1 hil
      refine ⟨h33, ?_⟩
      refine wX5_comparesLetters_6 K1 hk1.1 ⟨by omega, by omega, fun c => h33 (Or.inl (by omega)), fun c => ?_⟩
      have q1 := hs.2.2 i (by omega)
      have r1 := hs.2.1 _ (getD_mem (l := s) (i := i) (by omega))
      rw [q1]
      refine ⟨by omega, c_isLetter hk1 (by omega) (brz' (fun e => h33 (Or.inr e)) (fun e => ?_))⟩
      have e9 : cmpL (lets (s.drop (i + 1))) (lets (t.drop j)) = cmpL (lets s) (lets t) := by
        rw [← he, drop_cons (l := s) (i := i) (by omega), lets_cons, if_neg (by rw [e]; decide)]
      exact (ih (i + 1) j (by omega) (by omega) (by omega) e9).2
  exact (key _ 0 0 (Nat.le_refl _) (Nat.zero_le _) (Nat.zero_le _) rfl).2
/-- the x-th name in the rows of names -/
abbrev NMat (x : Int) (s : List Int) (A : Nat → Int → Int) : Prop := A 13 x = (s.length : Int) ∧ PC10 (A 12 x) s A
theorem c_comparesNames {K : KM} (hk : MK K 3) {x y : Int} {s t : List Int} (hx : 0 ≤ x ∧ x < 156) (hy : 0 ≤ y ∧ y < 156) {F : Nat → Int} {A : Nat → Int → Int} {Φ : PI} (hs : NMat x s A) (ht : NMat y t A) (h : Φ (cmpM s t) F A) : RI mX5_comparesNames K [.ref K.m, vI x, vI y] F A Φ := by
  have hr := cmpL_rng (byt_lets hs.2.2.1) (byt_lets ht.2.2.1)
  unfold cmpM at h
  refine RI.w (n := 2) hk (fun K1 hk1 hS => wX5_comparesNames_0 K1 hk1.1 ?_)
  rw [hs.1, ht.1]
  refine ⟨hx, hy, c_comparesLetters hk1 hs.2 ht.2 ?_⟩
  rw [hs.1, ht.1]
  refine ⟨by omega, fun c => c_compares (hk1.le (by decide)) hs.2 ht.2 (hS _ _ _ ?_), fun c => hS _ _ _ ?_⟩
  · rwa [if_pos c] at h
  · rwa [if_neg c] at h
