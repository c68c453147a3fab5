set_option maxRecDepth 100000
/-! the drawing's calls of the reference -/
theorem BB.bits {T : Tr} {d : Int → Int → Int} (h : TrOk T d) {g : Int → Int} (hB : BB T g) {a : Int} (ha : 0 ≤ a ∧ a < 13) : bitsOf (g a) = nbs T a :=
  LM.bits h (F := fun _ => (T.1 : Int)) (A := fun _ => g) ⟨rfl, hB⟩ ha
theorem BB.zero {T : Tr} {d : Int → Int → Int} (h : TrOk T d) {g : Int → Int} (hB : BB T g) {k : Int} (hk : (T.1 : Int) ≤ k) : BB T (upZ g k 0) := by
  intro a h1 h2
  by_cases e : a = k
  · rw [e, upZ_eq]
    refine ⟨by decide, fun b h3 h4 => ?_⟩
    rw [hasB_zero ⟨h3, by omega⟩]
    cases e2 : T.2 k b with
    | false => rfl
    | true => have := (h.rng e2).1; omega
  · rw [upZ_ne _ _ e]; exact hB a h1 h2
theorem isAt_iff {s : Sg} {a : Int} : isAt s a = true ↔ inT s.D a := by
  unfold isAt
  rw [decide_eq_true_eq]
  omega
theorem isAt_no {s : Sg} {a : Int} : isAt s a = false → ¬ inT s.D a := fun h h2 => by rw [isAt_iff.mpr h2] at h; cases h
theorem o_grow {K : KM} (hk : MK K 5) {s : Sg} {F : Nat → Int} {A : Nat → Int → Int} (hV : SgOk s) (hM : MS s F A) {a : Int} (ha : rI a) {Φ : PI} (h : ∀ F' A', MS (opGrow s a).2 F' A' → Φ (opGrow s a).1 F' A') : RI mX5_grow K [.ref K.m, vI a] F A Φ := by
  obtain ⟨⟨d, hT⟩, hn, -⟩ := hV
  have hn1 := hT.n1
  have h3 := hM.1.1.1
  refine RI.w (n := 4) hk (fun K1 hk1 hS => wX5_grow_0 K1 hk1.1 (c_isAtom (hk1.le (by decide)) hM.1 hn ha (brz' (fun e => ?_) (fun e => hS _ _ _ ?_))))
  rotate_left
  · have := h F A
    unfold opGrow at this
    rw [if_neg (by rw [e]; decide)] at this
    exact this hM
  have hin := isAt_iff.mp e
  have hop : opGrow s a = if (nbs s.D a).length = 4 ∨ s.D.1 = 12 then (-4, s) else ((s.D.1 : Int), (grT s.D a, s.2)) := by unfold opGrow; rw [if_pos e]
  rw [hop] at h
  refine ⟨by omega, c_bitCount (hk1.le (by decide)) (hM.1.1.2 a hin.1 (by omega)).1 ?_⟩
  rw [hM.1.1.2.bits hT ⟨hin.1, by omega⟩]
  have hdeg := hT.deg a
  refine ⟨by omega, fun c => hS _ _ _ ?_, fun c => ⟨by omega, fun c2 => ?_, fun c2 => hS _ _ _ ?_⟩⟩
  · have := h F A; rw [if_pos (Or.inl (by omega))] at this; exact this hM
  rotate_left
  · have := h F A; rw [if_pos (Or.inr (by omega))] at this; exact this hM
  rw [if_neg (by omega)] at h
  refine c_looksD (hk1.le (by decide)) hM.1 fun F1 A1 g1 g2 g3 g4 => ⟨by have := g4.1; omega, ?_⟩
  have e1 : F1 1 = (s.D.1 : Int) := g4.1
  rw [e1]
  refine c_binds (hk1.le (by decide)) ⟨hin.1, by omega⟩ ⟨by omega, by omega⟩ fun A2 k1 k2 => c_draws (hk1.le (by decide)) fun A3 k3 k4 => hS _ _ _ ?_
  have hB : BB (grT s.D a) (A2 0) := by
    rw [k2, upA_eq]
    exact BB.grow (BB.zero hT g4.2 (Int.le_refl _)) ⟨hin.1, by omega⟩ (by omega)
  have hA3 : agA (1 :: Sa) A A3 := ((g2.sb (by decide)).tr (((agA.rf _ _).up (by decide)).tr (k1.sb (by decide)))).tr (k3.sb (by decide))
  have hF3 : agF (3 :: Sf) F (upN (upN F1 1 ((s.D.1 : Int) + 1)) 3 (upN F1 1 ((s.D.1 : Int) + 1) 1)) := ((g1.sb (by decide)).up (by decide)).up (by decide)
  have := h (upN (upN F1 1 ((s.D.1 : Int) + 1)) 3 (upN F1 1 ((s.D.1 : Int) + 1) 1)) A3 ⟨hM.1.draw hF3 hA3 (by rw [upN_eq, upN_eq, grT_n]; omega) (hB.of k4), hM.2.fr ?_ ?_ ?_⟩
  · rw [upN_eq] at this
    rw [upN_eq, upN_eq, e1]
    rwa [show (s.D.1 : Int) + 1 - 1 = (s.D.1 : Int) by omega]
  · rw [upN_ne _ _ (by decide), upN_ne _ _ (by decide), g1 9 (by decide)]
  · rw [k3 3 (by decide), k1 3 (by decide), upA_ne _ _ _ (by decide), g2 3 (by decide)]
  · rw [k3 4 (by decide), k1 4 (by decide), upA_ne _ _ _ (by decide), g2 4 (by decide)]
theorem o_take (hLO : LstOk) {K : KM} (hk : MK K 24) {s : Sg} {F : Nat → Int} {A : Nat → Int → Int} (hM : MS s F A) {n i : Int} (hn : rI n) (hi : rI i) {Φ : PI} (h : ∀ F' A', MS (opTake s n i).2 F' A' → Φ (opTake s n i).1 F' A') : RI mX5_take K [.ref K.m, vI n, vI i] F A Φ := by
  refine RI.w (n := 23) hk (fun K1 hk1 hS => wX5_take_0 K1 hk1.1 (c_isListed hLO (hk1.le (by decide)) hM.2 hn hi fun F1 A1 g1 g2 g3 => brz' (fun e => ?_) (fun e => hS _ _ _ ?_)))
  rotate_left
  · have := h F1 A1
    unfold opTake at this
    rw [if_neg (by rw [e]; decide)] at this
    exact this ⟨hM.1.fr (g1.sb (by decide)) (g2.sb (by decide)), Or.inl g3⟩
  obtain ⟨C, hC, ⟨d, hT⟩, hC1, -, -, -⟩ := lst_tree hLO e
  have hop : opTake s n i = (lsAt n i, (C, s.2)) := by unfold opTake; rw [if_pos e, hC]
  rw [hop] at h
  refine c_looksAt hLO (hk1.le (by decide)) g3 e hC fun F2 A2 k1 k2 k3 => c_draws (hk1.le (by decide)) fun A3 k4 k5 => ?_
  have h9 : upN F2 3 (F2 1) 9 = F1 9 := by rw [upN_ne _ _ (by decide), k1 9 (by decide)]
  have e3 : A3 3 = A1 3 := by rw [k4 3 (by decide), k2 3 (by decide)]
  have e4 : A3 4 = A1 4 := by rw [k4 4 (by decide), k2 4 (by decide)]
  have g4 := g3.fr h9 e3 e4
  refine c_keyOf (hk1.le (by decide)) hLO g4 e (hS _ _ _ (h _ _ ⟨hM.1.draw ?_ ?_ ?_ (k3.2.of k5), Or.inl g4⟩))
  · exact ((g1.sb (by decide)).tr (k1.sb (by decide))).up (by decide)
  · exact ((g2.sb (by decide)).tr (k2.sb (by decide))).tr (k4.sb (by decide))
  · rw [upN_eq]; exact k3.1
theorem o_code {K : KM} (hk : MK K 20) {s : Sg} {F : Nat → Int} {A : Nat → Int → Int} (hM : MS s F A) {n v : Int} (hn : rI n) (hv : rI v) {Φ : PI} (h : ∀ F' A', MS (opCode s n v).2 F' A' → Φ (opCode s n v).1 F' A') : RI mX5_code K [.ref K.m, vI n, vI v] F A Φ := by
  refine RI.w (n := 19) hk (fun K1 hk1 hS => wX5_code_0 K1 hk1.1 ⟨hn, c_isInM (hk1.le (by decide)) (by omega) (by decide) (by decide) (brz (fun e => hS _ _ _ ?_) (fun e => ?_))⟩)
  · have := h F A
    unfold opCode at this
    rw [if_neg (fun hh => of_decide_eq_false e ⟨hh.1, hh.2.1⟩)] at this
    exact this hM
  have he := of_decide_eq_true e
  have e0 : ((n.toNat : Nat) : Int) = n := by omega
  have := c_comesFrom (n := n.toNat) (Φ := fun r3 F3 A3 => rI r3 ∧ ((¬ r3 = 0 → RV mX5_draws K1 [.ref K1.m] F3 A3 fun F5 A5 => RI mX5_keyNow K1 [.ref K1.m] F5 A5 fun r6 F6 A6 => rI r6 ∧ rI v ∧ ((¬ r6 = v → SI K1 0 F6 A6) ∧ (r6 = v → SI K1 1 F6 A6))) ∧ (r3 = 0 → SI K1 (-2) F3 A3))) (hk1.le (by decide)) (by omega) (by omega) hv (F := F) (A := A) (fun hno F2 A2 k1 k2 => ?_) (fun C q1 q2 q3 F2 A2 k1 k2 k3 => ?_)
  · rwa [e0] at this
  · refine ⟨by decide, fun c => absurd rfl c, fun _ => hS _ _ _ ?_⟩
    rw [e0] at hno
    have := h F2 A2
    unfold opCode at this
    by_cases c : 1 ≤ n ∧ n ≤ 12 ∧ 0 ≤ v ∧ v < p5 n
    · rw [if_pos c] at this
      rcases hno with hno | hno | hno
      · omega
      · omega
      · rw [hno] at this
        exact this ⟨hM.1.fr (k1.sb (by decide)) (k2.sb (by decide)), hM.2.fr (k1 9 (by decide)) (k2 3 (by decide)) (k2 4 (by decide))⟩
    · rw [if_neg c] at this
      exact this ⟨hM.1.fr (k1.sb (by decide)) (k2.sb (by decide)), hM.2.fr (k1 9 (by decide)) (k2 3 (by decide)) (k2 4 (by decide))⟩
  · rw [e0] at q2
    obtain ⟨d, hT⟩ := canT_ok (by omega) (by omega) q3
    have hop : opCode s n v = (bz (decide (keyT C = v)), (C, s.2)) := by unfold opCode; rw [if_pos ⟨he.1, he.2, q1, q2⟩, q3]
    rw [hop] at h
    have hkr := keyT_rng C
    unfold P13 at hkr
    refine ⟨by decide, fun _ => c_draws (hk1.le (by decide)) fun A3 k4 k5 => ?_, fun c => absurd c (by decide)⟩
    have hL3 : LM C (upN F2 3 (F2 1)) A3 := ⟨by rw [upN_ne _ _ (by decide)]; exact k3.1, by rw [k4 0 (by decide)]; exact k3.2⟩
    have hMS : MS (C, s.2) (upN F2 3 (F2 1)) A3 := ⟨hM.1.draw ((k1.sb (by decide)).up (by decide)) ((k2.sb (by decide)).tr (k4.sb (by decide))) (by rw [upN_eq]; exact k3.1) (k3.2.of k5), hM.2.fr (by rw [upN_ne _ _ (by decide), k1 9 (by decide)]) (by rw [k4 3 (by decide), k2 3 (by decide)]) (by rw [k4 4 (by decide), k2 4 (by decide)])⟩
    have := h _ _ hMS
    refine c_keyNow hT (hk1.le (by decide)) hL3 ⟨by omega, hv, fun c => hS _ _ _ ?_, fun c => hS _ _ _ ?_⟩
    · rwa [decide_eq_false c] at this
    · rwa [decide_eq_true c] at this
theorem idxOf_le (k : Int) : ∀ (l : List Int) (i : Int), idxOf k l i = -1 ∨ i ≤ idxOf k l i ∧ idxOf k l i < i + (l.length : Int)
  | [], _ => Or.inl rfl
  | x :: l, i => by
    unfold idxOf
    by_cases c : x = k
    · rw [if_pos c, List.length_cons]; right; omega
    · rw [if_neg c, List.length_cons]
      rcases idxOf_le k l (i + 1) with h | h
      · exact Or.inl h
      · right; omega
theorem lst_rI (n : Nat) {x : Int} (h : x ∈ lst n) : rI x := (lst_DR n).2 x h
theorem o_drawn (hLO : LstOk) {K : KM} (hk : MK K 24) {s : Sg} {F : Nat → Int} {A : Nat → Int → Int} (hV : SgOk s) (hM : MS s F A) {w : Int} (hw : rI w) {Φ : PI} (h : ∀ F' A', MS s F' A' → Φ (opDrawn s w) F' A') : RI mX5_drawn K [.ref K.m, vI w] F A Φ := by
  obtain ⟨⟨d, hT⟩, hn, -⟩ := hV
  have hn1 := hT.n1
  refine RI.w (n := 23) hk (fun K1 hk1 hS => wX5_drawn_0 K1 hk1.1 (c_looksD (hk1.le (by decide)) hM.1 fun F1 A1 g1 g2 g3 g4 => ?_))
  have hM1 : MS s F1 A1 := ⟨hM.1.fr (g1.sb (by decide)) (g2.sb (by decide)), hM.2.fr (g1 9 (by decide)) (g2 3 (by decide)) (g2 4 (by decide))⟩
  have hkr := keyT_rng s.D
  unfold P13 at hkr
  unfold opDrawn at h
  refine ⟨hw, fun c => hS _ _ _ ?_, fun c => ?_, fun c => ?_, fun c => ?_, fun c => ?_, fun c => hS _ _ _ ?_⟩
  · rw [if_pos c] at h
    rw [g4.1]; exact h F1 A1 hM1
  · rw [if_neg (by omega), if_pos c] at h
    exact c_keyNow hT (hk1.le (by decide)) g4 (hS _ _ _ (h F1 A1 hM1))
  · rw [if_neg (by omega), if_neg (by omega), if_pos c] at h
    refine RI.w (n := 22) hk1 (fun K2 hk2 hS2 => wX5_numberNow_0 K2 hk2.1 (c_lists hLO (hk2.le (by decide)) hM1.2 fun F2 A2 k1 k2 k3 => ?_))
    have hM2 : MSc s F2 A2 := hM1.1.fr (k1.sb (by decide)) (k2.sb (by decide))
    refine RI.w (n := 21) hk2 (fun K3 hk3 hS3 => wX5_keyOfDrawing_0 K3 hk3.1 (c_looksD (hk3.le (by decide)) hM2 fun F3 A3 j1 j2 j3 j4 => c_keyNow hT (hk3.le (by decide)) j4 (hS3 _ _ _ ?_)))
    have hL3 := k3.fr (j1 9 (by decide)) (j2 3 (by decide)) (j2 4 (by decide))
    have hM3 : MS s F3 A3 := ⟨hM2.fr (j1.sb (by decide)) (j2.sb (by decide)), Or.inl hL3⟩
    have e3 : F3 3 = (s.D.1 : Int) := hM3.1.1.1
    have key : ∀ (r : List Int) (i : Int), 0 ≤ i → (lst s.D.1).drop i.toNat = r → i ≤ ((lst s.D.1).length : Int) → s.D.1 ≤ 10 → idxOf (keyT s.D) r i = idxOf (keyT s.D) (lst s.D.1) 0 → VM K2 mX5_numberNow 11 [(0, .ref K2.m), (1, vI (keyT s.D)), (2, vI i)] [] F3 A3 := by
      intro r
      induction r with
      | nil =>
        intro i hi hr hil h10 hidx
        have hi2 : i = ((lst s.D.1).length : Int) := by
          have := congrArg List.length hr
          rw [List.length_drop, List.length_nil] at this
          omega
        have h4 := (hL3.2 s.D.1 hn1.1 h10).1
        have hlen := (hLO s.D.1 hn1.1 h10).1
        have := h F3 A3 hM3
        rw [if_pos h10, ← hidx] at this
        refine wX5_numberNow_11 K2 hk2.1 ?_
        rw [e3, h4]
        exact ⟨by omega, fun c => by omega, fun _ => ⟨by omega, by omega, by omega, fun _ => hS2 _ _ _ (hS _ _ _ this), fun c => by omega⟩⟩
      | cons x r ih =>
        intro i hi hr hil h10 hidx
        have hi2 : i < ((lst s.D.1).length : Int) := by
          have := congrArg List.length hr
          rw [List.length_drop, List.length_cons] at this
          omega
        have hx : lsAt (s.D.1 : Int) i = x := by
          show (lst s.D.1).getD i.toNat 0 = x
          rw [List.getD_eq_getElem?_getD, ← List.head?_drop, hr]; rfl
        have hr2 : (lst s.D.1).drop (i + 1).toNat = r := by
          rw [show (i + 1).toNat = i.toNat + 1 by omega, ← List.tail_drop, hr]; rfl
        have h4 := (hL3.2 s.D.1 hn1.1 h10).1
        have hlen := (hLO s.D.1 hn1.1 h10).1
        refine wX5_numberNow_11 K2 hk2.1 ?_
        rw [e3, h4]
        refine ⟨by omega, fun c => by omega, fun _ => ⟨by omega, by omega, by omega, fun c => by omega, fun _ => c_keyOf (hk2.le (by decide)) hLO hL3 (isLd_iff.mpr ⟨⟨by omega, by omega⟩, hi, by show i ≤ ((lst s.D.1).length : Int) - 1; omega⟩) ?_⟩⟩
        rw [hx]
        have hxr : rI x := lst_rI s.D.1 (by rw [← hx]; exact getD_mem (by omega))
        have e9 : idxOf (keyT s.D) (x :: r) i = if x = keyT s.D then i else idxOf (keyT s.D) r (i + 1) := rfl
        rw [e9] at hidx
        refine ⟨hxr, by omega, fun c => ?_, fun c => hS2 _ _ _ (hS _ _ _ ?_)⟩
        · rw [if_neg c] at hidx
          exact ih (i + 1) (by omega) hr2 (by omega) h10 hidx
        · rw [if_pos c] at hidx
          have := h F3 A3 hM3
          rw [if_pos h10, ← hidx] at this
          exact this
    by_cases h10 : s.D.1 ≤ 10
    · exact key (lst s.D.1) 0 (by decide) rfl (by omega) h10 rfl
    · refine wX5_numberNow_11 K2 hk2.1 ?_
      rw [e3]
      have := h F3 A3 hM3
      rw [if_neg h10] at this
      exact ⟨by omega, fun _ => hS2 _ _ _ (hS _ _ _ this), fun c => by omega⟩
  · rw [if_neg (by omega), if_neg (by omega), if_neg (by omega), if_pos c] at h
    exact c_centre hT (hk1.le (by decide)) g4 (hS _ _ _ (h F1 A1 hM1))
  · rw [if_neg (by omega), if_neg (by omega), if_neg (by omega), if_neg (by omega), if_pos c] at h
    exact c_otherCentre hT (hk1.le (by decide)) g4 (hS _ _ _ (h F1 A1 hM1))
  · rw [if_neg (by omega), if_neg (by omega), if_neg (by omega), if_neg (by omega), if_neg (by omega)] at h
    exact h F1 A1 hM1
