set_option maxRecDepth 100000
/-! atoms, bonds, lists, tape, image: calls of the reference -/
theorem likeF_eq (T : Tr) (a : Int) : likeF T a = ((rg T.1).filter (fun b => cdA T b == cdA T a)).getD 0 (-1) := rfl
theorem c_alikeTo {T : Tr} {d : Int → Int → Int} (h : TrOk T d) {K : KM} (hk : MK K 17) {a : Int} (ha : inT T a) {q : Bool} {F : Nat → Int} {A : Nat → Int → Int} {Φ : PI} (hL : LM T F A) (hΦ : Φ (if q then likeF T a else likeN T a) F A) : RI mX5_alikeTo K [.ref K.m, vI a, vI (bz q)] F A Φ := by
  have hn := h.n1
  have hF := hL.1
  have ra : 0 ≤ cdA T a ∧ cdA T a < 1220703125 := nmc_rng _
  refine RI.w (n := 16) hk (fun K1 hk1 hS => wX5_alikeTo_0 K1 hk1.1 (c_codeOf h 13 K1 a (-1) (hk1.le (by decide)) (Tw.top ha hn.2) hL ?_))
  have key : ∀ (m : Nat) (k n first : Int), k = (m : Int) - 1 → (m : Int) ≤ (T.1 : Int) → n = (((rgf (m : Int) (T.1 - m)).filter (fun b => cdA T b == cdA T a)).length : Int) → first = ((rgf (m : Int) (T.1 - m)).filter (fun b => cdA T b == cdA T a)).getD 0 (-1) → VM K1 mX5_alikeTo 21 [(0, .ref K1.m), (2, vI (bz q)), (3, vI (cdA T a)), (4, vI n), (5, vI first), (6, vI k)] [] F A := by
    intro m
    induction m with
    | zero =>
      intro k n first hk0 _ hn' hf
      refine wX5_alikeTo_21 K1 hk1.1 ⟨by omega, fun _ => ⟨rI_bz q, fun c => hS _ _ _ ?_, fun c => hS _ _ _ ?_⟩, fun c => by omega⟩
      · cases q with
        | true => exact absurd c (by decide)
        | false => rw [hn']; exact hΦ
      · cases q with
        | false => exact absurd rfl c
        | true => rw [hf]; exact hΦ
    | succ m ih =>
      intro k n first hk0 hm hn' hf
      have hkm : inT T (m : Int) := ⟨by omega, by omega⟩
      have rk := nmc_rng (cd T 13 (m : Int) (-1))
      unfold P13 at rk
      have e : rgf (m : Int) (T.1 - m) = (m : Int) :: rgf ((m + 1 : Nat) : Int) (T.1 - (m + 1)) := by
        rw [show T.1 - m = (T.1 - (m + 1)) + 1 by omega, rgf]
        rfl
      rw [show k = (m : Int) by omega]
      refine wX5_alikeTo_21 K1 hk1.1 ⟨by omega, fun c => by omega, fun _ => c_codeOf h 13 K1 (m : Int) (-1) (hk1.le (by decide)) (Tw.top hkm hn.2) hL ⟨by omega, by omega, fun c => ?_, fun c => ?_⟩⟩
      · refine ih _ n first (by omega) (by omega) ?_ ?_
        · rw [e, List.filter_cons_of_neg (by simpa using c)]; exact hn'
        · rw [e, List.filter_cons_of_neg (by simpa using c)]; exact hf
      · refine ih _ (n + 1) (m : Int) (by omega) (by omega) ?_ ?_
        · rw [e, List.filter_cons_of_pos (by simpa using c), List.length_cons, hn']; omega
        · rw [e, List.filter_cons_of_pos (by simpa using c)]; rfl
  rw [hF]
  have := key T.1 ((T.1 : Int) - 1) 0 (-1) rfl (Int.le_refl _) (by rw [Nat.sub_self]; rfl) (by rw [Nat.sub_self]; rfl)
  exact this
theorem o_atom {K : KM} (hk : MK K 18) {s : Sg} {F : Nat → Int} {A : Nat → Int → Int} (hV : SgOk s) (hM : MS s F A) {a w : Int} (ha : rI a) (hw : rI w) {Φ : PI} (h : ∀ F' A', MS s F' A' → Φ (opAtom s a w) F' A') : RI mX5_atom K [.ref K.m, vI a, vI w] F A Φ := by
  obtain ⟨⟨d, hT⟩, hn, -⟩ := hV
  have hn1 := hT.n1
  refine RI.w (n := 17) hk (fun K1 hk1 hS => wX5_atom_0 K1 hk1.1 (c_isAtom (hk1.le (by decide)) hM.1 hn ha (brz' (fun e => ?_) (fun e => hS _ _ _ ?_))))
  rotate_left
  · have := h F A hM
    unfold opAtom at this
    rwa [if_neg (by rw [e]; decide)] at this
  have hin := isAt_iff.mp e
  unfold opAtom at h
  rw [if_pos e] at h
  refine c_looksD (hk1.le (by decide)) hM.1 fun F1 A1 g1 g2 g3 g4 => ?_
  have := h F1 A1 ⟨hM.1.fr (g1.sb (by decide)) (g2.sb (by decide)), hM.2.fr (g1 9 (by decide)) (g2 3 (by decide)) (g2 4 (by decide))⟩
  refine ⟨hw, fun c => ⟨by omega, ?_⟩, fun c => ?_, fun c => ?_, fun c => ⟨fun c2 => by omega, fun _ => ?_⟩, fun c => ⟨fun _ => ?_, fun c2 => by omega⟩, fun c => hS _ _ _ ?_⟩
  · rw [if_pos c] at this
    refine c_bitCount (hk1.le (by decide)) (g4.2 a hin.1 (by omega)).1 (hS _ _ _ ?_)
    rw [g4.bits hT ⟨hin.1, by omega⟩]; exact this
  · rw [if_neg (by omega), if_pos c] at this
    exact c_deepA hT (hk1.le (by decide)) hin g4 (hS _ _ _ this)
  · rw [if_neg (by omega), if_neg (by omega), if_pos c] at this
    exact c_codeOf hT 13 K1 a (-1) (hk1.le (by decide)) (Tw.top hin hn1.2) g4 (hS _ _ _ this)
  · rw [if_neg (by omega), if_neg (by omega), if_neg (by omega), if_pos c] at this
    exact c_alikeTo hT hk1 hin (q := true) g4 (hS _ _ _ this)
  · rw [if_neg (by omega), if_neg (by omega), if_neg (by omega), if_neg (by omega), if_pos c] at this
    exact c_alikeTo hT hk1 hin (q := false) g4 (hS _ _ _ this)
  · rwa [if_neg (by omega), if_neg (by omega), if_neg (by omega), if_neg (by omega), if_neg (by omega)] at this
theorem o_bond {K : KM} (hk : MK K 3) {s : Sg} {F : Nat → Int} {A : Nat → Int → Int} (hV : SgOk s) (hM : MS s F A) {a i : Int} (ha : rI a) (hi : rI i) {Φ : PI} (h : Φ (opBond s a i) F A) : RI mX5_bond K [.ref K.m, vI a, vI i] F A Φ := by
  obtain ⟨⟨d, hT⟩, hn, -⟩ := hV
  have hn1 := hT.n1
  have h3 := hM.1.1.1
  refine RI.w (n := 2) hk (fun K1 hk1 hS => wX5_bond_0 K1 hk1.1 (c_isAtom (hk1.le (by decide)) hM.1 hn ha (brz (fun e => hS _ _ _ ?_) (fun e => ⟨hi, fun c => ?_, fun c => hS _ _ _ ?_⟩))))
  · unfold opBond at h
    rwa [if_neg (by rw [e]; exact fun hh => absurd hh.1 (by decide))] at h
  · have hin := isAt_iff.mp e
    unfold opBond at h
    rw [if_pos ⟨e, c⟩] at h
    have key : ∀ (m : Nat) (k left : Int), 0 ≤ k → k + (m : Int) = (s.D.1 : Int) → 0 ≤ left → left < 2147483648 → Φ (((rgf k m).filter (fun b => s.D.2 a b)).getD left.toNat (-1)) F A → VM K1 mX5_bond 19 [(0, .ref K1.m), (1, vI a), (3, vI left), (4, vI k)] [] F A := by
      intro m
      induction m with
      | zero =>
        intro k left h1 h2 h4 h5 h6
        refine wX5_bond_19 K1 hk1.1 ?_
        rw [h3]
        exact ⟨by omega, by omega, fun _ => hS _ _ _ h6, fun c => by omega⟩
      | succ m ih =>
        intro k left h1 h2 h4 h5 h6
        refine wX5_bond_19 K1 hk1.1 ?_
        rw [h3]
        rw [rgf] at h6
        have eb := (hM.1.1.2 a hin.1 (by omega)).2 k h1 (by omega)
        refine ⟨by omega, by omega, fun c => by omega, fun _ => ⟨by omega, c_has (hk1.le (by decide)) (brz (fun e2 => ?_) (fun e2 => ⟨by omega, fun c2 => ?_, fun c2 => hS _ _ _ ?_⟩))⟩⟩
        · rw [eb] at e2
          rw [List.filter_cons_of_neg (by rw [e2]; decide)] at h6
          exact ih (k + 1) left (by omega) (by omega) h4 h5 h6
        · rw [eb] at e2
          rw [List.filter_cons_of_pos e2, show left.toNat = (left + -1).toNat + 1 by omega, List.getD_cons_succ] at h6
          exact ih (k + 1) (left + -1) (by omega) (by omega) (by omega) (by omega) h6
        · rw [eb] at e2
          rw [List.filter_cons_of_pos e2, c2] at h6
          exact h6
    exact key s.D.1 0 i (by decide) (by omega) c (by omega) h
  · unfold opBond at h
    rwa [if_neg (fun hh => c hh.2)] at h
theorem o_far {K : KM} (hk : MK K 16) {s : Sg} {F : Nat → Int} {A : Nat → Int → Int} (hV : SgOk s) (hM : MS s F A) {a b : Int} (ha : rI a) (hb : rI b) {Φ : PI} (h : ∀ F' A', MS s F' A' → Φ (opFar s a b) F' A') : RI mX5_far K [.ref K.m, vI a, vI b] F A Φ := by
  obtain ⟨⟨d, hT⟩, hn, -⟩ := hV
  have hn1 := hT.n1
  unfold opFar at h
  refine RI.w (n := 15) hk (fun K1 hk1 hS => wX5_far_0 K1 hk1.1 (c_isAtom (hk1.le (by decide)) hM.1 hn ha (brz (fun e => hS _ _ _ ?_) (fun e => c_isAtom (hk1.le (by decide)) hM.1 hn hb (brz' (fun e2 => ?_) (fun e2 => hS _ _ _ ?_))))))
  · have := h F A hM
    rwa [e] at this
  · rw [e, e2] at h
    have h1 := isAt_iff.mp e
    have h2 := isAt_iff.mp e2
    refine c_looksD (hk1.le (by decide)) hM.1 fun F1 A1 g1 g2 g3 g4 => c_farOf hT h2 13 K1 a (-1) (hk1.le (by decide)) (Tw.top h1 hn1.2) g4 (hS _ _ _ (h F1 A1 ⟨hM.1.fr (g1.sb (by decide)) (g2.sb (by decide)), hM.2.fr (g1 9 (by decide)) (g2 3 (by decide)) (g2 4 (by decide))⟩))
  · have := h F A hM
    rwa [e, e2] at this
theorem o_list (hLO : LstOk) {K : KM} (hk : MK K 23) {s : Sg} {F : Nat → Int} {A : Nat → Int → Int} (hM : MS s F A) {n : Int} (hn : rI n) {Φ : PI} (h : ∀ F' A', MS s F' A' → Φ (opList n) F' A') : RI mX5_list K [.ref K.m, vI n] F A Φ := by
  refine RI.w (n := 22) hk (fun K1 hk1 hS => wX5_list_0 K1 hk1.1 (c_isListOf hLO (hk1.le (by decide)) hM.2 hn fun F1 A1 g1 g2 g3 => ?_))
  have := h F1 A1 ⟨hM.1.fr (g1.sb (by decide)) (g2.sb (by decide)), Or.inl g3⟩
  unfold opList at this
  refine brz (fun e => hS _ _ _ ?_) (fun e => ?_)
  · rwa [if_neg (by rw [e]; decide)] at this
  · have he := of_decide_eq_true e
    rw [if_pos e] at this
    have h4 := (g3.2 n.toNat (by omega) (by omega)).1
    rw [show ((n.toNat : Nat) : Int) = n by omega] at h4
    exact ⟨by omega, hS _ _ _ (by rw [h4]; exact this)⟩
theorem o_key (hLO : LstOk) {K : KM} (hk : MK K 24) {s : Sg} {F : Nat → Int} {A : Nat → Int → Int} (hM : MS s F A) {n i : Int} (hn : rI n) (hi : rI i) {Φ : PI} (h : ∀ F' A', MS s F' A' → Φ (opKey n i) F' A') : RI mX5_key K [.ref K.m, vI n, vI i] F A Φ := by
  refine RI.w (n := 23) hk (fun K1 hk1 hS => wX5_key_0 K1 hk1.1 (c_isListed hLO (hk1.le (by decide)) hM.2 hn hi fun F1 A1 g1 g2 g3 => ?_))
  have := h F1 A1 ⟨hM.1.fr (g1.sb (by decide)) (g2.sb (by decide)), Or.inl g3⟩
  unfold opKey at this
  refine brz (fun e => hS _ _ _ ?_) (fun e => ?_)
  · rwa [if_neg (by rw [e]; decide)] at this
  · rw [if_pos e] at this
    exact c_keyOf (hk1.le (by decide)) hLO g3 e (hS _ _ _ this)
