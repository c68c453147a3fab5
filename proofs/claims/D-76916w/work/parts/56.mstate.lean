set_option maxRecDepth 100000
/-! the reference holds a state -/
def KeptM (o : Option Tr) (F : Nat → Int) (A : Nat → Int → Int) : Prop := match o with
  | none => F 5 = 0
  | some T => F 5 = (T.1 : Int) ∧ BB T (A 2)
def MSc (s : Sg) (F : Nat → Int) (A : Nat → Int → Int) : Prop :=
  (F 3 = (s.D.1 : Int) ∧ BB s.D (A 1)) ∧ KeptM s.Kp F A ∧ (F 31 = (s.tp.length : Int) ∧ arr (A 18) 0 s.tp) ∧
  (F 56 = (s.wy.length : Int) ∧ arr (A 33) 0 (s.wy.map fun p => p.1) ∧ arr (A 34) 0 (s.wy.map fun p => p.2)) ∧ F 32 = s.rd ∧ F 33 = s.md ∧
  ∀ r, 0 ≤ r → r < 4 → A 35 r = (s.rw r).1 ∧ A 36 r = ((s.rw r).2.length : Int) ∧ arr (A 37) (40 * r) (s.rw r).2
abbrev MS (s : Sg) (F : Nat → Int) (A : Nat → Int → Int) : Prop := MSc s F A ∧ MLL F A
abbrev Sf : List Nat := [1, 6, 7, 8, 9, 16, 19, 26, 34, 35, 36, 45, 46, 55]
abbrev Sa : List Nat := [0, 3, 4, 5, 6, 7, 8, 9, 10, 11, 12, 13, 14, 15, 16, 17, 19, 20, 21, 22, 23, 24, 25, 26, 27, 28, 29, 30, 31, 32, 38]
theorem KeptM.fr {o : Option Tr} {F F' : Nat → Int} {A A' : Nat → Int → Int} (h : KeptM o F A) (h5 : F' 5 = F 5) (h2 : A' 2 = A 2) : KeptM o F' A' := by
  unfold KeptM at h ⊢
  cases o with
  | none => exact h5.trans h
  | some T => exact ⟨h5.trans h.1, by rw [h2]; exact h.2⟩
theorem MSc.fr {s : Sg} {F F' : Nat → Int} {A A' : Nat → Int → Int} (h : MSc s F A) (hF : agF Sf F F') (hA : agA Sa A A') : MSc s F' A' := by
  obtain ⟨h1, h2, h3, h4, h5, h6, h7⟩ := h
  refine ⟨⟨by rw [hF 3 (by decide)]; exact h1.1, by rw [hA 1 (by decide)]; exact h1.2⟩, h2.fr (hF 5 (by decide)) (hA 2 (by decide)), ⟨by rw [hF 31 (by decide)]; exact h3.1, by rw [hA 18 (by decide)]; exact h3.2⟩, ⟨by rw [hF 56 (by decide)]; exact h4.1, by rw [hA 33 (by decide)]; exact h4.2.1, by rw [hA 34 (by decide)]; exact h4.2.2⟩, by rw [hF 32 (by decide)]; exact h5, by rw [hF 33 (by decide)]; exact h6, fun r r1 r2 => ?_⟩
  have := h7 r r1 r2
  exact ⟨by rw [hA 35 (by decide)]; exact this.1, by rw [hA 36 (by decide)]; exact this.2.1, by rw [hA 37 (by decide)]; exact this.2.2⟩
theorem MLL.fr {F F' : Nat → Int} {A A' : Nat → Int → Int} (h : MLL F A) (h9 : F' 9 = F 9) (h3 : A' 3 = A 3) (h4 : A' 4 = A 4) : MLL F' A' := by
  rcases h with h | h
  · exact Or.inl ⟨h9.trans h.1, fun n h1 h2 => ⟨by rw [h4]; exact (h.2 n h1 h2).1, by rw [h3]; exact (h.2 n h1 h2).2⟩⟩
  · exact Or.inr ⟨h9.trans h.1, fun n h1 h2 => by rw [h4]; exact h.2 n h1 h2⟩
theorem ML.fr {F F' : Nat → Int} {A A' : Nat → Int → Int} (h : ML F A) (h9 : F' 9 = F 9) (h3 : A' 3 = A 3) (h4 : A' 4 = A 4) : ML F' A' :=
  ⟨h9.trans h.1, fun n h1 h2 => ⟨by rw [h4]; exact (h.2 n h1 h2).1, by rw [h3]; exact (h.2 n h1 h2).2⟩⟩
/-- a drawing alone is changed -/
theorem MSc.draw {s : Sg} {F F' : Nat → Int} {A A' : Nat → Int → Int} (h : MSc s F A) (hF : agF (3 :: Sf) F F') (hA : agA (1 :: Sa) A A') {T : Tr} (h3 : F' 3 = (T.1 : Int)) (hB : BB T (A' 1)) : MSc (T, s.2) F' A' := by
  obtain ⟨h1, h2, h4, h5, h6, h7, h8⟩ := h
  refine ⟨⟨h3, hB⟩, h2.fr (hF 5 (by decide)) (hA 2 (by decide)), ⟨by rw [hF 31 (by decide)]; exact h4.1, by rw [hA 18 (by decide)]; exact h4.2⟩, ⟨by rw [hF 56 (by decide)]; exact h5.1, by rw [hA 33 (by decide)]; exact h5.2.1, by rw [hA 34 (by decide)]; exact h5.2.2⟩, by rw [hF 32 (by decide)]; exact h6, by rw [hF 33 (by decide)]; exact h7, fun r r1 r2 => ?_⟩
  have := h8 r r1 r2
  exact ⟨by rw [hA 35 (by decide)]; exact this.1, by rw [hA 36 (by decide)]; exact this.2.1, by rw [hA 37 (by decide)]; exact this.2.2⟩
theorem BB.of {T : Tr} {g g' : Int → Int} (h : BB T g) (he : ∀ a, 0 ≤ a → a < 13 → g' a = g a) : BB T g' := fun a h1 h2 => by
  rw [he a h1 h2]; exact h a h1 h2
/-! small contracts -/
theorem c_isAtom {K : KM} (hk : MK K 2) {s : Sg} {F : Nat → Int} {A : Nat → Int → Int} {Φ : PI} (hM : MSc s F A) (hn : s.D.1 ≤ 12) {a : Int} (ha : rI a) (h : Φ (bz (isAt s a)) F A) : RI mX5_isAtom K [.ref K.m, vI a] F A Φ := by
  have h3 := hM.1.1
  refine RI.w (n := 1) hk (fun K1 hk1 hS => wX5_isAtom_0 K1 hk1.1 ⟨ha, by omega, c_isInM hk1 (by omega) (by decide) (by omega) ⟨bz01 _, hS _ _ _ ?_⟩⟩)
  rw [h3]; exact h
theorem c_isListOf (hLO : LstOk) {K : KM} (hk : MK K 21) {F : Nat → Int} {A : Nat → Int → Int} {Φ : PI} (hL : MLL F A) {n : Int} (hn : rI n) (hΦ : ∀ F' A', agF Lf F F' → agA La A A' → ML F' A' → Φ (bz (isLs n)) F' A') : RI mX5_isListOf K [.ref K.m, vI n] F A Φ :=
  RI.w (n := 20) hk (fun K1 hk1 hS => wX5_isListOf_0 K1 hk1.1 (c_lists hLO hk1 hL fun F' A' h1 h2 h3 => ⟨hn, c_isInM (hk1.le (by decide)) (by omega) (by decide) (by decide) ⟨bz01 _, hS _ _ _ (hΦ F' A' h1 h2 h3)⟩⟩))
theorem c_isListed (hLO : LstOk) {K : KM} (hk : MK K 22) {F : Nat → Int} {A : Nat → Int → Int} {Φ : PI} (hL : MLL F A) {n i : Int} (hn : rI n) (hi : rI i) (hΦ : ∀ F' A', agF Lf F F' → agA La A A' → ML F' A' → Φ (bz (isLd n i)) F' A') : RI mX5_isListed K [.ref K.m, vI n, vI i] F A Φ := by
  refine RI.w (n := 21) hk (fun K1 hk1 hS => wX5_isListed_0 K1 hk1.1 (c_isListOf hLO hk1 hL hn fun F' A' h1 h2 h3 => brz (fun e => hS _ _ _ ?_) (fun e => ?_)))
  · have := hΦ F' A' h1 h2 h3
    unfold isLd at this
    rw [show decide (1 ≤ n ∧ n ≤ 10) = false from e] at this
    exact this
  · have he := of_decide_eq_true e
    have h4 := (h3.2 n.toNat (by omega) (by omega)).1
    rw [show ((n.toNat : Nat) : Int) = n by omega] at h4
    have h5 := (hLO n.toNat (by omega) (by omega)).1
    rw [h4]
    refine ⟨hi, by omega, by omega, c_isInM (hk1.le (by decide)) (by omega) (by decide) (by omega) (brz (fun e2 => hS _ _ _ ?_) (fun e2 => hS _ _ _ ?_))⟩
    · have := hΦ F' A' h1 h2 h3
      unfold isLd at this
      rw [show decide (1 ≤ n ∧ n ≤ 10) = true from e, e2] at this
      exact this
    · have := hΦ F' A' h1 h2 h3
      unfold isLd at this
      rw [show decide (1 ≤ n ∧ n ≤ 10) = true from e, e2] at this
      exact this
theorem isLd_iff {n i : Int} : isLd n i = true ↔ (1 ≤ n ∧ n ≤ 10) ∧ 0 ≤ i ∧ i ≤ ((lst n.toNat).length : Int) - 1 := by
  unfold isLd
  rw [Bool.and_eq_true, decide_eq_true_eq, decide_eq_true_eq]
theorem c_keyOf {K : KM} (hk : MK K 1) (hLO : LstOk) {F : Nat → Int} {A : Nat → Int → Int} {Φ : PI} (hL : ML F A) {n i : Int} (hi : isLd n i = true) (hΦ : Φ (lsAt n i) F A) : RI mX5_keyOf K [.ref K.m, vI n, vI i] F A Φ := by
  obtain ⟨h1, h2⟩ := isLd_iff.mp hi
  have h3 := (hL.2 n.toNat (by omega) (by omega)).2 i.toNat (by omega)
  have h5 := (hLO n.toNat (by omega) (by omega)).1
  rw [show 80 * ((n.toNat : Nat) : Int) + ((i.toNat : Nat) : Int) = 80 * n + i by omega] at h3
  refine RI.w (n := 0) hk (fun K1 hk1 hS => wX5_keyOf_0 K1 hk1.1 ⟨by omega, hS _ _ _ ?_⟩)
  rw [h3]; exact hΦ
/-- a listed tree, and that it is there -/
theorem lst_tree (hLO : LstOk) {n i : Int} (hi : isLd n i = true) : ∃ C, canT n.toNat (lsAt n i) = some C ∧ (∃ d, TrOk C d) ∧ C.1 = n.toNat ∧ 0 ≤ lsAt n i ∧ lsAt n i < p5 n ∧ rI (lsAt n i) := by
  obtain ⟨h1, h2⟩ := isLd_iff.mp hi
  have h6 := (hLO n.toNat (by omega) (by omega)).2 (lsAt n i) (getD_mem (by omega))
  rw [show ((n.toNat : Nat) : Int) = n by omega] at h6
  obtain ⟨h7, h8, C, hC⟩ := h6
  have := p5_le (x := n) (by omega)
  exact ⟨C, hC, canT_ok (by omega) (by omega) hC, (canT_some hC).2.1, h7, h8, by omega⟩
theorem c_looksAt (hLO : LstOk) {K : KM} (hk : MK K 19) {F : Nat → Int} {A : Nat → Int → Int} {Φ : PV} (hL : ML F A) {n i : Int} (hi : isLd n i = true) {C : Tr} (hC : canT n.toNat (lsAt n i) = some C) (hΦ : ∀ F' A', agF [1, 6, 7, 8] F F' → agA [0] A A' → LM C F' A' → Φ F' A') : RV mX5_looksAt K [.ref K.m, vI n, vI i] F A Φ := by
  obtain ⟨h1, h2⟩ := isLd_iff.mp hi
  obtain ⟨C', hC', -, -, h7, h8, h9⟩ := lst_tree hLO hi
  refine RV.w (n := 18) hk (fun K1 hk1 hS => wX5_looksAt_0 K1 hk1.1 (c_keyOf (hk1.le (by decide)) hLO hL hi ?_))
  have := c_comesFrom (n := n.toNat) (Φ := fun r1 F1 A1 => SV K1 F1 A1) hk1 (by omega) (by omega) h9 (F := F) (A := A) (fun hno => by
    rw [show ((n.toNat : Nat) : Int) = n by omega] at hno
    rcases hno with hno | hno | hno
    · omega
    · omega
    · rw [hC] at hno; cases hno) (fun C2 q1 q2 q3 F2 A2 k1 k2 k3 => by
    cases hC.symm.trans q3
    exact hS _ _ (hΦ F2 A2 k1 k2 k3))
  rwa [show ((n.toNat : Nat) : Int) = n by omega] at this
/-- the drawing is looked at -/
theorem c_looksD {K : KM} (hk : MK K 1) {s : Sg} {F : Nat → Int} {A : Nat → Int → Int} {Φ : PV} (hM : MSc s F A) (h : ∀ F' A', agF [1] F F' → agA [0] A A' → F' = upN F 1 (F 3) → LM s.D F' A' → Φ F' A') : RV mX5_looksAtDrawing K [.ref K.m] F A Φ :=
  c_looksAtDrawing hk fun A' h1 h2 => h _ A' ((agF.rf _ _).up (by decide)) h1 rfl ⟨by rw [upN_eq]; exact hM.1.1, hM.1.2.of h2⟩
