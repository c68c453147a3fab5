set_option maxRecDepth 100000
/-! centres and keys of the reference -/
theorem dpA_rng {T : Tr} {d : Int → Int → Int} (h : TrOk T d) {a : Int} (ha : inT T a) : 0 ≤ dpA T a ∧ dpA T a < 13 := by
  have hn := h.n1
  obtain ⟨-, x, hx, -, e⟩ := dp_spec h 13 a (-1) (Tw.top ha hn.2)
  have h1 := h.dlt hx ha
  have h2 := h.dge hx ha
  have e : d x a = dpA T a := e
  omega
theorem c_deepA {T : Tr} {d : Int → Int → Int} (h : TrOk T d) {K : KM} (hk : MK K 14) {a : Int} (ha : inT T a) {F : Nat → Int} {A : Nat → Int → Int} {Φ : PI} (hL : LM T F A) (hΦ : Φ (dpA T a) F A) : RI mX5_deepOf K [.ref K.m, vI a, vI (-1)] F A Φ :=
  c_deepOf h 13 K a (-1) hk (Tw.top ha h.n1.2) hL hΦ
theorem c_centre {T : Tr} {d : Int → Int → Int} (h : TrOk T d) {K : KM} (hk : MK K 15) {F : Nat → Int} {A : Nat → Int → Int} {Φ : PI} (hL : LM T F A) (hΦ : Φ (ctA T 0) F A) : RI mX5_centre K [.ref K.m] F A Φ := by
  have hn := h.n1
  have hF := hL.1
  refine RI.w (n := 14) hk (fun K1 hk1 hS => wX5_centre_0 K1 hk1.1 ?_)
  have key : ∀ (m : Nat) (k best : Int), 1 ≤ k → k + (m : Int) = (T.1 : Int) → 0 ≤ best → best < k → (∀ b, 0 ≤ b → b < k → dpA T best ≤ dpA T b) → (∀ b, 0 ≤ b → b < best → dpA T best < dpA T b) → VM K1 mX5_centre 4 [(0, .ref K1.m), (1, vI best), (2, vI k)] [] F A := by
    intro m
    induction m with
    | zero =>
      intro k best h1 h2 h3 h4 h5 h6
      refine wX5_centre_4 K1 hk1.1 ⟨by omega, by omega, fun _ => hS _ _ _ ?_, fun c => by omega⟩
      rw [← ctA0_of (T := T) (c := best) ⟨h3, by omega⟩ (isC_iff.mpr fun b hb => h5 b hb.1 (by omega)) (fun b hb1 hb2 => by
        cases e : isC T b with
        | false => rfl
        | true => have := isC_iff.mp e best ⟨h3, by omega⟩; have := h6 b hb1 hb2; omega)]
      exact hΦ
    | succ m ih =>
      intro k best h1 h2 h3 h4 h5 h6
      have hk2 : inT T k := ⟨by omega, by omega⟩
      have hb2 : inT T best := ⟨h3, by omega⟩
      have r1 := dpA_rng h hk2
      have r2 := dpA_rng h hb2
      refine wX5_centre_4 K1 hk1.1 ⟨by omega, by omega, fun c => by omega, fun _ => c_deepA h hk1 hk2 hL (c_deepA h hk1 hb2 hL ⟨by omega, by omega, fun c => ?_, fun c => ?_⟩)⟩
      · refine ih (k + 1) best (by omega) (by omega) h3 (by omega) (fun b g1 g2 => ?_) h6
        rcases Int.lt_or_le b k with g3 | g3
        · exact h5 b g1 g3
        · rw [show b = k by omega]; exact c
      · refine ih (k + 1) k (by omega) (by omega) (by omega) (by omega) (fun b g1 g2 => ?_) (fun b g1 g2 => ?_)
        · rcases Int.lt_or_le b k with g3 | g3
          · have := h5 b g1 g3; omega
          · rw [show b = k by omega]; exact Int.le_refl _
        · have := h5 b g1 g2; omega
  exact key (T.1 - 1) 1 0 (by decide) (by omega) (by decide) (by decide) (fun b g1 g2 => by rw [show b = 0 by omega]; exact Int.le_refl _) (fun b g1 g2 => by omega)
theorem c_otherCentre {T : Tr} {d : Int → Int → Int} (h : TrOk T d) {K : KM} (hk : MK K 16) {F : Nat → Int} {A : Nat → Int → Int} {Φ : PI} (hL : LM T F A) (hΦ : Φ (ctA T 1) F A) : RI mX5_otherCentre K [.ref K.m] F A Φ := by
  have hn := h.n1
  have hF := hL.1
  obtain ⟨hc, hc1, -⟩ := ctA0_spec hn.1
  refine RI.w (n := 15) hk (fun K1 hk1 hS => wX5_otherCentre_0 K1 hk1.1 (c_centre h hk1 hL ?_))
  rw [ctA1_eq hn.1] at hΦ
  have key : ∀ (m : Nat) (k : Int), 0 ≤ k → k + (m : Int) = (T.1 : Int) → Φ (((rgf k m).filter (isC T)).getD 0 (-1)) F A → VM K1 mX5_otherCentre 9 [(0, .ref K1.m), (1, vI (ctA T 0)), (2, vI k)] [] F A := by
    intro m
    induction m with
    | zero =>
      intro k h1 h2 h3
      exact wX5_otherCentre_9 K1 hk1.1 ⟨by omega, by omega, fun _ => hS _ _ _ h3, fun c => by omega⟩
    | succ m ih =>
      intro k h1 h2 h3
      have hk2 : inT T k := ⟨by omega, by omega⟩
      have r1 := dpA_rng h hk2
      have r2 := dpA_rng h hc
      have e := isC_eq hk2 hc hc1
      rw [rgf, List.filter_cons] at h3
      refine wX5_otherCentre_9 K1 hk1.1 ⟨by omega, by omega, fun c => by omega, fun _ => c_deepA h (hk1.le (by decide)) hk2 hL (c_deepA h (hk1.le (by decide)) hc hL ⟨by omega, by omega, fun c => ?_, fun c => hS _ _ _ ?_⟩)⟩
      · rw [e, decide_eq_false c, if_neg (by decide)] at h3
        exact ih (k + 1) (by omega) (by omega) h3
      · rw [e, decide_eq_true c, if_pos rfl] at h3
        exact h3
  exact key (T.1 - ((ctA T 0).toNat + 1)) (ctA T 0 + 1) (by omega) (by omega) hΦ
theorem c_keyNow {T : Tr} {d : Int → Int → Int} (h : TrOk T d) {K : KM} (hk : MK K 17) {F : Nat → Int} {A : Nat → Int → Int} {Φ : PI} (hL : LM T F A) (hΦ : Φ (keyT T) F A) : RI mX5_keyNow K [.ref K.m] F A Φ := by
  have hn := h.n1
  obtain ⟨hc, -, -⟩ := ctA0_spec hn.1
  have hc2 := ctA1_rng hn.1
  have r1 := nmc_rng (cd T 13 (ctA T 0) (-1))
  have r2 := nmc_rng (cd T 13 (ctA T 1) (-1))
  unfold P13 at r1 r2
  refine RI.w (n := 16) hk (fun K1 hk1 hS => wX5_keyNow_0 K1 hk1.1 (c_otherCentre h hk1 hL (c_centre h (hk1.le (by decide)) hL (c_codeOf h 13 K1 _ _ (hk1.le (by decide)) (Tw.top hc hn.2) hL ⟨?_, fun c => ?_, fun c => hS _ _ _ ?_⟩))))
  · rcases hc2 with hc2 | hc2
    · rw [hc2]; decide
    · omega
  · unfold keyT at hΦ
    rw [if_neg c] at hΦ
    rcases hc2 with hc2 | hc2
    · exact absurd hc2 c
    · exact c_codeOf h 13 K1 _ _ (hk1.le (by decide)) (Tw.top hc2 hn.2) hL ⟨by omega, by omega, by have := hk1.2.2; omega, hS _ _ _ hΦ⟩
  · unfold keyT at hΦ
    rwa [if_pos c] at hΦ
/-! the lists of the reference -/
theorem arr.ext {g g' : Int → Int} {b : Int} {l : List Int} (h : arr g b l) (he : ∀ z, b ≤ z → z < b + (l.length : Int) → g' z = g z) : arr g' b l := fun i hi => by
  rw [he _ (by omega) (by omega)]; exact h i hi
theorem getD_mem {l : List Int} {i : Nat} (h : i < l.length) : l.getD i 0 ∈ l := by
  rw [List.getD_eq_getElem?_getD, List.getElem?_eq_getElem h]; exact List.getElem_mem h
theorem mem_getD {l : List Int} {x : Int} (h : x ∈ l) : ∃ i : Nat, i < l.length ∧ l.getD i 0 = x := by
  obtain ⟨i, hi, e⟩ := List.getElem_of_mem h
  exact ⟨i, hi, by rw [List.getD_eq_getElem?_getD, List.getElem?_eq_getElem hi]; exact e⟩
theorem c_keeps {K : KM} (hk : MK K 1) {n : Nat} (hn : n ≤ 10) {key : Int} (hkey : rI key) {l : List Int} (hd : Desc l) (hl : ∀ x ∈ l, rI x) (hlen : l.length < 80) {F : Nat → Int} {A : Nat → Int → Int} {Φ : PV}
    (h4 : A 4 (n : Int) = (l.length : Int)) (h3 : arr (A 3) (80 * (n : Int)) l)
    (hΦ : ∀ A', agA [3, 4] A A' → (∀ m : Int, m ≠ (n : Int) → A' 4 m = A 4 m) → (∀ z, (z < 80 * (n : Int) ∨ 80 * (n : Int) + 80 ≤ z) → A' 3 z = A 3 z) → A' 4 (n : Int) = ((insU key l).length : Int) → arr (A' 3) (80 * (n : Int)) (insU key l) → Φ F A') : RV mX5_keeps K [.ref K.m, vI (n : Int), vI key] F A Φ := by
  refine RV.w (n := 0) hk (fun K1 hk1 hS => wX5_keeps_0 K1 hk1.1 ⟨by omega, ?_⟩)
  rw [h4]
  -- the shifting
  have shift : ¬ key ∈ l → ∀ (k : Nat) (A' : Nat → Int → Int), k ≤ l.length → agA [3] A A' → (∀ z, (z < 80 * (n : Int) ∨ 80 * (n : Int) + 80 ≤ z) → A' 3 z = A 3 z) → SH (A' 3) (80 * (n : Int)) l k → (∀ i : Nat, k ≤ i → i < l.length → l.getD i 0 < key) →
      VM K1 mX5_keeps 43 [(0, .ref K1.m), (1, vI (n : Int)), (2, vI key), (3, vI (80 * (n : Int))), (4, vI (k : Int))] [] F A' := by
    intro hnk k
    have fin : ∀ (k : Nat) (A' : Nat → Int → Int), k ≤ l.length → agA [3] A A' → (∀ z, (z < 80 * (n : Int) ∨ 80 * (n : Int) + 80 ≤ z) → A' 3 z = A 3 z) → SH (A' 3) (80 * (n : Int)) l k → (∀ i : Nat, k ≤ i → i < l.length → l.getD i 0 < key) → (k = 0 ∨ key ≤ l.getD (k - 1) 0) →
        SV K1 F (upA (upA A' 3 (80 * (n : Int) + (k : Int)) key) 4 (n : Int) (upA A' 3 (80 * (n : Int) + (k : Int)) key 4 (n : Int) + 1)) := by
      intro k A' hkl ha hz hsh hlt hge
      have e : insU key l = l.take k ++ key :: l.drop k := by
        unfold insU; rw [if_neg hnk]; exact insD_at hd hkl hge hlt
      have e2 : (insU key l).length = l.length + 1 := by
        rw [e, List.length_append, List.length_take, List.length_cons, List.length_drop]; omega
      have e4 : A' 4 (n : Int) = (l.length : Int) := by rw [ha 4 (by decide)]; exact h4
      refine hS _ _ (hΦ _ (((ha.sb (by decide)).up (by decide)).up (by decide)) (fun m hm => ?_) (fun z hzz => ?_) ?_ ?_)
      · rw [upA_off _ _ _ hm, upA_ne _ _ _ (by decide), ha 4 (by decide)]
      · rw [upA_ne _ _ _ (by decide), upA_off _ _ _ (by omega)]; exact hz z hzz
      · rw [upA_at, upA_ne _ _ _ (by decide), e4, e2]; omega
      · rw [upA_ne _ _ _ (by decide), upA_eq, e]
        exact hsh.fin hkl key
    induction k with
    | zero =>
      intro A' hkl ha hz hsh hlt
      exact wX5_keeps_43 K1 hk1.1 ⟨by omega, fun _ => ⟨by omega, by omega, fin 0 A' (by omega) ha hz hsh hlt (Or.inl rfl)⟩, fun c => by omega⟩
    | succ k ih =>
      intro A' hkl ha hz hsh hlt
      have e1 : A' 3 (80 * (n : Int) + ((k + 1 : Nat) : Int) - 1) = l.getD k 0 := by
        rw [show 80 * (n : Int) + ((k + 1 : Nat) : Int) - 1 = 80 * (n : Int) + (k : Int) by omega]; exact hsh.1 k (by omega)
      have hr := hl _ (getD_mem (l := l) (i := k) (by omega))
      refine wX5_keeps_43 K1 hk1.1 ⟨by omega, fun c => by omega, fun _ => ⟨by omega, by rw [e1]; exact hr, hkey, fun c => ⟨by omega, by omega, fin (k + 1) A' hkl ha hz hsh hlt (Or.inr ?_)⟩, fun c => ⟨by omega, ?_⟩⟩⟩
      · rw [e1] at c; exact c
      · rw [e1] at c
        have h5 := ih (upA A' 3 (80 * (n : Int) + (k : Int) + 1) (A' 3 (80 * (n : Int) + (k : Int)))) (by omega) (ha.up (by decide)) (fun z hzz => ?_) ?_ (fun i g1 g2 => ?_)
        · rw [show 80 * (n : Int) + ((k + 1 : Nat) : Int) = 80 * (n : Int) + (k : Int) + 1 by omega, show 80 * (n : Int) + (k : Int) + 1 - 1 = 80 * (n : Int) + (k : Int) by omega, show ((k + 1 : Nat) : Int) + -1 = (k : Int) by omega]
          exact h5
        · rw [upA_off _ _ _ (by omega)]; exact hz z hzz
        · rw [upA_eq]; exact hsh.step
        · rcases Nat.lt_or_ge k i with g3 | g3
          · exact hlt i g3 g2
          · rw [show i = k by omega]; omega
  -- whether it is there
  have look : ∀ (m : Nat) (k : Nat), k + m = l.length → (∀ i : Nat, i < k → l.getD i 0 ≠ key) → VM K1 mX5_keeps 16 [(0, .ref K1.m), (1, vI (n : Int)), (2, vI key), (3, vI (80 * (n : Int))), (4, vI (l.length : Int)), (5, vI (k : Int))] [] F A := by
    intro m
    induction m with
    | zero =>
      intro k h1 h2
      refine wX5_keeps_16 K1 hk1.1 ⟨by omega, by omega, fun _ => ?_, fun c => by omega⟩
      exact shift (fun hm => by obtain ⟨i, hi, e⟩ := mem_getD hm; exact h2 i (by omega) e) l.length A (Nat.le_refl _) (agA.rf _ _) (fun _ _ => rfl) (SH.of h3) (fun i g1 g2 => by omega)
    | succ m ih =>
      intro k h1 h2
      have e1 : A 3 (80 * (n : Int) + (k : Int)) = l.getD k 0 := h3 k (by omega)
      have hm := getD_mem (l := l) (i := k) (by omega)
      refine wX5_keeps_16 K1 hk1.1 ⟨by omega, by omega, fun c => by omega, fun _ => ⟨by omega, by rw [e1]; exact hl _ hm, hkey, fun c => ?_, fun c => ?_⟩⟩
      · rw [e1] at c
        refine ih (k + 1) (by omega) fun i hi => ?_
        rcases Nat.lt_or_ge i k with g3 | g3
        · exact h2 i g3
        · rw [show i = k by omega]; exact c
      · rw [e1] at c
        have e : insU key l = l := by unfold insU; rw [if_pos (by rw [← c]; exact hm)]
        exact hS _ _ (hΦ A (agA.rf _ _) (fun _ _ => rfl) (fun _ _ => rfl) (by rw [e]; exact h4) (by rw [e]; exact h3))
  exact look l.length 0 (by omega) (fun i hi => by omega)
