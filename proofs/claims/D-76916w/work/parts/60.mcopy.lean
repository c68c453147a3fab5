set_option maxRecDepth 100000
/-! rows, once more: row, fill, judge, copy of the reference -/
theorem o_row {K : KM} (hk : MK K 3) {s : Sg} {F : Nat → Int} {A : Nat → Int → Int} (hV : SgOk s) (hM : MS s F A) {r k n : Int} (hr : rI r) (hk9 : rI k) (hn : rI n) {Φ : PI} (h : ∀ F' A', MS (opRow s r k n).2 F' A' → Φ (opRow s r k n).1 F' A') : RI mX5_row K [.ref K.m, vI r, vI k, vI n] F A Φ := by
  unfold opRow at h
  refine RI.w (n := 2) hk (fun K1 hk1 hS => wX5_row_0 K1 hk1.1 (c_isRowM hk1 hr (brz' (fun e => ?_) (fun e => hS _ _ _ ?_))))
  rotate_left
  · have := h F A
    rw [if_neg (by rw [e]; decide)] at this
    exact this hM
  have he := of_decide_eq_true e
  rw [if_pos e] at h
  -- the row is cleared
  have fin : ∀ (l : Nat), l ≤ 40 → (∀ F' A', MS (s.setR r (k, tab l fun _ => 0)) F' A' → Φ 1 F' A') → ∀ (A1 : Nat → Int → Int), agA [35, 36] A A1 → (∀ q, A1 35 q = if q = r then k else A 35 q) → (∀ q, A1 36 q = if q = r then (l : Int) else A 36 q) → VM K1 mX5_row 75 [(0, .ref K1.m), (1, vI r), (4, vI 0)] [] F A1 := by
    intro l hl hfin A1 ha h35 h36
    have key : ∀ (m : Nat) (j : Int) (A2 : Nat → Int → Int), 0 ≤ j → j + (m : Int) = 40 → agA [37] A1 A2 → (∀ z, (z < 40 * r ∨ 40 * r + 40 ≤ z) → A2 37 z = A 37 z) → (∀ z, 40 * r ≤ z → z < 40 * r + j → A2 37 z = 0) → VM K1 mX5_row 75 [(0, .ref K1.m), (1, vI r), (4, vI j)] [] F A2 := by
      intro m
      induction m with
      | zero =>
        intro j A2 hj0 hj g1 g2 g3
        refine wX5_row_75 K1 hk1.1 ⟨by omega, fun _ => hS _ _ _ (hfin F A2 ⟨hM.1.row (agF.rf _ _) ((ha.sb (by decide)).tr (g1.sb (by decide))) ⟨he.1, by omega⟩ (by rw [tab_len]; exact hl) (fun q q1 q2 => by rw [g1 35 (by decide)]; exact h35 q) (fun q q1 q2 => by rw [g1 36 (by decide), tab_len]; exact h36 q) (arr_tab fun i hi => g3 _ (by omega) (by omega)) g2 (fun q q1 q2 => rw_len hV q1 q2), hM.2.fr rfl (by rw [g1 3 (by decide), ha 3 (by decide)]) (by rw [g1 4 (by decide), ha 4 (by decide)])⟩), fun c => by omega⟩
      | succ m ih =>
        intro j A2 hj0 hj g1 g2 g3
        refine wX5_row_75 K1 hk1.1 ⟨by omega, fun c => by omega, fun _ => ⟨by omega, ih (j + 1) _ (by omega) (by omega) (g1.up (by decide)) (fun z hz => by rw [upA_off _ _ _ (by omega)]; exact g2 z hz) (fun z z1 z2 => ?_)⟩⟩
        by_cases e5 : z = 40 * r + j
        · rw [e5, upA_at]
        · rw [upA_off _ _ _ e5]; exact g3 z z1 (by omega)
    exact key 40 0 A1 (by decide) (by decide) (agA.rf _ _) (fun z _ => by rw [ha 37 (by decide)]) (fun z z1 z2 => by omega)
  have up2 : ∀ (u v : Int), (∀ q, upA (upA A 35 r u) 36 r v 35 q = if q = r then u else A 35 q) ∧ (∀ q, upA (upA A 35 r u) 36 r v 36 q = if q = r then v else A 36 q) := by
    intro u v
    refine ⟨fun q => ?_, fun q => ?_⟩
    · rw [upA_ne _ _ _ (by decide)]
      by_cases e5 : q = r
      · rw [if_pos e5, e5, upA_at]
      · rw [if_neg e5, upA_off _ _ _ e5]
    · by_cases e5 : q = r
      · rw [if_pos e5, e5, upA_at]
      · rw [if_neg e5, upA_off _ _ _ e5, upA_ne _ _ _ (by decide)]
  have ag2 : ∀ (u v : Int), agA [35, 36] A (upA (upA A 35 r u) 36 r v) := fun u v => ((agA.rf _ _).up (by decide)).up (by decide)
  refine ⟨hk9, c_isInM (hk1.le (by decide)) (by omega) (by decide) (by decide) (brz (fun e2 => hS _ _ _ ?_) (fun e2 => ?_))⟩
  · rw [if_neg (fun hh => of_decide_eq_false e2 hh.1)] at h
    exact h F A hM
  have he2 := of_decide_eq_true e2
  -- nothing there
  have none1 : k = -1 → VM K1 mX5_row 75 [(0, .ref K1.m), (1, vI r), (4, vI 0)] [] F (upA (upA A 35 r k) 36 r 0) := by
    intro c
    rw [if_pos ⟨he2, Or.inl c⟩, if_pos (Or.inl c), if_pos c] at h
    exact fin 0 (by decide) h _ (ag2 k 0) (up2 k 0).1 (up2 k 0).2
  have some1 : k ≠ -1 → n ≤ 40 → 0 ≤ n → VM K1 mX5_row 75 [(0, .ref K1.m), (1, vI r), (4, vI 0)] [] F (upA (upA A 35 r k) 36 r n) := by
    intro c c1 c2
    rw [if_pos ⟨he2, Or.inr c1⟩, if_pos (Or.inr c2), if_neg c] at h
    exact fin n.toNat (by omega) h _ (ag2 k n) (up2 k n).1 (fun q => by rw [(up2 k n).2 q]; split; omega; rfl)
  refine ⟨fun c => ⟨fun _ => ⟨by omega, fun c2 => absurd c c2, fun _ => none1 c⟩, fun c2 => absurd c c2⟩, fun c => ⟨hn, fun c1 => ⟨fun c2 => absurd c2 c, fun _ => ⟨fun c2 => ⟨by omega, fun _ => some1 c c1 c2, fun c3 => absurd c3 c⟩, fun c2 => hS _ _ _ ?_⟩⟩, fun c1 => hS _ _ _ ?_⟩⟩
  · rw [if_pos ⟨he2, Or.inr c1⟩, if_neg (fun hh => hh.elim c c2)] at h
    exact h F A hM
  · rw [if_neg (fun hh => hh.2.elim c c1)] at h
    exact h F A hM
theorem o_fill (hLO : LstOk) {K : KM} (hk : MK K 23) {s : Sg} {F : Nat → Int} {A : Nat → Int → Int} (hV : SgOk s) (hM : MS s F A) {r n : Int} (hr : rI r) (hn : rI n) {Φ : PI} (h : ∀ F' A', MS (opFill s r n).2 F' A' → Φ (opFill s r n).1 F' A') : RI mX5_fill K [.ref K.m, vI r, vI n] F A Φ := by
  unfold opFill at h
  refine RI.w (n := 22) hk (fun K1 hk1 hS => wX5_fill_0 K1 hk1.1 (c_isRowM (hk1.le (by decide)) hr (brz (fun e => hS _ _ _ ?_) (fun e => c_isListOf hLO (hk1.le (by decide)) hM.2 hn fun F1 A1 g1 g2 g3 => brz' (fun e2 => ?_) (fun e2 => hS _ _ _ ?_)))))
  · have := h F A
    rw [e] at this
    exact this hM
  rotate_left
  · have := h F1 A1
    rw [e, e2] at this
    exact this ⟨hM.1.fr (g1.sb (by decide)) (g2.sb (by decide)), Or.inl g3⟩
  have he := of_decide_eq_true e
  have he2 := of_decide_eq_true e2
  rw [e, e2] at h
  rw [if_pos (by decide)] at h
  have hM1 : MS s F1 A1 := ⟨hM.1.fr (g1.sb (by decide)) (g2.sb (by decide)), Or.inl g3⟩
  obtain ⟨h35, h36, h37⟩ := hM1.1.2.2.2.2.2.2 r he.1 (by omega)
  have hl := rw_len hV he.1 (by omega : r < 4)
  have hso := (hV.2.2.2.2.2.2 r he.1 (by omega)).1
  rw [h35]
  refine ⟨by omega, by omega, fun c => ⟨fun c2 => ?_, fun c2 => hS _ _ _ ?_⟩, fun c => hS _ _ _ ?_⟩
  rotate_left
  · rw [if_neg c, if_pos c2] at h
    exact h F1 A1 hM1
  · rw [if_pos c] at h
    exact h F1 A1 hM1
  rw [if_neg c, if_neg c2] at h
  have hL := (g3.2 n.toNat (by omega) (by omega)).1
  have hLl := (hLO n.toNat (by omega) (by omega)).1
  rw [show ((n.toNat : Nat) : Int) = n by omega] at hL
  have key : ∀ (m : Nat) (i : Int) (A2 : Nat → Int → Int), 0 ≤ i → i + (m : Int) = ((min (s.rw r).2.length (lst n.toNat).length : Nat) : Int) → agA [37] A1 A2 → (∀ z, (z < 40 * r ∨ 40 * r + 40 ≤ z) → A2 37 z = A1 37 z) → (∀ j : Nat, (j : Int) < i → A2 37 (40 * r + j) = (lst n.toNat).getD j 0) → (∀ j : Nat, i ≤ (j : Int) → j < (s.rw r).2.length → A2 37 (40 * r + j) = (s.rw r).2.getD j 0) → VM K1 mX5_fill 45 [(0, .ref K1.m), (1, vI r), (2, vI n), (3, vI i)] [] F1 A2 := by
    intro m
    induction m with
    | zero =>
      intro i A2 hi0 hi q1 q2 q3 q4
      have hfin : SI K1 i F1 A2 := by
        have := h F1 A2 ⟨hM1.1.row (agF.rf _ _) (q1.sb (by decide)) ⟨he.1, by omega⟩ (by rw [tab_len]; exact hl) (fun q p1 p2 => ?_) (fun q p1 p2 => ?_) (arr_tab fun j hj => ?_) (fun z hz => q2 z hz) (fun q p1 p2 => rw_len hV p1 p2), hM1.2.fr rfl (q1 3 (by decide)) (q1 4 (by decide))⟩
        · rw [show i = ((min (s.rw r).2.length (lst n.toNat).length : Nat) : Int) by omega]
          exact hS _ _ _ this
        · rw [q1 35 (by decide)]
          by_cases e5 : q = r
          · rw [if_pos e5, e5]; exact h35
          · rw [if_neg e5]
        · rw [q1 36 (by decide)]
          by_cases e5 : q = r
          · rw [if_pos e5, e5, tab_len]; exact h36
          · rw [if_neg e5]
        · by_cases e5 : j < (lst n.toNat).length
          · rw [if_pos e5]; exact q3 j (by omega)
          · rw [if_neg e5]; exact q4 j (by omega) hj
      refine wX5_fill_45 K1 hk1.1 ?_
      rw [q1 36 (by decide), h36, q1 4 (by decide), hL]
      exact ⟨by omega, by omega, by omega, fun _ => hfin, fun _ => ⟨by omega, by omega, fun _ => hfin, fun c3 => by omega⟩⟩
    | succ m ih =>
      intro i A2 hi0 hi q1 q2 q3 q4
      refine wX5_fill_45 K1 hk1.1 ?_
      rw [q1 36 (by decide), h36, q1 4 (by decide), hL]
      have hg : ML F1 A2 := g3.fr rfl (q1 3 (by decide)) (q1 4 (by decide))
      have hx : rI (lsAt n i) := lst_rI n.toNat (getD_mem (by omega))
      refine ⟨by omega, by omega, by omega, fun c3 => by omega, fun _ => ⟨by omega, by omega, fun c3 => by omega, fun _ => c_keyOf (hk1.le (by decide)) hLO hg (isLd_iff.mpr ⟨he2, hi0, by omega⟩) ⟨hx, by omega, ih (i + 1) _ (by omega) (by omega) (q1.up (by decide)) (fun z hz => by rw [upA_off _ _ _ (by omega)]; exact q2 z hz) (fun j hj => ?_) (fun j j1 j2 => ?_)⟩⟩⟩
      · by_cases e5 : (j : Int) = i
        · rw [e5, upA_at]
          show (lst n.toNat).getD i.toNat 0 = _
          rw [show i.toNat = j by omega]
        · rw [upA_off _ _ _ (by omega)]; exact q3 j (by omega)
      · rw [upA_off _ _ _ (by omega)]; exact q4 j (by omega) j2
  exact key _ 0 A1 (by decide) (by rw [Int.zero_add]) (agA.rf _ _) (fun z _ => rfl) (fun j hj => by omega) (fun j _ j2 => h37 j j2)
theorem o_judge (hLO : LstOk) {K : KM} (hk : MK K 23) {s : Sg} {F : Nat → Int} {A : Nat → Int → Int} (hV : SgOk s) (hM : MS s F A) {r n : Int} (hr : rI r) (hn : rI n) {Φ : PI} (h : ∀ F' A', MS s F' A' → Φ (opJudge s r n) F' A') : RI mX5_judge K [.ref K.m, vI r, vI n] F A Φ := by
  unfold opJudge at h
  refine RI.w (n := 22) hk (fun K1 hk1 hS => wX5_judge_0 K1 hk1.1 (c_isRowM (hk1.le (by decide)) hr (brz (fun e => hS _ _ _ ?_) (fun e => c_isListOf hLO (hk1.le (by decide)) hM.2 hn fun F1 A1 g1 g2 g3 => brz' (fun e2 => ?_) (fun e2 => hS _ _ _ ?_)))))
  · have := h F A hM
    rw [e] at this
    exact this
  rotate_left
  · have := h F1 A1 ⟨hM.1.fr (g1.sb (by decide)) (g2.sb (by decide)), Or.inl g3⟩
    rw [e, e2] at this
    exact this
  have he := of_decide_eq_true e
  have he2 := of_decide_eq_true e2
  have hM1 : MS s F1 A1 := ⟨hM.1.fr (g1.sb (by decide)) (g2.sb (by decide)), Or.inl g3⟩
  have h := h F1 A1 hM1
  rw [e, e2, if_pos (by decide)] at h
  obtain ⟨h35, h36, h37⟩ := hM1.1.2.2.2.2.2.2 r he.1 (by omega)
  have hl := rw_len hV he.1 (by omega : r < 4)
  have hso := hV.2.2.2.2.2.2 r he.1 (by omega)
  have hso1 := hso.1
  rw [h35]
  refine ⟨by omega, by omega, fun c => ?_, fun c => hS _ _ _ ?_⟩
  rotate_left
  · rwa [if_pos c] at h
  rw [if_neg c] at h
  have hL := (g3.2 n.toNat (by omega) (by omega)).1
  have hLl := (hLO n.toNat (by omega) (by omega)).1
  rw [show ((n.toNat : Nat) : Int) = n by omega] at hL
  have key : ∀ (m : Nat) (i : Int), 0 ≤ i → i + (m : Int) = ((s.rw r).2.length : Int) → Φ (judg (s.rw r).2 (lst n.toNat) i m) F1 A1 → VM K1 mX5_judge 32 [(0, .ref K1.m), (1, vI r), (2, vI n), (3, vI i)] [] F1 A1 := by
    intro m
    induction m with
    | zero =>
      intro i hi0 hi hj
      refine wX5_judge_32 K1 hk1.1 ?_
      rw [h36, hL]
      exact ⟨by omega, by omega, by omega, fun _ => hS _ _ _ hj, fun c3 => by omega⟩
    | succ m ih =>
      intro i hi0 hi hj
      refine wX5_judge_32 K1 hk1.1 ?_
      rw [h36, hL]
      unfold judg at hj
      refine ⟨by omega, by omega, by omega, fun c3 => by omega, fun _ => ⟨by omega, by omega, fun c3 => hS _ _ _ ?_, fun c3 => ⟨by omega, c_keyOf (hk1.le (by decide)) hLO g3 (isLd_iff.mpr ⟨he2, hi0, by omega⟩) ?_⟩⟩⟩
      · rwa [if_pos (Or.inl c3)] at hj
      · have hx : rI (lsAt n i) := lst_rI n.toNat (getD_mem (by omega))
        have hit : (s.rw r).2.getD i.toNat 0 ∈ (s.rw r).2 := getD_mem (by omega)
        have hok := hso.2.2 _ hit
        have h7 := h37 i.toNat (by omega)
        rw [show 40 * r + ((i.toNat : Nat) : Int) = 40 * r + i by omega] at h7
        rw [h7]
        have hrL : rL ((s.rw r).2.getD i.toNat 0) := by
          unfold itOk at hok
          split at hok
          · omega
          · split at hok
            · exact hok
            · omega
        refine ⟨hx, hrL, by omega, fun c4 => ?_, fun c4 => hS _ _ _ ?_⟩
        · rw [cmpI_eq] at c4
          rw [if_neg (fun hh => hh.elim c3 (fun h9 => h9 c4))] at hj
          exact ih (i + 1) (by omega) (by omega) hj
        · rw [cmpI_eq] at c4
          rwa [if_pos (Or.inr c4)] at hj
  exact key _ 0 (by decide) (by rw [Int.zero_add]) h
theorem o_copy {K : KM} (hk : MK K 3) {s : Sg} {F : Nat → Int} {A : Nat → Int → Int} (hV : SgOk s) (hM : MS s F A) {r i o j n : Int} (hr : rI r) (hi : rI i) (ho : rI o) (hj : rI j) (hn : rI n) {Φ : PI} (h : ∀ F' A', MS (opCopy s r i o j n).2 F' A' → Φ (opCopy s r i o j n).1 F' A') : RI mX5_copy K [.ref K.m, vI r, vI i, vI o, vI j, vI n] F A Φ := by
  unfold opCopy at h
  refine RI.w (n := 2) hk (fun K1 hk1 hS => wX5_copy_0 K1 hk1.1 (c_isRowM hk1 hr (brz (fun e => hS _ _ _ ?_) (fun e => c_isRowM hk1 ho (brz' (fun e2 => ?_) (fun e2 => hS _ _ _ ?_))))))
  · have := h F A
    rw [e] at this
    exact this hM
  rotate_left
  · have := h F A
    rw [e, e2] at this
    exact this hM
  have he := of_decide_eq_true e
  have he2 := of_decide_eq_true e2
  rw [e, e2, if_pos (by decide)] at h
  obtain ⟨h35, h36, h37⟩ := hM.1.2.2.2.2.2.2 r he.1 (by omega)
  obtain ⟨o35, o36, o37⟩ := hM.1.2.2.2.2.2.2 o he2.1 (by omega)
  have hl := rw_len hV he.1 (by omega : r < 4)
  have ol := rw_len hV he2.1 (by omega : o < 4)
  have hso := (hV.2.2.2.2.2.2 r he.1 (by omega)).1
  have oso := (hV.2.2.2.2.2.2 o he2.1 (by omega)).1
  rw [h35, o35, h36, o36]
  have bad : (s.rw r).1 ≠ -1 → (s.rw o).1 ≠ -1 → (s.rw r).1 = (s.rw o).1 → ¬ (0 ≤ n ∧ 0 ≤ i ∧ 0 ≤ j ∧ i + n ≤ ((s.rw r).2.length : Int) ∧ j + n ≤ ((s.rw o).2.length : Int)) → SI K1 (-13) F A := by
    intro c1 c2 c3 c4
    rw [if_neg (fun hh => hh.elim c1 c2), if_neg (fun hh => hh c3), if_neg c4] at h
    exact hS _ _ _ (h F A hM)
  refine ⟨by omega, by omega, fun c => hS _ _ _ ?_, fun c => ⟨by omega, by omega, fun c2 => ⟨fun c3 => ⟨hn, fun c4 => bad c c2 c3 (by omega), fun c4 => ⟨hi, fun c5 => bad c c2 c3 (by omega), fun c5 => ⟨hj, fun c6 => bad c c2 c3 (by omega), fun c6 => ⟨by omega, fun c7 => bad c c2 c3 (by omega), fun c7 => ⟨by omega, fun c8 => ⟨by omega, by omega, by omega, by have := hk1.2.2; omega, by omega, hS _ _ _ ?_⟩, fun c8 => bad c c2 c3 (by omega)⟩⟩⟩⟩⟩, fun c3 => hS _ _ _ ?_⟩, fun c2 => hS _ _ _ ?_⟩⟩
  · rw [if_pos (Or.inl c)] at h
    exact h F A hM
  · rw [if_neg (fun hh => hh.elim c c2), if_neg (fun hh => hh c3), if_pos (by omega)] at h
    have e9 : ∀ k : Nat, k ≠ 37 → k ≠ 38 → cpA (cpA A 37 38 (40 * r + i) 0 n) 38 37 0 (40 * o + j) n k = A k := fun k k1 k2 => by rw [cpA_ne _ _ _ _ k1, cpA_ne _ _ _ _ k2]
    refine h F _ ⟨hM.1.row (agF.rf _ _) (fun k hk9 => e9 k (fun h9 => hk9 (by rw [h9]; decide)) (fun h9 => hk9 (by rw [h9]; decide))) ⟨he2.1, by omega⟩ (by rw [tab_len]; exact ol) (fun q p1 p2 => ?_) (fun q p1 p2 => ?_) (arr_tab fun q hq => ?_) (fun z hz => ?_) (fun q p1 p2 => rw_len hV p1 p2), hM.2.fr rfl (e9 3 (by decide) (by decide)) (e9 4 (by decide) (by decide))⟩
    · rw [e9 35 (by decide) (by decide)]
      by_cases e5 : q = o
      · rw [if_pos e5, e5]; exact o35
      · rw [if_neg e5]
    · rw [e9 36 (by decide) (by decide)]
      by_cases e5 : q = o
      · rw [if_pos e5, e5, tab_len]; exact o36
      · rw [if_neg e5]
    · by_cases e5 : j ≤ (q : Int) ∧ (q : Int) < j + n
      · rw [if_pos e5, cpA_at _ _ _ _ _ _ (by omega), cpA_at _ _ _ _ _ _ (by omega)]
        have := h37 ((q : Int) - j + i).toNat (by omega)
        rw [show 40 * r + ((((q : Int) - j + i).toNat : Nat) : Int) = 40 * r + i + (0 + (40 * o + (q : Int) - (40 * o + j)) - 0) by omega] at this
        exact this
      · rw [if_neg e5, cpA_off _ _ _ _ _ _ (by omega), cpA_ne _ _ _ _ (by decide)]
        exact o37 q hq
    · rw [cpA_off _ _ _ _ _ _ (by omega), cpA_ne _ _ _ _ (by decide)]
  · rw [if_neg (fun hh => hh.elim c c2), if_pos (fun hh => c3 hh)] at h
    exact h F A hM
  · rw [if_pos (Or.inr c2)] at h
    exact h F A hM
