set_option maxRecDepth 100000
/-! the best chain of a level -/
def BK (lv : Int) (key : List Int) (A : Nat → Int → Int) : Prop := (key = [0] ∧ A 15 lv = 0) ∨ ∃ (L : Int) (r : List Int), key = L :: (r.length : Int) :: r.map (fun z => -z) ∧ (1 ≤ L ∧ L ≤ 13) ∧ r.length ≤ 12 ∧ (∀ z ∈ r, 1 ≤ z ∧ z ≤ 13) ∧ A 15 lv = L ∧ A 16 lv = (r.length : Int) ∧ arr (A 17) (13 * lv) r
theorem BK.fr {lv : Int} {key : List Int} {A A' : Nat → Int → Int} (h : BK lv key A) (h15 : A' 15 lv = A 15 lv) (h16 : A' 16 lv = A 16 lv) (h17 : ∀ z, 13 * lv ≤ z → z < 13 * lv + 13 → A' 17 z = A 17 z) : BK lv key A' := by
  rcases h with ⟨h1, h2⟩ | ⟨L, r, h1, h2, h3, h4, h5, h6, h7⟩
  · exact Or.inl ⟨h1, h15.trans h2⟩
  · exact Or.inr ⟨L, r, h1, h2, h3, h4, h15.trans h5, h16.trans h6, h7.ext fun z z1 z2 => h17 z z1 (by omega)⟩
theorem numw_rng {T : Tr} {d : Int → Int → Int} (h : TrOk T d) {w : List Int} (g : GCh T d w) (from1 : Int) : ∀ z ∈ numw T w from1, 1 ≤ z ∧ z ≤ 13 := by
  intro z hz
  have hlen := g.len h from1
  have hn := h.n1
  obtain ⟨r, h1, h2, h3, h4⟩ := g
  obtain ⟨t, ht, rfl⟩ := List.mem_map.mp hz
  have := brsF_far h h1 w 0 0 h2 (Or.inl rfl) (fun _ => h3) (fun v hv => hv) t ht
  omega
theorem lexI_map {a b : Int} {l r : List Int} : lexI ((a :: l).map fun z => -z) ((b :: r).map fun z => -z) = if a = b then lexI (l.map fun z => -z) (r.map fun z => -z) else b - a := by
  rw [List.map_cons, List.map_cons]
  show (if -a = -b then _ else -a - -b) = _
  by_cases c : a = b
  · rw [if_pos c, if_pos (by omega)]
  · rw [if_neg c, if_neg (by omega)]; omega
theorem c_isBetter {T : Tr} {d : Int → Int → Int} (h : TrOk T d) {K : KM} (hk : MK K 4) {w : List Int} (hw : GCh T d w) {from1 : Int} (hf : rI from1) {key : List Int} {F : Nat → Int} {A : Nat → Int → Int} {Φ : PI} (hL : LM T F A) (hC : CHN w F A) (hlv : 0 ≤ F 26 ∧ F 26 < 13) (hB : BK (F 26) key A) (hΦ : ∀ A', agA [9] A A' → rI (lexI (keyW T w from1) key) → Φ (lexI (keyW T w from1) key) F A') : RI mX5_isBetter K [.ref K.m, vI from1] F A Φ := by
  have hlen := hw.len h from1
  have hn := h.n1
  have hnl : (numw T w from1).length = (brs T w from1).length := by unfold numw; rw [List.length_map]
  have hnr := numw_rng h hw from1
  refine RI.w (n := 3) hk (fun K1 hk1 hS => wX5_isBetter_0 K1 hk1.1 (c_branchesOf h hk1 hw hf hL hC fun A1 g1 g2 => ?_))
  have e15 : A1 15 = A 15 := g1 15 (by decide)
  have e16 : A1 16 = A 16 := g1 16 (by decide)
  have e17 : A1 17 = A 17 := g1 17 (by decide)
  have hΦ := hΦ A1 g1
  rw [e15, e16, hC.1]
  rcases hB with ⟨h1, h2⟩ | ⟨L, r, h1, h2, h3, h4, h5, h6, h7⟩
  · rw [h2]
    have e : lexI (keyW T w from1) key = (w.length : Int) - 0 := by
      rw [h1]; show (if (w.length : Int) = 0 then _ else (w.length : Int) - 0) = _
      rw [if_neg (by omega)]
    rw [e] at hΦ
    exact ⟨hlv, by omega, by decide, fun c => by omega, fun _ => hS _ _ _ (hΦ (by omega))⟩
  · rw [h5, h6]
    have e : lexI (keyW T w from1) key = if (w.length : Int) = L then (if ((brs T w from1).length : Int) = (r.length : Int) then lexI ((numw T w from1).map fun z => -z) (r.map fun z => -z) else ((brs T w from1).length : Int) - (r.length : Int)) else (w.length : Int) - L := by
      rw [h1]; rfl
    rw [e] at hΦ
    refine ⟨hlv, by omega, by omega, fun c => ⟨by omega, by omega, fun c2 => ?_, fun c2 => hS _ _ _ ?_⟩, fun c => hS _ _ _ ?_⟩
    rotate_left
    · rw [if_pos c, if_neg c2] at hΦ; exact hΦ (by omega)
    · rw [if_neg c] at hΦ; exact hΦ (by omega)
    rw [if_pos c, if_pos c2] at hΦ
    have key2 : ∀ (m k : Nat), k + m = (numw T w from1).length → lexI (((numw T w from1).drop k).map fun z => -z) ((r.drop k).map fun z => -z) = lexI ((numw T w from1).map fun z => -z) (r.map fun z => -z) → VM K1 mX5_isBetter 64 [(0, .ref K1.m), (2, vI ((brs T w from1).length : Int)), (3, vI (k : Int))] [] F A1 := by
      intro m
      induction m with
      | zero =>
        intro k hkm hl
        rw [List.drop_eq_nil_of_le (by omega)] at hl
        have hl : 0 = lexI ((numw T w from1).map fun z => -z) (r.map fun z => -z) := hl
        rw [← hl] at hΦ
        exact wX5_isBetter_64 K1 hk1.1 ⟨by omega, by omega, fun _ => hS _ _ _ (hΦ (by decide)), fun c => by omega⟩
      | succ m ih =>
        intro k hkm hl
        have q1 : (numw T w from1).drop k = (numw T w from1).getD k 0 :: (numw T w from1).drop (k + 1) := by
          rw [List.drop_eq_getElem_cons (by omega), List.getD_eq_getElem?_getD, List.getElem?_eq_getElem (by omega)]; rfl
        have q2 : r.drop k = r.getD k 0 :: r.drop (k + 1) := by
          rw [List.drop_eq_getElem_cons (by omega), List.getD_eq_getElem?_getD, List.getElem?_eq_getElem (by omega)]; rfl
        rw [q1, q2, lexI_map] at hl
        have q3 : A1 9 (k : Int) = (numw T w from1).getD k 0 := by have := g2 k (by omega); rwa [Int.zero_add] at this
        have q4 : A1 17 (13 * F 26 + (k : Int)) = r.getD k 0 := by rw [e17]; exact h7 k (by omega)
        have q5 := hnr _ (getD_mem (l := numw T w from1) (i := k) (by omega))
        have q6 := h4 _ (getD_mem (l := r) (i := k) (by omega))
        refine wX5_isBetter_64 K1 hk1.1 ?_
        rw [q3, q4]
        refine ⟨by omega, by omega, fun c => by omega, fun _ => ⟨by omega, by omega, by omega, by omega, fun c3 => ?_, fun c3 => hS _ _ _ ?_⟩⟩
        · rw [if_pos c3] at hl
          exact ih (k + 1) (by omega) hl
        · rw [if_neg c3] at hl
          rw [← hl] at hΦ
          exact hΦ (by omega)
    exact key2 _ 0 (by rw [Nat.zero_add]) (by rw [List.drop_zero, List.drop_zero])
theorem c_isBest {T : Tr} {d : Int → Int → Int} (h : TrOk T d) {K : KM} (hk : MK K 4) {w : List Int} (hw : GCh T d w) {from1 : Int} (hf : rI from1) {F : Nat → Int} {A : Nat → Int → Int} {Φ : PV} (hL : LM T F A) (hC : CHN w F A) (hlv : 0 ≤ F 26 ∧ F 26 < 13) (hΦ : ∀ A', agA [9, 15, 16, 17] A A' → (∀ j, j ≠ F 26 → A' 15 j = A 15 j ∧ A' 16 j = A 16 j) → (∀ z, (z < 13 * F 26 ∨ 13 * F 26 + 13 ≤ z) → A' 17 z = A 17 z) → BK (F 26) (keyW T w from1) A' → Φ F A') : RV mX5_isBest K [.ref K.m, vI from1] F A Φ := by
  have hlen := hw.len h from1
  have hn := h.n1
  have hnl : (numw T w from1).length = (brs T w from1).length := by unfold numw; rw [List.length_map]
  have hnr := numw_rng h hw from1
  refine RV.w (n := 3) hk (fun K1 hk1 hS => wX5_isBest_0 K1 hk1.1 (c_branchesOf h hk1 hw hf hL hC fun A1 g1 g2 => ⟨hlv, hlv, ?_⟩))
  rw [hC.1]
  have key : ∀ (m k : Nat) (A2 : Nat → Int → Int), k + m = (numw T w from1).length → agA [9, 15, 16, 17] A A2 → A2 9 = A1 9 → A2 15 (F 26) = (w.length : Int) → A2 16 (F 26) = ((brs T w from1).length : Int) → (∀ j, j ≠ F 26 → A2 15 j = A 15 j ∧ A2 16 j = A 16 j) → (∀ z, (z < 13 * F 26 ∨ 13 * F 26 + 13 ≤ z) → A2 17 z = A 17 z) → (∀ i : Nat, i < k → A2 17 (13 * F 26 + (i : Int)) = (numw T w from1).getD i 0) → VM K1 mX5_isBest 29 [(0, .ref K1.m), (2, vI (k : Int))] [] F A2 := by
    intro m
    induction m with
    | zero =>
      intro k A2 hkm q1 q2 q3 q4 q5 q6 q7
      refine wX5_isBest_29 K1 hk1.1 ?_
      rw [q4]
      refine ⟨hlv, by omega, by omega, fun _ => hS _ _ (hΦ A2 q1 q5 q6 (Or.inr ⟨(w.length : Int), numw T w from1, ?_, by omega, by omega, hnr, q3, by rw [q4, hnl], fun i hi => q7 i (by omega)⟩)), fun c => by omega⟩
      unfold keyW; rw [hnl]
    | succ m ih =>
      intro k A2 hkm q1 q2 q3 q4 q5 q6 q7
      have q8 : A2 9 (k : Int) = (numw T w from1).getD k 0 := by rw [q2]; have := g2 k (by omega); rwa [Int.zero_add] at this
      refine wX5_isBest_29 K1 hk1.1 ?_
      rw [q4]
      refine ⟨hlv, by omega, by omega, fun c => by omega, fun _ => ⟨by omega, by omega, ?_⟩⟩
      have := ih (k + 1) (upA A2 17 (13 * F 26 + (k : Int)) (A2 9 (k : Int))) (by omega) (q1.up (by decide)) (by rw [upA_ne _ _ _ (by decide)]; exact q2) (by rw [upA_ne _ _ _ (by decide)]; exact q3) (by rw [upA_ne _ _ _ (by decide)]; exact q4) (fun j hj => by rw [upA_ne _ _ _ (by decide), upA_ne _ _ _ (by decide)]; exact q5 j hj) (fun z hz => by rw [upA_off _ _ _ (by omega)]; exact q6 z hz) (fun i hi => ?_)
      · exact this
      · by_cases e : i = k
        · rw [e, upA_at, q8]
        · rw [upA_off _ _ _ (by omega)]; exact q7 i (by omega)
  refine key _ 0 _ (by rw [Nat.zero_add]) (((g1.sb (by decide)).up (by decide)).up (by decide)) (by rw [upA_ne _ _ _ (by decide), upA_ne _ _ _ (by decide)]) (upA_at _ _ _ _) (by rw [upA_ne _ _ _ (by decide), upA_at]) (fun j hj => ?_) (fun z hz => by rw [upA_ne _ _ _ (by decide), upA_ne _ _ _ (by decide), g1 17 (by decide)]) (fun i hi => by omega)
  rw [upA_off _ _ _ hj, upA_ne _ _ _ (by decide), upA_ne _ _ _ (by decide), upA_off _ _ _ hj, g1 15 (by decide), g1 16 (by decide)]
  exact ⟨rfl, rfl⟩
theorem c_isStart {K : KM} (hk : MK K 1) {a b from1 : Int} (ha : rI a) (hb : rI b) (hf : rI from1) {F : Nat → Int} {A : Nat → Int → Int} {Φ : PI} (hΦ : Φ (bz (decide (from1 = -1 ∨ a = b))) F A) : RI mX5_isStart K [.ref K.m, vI a, vI b, vI from1] F A Φ := by
  refine RI.w (n := 0) hk (fun K1 hk1 hS => wX5_isStart_0 K1 hk1.1 ⟨hf, fun c => hS _ _ _ ?_, fun c => ⟨ha, hb, fun c2 => hS _ _ _ ?_, fun c2 => hS _ _ _ ?_⟩⟩)
  · rwa [decide_eq_true (Or.inl c)] at hΦ
  · rwa [decide_eq_false (fun hh => hh.elim c c2)] at hΦ
  · rwa [decide_eq_true (Or.inr c2)] at hΦ
theorem c_findsBest {T : Tr} {d : Int → Int → Int} (h : TrOk T d) {K : KM} (hk : MK K 17) {b from1 : Int} (t : Tw T d 13 b from1) {F : Nat → Int} {A : Nat → Int → Int} {Φ : PV} (hL : LM T F A) (hlv : 0 ≤ F 26 ∧ F 26 < 13) (hΦ : ∀ F' A', agF [16] F F' → agA [8, 9, 15, 16, 17] A A' → (∀ j, j ≠ F 26 → A' 15 j = A 15 j ∧ A' 16 j = A 16 j) → (∀ z, (z < 13 * F 26 ∨ 13 * F 26 + 13 ≤ z) → A' 17 z = A 17 z) → BK (F 26) (bstK T b from1) A' → Φ F' A') : RV mX5_findsBest K [.ref K.m, vI b, vI from1] F A Φ := by
  have hn := h.n1
  have hF := hL.1
  have hb := t.1
  have hfr := t.rIa h
  refine RV.w (n := 16) hk (fun K1 hk1 hS => wX5_findsBest_0 K1 hk1.1 ⟨hlv, ?_⟩)
  let Inv (best : List Int) (F' : Nat → Int) (A' : Nat → Int → Int) : Prop := agF [16] F F' ∧ agA [8, 9, 15, 16, 17] A A' ∧ (∀ j, j ≠ F 26 → A' 15 j = A 15 j ∧ A' 16 j = A 16 j) ∧ (∀ z, (z < 13 * F 26 ∨ 13 * F 26 + 13 ≤ z) → A' 17 z = A 17 z) ∧ BK (F 26) best A'
  have outer : ∀ (m : Nat) (a : Int) (best : List Int) (F' : Nat → Int) (A' : Nat → Int → Int), 0 ≤ a → a + (m : Int) = (T.1 : Int) → (((rgf a m).flatMap (fun a => if stA b from1 a then waysA T from1 a else [])).map fun w => keyW T w from1).foldl betK best = bstK T b from1 → Inv best F' A' → VM K1 mX5_findsBest 12 [(0, .ref K1.m), (1, vI b), (2, vI from1), (3, vI a)] [] F' A' := by
    intro m
    induction m with
    | zero =>
      intro a best F' A' h1 h2 h3 hI
      have h3 : best = bstK T b from1 := h3
      obtain ⟨g1, g2, g3, g4, g5⟩ := hI
      have e1 : F' 1 = (T.1 : Int) := by rw [g1 1 (by decide)]; exact hF
      refine wX5_findsBest_12 K1 hk1.1 ⟨by omega, by omega, fun _ => hS _ _ (hΦ F' A' g1 g2 g3 g4 (by rw [← h3]; exact g5)), fun c => by omega⟩
    | succ m ih =>
      intro a best F' A' h1 h2 h3 hI
      have ha : inT T a := ⟨h1, by omega⟩
      have e1 : F' 1 = (T.1 : Int) := by rw [hI.1 1 (by decide)]; exact hF
      rw [rgf, List.flatMap_cons, List.map_append, List.foldl_append] at h3
      refine wX5_findsBest_12 K1 hk1.1 ⟨by omega, by omega, fun c => by omega, fun _ => ?_⟩
      have inner : ∀ (j : Nat) (e : Int) (best : List Int) (F' : Nat → Int) (A' : Nat → Int → Int), 0 ≤ e → e + (j : Int) = (T.1 : Int) → (((rgf (a + 1) m).flatMap (fun a => if stA b from1 a then waysA T from1 a else [])).map fun w => keyW T w from1).foldl betK (((if stA b from1 a then ((rgf e j).filter fun e => decide (0 ≤ fo T 13 a e from1)).map (fun e => pth T 13 a e from1) else []).map fun w => keyW T w from1).foldl betK best) = bstK T b from1 → Inv best F' A' → VM K1 mX5_findsBest 23 [(0, .ref K1.m), (1, vI b), (2, vI from1), (3, vI a), (4, vI e)] [] F' A' := by
        intro j
        induction j with
        | zero =>
          intro e best F' A' q1 q2 q3 hI
          have e1 : F' 1 = (T.1 : Int) := by rw [hI.1 1 (by decide)]; exact hF
          refine wX5_findsBest_23 K1 hk1.1 ⟨by omega, by omega, fun _ => ih (a + 1) best F' A' (by omega) (by omega) ?_ hI, fun c => by omega⟩
          rw [rgf, List.filter_nil, List.map_nil, ite_self, List.map_nil, List.foldl_nil] at q3
          exact q3
        | succ j ihj =>
          intro e best F' A' q1 q2 q3 hI
          have e1 : F' 1 = (T.1 : Int) := by rw [hI.1 1 (by decide)]; exact hF
          have he : inT T e := ⟨q1, by omega⟩
          refine wX5_findsBest_23 K1 hk1.1 ⟨by omega, by omega, fun c => by omega, fun _ => c_isStart (hk1.le (by decide)) (by omega) (by omega) hfr (brz (fun hst => ?_) (fun hst => ?_))⟩
          · refine ih (a + 1) best F' A' (by omega) (by omega) ?_ hI
            rw [if_neg (by rw [show stA b from1 a = false from hst]; decide), List.map_nil, List.foldl_nil] at q3
            exact q3
          · have hta := t.of h ha hst
            rw [if_pos hst] at q3
            have q4 := fun (e : Int) (j : Nat) (best : List Int) (F' : Nat → Int) (A' : Nat → Int → Int) (p1 : 0 ≤ e) (p2 : e + (j : Int) = (T.1 : Int)) => p1
            obtain ⟨g1, g2, g3, g4, g5⟩ := id hI
            have hL' : LM T F' A' := ⟨e1, by rw [g2 0 (by decide)]; exact hL.2⟩
            rw [filt_step] at q3
            refine c_lays h (hk1.le (by decide)) he hta hL' (fun hfo A2 k1 k2 => ?_) (fun hfo A2 k1 => ?_)
            · obtain ⟨hgood, -⟩ := pth_good h hta he hfo
              rw [if_pos (decide_eq_true hfo), List.map_cons, List.map_cons, List.foldl_cons] at q3
              have e26 : F' 26 = F 26 := g1 26 (by decide)
              have e26' : upN F' 16 ((pth T 13 a e from1).length : Int) 26 = F 26 := by rw [upN_ne _ _ (by decide)]; exact e26
              have hL2 : LM T (upN F' 16 ((pth T 13 a e from1).length : Int)) A2 := ⟨by rw [upN_ne _ _ (by decide)]; exact e1, by rw [k1 0 (by decide)]; exact hL'.2⟩
              have hB2 : BK (F 26) best A2 := g5.fr (by rw [k1 15 (by decide)]) (by rw [k1 16 (by decide)]) (fun z _ _ => by rw [k1 17 (by decide)])
              refine ⟨by decide, fun c => absurd c (by decide), fun _ => c_isBetter h (hk1.le (by decide)) hgood hfr hL2 k2 (by rw [e26']; exact hlv) (by rw [e26']; exact hB2) fun A3 k3 k4 => ⟨k4, fun c => ?_, fun c => ?_⟩⟩
              · have eb : betK best (keyW T (pth T 13 a e from1) from1) = best := by unfold betK; rw [if_neg (by omega)]
                rw [eb] at q3
                refine ihj (e + 1) best _ A3 (by omega) (by omega) (by rw [if_pos hst]; exact q3) ⟨g1.up (by decide), (g2.tr (k1.sb (by decide))).tr (k3.sb (by decide)), fun j hj => ?_, fun z hz => ?_, ?_⟩
                · rw [k3 15 (by decide), k3 16 (by decide), k1 15 (by decide), k1 16 (by decide)]; exact g3 j hj
                · rw [k3 17 (by decide), k1 17 (by decide)]; exact g4 z hz
                · exact hB2.fr (by rw [k3 15 (by decide)]) (by rw [k3 16 (by decide)]) (fun z _ _ => by rw [k3 17 (by decide)])
              · have eb : betK best (keyW T (pth T 13 a e from1) from1) = keyW T (pth T 13 a e from1) from1 := by unfold betK; rw [if_pos (by omega)]
                rw [eb] at q3
                have hL3 : LM T (upN F' 16 ((pth T 13 a e from1).length : Int)) A3 := ⟨hL2.1, by rw [k3 0 (by decide)]; exact hL2.2⟩
                have hC3 : CHN (pth T 13 a e from1) (upN F' 16 ((pth T 13 a e from1).length : Int)) A3 := ⟨k2.1, by rw [k3 8 (by decide)]; exact k2.2⟩
                refine c_isBest h (hk1.le (by decide)) hgood hfr hL3 hC3 (by rw [e26']; exact hlv) fun A4 k5 k6 k7 k8 => ?_
                rw [e26'] at k6 k7 k8
                refine ihj (e + 1) _ _ A4 (by omega) (by omega) (by rw [if_pos hst]; exact q3) ⟨g1.up (by decide), ((g2.tr (k1.sb (by decide))).tr (k3.sb (by decide))).tr (k5.sb (by decide)), fun j hj => ?_, fun z hz => ?_, k8⟩
                · rw [(k6 j hj).1, (k6 j hj).2, k3 15 (by decide), k3 16 (by decide), k1 15 (by decide), k1 16 (by decide)]; exact g3 j hj
                · rw [k7 z hz, k3 17 (by decide), k1 17 (by decide)]; exact g4 z hz
            · rw [if_neg (by rw [decide_eq_false (by omega)]; decide)] at q3
              refine ⟨by decide, fun _ => ?_, fun c => absurd rfl c⟩
              refine ihj (e + 1) best F' A2 (by omega) (by omega) (by rw [if_pos hst]; exact q3) ⟨g1, g2.tr (k1.sb (by decide)), fun j hj => ?_, fun z hz => ?_, ?_⟩
              · rw [k1 15 (by decide), k1 16 (by decide)]; exact g3 j hj
              · rw [k1 17 (by decide)]; exact g4 z hz
              · exact g5.fr (by rw [k1 15 (by decide)]) (by rw [k1 16 (by decide)]) (fun z _ _ => by rw [k1 17 (by decide)])
      refine inner T.1 0 best F' A' (by decide) (by omega) ?_ hI
      rw [← h3]; rfl
  refine outer T.1 0 [0] F _ (by decide) (by omega) ?_ ⟨agF.rf _ _, (agA.rf _ _).up (by decide), fun j hj => ?_, fun z hz => by rw [upA_ne _ _ _ (by decide)], Or.inl ⟨rfl, upA_at _ _ _ _⟩⟩
  · unfold bstK; rw [waysT_eq hb]
  · rw [upA_off _ _ _ hj, upA_ne _ _ _ (by decide)]; exact ⟨rfl, rfl⟩
