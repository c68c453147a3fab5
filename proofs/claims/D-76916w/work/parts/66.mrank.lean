set_option maxRecDepth 100000
/-! measures and ranks of the reference -/
theorem c_mostBranches {T : Tr} {d : Int → Int → Int} (h : TrOk T d) {K : KM} (hk : MK K 18) {F : Nat → Int} {A : Nat → Int → Int} {Φ : PI} (hL : LM T F A) (hΦ : ∀ F' A', agF [16] F F' → agA [8, 9] A A' → Φ (mostB T) F' A') : RI mX5_mostBranches K [.ref K.m] F A Φ := by
  have hn := h.n1
  have hF := hL.1
  have hlo := longN_rng h
  have hmost := mostB_rng h
  refine RI.w (n := 17) hk (fun K1 hk1 hS => wX5_mostBranches_0 K1 hk1.1 (c_longest h (hk1.le (by decide)) hL ?_))
  have outer : ∀ (m : Nat) (a acc : Int) (F' : Nat → Int) (A' : Nat → Int → Int), 0 ≤ a → a + (m : Int) = (T.1 : Int) → 0 ≤ acc → max acc (maxI ((rgf a m).flatMap (mostL T))) = mostB T → agF [16] F F' → agA [8, 9] A A' → VM K1 mX5_mostBranches 9 [(0, .ref K1.m), (1, vI (longN T)), (2, vI acc), (3, vI a)] [] F' A' := by
    intro m
    induction m with
    | zero =>
      intro a acc F' A' h1 h2 h3 h4 g1 g2
      have e1 : F' 1 = (T.1 : Int) := by rw [g1 1 (by decide)]; exact hF
      have h4 : max acc 0 = mostB T := h4
      refine wX5_mostBranches_9 K1 hk1.1 ⟨by omega, by omega, fun _ => hS _ _ _ ?_, fun c => by omega⟩
      rw [show acc = mostB T by omega]; exact hΦ F' A' g1 g2
    | succ m ih =>
      intro a acc F' A' h1 h2 h3 h4 g1 g2
      have e1 : F' 1 = (T.1 : Int) := by rw [g1 1 (by decide)]; exact hF
      have ha : inT T a := ⟨h1, by omega⟩
      refine wX5_mostBranches_9 K1 hk1.1 ⟨by omega, by omega, fun c => by omega, fun _ => ?_⟩
      have happ : ∀ (l r : List Int), maxI (l ++ r) = max (maxI l) (maxI r) := by
        intro l r
        induction l with
        | nil => have := maxI_ge r; show maxI r = max 0 (maxI r); omega
        | cons x l ih => rw [List.cons_append, maxI_cons, maxI_cons, ih]; omega
      rw [rgf, List.flatMap_cons, happ] at h4
      have inner : ∀ (j : Nat) (b acc : Int) (F' : Nat → Int) (A' : Nat → Int → Int), 0 ≤ b → b + (j : Int) = (T.1 : Int) → 0 ≤ acc → max acc (max (maxI (((rgf b j).filter fun b => decide (fo T 13 a b (-1) = longN T - 1)).map fun b => ((brs T (pth T 13 a b (-1)) (-1)).length : Int))) (maxI ((rgf (a + 1) m).flatMap (mostL T)))) = mostB T → agF [16] F F' → agA [8, 9] A A' → VM K1 mX5_mostBranches 20 [(0, .ref K1.m), (1, vI (longN T)), (2, vI acc), (3, vI a), (4, vI b)] [] F' A' := by
        intro j
        induction j with
        | zero =>
          intro b acc F' A' q1 q2 q3 q4 g1 g2
          have e1 : F' 1 = (T.1 : Int) := by rw [g1 1 (by decide)]; exact hF
          have q4 : max acc (max 0 (maxI ((rgf (a + 1) m).flatMap (mostL T)))) = mostB T := q4
          exact wX5_mostBranches_20 K1 hk1.1 ⟨by omega, by omega, fun _ => ih (a + 1) acc F' A' (by omega) (by omega) q3 (by have := maxI_ge ((rgf (a + 1) m).flatMap (mostL T)); omega) g1 g2, fun c => by omega⟩
        | succ j ihj =>
          intro b acc F' A' q1 q2 q3 q4 g1 g2
          have e1 : F' 1 = (T.1 : Int) := by rw [g1 1 (by decide)]; exact hF
          have hb : inT T b := ⟨q1, by omega⟩
          have hL' : LM T F' A' := ⟨e1, by rw [g2 0 (by decide)]; exact hL.2⟩
          have ht : Tw T d 13 a (-1) := Tw.top ha hn.2
          have hfr := fo_rng h hb ht
          rw [filt_step] at q4
          refine wX5_mostBranches_20 K1 hk1.1 ⟨by omega, by omega, fun c => by omega, fun _ => c_farOf h hb 13 K1 a (-1) (hk1.le (by decide)) ht hL' ⟨by omega, by omega, fun c => ?_, fun c => ?_⟩⟩
          · rw [if_neg (by rw [decide_eq_false c]; decide)] at q4
            exact ihj (b + 1) acc F' A' (by omega) (by omega) q3 q4 g1 g2
          · rw [if_pos (decide_eq_true c), List.map_cons, maxI_cons] at q4
            obtain ⟨hgood, -⟩ := pth_good h ht hb (by omega)
            have hlen := hgood.len h (-1)
            refine c_lays h (hk1.le (by decide)) hb ht hL' (fun hfo A2 k1 k2 => ?_) (fun hfo A2 k1 => by omega)
            have hL2 : LM T (upN F' 16 ((pth T 13 a b (-1)).length : Int)) A2 := ⟨by rw [upN_ne _ _ (by decide)]; exact e1, by rw [k1 0 (by decide)]; exact hL'.2⟩
            refine c_branchesOf h (hk1.le (by decide)) hgood (by decide) hL2 k2 fun A3 k3 k4 => ⟨by omega, by omega, by have := hk1.2.2; omega, ?_⟩
            exact ihj (b + 1) _ _ A3 (by omega) (by omega) (by omega) (by omega) (g1.up (by decide)) ((g2.tr (k1.sb (by decide))).tr (k3.sb (by decide)))
      exact inner T.1 0 acc F' A' (by decide) (by omega) h3 h4 g1 g2
  have h0 : 0 ≤ maxI ((rg T.1).flatMap (mostL T)) := maxI_ge _
  exact outer T.1 0 0 F A (by decide) (by omega) (by decide) (by show max 0 (maxI ((rg T.1).flatMap (mostL T))) = maxI ((rg T.1).flatMap (mostL T)); omega) (agF.rf _ _) (agA.rf _ _)
theorem c_measured {T : Tr} {d : Int → Int → Int} (h : TrOk T d) (h12 : T.1 ≤ 12) {K : KM} (hk : MK K 20) {w : Int} (hw : 0 ≤ w ∧ w ≤ 10) {F : Nat → Int} {A : Nat → Int → Int} {Φ : PI} (hL : LM T F A) (hΦ : ∀ F' A', agF [1, 16] F F' → agA [0, 5, 8, 9] A A' → Φ (mesr T w) F' A') : RI mX5_measured K [.ref K.m, vI w] F A Φ := by
  have hn := h.n1
  have hF := hL.1
  have h0 : inT T 0 := ⟨by decide, by omega⟩
  have same := hΦ F A (agF.rf _ _) (agA.rf _ _)
  unfold mesr at same hΦ
  refine RI.w (n := 19) hk (fun K1 hk1 hS => wX5_measured_0 K1 hk1.1 ⟨by omega, fun c => hS _ _ _ ?_, fun c => hS _ _ _ ?_, fun c => c_farTogether h (hk1.le (by decide)) (by decide) hL (hS _ _ _ ?_), fun c => c_ends h (hk1.le (by decide)) hL (hS _ _ _ ?_), fun c => c_farTogether h (hk1.le (by decide)) (by decide) hL (hS _ _ _ ?_), fun c => c_centre h (hk1.le (by decide)) hL (c_deepA h (hk1.le (by decide)) (ctA0_spec hn.1).1 hL (hS _ _ _ ?_)), fun c => c_unlike h (hk1.le (by decide)) hL (hS _ _ _ ?_), fun c => c_alikeTo h (hk1.le (by decide)) h0 (q := false) hL (c_waysOf h 13 K1 0 (-1) (hk1.le (by decide)) (Tw.top h0 hn.2) hL (hS _ _ _ ?_)), fun c => c_more h h12 (hk1.le (by decide)) hL fun F' A' g1 g2 g3 => hS _ _ _ ?_, fun c => c_longest h (hk1.le (by decide)) hL (hS _ _ _ ?_), fun c => c_mostBranches h (hk1.le (by decide)) hL fun F' A' g1 g2 => hS _ _ _ ?_⟩)
  · rw [if_pos c] at same; rw [hF]; exact same
  · rw [if_neg (by omega), if_pos c] at same; rw [hF]; exact same
  · rwa [if_neg (by omega), if_neg (by omega), if_pos c] at same
  · rwa [if_neg (by omega), if_neg (by omega), if_neg (by omega), if_pos c] at same
  · rwa [if_neg (by omega), if_neg (by omega), if_neg (by omega), if_neg (by omega), if_pos c] at same
  · rwa [if_neg (by omega), if_neg (by omega), if_neg (by omega), if_neg (by omega), if_neg (by omega), if_pos c] at same
  · rwa [if_neg (by omega), if_neg (by omega), if_neg (by omega), if_neg (by omega), if_neg (by omega), if_neg (by omega), if_pos c] at same
  · rwa [if_neg (by omega), if_neg (by omega), if_neg (by omega), if_neg (by omega), if_neg (by omega), if_neg (by omega), if_neg (by omega), if_pos c] at same
  · have := hΦ F' A' (g1.sb (by decide)) (g2.sb (by decide))
    rwa [if_neg (by omega), if_neg (by omega), if_neg (by omega), if_neg (by omega), if_neg (by omega), if_neg (by omega), if_neg (by omega), if_neg (by omega), if_pos c] at this
  · rwa [if_neg (by omega), if_neg (by omega), if_neg (by omega), if_neg (by omega), if_neg (by omega), if_neg (by omega), if_neg (by omega), if_neg (by omega), if_neg (by omega), if_pos c] at same
  · have := hΦ F' A' (g1.sb (by decide)) (g2.sb (by decide))
    rwa [if_neg (by omega), if_neg (by omega), if_neg (by omega), if_neg (by omega), if_neg (by omega), if_neg (by omega), if_neg (by omega), if_neg (by omega), if_neg (by omega), if_neg (by omega)] at this
theorem o_measure {K : KM} (hk : MK K 22) {s : Sg} {F : Nat → Int} {A : Nat → Int → Int} (hV : SgOk s) (hM : MS s F A) {w : Int} (hw : rI w) {Φ : PI} (h : ∀ F' A', MS s F' A' → Φ (opMeasure s w) F' A') : RI mX5_measure K [.ref K.m, vI w] F A Φ := by
  obtain ⟨⟨d, hT⟩, hn, -⟩ := hV
  unfold opMeasure at h
  refine RI.w (n := 21) hk (fun K1 hk1 hS => wX5_measure_0 K1 hk1.1 ⟨hw, c_isInM (hk1.le (by decide)) (by omega) (by decide) (by decide) (brz' (fun e => ?_) (fun e => hS _ _ _ ?_))⟩)
  · have he := of_decide_eq_true e
    rw [if_pos he] at h
    refine c_looksD (hk1.le (by decide)) hM.1 fun F1 A1 g1 g2 g3 g4 => c_measured hT hn (hk1.le (by decide)) he g4 fun F2 A2 k1 k2 => hS _ _ _ (h F2 A2 ⟨hM.1.fr ((g1.sb (by decide)).tr (k1.sb (by decide))) ((g2.sb (by decide)).tr (k2.sb (by decide))), hM.2.fr (by rw [k1 9 (by decide), g1 9 (by decide)]) (by rw [k2 3 (by decide), g2 3 (by decide)]) (by rw [k2 4 (by decide), g2 4 (by decide)])⟩)
  · rw [if_neg (of_decide_eq_false e)] at h
    exact h F A hM
theorem range_split (k m : Nat) : List.range (k + m) = List.range k ++ (List.range m).map (fun i => k + i) := by
  rw [List.range_add]
theorem o_ranked (hLO : LstOk) {K : KM} (hk : MK K 24) {s : Sg} {F : Nat → Int} {A : Nat → Int → Int} (hM : MS s F A) {n w i : Int} (hn : rI n) (hw : rI w) (hi : rI i) {Φ : PI} (h : ∀ F' A', MS s F' A' → Φ (opRanked n w i) F' A') : RI mX5_ranked K [.ref K.m, vI n, vI w, vI i] F A Φ := by
  unfold opRanked at h
  refine RI.w (n := 23) hk (fun K1 hk1 hS => wX5_ranked_0 K1 hk1.1 (c_isListed hLO (hk1.le (by decide)) hM.2 hn hi fun F1 A1 g1 g2 g3 => brz (fun e => hS _ _ _ ?_) (fun e => ⟨hw, c_isInM (hk1.le (by decide)) (by omega) (by decide) (by decide) (brz' (fun e2 => ?_) (fun e2 => hS _ _ _ ?_))⟩)))
  · have := h F1 A1 ⟨hM.1.fr (g1.sb (by decide)) (g2.sb (by decide)), Or.inl g3⟩
    rwa [if_neg (fun hh => by rw [e] at hh; exact absurd hh.1 (by decide))] at this
  rotate_left
  · have := h F1 A1 ⟨hM.1.fr (g1.sb (by decide)) (g2.sb (by decide)), Or.inl g3⟩
    rwa [if_neg (fun hh => of_decide_eq_false e2 hh.2)] at this
  have he2 := of_decide_eq_true e2
  obtain ⟨hn10, hi10⟩ := isLd_iff.mp e
  rw [if_pos ⟨e, he2⟩] at h
  have hLl := (hLO n.toNat (by omega) (by omega)).1
  have en : ((n.toNat : Nat) : Int) = n := by omega
  generalize hvs : (lst n.toNat).map (mesV w n.toNat) = vs at h
  have hvl : vs.length = (lst n.toNat).length := by rw [← hvs, List.length_map]
  have hvr : ∀ k : Nat, k < vs.length → rI (vs.getD k 0) := by
    intro k hk9
    have hm := getD_mem (l := vs) hk9
    rw [← hvs] at hm
    obtain ⟨v, hv, e9⟩ := List.mem_map.mp hm
    rw [← hvs, ← e9]
    unfold mesV
    split
    · rename_i C hC
      obtain ⟨d, hT⟩ := canT_ok (by omega) (by omega) hC
      exact mesr_rI hT w
    · decide
  -- the measures are laid
  have first : ∀ (m k : Nat) (F' : Nat → Int) (A' : Nat → Int → Int), k + m = vs.length → MS s F' A' → ML F' A' → (∀ j : Nat, j < k → A' 6 (j : Int) = vs.getD j 0) → VM K1 mX5_ranked 26 [(0, .ref K1.m), (1, vI n), (2, vI w), (3, vI i), (4, vI (k : Int))] [] F' A' := by
    intro m
    induction m with
    | succ m ih =>
      intro k F' A' hkm hMS hML hv
      have h4 := (hML.2 n.toNat (by omega) (by omega)).1
      rw [en] at h4
      have hld : isLd n (k : Int) = true := isLd_iff.mpr ⟨hn10, by omega, by omega⟩
      obtain ⟨C, hC, ⟨d, hT⟩, hC1, -, -, -⟩ := lst_tree hLO hld
      refine wX5_ranked_26 K1 hk1.1 ?_
      rw [h4]
      refine ⟨by omega, by omega, by omega, fun c => by omega, fun _ => c_looksAt hLO (hk1.le (by decide)) hML hld hC fun F2 A2 k1 k2 k3 => c_measured hT (by omega) (hk1.le (by decide)) he2 k3 fun F3 A3 j1 j2 => ⟨by omega, ?_⟩⟩
      have hF3 : agF [1, 6, 7, 8, 16] F' F3 := (k1.sb (by decide)).tr (j1.sb (by decide))
      have hA3 : agA [0, 5, 6, 8, 9] A' (upA A3 6 (k : Int) (mesr C w)) := ((k2.sb (by decide)).tr (j2.sb (by decide))).up (by decide)
      have := ih (k + 1) F3 (upA A3 6 (k : Int) (mesr C w)) (by omega) ⟨hMS.1.fr (hF3.sb (by decide)) (hA3.sb (by decide)), hMS.2.fr (hF3 9 (by decide)) (hA3 3 (by decide)) (hA3 4 (by decide))⟩ (hML.fr (hF3 9 (by decide)) (hA3 3 (by decide)) (hA3 4 (by decide))) (fun j hj => ?_)
      · exact this
      · by_cases ej : j = k
        · subst ej
          rw [upA_at, ← hvs, List.getD_eq_getElem?_getD, List.getElem?_map, List.getElem?_eq_getElem (by omega)]
          show mesr C w = mesV w n.toNat _
          have : (lst n.toNat)[j]'(by omega) = lsAt n (j : Int) := by
            show _ = (lst n.toNat).getD ((j : Int)).toNat 0
            rw [show ((j : Int)).toNat = j by omega, List.getD_eq_getElem?_getD, List.getElem?_eq_getElem (by omega)]; rfl
          rw [this]
          unfold mesV
          rw [hC]
        · rw [upA_off _ _ _ (by omega), j2 6 (by decide), k2 6 (by decide)]
          exact hv j (by omega)
    | zero =>
      intro k F' A' hkm hMS hML hv
      have h4 := (hML.2 n.toNat (by omega) (by omega)).1
      rw [en] at h4
      refine wX5_ranked_26 K1 hk1.1 ?_
      rw [h4]
      refine ⟨by omega, by omega, by omega, fun _ => ?_, fun c => by omega⟩
      have h := h F' A' hMS
      -- the one ahead of which so many go
      have second : ∀ (m k : Nat), k + m = vs.length → Φ (rkF vs i k m) F' A' → VM K1 mX5_ranked 65 [(0, .ref K1.m), (1, vI n), (3, vI i), (4, vI (k : Int))] [] F' A' := by
        intro m
        induction m with
        | zero =>
          intro k hkm hr
          refine wX5_ranked_65 K1 hk1.1 ?_
          rw [h4]
          exact ⟨by omega, by omega, by omega, fun _ => hS _ _ _ hr, fun c => by omega⟩
        | succ m ihm =>
          intro k hkm2 hr
          refine wX5_ranked_65 K1 hk1.1 ?_
          rw [h4]
          refine ⟨by omega, by omega, by omega, fun c => by omega, fun _ => ?_⟩
          have ek := hv k (by omega)
          have inner : ∀ (q j : Nat) (acc : Int), j + q = vs.length → acc + ((((List.range q).map (fun i => j + i)).filter fun j => decide (vs.getD k 0 < vs.getD j 0) || (decide (vs.getD j 0 = vs.getD k 0) && decide (j < k))).length : Int) = (ahd vs k : Int) → 0 ≤ acc → acc ≤ (j : Int) → VM K1 mX5_ranked 82 [(0, .ref K1.m), (1, vI n), (3, vI i), (4, vI (k : Int)), (5, vI acc), (6, vI (j : Int))] [] F' A' := by
            intro q
            induction q with
            | zero =>
              intro j acc hjq hacc ha0 haj
              have hacc : acc + 0 = (ahd vs k : Int) := hacc
              refine wX5_ranked_82 K1 hk1.1 ?_
              rw [h4]
              unfold rkF at hr
              refine ⟨by omega, by omega, by omega, fun _ => ⟨by omega, hi, fun c => ?_, fun c => hS _ _ _ ?_⟩, fun c => by omega⟩
              · rw [if_neg (by omega)] at hr
                have := ihm (k + 1) (by omega) hr
                exact this
              · rw [if_pos (by omega)] at hr; exact hr
            | succ q ihq =>
              intro j acc hjq hacc ha0 haj
              have ej := hv j (by omega)
              have r1 := hvr j (by omega)
              have r2 := hvr k (by omega)
              rw [show q + 1 = 1 + q by omega, range_split, List.map_append, List.filter_append, List.length_append] at hacc
              have e9 : ((List.range q).map (fun i => 1 + i)).map (fun i => j + i) = (List.range q).map (fun i => (j + 1) + i) := by
                rw [List.map_map]
                refine List.map_congr_left fun z _ => ?_
                show j + (1 + z) = j + 1 + z
                omega
              rw [e9] at hacc
              have e8 : (((List.range 1).map (fun i => j + i)).filter fun j => decide (vs.getD k 0 < vs.getD j 0) || (decide (vs.getD j 0 = vs.getD k 0) && decide (j < k))).length = if decide (vs.getD k 0 < vs.getD j 0) || (decide (vs.getD j 0 = vs.getD k 0) && decide (j < k)) then 1 else 0 := by
                show ([j + 0].filter _).length = _
                rw [Nat.add_zero, List.filter_cons, List.filter_nil]
                split <;> rfl
              rw [e8] at hacc
              refine wX5_ranked_82 K1 hk1.1 ?_
              rw [h4, ej, ek]
              have nx : ∀ acc', acc' = acc + (if decide (vs.getD k 0 < vs.getD j 0) || (decide (vs.getD j 0 = vs.getD k 0) && decide (j < k)) then 1 else 0) → VM K1 mX5_ranked 82 [(0, .ref K1.m), (1, vI n), (3, vI i), (4, vI (k : Int)), (5, vI acc'), (6, vI ((j : Int) + 1))] [] F' A' := by
                intro acc' e7
                have := ihq (j + 1) acc' (by omega) (by rw [e7]; split at hacc <;> split <;> first | omega | contradiction) (by rw [e7]; split <;> omega) (by rw [e7]; split <;> omega)
                exact this
              refine ⟨by omega, by omega, by omega, fun c => by omega, fun _ => ⟨by omega, by omega, r1, r2, fun c => nx _ ?_, fun c => ⟨fun c2 => nx _ ?_, fun c2 => ⟨by omega, fun c3 => nx _ ?_, fun c3 => nx _ ?_⟩⟩⟩⟩
              · rw [if_pos (by rw [decide_eq_true c]; rfl)]
              · rw [if_neg (by rw [decide_eq_false c, decide_eq_false c2]; simp)]
              · rw [if_neg (by rw [decide_eq_false c, decide_eq_true c2, decide_eq_false (by omega)]; decide)]
              · rw [if_pos (by rw [decide_eq_false c, decide_eq_true c2, decide_eq_true (by omega)]; decide)]
          refine inner vs.length 0 0 (by omega) ?_ (by decide) (by decide)
          rw [Int.zero_add]
          unfold ahd
          congr 2
          have : (List.range vs.length).map (fun i => 0 + i) = List.range vs.length := by
            rw [show (fun i : Nat => 0 + i) = id by funext z; exact Nat.zero_add z, List.map_id]
          rw [this]
      have := second vs.length 0 (by omega) (by rw [hvl]; exact h)
      exact this
  have := first vs.length 0 F1 A1 (by omega) ⟨hM.1.fr (g1.sb (by decide)) (g2.sb (by decide)), Or.inl g3⟩ g3 (fun j hj => by omega)
  exact this
