set_option maxRecDepth 100000
/-! chains of the reference -/
theorem c_walks {T : Tr} {d : Int → Int → Int} (h : TrOk T d) {x : Int} (hx : inT T x) : ∀ (f : Nat) (K : KM) (b a r at1 : Int), MK K (f + 1) → Tw T d f b a → At T d r at1 b a → ∀ {F : Nat → Int} {A : Nat → Int → Int} {Φ : PI}, LM T F A →
    (0 ≤ fo T f b x a → ∀ A', agA [8] A A' → (∀ j, j < at1 → A' 8 j = A 8 j) → arr (A' 8) at1 (pth T f b x a) → Φ 1 (upN F 16 (at1 + ((pth T f b x a).length : Int))) A') →
    (fo T f b x a < 0 → ∀ A', agA [8] A A' → (∀ j, j < at1 → A' 8 j = A 8 j) → Φ 0 F A') → RI mX5_walks K [.ref K.m, vI b, vI x, vI a, vI at1] F A Φ := by
  have hn := h.n1
  intro f
  induction f with
  | zero => intro K b a r at1 hk t; obtain ⟨f', h1⟩ := t.pos h; omega
  | succ f ih =>
    intro K b a r at1 hk t ta F A Φ hL hY hN
    have hb := t.1
    have hat := ta.lt h hb
    refine RI.w (n := f + 1) hk (fun K1 hk1 hS => wX5_walks_0 K1 hk1.1 ⟨by omega, by omega, by omega, fun c => ?_, fun c => hS _ _ _ ?_⟩)
    rotate_left
    · unfold fo pth at hY
      rw [if_pos c, if_pos c] at hY
      have := hY (Int.le_refl _) (upA A 8 at1 b) ((agA.rf _ _).up (by decide)) (fun j hj => upA_off _ _ _ (by omega)) (fun i hi => ?_)
      · exact this
      · have : i = 0 := by simpa using hi
        subst this
        rw [show at1 + ((0 : Nat) : Int) = at1 by omega, upA_at]; rfl
    unfold fo pth at hY
    unfold fo at hN
    rw [if_neg c] at hN
    rw [if_neg c, if_neg c] at hY
    have key : ∀ (m : Nat) (k : Int) (A1 : Nat → Int → Int), 0 ≤ k → k + (m : Int) = (T.1 : Int) → agA [8] A A1 → (∀ j, j < at1 → A1 8 j = A 8 j) → A1 8 at1 = b → fo1 (fun c => fo T f c x b) (chF T b a k m) = fo1 (fun c => fo T f c x b) (chs T b a) → pth1 (fun c => fo T f c x b) (fun c => pth T f c x b) (chF T b a k m) = pth1 (fun c => fo T f c x b) (fun c => pth T f c x b) (chs T b a) →
        VM K1 mX5_walks 26 [(0, .ref K1.m), (1, vI b), (2, vI x), (3, vI a), (4, vI at1), (5, vI k)] [] F A1 := by
      intro m
      induction m with
      | zero =>
        intro k A1 hk0 hkn g1 g2 g3 g4 g5
        refine wX5_walks_26 K1 hk1.1 (nb_step (hk1.le (by omega)) h ⟨hL.1, by rw [g1 0 (by decide)]; exact hL.2⟩ hb (by omega) (t.rIa h) (fun _ => hS _ _ _ (hN ?_ A1 g1 g2)) (fun c => by omega) (fun c => by omega))
        rw [← g4]; show (-1 : Int) < 0; decide
      | succ m ihm =>
        intro k A1 hk0 hkn g1 g2 g3 g4 g5
        have hL1 : LM T F A1 := ⟨hL.1, by rw [g1 0 (by decide)]; exact hL.2⟩
        refine wX5_walks_26 K1 hk1.1 (nb_step (hk1.le (by omega)) h hL1 hb (by omega) (t.rIa h) (fun c => by omega) (fun _ c => ?_) (fun _ e c2 => ?_))
        · rw [chF_no c] at g4 g5
          exact ihm (k + 1) A1 (by omega) (by omega) g1 g2 g3 g4 g5
        · have hkc := h.mem_chs.mpr ⟨e, c2⟩
          rw [chF_yes e c2, fo1] at g4
          rw [chF_yes e c2, pth1] at g5
          refine ih K1 k b r (at1 + 1) hk1 (t.step h hkc) (ta.step h hkc) hL1 (fun hf A2 q1 q2 q3 => ?_) (fun hf A2 q1 q2 => ?_)
          · rw [if_neg (by omega)] at g4 g5
            refine ⟨by decide, fun c3 => absurd c3 (by decide), fun _ => hS _ _ _ ?_⟩
            have := hY (by rw [← g4]; omega) A2 (g1.tr q1) (fun j hj => by rw [q2 j (by omega)]; exact g2 j hj) (fun i hi => ?_)
            · rw [List.length_cons, ← g5] at this
              rwa [show at1 + (((pth T f k x b).length + 1 : Nat) : Int) = at1 + 1 + ((pth T f k x b).length : Int) by omega] at this
            · rw [← g5] at hi ⊢
              rcases Nat.eq_zero_or_pos i with hi0 | hi0
              · subst hi0
                rw [show at1 + ((0 : Nat) : Int) = at1 by omega, q2 at1 (by omega)]; exact g3
              · obtain ⟨i, rfl⟩ : ∃ i', i = i' + 1 := ⟨i - 1, by omega⟩
                rw [List.length_cons] at hi
                rw [List.getD_cons_succ, show at1 + ((i + 1 : Nat) : Int) = at1 + 1 + (i : Int) by omega]
                exact q3 i (by omega)
          · rw [if_pos hf] at g4 g5
            refine ⟨by decide, fun _ => ?_, fun c3 => absurd rfl c3⟩
            exact ihm (k + 1) A2 (by omega) (by omega) (g1.tr q1) (fun j hj => by rw [q2 j (by omega)]; exact g2 j hj) (by rw [q2 at1 (by omega)]; exact g3) g4 g5
    exact key T.1 0 _ (by decide) (by omega) ((agA.rf _ _).up (by decide)) (fun j hj => upA_off _ _ _ (by omega)) (upA_at _ _ _ _) (by rw [chF_all]) (by rw [chF_all])
/-- a chain lies in its row -/
abbrev CHN (w : List Int) (F : Nat → Int) (A : Nat → Int → Int) : Prop := F 16 = (w.length : Int) ∧ arr (A 8) 0 w
theorem c_lays {T : Tr} {d : Int → Int → Int} (h : TrOk T d) {K : KM} (hk : MK K 16) {x b a : Int} (hx : inT T x) (t : Tw T d 13 b a) {F : Nat → Int} {A : Nat → Int → Int} {Φ : PI} (hL : LM T F A)
    (hY : 0 ≤ fo T 13 b x a → ∀ A', agA [8] A A' → CHN (pth T 13 b x a) (upN F 16 ((pth T 13 b x a).length : Int)) A' → Φ 1 (upN F 16 ((pth T 13 b x a).length : Int)) A')
    (hN : fo T 13 b x a < 0 → ∀ A', agA [8] A A' → Φ 0 F A') : RI mX5_lays K [.ref K.m, vI b, vI x, vI a] F A Φ := by
  refine RI.w (n := 15) hk (fun K1 hk1 hS => wX5_lays_0 K1 hk1.1 (c_walks h hx 13 K1 b a b 0 (hk1.le (by decide)) t ⟨t.1, h.d0 b, Or.inl rfl⟩ hL (fun hf A' g1 g2 g3 => ⟨Or.inr rfl, hS _ _ _ ?_⟩) (fun hf A' g1 g2 => ⟨Or.inl rfl, hS _ _ _ (hN hf A' g1)⟩)))
  rw [Int.zero_add]
  exact hY hf A' g1 ⟨upN_eq _ _ _, g3⟩
theorem c_isInChain {K : KM} (hk : MK K 1) {w : List Int} (hw : ∀ v ∈ w, rI v) (hlen : w.length ≤ 13) {x : Int} (hx : rI x) {F : Nat → Int} {A : Nat → Int → Int} {Φ : PI} (hC : CHN w F A) (hΦ : Φ (bz (w.contains x)) F A) : RI mX5_isInChain K [.ref K.m, vI x] F A Φ := by
  refine RI.w (n := 0) hk (fun K1 hk1 hS => wX5_isInChain_0 K1 hk1.1 ?_)
  have key : ∀ (m i : Nat), i + m = w.length → (∀ j : Nat, j < i → w.getD j 0 ≠ x) → VM K1 mX5_isInChain 2 [(0, .ref K1.m), (1, vI x), (2, vI (i : Int))] [] F A := by
    intro m
    induction m with
    | zero =>
      intro i hi hall
      refine wX5_isInChain_2 K1 hk1.1 ?_
      rw [hC.1]
      refine ⟨by omega, by omega, fun _ => hS _ _ _ ?_, fun c => by omega⟩
      have e : w.contains x = false := by
        rw [Bool.eq_false_iff]
        intro hm
        obtain ⟨j, hj, e⟩ := mem_getD (List.contains_iff_mem.mp hm)
        exact hall j (by omega) e
      rw [e] at hΦ; exact hΦ
    | succ m ih =>
      intro i hi hall
      have e6 : A 8 (i : Int) = w.getD i 0 := by have := hC.2 i (by omega); rwa [Int.zero_add] at this
      have hm := getD_mem (l := w) (i := i) (by omega)
      refine wX5_isInChain_2 K1 hk1.1 ?_
      rw [hC.1]
      refine ⟨by omega, by omega, fun c => by omega, fun _ => ⟨by omega, by rw [e6]; exact hw _ hm, hx, fun c => ?_, fun c => hS _ _ _ ?_⟩⟩
      · rw [e6] at c
        refine ih (i + 1) (by omega) fun j hj => ?_
        rcases Nat.lt_or_ge j i with g3 | g3
        · exact hall j g3
        · rw [show j = i by omega]; exact c
      · rw [e6] at c
        have e : w.contains x = true := List.contains_iff_mem.mpr (by rw [← c]; exact hm)
        rw [e] at hΦ; exact hΦ
  exact key w.length 0 (by omega) (fun j hj => by omega)
theorem c_isBranch {T : Tr} {d : Int → Int → Int} (h : TrOk T d) {K : KM} (hk : MK K 2) {w : List Int} (hw : ∀ v ∈ w, inT T v) (hlen : w.length ≤ 13) {k : Nat} (hkw : k < w.length) {b from1 : Int} (hb : inT T b) (hf : rI from1) {F : Nat → Int} {A : Nat → Int → Int} {Φ : PI} (hL : LM T F A) (hC : CHN w F A) (hΦ : Φ (bz ((brB T w from1 (w.getD k 0)).contains b)) F A) : RI mX5_isBranch K [.ref K.m, vI (k : Int), vI b, vI from1] F A Φ := by
  have hn := h.n1
  have e6 : A 8 (k : Int) = w.getD k 0 := by have := hC.2 k hkw; rwa [Int.zero_add] at this
  have ha := hw _ (getD_mem hkw)
  refine RI.w (n := 1) hk (fun K1 hk1 hS => wX5_isBranch_0 K1 hk1.1 ?_)
  rw [e6]
  have no : ¬ (b ∈ brB T w from1 (w.getD k 0)) → SI K1 0 F A := fun hno => hS _ _ _ (by
    rw [show (brB T w from1 (w.getD k 0)).contains b = false by rw [Bool.eq_false_iff]; exact fun hm => hno (List.contains_iff_mem.mp hm)] at hΦ
    exact hΦ)
  have eb := (hL.2 _ ha.1 (by omega)).2 b hb.1 (by omega)
  refine ⟨by omega, by omega, c_has hk1 (brz (fun e => no ?_) (fun e => ⟨by omega, hf, fun c => no ?_, fun c => c_isInChain hk1 (fun v hv => by have := hw v hv; omega) hlen (by omega) hC (brz' (fun e2 => no ?_) (fun e2 => hS _ _ _ ?_))⟩))⟩
  · rw [mem_brB h, ← eb, e]; exact fun hh => absurd hh.1 (by decide)
  · rw [mem_brB h]; exact fun hh => hh.2.1 c
  · rw [mem_brB h]; exact fun hh => hh.2.2 (List.contains_iff_mem.mp e2)
  · have hm : b ∈ brB T w from1 (w.getD k 0) := (mem_brB h).mpr ⟨by rw [← eb]; exact e, c, fun hm => by rw [List.contains_iff_mem.mpr hm] at e2; cases e2⟩
    rw [List.contains_iff_mem.mpr hm] at hΦ
    exact hΦ
theorem numF_drop (T : Tr) (w : List Int) (from1 : Int) (q : Int) (l : List Int) : (brsF T w from1 q l).map (fun t => t.1) = match l with
  | [] => []
  | a :: l => (brB T w from1 a).map (fun _ => q + 1) ++ (brsF T w from1 (q + 1) l).map (fun t => t.1) := by
  cases l with
  | nil => rfl
  | cons a l =>
    show ((brB T w from1 a).map (fun b => (q + 1, a, b)) ++ brsF T w from1 (q + 1) l).map (fun t => t.1) = _
    rw [List.map_append, List.map_map]; rfl
theorem filt_step {p : Int → Bool} {k : Int} {m : Nat} : (rgf k (m + 1)).filter p = if p k then k :: (rgf (k + 1) m).filter p else (rgf (k + 1) m).filter p := by
  rw [rgf, List.filter_cons]
theorem brB_eq (T : Tr) {d : Int → Int → Int} (h : TrOk T d) (w : List Int) (from1 a : Int) : brB T w from1 a = (rg T.1).filter (fun b => (brB T w from1 a).contains b) := by
  have e : ∀ b, (brB T w from1 a).contains b = (T.2 a b && (!(b == from1) && !(w.contains b))) := fun b => by
    rw [Bool.eq_iff_iff, List.contains_iff_mem, mem_brB h]
    simp
  conv => lhs; unfold brB nbs; rw [List.filter_filter]
  refine List.filter_congr fun b _ => ?_
  rw [e b, Bool.and_comm]
theorem c_branchesOf {T : Tr} {d : Int → Int → Int} (h : TrOk T d) {K : KM} (hk : MK K 3) {w : List Int} (hw : GCh T d w) {from1 : Int} (hf : rI from1) {F : Nat → Int} {A : Nat → Int → Int} {Φ : PI} (hL : LM T F A) (hC : CHN w F A) (hΦ : ∀ A', agA [9] A A' → arr (A' 9) 0 (numw T w from1) → Φ ((brs T w from1).length : Int) F A') : RI mX5_branchesOf K [.ref K.m, vI from1] F A Φ := by
  have hn := h.n1
  have hF := hL.1
  have hlen := hw.len h from1
  have hin := hw.inT
  refine RI.w (n := 2) hk (fun K1 hk1 hS => wX5_branchesOf_0 K1 hk1.1 ?_)
  have hnl : (numw T w from1).length = (brs T w from1).length := by unfold numw; rw [List.length_map]
  have key : ∀ (m k : Nat) (L : List Int) (A1 : Nat → Int → Int), k + m = w.length → agA [9] A A1 → arr (A1 9) 0 L → L ++ (brsF T w from1 (k : Int) (w.drop k)).map (fun t => t.1) = numw T w from1 → VM K1 mX5_branchesOf 4 [(0, .ref K1.m), (1, vI from1), (2, vI (L.length : Int)), (3, vI (k : Int))] [] F A1 := by
    intro m
    induction m with
    | zero =>
      intro k L A1 hkm g1 g2 g3
      rw [List.drop_eq_nil_of_le (by omega)] at g3
      have g3 : L ++ [] = numw T w from1 := g3
      rw [List.append_nil] at g3
      refine wX5_branchesOf_4 K1 hk1.1 ?_
      rw [hC.1]
      refine ⟨by omega, by omega, fun _ => hS _ _ _ ?_, fun c => by omega⟩
      rw [g3, hnl]
      exact hΦ A1 g1 (by rw [← g3]; exact g2)
    | succ m ih =>
      intro k L A1 hkm g1 g2 g3
      have hkw : k < w.length := by omega
      have hdrop : w.drop k = w.getD k 0 :: w.drop (k + 1) := by
        rw [List.drop_eq_getElem_cons hkw, List.getD_eq_getElem?_getD, List.getElem?_eq_getElem hkw]; rfl
      rw [hdrop, numF_drop] at g3
      dsimp only at g3
      refine wX5_branchesOf_4 K1 hk1.1 ?_
      rw [hC.1]
      refine ⟨by omega, by omega, fun c => by omega, fun _ => ?_⟩
      have inner : ∀ (j : Nat) (b : Int) (L : List Int) (A1 : Nat → Int → Int), 0 ≤ b → b + (j : Int) = (T.1 : Int) → agA [9] A A1 → arr (A1 9) 0 L → L ++ (((rgf b j).filter (fun b => (brB T w from1 (w.getD k 0)).contains b)).map (fun _ => (k : Int) + 1) ++ (brsF T w from1 ((k : Int) + 1) (w.drop (k + 1))).map (fun t => t.1)) = numw T w from1 → VM K1 mX5_branchesOf 15 [(0, .ref K1.m), (1, vI from1), (2, vI (L.length : Int)), (3, vI (k : Int)), (4, vI b)] [] F A1 := by
        intro j
        induction j with
        | zero =>
          intro b L A1 q1 q2 q3 q4 q5
          refine wX5_branchesOf_15 K1 hk1.1 ⟨by omega, by omega, fun _ => ?_, fun c => by omega⟩
          have := ih (k + 1) L A1 (by omega) q3 q4 (by
            rw [rgf, List.filter_nil, List.map_nil, List.nil_append] at q5; exact q5)
          exact this
        | succ j ihj =>
          intro b L A1 q1 q2 q3 q4 q5
          have hbT : inT T b := ⟨q1, by omega⟩
          have hL1 : LM T F A1 := ⟨hL.1, by rw [q3 0 (by decide)]; exact hL.2⟩
          have hC1 : CHN w F A1 := ⟨hC.1, by rw [q3 8 (by decide)]; exact hC.2⟩
          rw [filt_step] at q5
          refine wX5_branchesOf_15 K1 hk1.1 ⟨by omega, by omega, fun c => by omega, fun _ => c_isBranch h (hk1.le (by decide)) hin (by omega) hkw hbT hf hL1 hC1 (brz (fun e => ?_) (fun e => ?_))⟩
          · rw [if_neg (by rw [e]; decide)] at q5
            exact ihj (b + 1) L A1 (by omega) (by omega) q3 q4 q5
          · rw [if_pos e] at q5
            have hL9 : L.length < (numw T w from1).length := by
              rw [← q5, List.length_append, List.length_append, List.length_map, List.length_cons]; omega
            rw [hnl] at hL9
            refine ⟨by omega, ?_⟩
            have := ihj (b + 1) (L ++ [(k : Int) + 1]) (upA A1 9 (L.length : Int) ((k : Int) + 1)) (by omega) (by omega) (q3.up (by decide)) (fun i hi => ?_) (by rw [← q5, List.map_cons, List.append_assoc]; rfl)
            · rw [List.length_append, List.length_singleton] at this
              exact this
            · rw [List.length_append, List.length_singleton] at hi
              rw [getD_append]
              by_cases hi2 : i < L.length
              · rw [if_pos hi2, upA_off _ _ _ (by omega)]; exact q4 i hi2
              · rw [if_neg hi2, show i = L.length by omega, Int.zero_add, upA_at, Nat.sub_self]; rfl
      exact inner T.1 0 L A1 (by decide) (by omega) g1 g2 (by rw [← brB_eq T h]; exact g3)
  exact key w.length 0 [] A (by omega) (agA.rf _ _) (fun i hi => by cases hi) (by rw [List.nil_append, List.drop_zero]; rfl)
