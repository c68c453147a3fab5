set_option maxRecDepth 100000
/-! measures of the reference -/
theorem c_farTogether {T : Tr} {d : Int → Int → Int} (h : TrOk T d) {K : KM} (hk : MK K 15) {j : Int} (hj : rI j) {F : Nat → Int} {A : Nat → Int → Int} {Φ : PI} (hL : LM T F A) (hΦ : Φ (farT T j) F A) : RI mX5_farTogether K [.ref K.m, vI j] F A Φ := by
  have hn := h.n1
  have hF := hL.1
  refine RI.w (n := 14) hk (fun K1 hk1 hS => wX5_farTogether_0 K1 hk1.1 ?_)
  have key : ∀ (m : Nat) (a acc : Int), 0 ≤ a → a + (m : Int) = (T.1 : Int) → acc + sumI ((rgf a m).map fun a => sumI ((rgf (a + 1) (T.1 - (a.toNat + 1))).map fun b => farS T j a b)) = farT T j → VM K1 mX5_farTogether 4 [(0, .ref K1.m), (1, vI j), (2, vI acc), (3, vI a)] [] F A := by
    intro m
    induction m with
    | zero =>
      intro a acc h1 h2 h3
      refine wX5_farTogether_4 K1 hk1.1 ⟨by omega, by omega, fun _ => hS _ _ _ ?_, fun c => by omega⟩
      rw [← h3, rgf, List.map_nil, sumI_nil, Int.add_zero] at hΦ; exact hΦ
    | succ m ih =>
      intro a acc h1 h2 h3
      refine wX5_farTogether_4 K1 hk1.1 ⟨by omega, by omega, fun c => by omega, fun _ => ?_⟩
      rw [rgf, List.map_cons, sumI_cons] at h3
      have ha : inT T a := ⟨h1, by omega⟩
      have inner : ∀ (k : Nat) (b acc : Int), a < b → b + (k : Int) = (T.1 : Int) → acc + sumI ((rgf b k).map fun b => farS T j a b) + sumI ((rgf (a + 1) m).map fun a => sumI ((rgf (a + 1) (T.1 - (a.toNat + 1))).map fun b => farS T j a b)) = farT T j → VM K1 mX5_farTogether 17 [(0, .ref K1.m), (1, vI j), (2, vI acc), (3, vI a), (4, vI b)] [] F A := by
        intro k
        induction k with
        | zero =>
          intro b acc g1 g2 g3
          rw [rgf, List.map_nil, sumI_nil, Int.add_zero] at g3
          exact wX5_farTogether_17 K1 hk1.1 ⟨by omega, by omega, fun _ => ih (a + 1) acc (by omega) (by omega) g3, fun c => by omega⟩
        | succ k ihk =>
          intro b acc g1 g2 g3
          have hb : inT T b := ⟨by omega, by omega⟩
          have hfr := fo_rng h hb (Tw.top (f := 13) ha hn.2)
          rw [rgf, List.map_cons, sumI_cons] at g3
          refine wX5_farTogether_17 K1 hk1.1 ⟨by omega, by omega, fun c => by omega, fun _ => c_farOf h hb 13 K1 a (-1) hk1 (Tw.top ha hn.2) hL ⟨hj, fun c => ⟨by omega, fun c2 => ?_, fun c2 => ?_⟩, fun c => ?_⟩⟩
          · refine ihk (b + 1) _ (by omega) (by omega) ?_
            rw [← g3]; unfold farS; rw [if_neg c, decide_eq_false c2]; show acc + 0 + _ + _ = acc + (0 + _) + _; omega
          · refine ihk (b + 1) _ (by omega) (by omega) ?_
            rw [← g3]; unfold farS; rw [if_neg c, decide_eq_true c2]; show acc + 1 + _ + _ = acc + (1 + _) + _; omega
          · refine ihk (b + 1) _ (by omega) (by omega) ?_
            rw [← g3]
            have e : farS T j a b = fo T 13 a b (-1) := by unfold farS; rw [if_pos c]
            rw [e]; omega
      refine inner (T.1 - (a.toNat + 1)) (a + 1) acc (by omega) (by omega) ?_
      rw [← h3]; omega
  exact key T.1 0 0 (by decide) (by omega) (by rw [Int.zero_add]; rfl)
theorem c_ends {T : Tr} {d : Int → Int → Int} (h : TrOk T d) {K : KM} (hk : MK K 2) {F : Nat → Int} {A : Nat → Int → Int} {Φ : PI} (hL : LM T F A) (hΦ : Φ (endN T) F A) : RI mX5_ends K [.ref K.m] F A Φ := by
  have hn := h.n1
  have hF := hL.1
  refine RI.w (n := 1) hk (fun K1 hk1 hS => wX5_ends_0 K1 hk1.1 ?_)
  have key : ∀ (m : Nat) (a acc : Int), 0 ≤ a → a + (m : Int) = (T.1 : Int) → acc + (((rgf a m).filter (fun a => (nbs T a).length == 1)).length : Int) = endN T → VM K1 mX5_ends 4 [(0, .ref K1.m), (1, vI acc), (2, vI a)] [] F A := by
    intro m
    induction m with
    | zero =>
      intro a acc h1 h2 h3
      refine wX5_ends_4 K1 hk1.1 ⟨by omega, by omega, fun _ => hS _ _ _ ?_, fun c => by omega⟩
      rw [← h3] at hΦ
      rwa [show acc + (((rgf a 0).filter (fun a => (nbs T a).length == 1)).length : Int) = acc by simp [rgf]] at hΦ
    | succ m ih =>
      intro a acc h1 h2 h3
      have hdeg := h.deg a
      rw [rgf, List.filter_cons] at h3
      refine wX5_ends_4 K1 hk1.1 ⟨by omega, by omega, fun c => by omega, fun _ => ⟨by omega, c_bitCount (hk1.le (by decide)) (hL.2 a h1 (by omega)).1 ?_⟩⟩
      rw [hL.bits h ⟨h1, by omega⟩]
      refine ⟨by omega, fun c => ih (a + 1) _ (by omega) (by omega) ?_, fun c => ih (a + 1) _ (by omega) (by omega) ?_⟩
      · rw [if_neg (by simpa using (fun hh : (nbs T a).length = 1 => c (by omega)))] at h3; omega
      · rw [if_pos (by simpa using (show (nbs T a).length = 1 by omega)), List.length_cons] at h3; omega
  exact key T.1 0 0 (by decide) (by omega) (by rw [Int.zero_add]; rfl)
theorem likeF_rng {T : Tr} (a : Int) (hn : T.1 ≤ 13) : -1 ≤ likeF T a ∧ likeF T a < 13 := by
  unfold likeF
  cases e : (rg T.1).filter (fun b => cdA T b == cdA T a) with
  | nil => exact ⟨by decide, by decide⟩
  | cons x l =>
    have hx : x ∈ (rg T.1).filter (fun b => cdA T b == cdA T a) := by rw [e]; exact List.mem_cons_self
    rw [List.mem_filter, mem_rgf] at hx
    show -1 ≤ x ∧ x < 13
    omega
theorem c_unlike {T : Tr} {d : Int → Int → Int} (h : TrOk T d) {K : KM} (hk : MK K 18) {F : Nat → Int} {A : Nat → Int → Int} {Φ : PI} (hL : LM T F A) (hΦ : Φ (unlN T) F A) : RI mX5_unlike K [.ref K.m] F A Φ := by
  have hn := h.n1
  have hF := hL.1
  refine RI.w (n := 17) hk (fun K1 hk1 hS => wX5_unlike_0 K1 hk1.1 ?_)
  have key : ∀ (m : Nat) (a acc : Int), 0 ≤ a → a + (m : Int) = (T.1 : Int) → acc + (((rgf a m).filter (fun a => likeF T a == a)).length : Int) = unlN T → VM K1 mX5_unlike 4 [(0, .ref K1.m), (1, vI acc), (2, vI a)] [] F A := by
    intro m
    induction m with
    | zero =>
      intro a acc h1 h2 h3
      refine wX5_unlike_4 K1 hk1.1 ⟨by omega, by omega, fun _ => hS _ _ _ ?_, fun c => by omega⟩
      rw [← h3] at hΦ
      rwa [show acc + (((rgf a 0).filter (fun a => likeF T a == a)).length : Int) = acc by simp [rgf]] at hΦ
    | succ m ih =>
      intro a acc h1 h2 h3
      rw [rgf, List.filter_cons] at h3
      have hr := likeF_rng (T := T) a hn.2
      refine wX5_unlike_4 K1 hk1.1 ⟨by omega, by omega, fun c => by omega, fun _ => c_alikeTo h hk1 ⟨h1, by omega⟩ (q := true) hL ?_⟩
      rw [if_pos rfl]
      refine ⟨by omega, fun c => ih (a + 1) _ (by omega) (by omega) ?_, fun c => ih (a + 1) _ (by omega) (by omega) ?_⟩
      · rw [if_neg (by simpa using c)] at h3; omega
      · rw [if_pos (by simpa using c), List.length_cons] at h3; omega
  exact key T.1 0 0 (by decide) (by omega) (by rw [Int.zero_add]; rfl)
theorem chF_split (T : Tr) (b a : Int) (k : Nat) : chF T b a 0 (k + 1) = chF T b a 0 k ++ chF T b a (k : Int) 1 := by
  unfold chF
  rw [rgf_split, List.filter_append, Int.zero_add]
theorem c_waysOf {T : Tr} {d : Int → Int → Int} (h : TrOk T d) : ∀ (f : Nat) (K : KM) (b a : Int), MK K (f + 2) → Tw T d f b a → ∀ {F : Nat → Int} {A : Nat → Int → Int} {Φ : PI}, LM T F A → Φ (wys T f b a) F A → RI mX5_waysOf K [.ref K.m, vI b, vI a] F A Φ := by
  have hn := h.n1
  intro f
  induction f with
  | zero => intro K b a hk t; obtain ⟨f', h1⟩ := t.pos h; omega
  | succ f ih =>
    intro K b a hk t F A Φ hL hΦ
    have hb := t.1
    have hI : ∀ c ∈ chs T b a, Tw T d f c b := fun c hc => t.step h hc
    refine RI.w (n := f + 2) hk (fun K1 hk1 hS => wX5_waysOf_0 K1 hk1.1 ?_)
    have key : ∀ (m k : Nat) (acc : Int), k + m = T.1 → acc * wyl (fun c => nmc (cd T f c b)) (fun c => wys T f c b) (chF T b a 0 k) (chF T b a (k : Int) m) = wys T (f + 1) b a → VM K1 mX5_waysOf 5 [(0, .ref K1.m), (1, vI b), (2, vI a), (3, vI acc), (4, vI (k : Int))] [] F A := by
      intro m
      induction m with
      | zero =>
        intro k acc hkn hacc
        refine wX5_waysOf_5 K1 hk1.1 (nb_step (hk1.le (by omega)) h hL hb (by omega) (t.rIa h) (fun _ => hS _ _ _ ?_) (fun c => by omega) (fun c => by omega))
        rw [chF_zero, wyl, Int.mul_one] at hacc
        rw [hacc]; exact hΦ
      | succ m ihm =>
        intro k acc hkn hacc
        refine wX5_waysOf_5 K1 hk1.1 (nb_step (hk1.le (by omega)) h hL hb (by omega) (t.rIa h) (fun c => by omega) (fun _ c => ?_) (fun _ e c => ?_))
        · rw [chF_no c] at hacc
          have e1 : chF T b a 0 (k + 1) = chF T b a 0 k := by rw [chF_split, chF_no c]; rw [chF_zero, List.append_nil]
          have := ihm (k + 1) acc (by omega) (by rw [e1]; exact hacc)
          exact this
        · rw [chF_yes e c, wyl] at hacc
          have e1 : chF T b a 0 (k + 1) = chF T b a 0 k ++ [(k : Int)] := by rw [chF_split, chF_yes e c]; rfl
          have hkc : (k : Int) ∈ chs T b a := h.mem_chs.mpr ⟨e, c⟩
          have tk := hI _ hkc
          -- those like it
          have inner : ∀ (q j : Nat) (like : Int), j + q = k → like + (((chF T b a (j : Int) q).filter (fun x => nmc (cd T f x b) == nmc (cd T f (k : Int) b))).length : Int) = 1 + (((chF T b a 0 k).filter (fun x => nmc (cd T f x b) == nmc (cd T f (k : Int) b))).length : Int) → VM K1 mX5_waysOf 40 [(0, .ref K1.m), (1, vI b), (2, vI a), (3, vI acc), (4, vI (k : Int)), (5, vI like), (6, vI (j : Int))] [] F A := by
            intro q
            induction q with
            | zero =>
              intro j like hjq hl
              refine wX5_waysOf_40 K1 hk1.1 ⟨by omega, by omega, fun _ => ?_, fun c => by omega⟩
              have hl : like = 1 + (((chF T b a 0 k).filter (fun x => nmc (cd T f x b) == nmc (cd T f (k : Int) b))).length : Int) := by
                rw [chF_zero] at hl
                have hz : ((([] : List Int).filter (fun x => nmc (cd T f x b) == nmc (cd T f (k : Int) b))).length : Int) = 0 := rfl
                omega
              refine ih K1 k b (by exact hk1) tk hL ?_
              have := ihm (k + 1) (acc * (like * wys T f (k : Int) b)) (by omega) (by
                rw [e1, ← hacc, hl, Int.mul_assoc acc, Int.add_comm 1]; rfl)
              exact this
            | succ q ihq =>
              intro j like hjq hl
              have hn' := hL.1
              refine wX5_waysOf_40 K1 hk1.1 ⟨by omega, by omega, fun c => by omega, fun _ => ⟨by have := hb.1; have := hb.2; omega, c_has (hk1.le (by omega)) (brz (fun e2 => ?_) (fun e2 => ⟨t.rIa h, fun c2 => ?_, fun c2 => ?_⟩))⟩⟩
              · rw [(hL.2 b hb.1 (by have := hb.2; omega)).2 (j : Int) (by omega) (by omega)] at e2
                rw [chF_no (Or.inl e2)] at hl
                have := ihq (j + 1) (like + 0) (by omega) (by rw [Int.add_zero]; exact hl)
                exact this
              · rw [chF_no (Or.inr c2)] at hl
                have := ihq (j + 1) (like + 0) (by omega) (by rw [Int.add_zero]; exact hl)
                exact this
              · rw [(hL.2 b hb.1 (by have := hb.2; omega)).2 (j : Int) (by omega) (by omega)] at e2
                have hjc : (j : Int) ∈ chs T b a := h.mem_chs.mpr ⟨e2, c2⟩
                have r1 := nmc_rng (cd T f (j : Int) b)
                have r2 := nmc_rng (cd T f (k : Int) b)
                unfold P13 at r1 r2
                rw [chF_yes e2 c2, List.filter_cons] at hl
                refine c_codeOf h f K1 _ _ (hk1.le (by omega)) (hI _ hjc) hL (c_codeOf h f K1 _ _ (hk1.le (by omega)) tk hL ⟨by omega, by omega, fun c3 => ?_, fun c3 => ?_⟩)
                · rw [if_neg (by simpa using c3)] at hl
                  have := ihq (j + 1) (like + 0) (by omega) (by rw [Int.add_zero]; exact hl)
                  exact this
                · rw [if_pos (by simpa using c3), List.length_cons] at hl
                  have := ihq (j + 1) (like + 1) (by omega) (by rw [show ((j + 1 : Nat) : Int) = (j : Int) + 1 by omega]; omega)
                  exact this
          exact inner k 0 1 (by omega) rfl
    have := key T.1 0 1 (by omega) (by
      rw [Int.one_mul, show ((0 : Nat) : Int) = 0 from rfl, chF_all, chF_zero]; rfl)
    exact this
theorem addN_len (k : Int) (l : List Int) : (addN k l).length ≤ l.length + 1 := by
  unfold addN
  split
  · omega
  · rw [List.length_append]; exact Nat.le_refl _
theorem c_more {T : Tr} {d : Int → Int → Int} (h : TrOk T d) (h12 : T.1 ≤ 12) {K : KM} (hk : MK K 18) {F : Nat → Int} {A : Nat → Int → Int} {Φ : PI} (hL : LM T F A) (hΦ : ∀ F' A', agF [1] F F' → agA [0, 5] A A' → LM T F' A' → Φ ((moreL T).length : Int) F' A') : RI mX5_more K [.ref K.m] F A Φ := by
  have hn := h.n1
  have hF := hL.1
  refine RI.w (n := 17) hk (fun K1 hk1 hS => wX5_more_0 K1 hk1.1 ?_)
  rw [hF]
  have key : ∀ (m : Nat) (a : Int) (L : List Int) (F' : Nat → Int) (A' : Nat → Int → Int), 0 ≤ a → a + (m : Int) = (T.1 : Int) → L.length ≤ a.toNat → (∀ x ∈ L, rI x) → agF [1] F F' → agA [0, 5] A A' → LM T F' A' → arr (A' 5) 0 L → (rgf a m).foldl (fun l a => if (nbs T a).length = 4 then l else addN (keyT (grT T a)) l) L = moreL T → VM K1 mX5_more 9 [(0, .ref K1.m), (1, vI (L.length : Int)), (2, vI (T.1 : Int)), (3, vI a)] [] F' A' := by
    intro m
    induction m with
    | zero =>
      intro a L F' A' h1 h2 h3 h4 h5 h6 h7 h8 h9
      have h9 : L = moreL T := h9
      refine wX5_more_9 K1 hk1.1 ⟨by omega, by omega, fun _ => hS _ _ _ ?_, fun c => by omega⟩
      rw [h9]; exact hΦ F' A' h5 h6 h7
    | succ m ih =>
      intro a L F' A' h1 h2 h3 h4 h5 h6 h7 h8 h9
      have ha : inT T a := ⟨h1, by omega⟩
      have hdeg := h.deg a
      rw [rgf, List.foldl_cons] at h9
      refine wX5_more_9 K1 hk1.1 ⟨by omega, by omega, fun c => by omega, fun _ => ⟨by omega, c_bitCount (hk1.le (by decide)) (h7.2 a h1 (by omega)).1 ?_⟩⟩
      rw [h7.bits h ⟨h1, by omega⟩]
      refine ⟨by omega, fun c => ⟨by omega, c_binds (hk1.le (by decide)) ⟨h1, by omega⟩ ⟨by omega, by omega⟩ fun A2 k1 k2 => ?_⟩, fun c => ?_⟩
      · rw [if_neg (by omega)] at h9
        have hg := h.grow ha (by omega) (by omega)
        have hz := BB.zero h h7.2 (Int.le_refl (T.1 : Int))
        have hB : BB (grT T a) (A2 0) := by
          rw [k2, upA_eq]; exact BB.grow hz ⟨h1, by omega⟩ (by omega)
        have hLg : LM (grT T a) (upN F' 1 ((T.1 : Int) + 1)) A2 := ⟨by rw [upN_eq, grT_n]; omega, hB⟩
        have hkr := keyT_rng (grT T a)
        unfold P13 at hkr
        refine c_keyNow hg (hk1.le (by decide)) hLg ?_
        -- the atom is taken away again
        have hback : BB T ((upA (upA A2 0 a (iand (A2 0 a) (ixor (ishl 1 (T.1 : Int)) (-1)))) 0 (T.1 : Int) 0) 0) := by
          rw [upA_eq, upA_eq]
          intro x x1 x2
          by_cases ex : x = (T.1 : Int)
          · rw [ex, upZ_eq]
            refine ⟨by decide, fun y y1 y2 => ?_⟩
            rw [hasB_zero ⟨y1, by omega⟩]
            cases e2 : T.2 (T.1 : Int) y with
            | false => rfl
            | true => have := (h.rng e2).1; omega
          · rw [upZ_ne _ _ ex]
            by_cases ex2 : x = a
            · rw [ex2, upZ_eq]
              have hBa := hB a h1 (by omega)
              refine ⟨sm_iclr hBa.1 ⟨by omega, by omega⟩, fun y y1 y2 => ?_⟩
              rw [hasB_clr hBa.1 ⟨by omega, by omega⟩ ⟨y1, by omega⟩, hBa.2 y y1 y2, Bool.eq_iff_iff, Bool.and_eq_true, grT_iff]
              constructor
              · rintro ⟨q1 | q1 | q1, q2⟩
                · exact q1
                · rw [q1.2] at q2; simp at q2
                · omega
              · intro q1
                refine ⟨Or.inl q1, ?_⟩
                have := (h.rng q1).2
                simp; omega
            · rw [upZ_ne _ _ ex2]
              have hBx := hB x x1 x2
              refine ⟨hBx.1, fun y y1 y2 => ?_⟩
              rw [hBx.2 y y1 y2, Bool.eq_iff_iff, grT_iff]
              constructor
              · rintro (q1 | q1 | q1)
                · exact q1
                · exact absurd q1.1 ex2
                · exact absurd q1.1 ex
              · exact Or.inl
        have hLb : LM T (upN (upN F' 1 ((T.1 : Int) + 1)) 1 (T.1 : Int)) (upA (upA A2 0 a (iand (A2 0 a) (ixor (ishl 1 (T.1 : Int)) (-1)))) 0 (T.1 : Int) 0) := ⟨upN_eq _ _ _, hback⟩
        have hAb : agA [0, 5] A (upA (upA A2 0 a (iand (A2 0 a) (ixor (ishl 1 (T.1 : Int)) (-1)))) 0 (T.1 : Int) 0) := (((h6.up (by decide)).tr (k1.sb (by decide))).up (by decide)).up (by decide)
        have hFb : agF [1] F (upN (upN F' 1 ((T.1 : Int) + 1)) 1 (T.1 : Int)) := (h5.up (by decide)).up (by decide)
        have h5b : (upA (upA A2 0 a (iand (A2 0 a) (ixor (ishl 1 (T.1 : Int)) (-1)))) 0 (T.1 : Int) 0) 5 = A' 5 := by
          rw [upA_ne _ _ _ (by decide), upA_ne _ _ _ (by decide), k1 5 (by decide), upA_ne _ _ _ (by decide)]
        generalize upN (upN F' 1 ((T.1 : Int) + 1)) 1 (T.1 : Int) = F5 at hLb hFb ⊢
        generalize upA (upA A2 0 a (iand (A2 0 a) (ixor (ishl 1 (T.1 : Int)) (-1)))) 0 (T.1 : Int) 0 = A5 at hLb hAb h5b ⊢
        have h8b : arr (A5 5) 0 L := by rw [h5b]; exact h8
        -- whether it is new
        have look : ∀ (q : Nat) (j : Nat) (isNew : Bool), j + q = L.length → (isNew = false ↔ ∃ i : Nat, i < j ∧ L.getD i 0 = keyT (grT T a)) → VM K1 mX5_more 88 [(0, .ref K1.m), (1, vI (L.length : Int)), (2, vI (T.1 : Int)), (3, vI a), (4, vI (keyT (grT T a))), (5, vI (bz isNew)), (6, vI (j : Int))] [] F5 A5 := by
          intro q
          induction q with
          | zero =>
            intro j isNew hjq hnew
            refine wX5_more_88 K1 hk1.1 ⟨by omega, by omega, fun _ => brz (fun e => ?_) (fun e => ⟨by omega, ?_⟩), fun c => by omega⟩
            · obtain ⟨i, hi, hk9⟩ := hnew.mp e
              have hm : keyT (grT T a) ∈ L := by rw [← hk9]; exact getD_mem (by omega)
              have e5 : addN (keyT (grT T a)) L = L := by unfold addN; rw [if_pos hm]
              rw [e5] at h9
              exact ih (a + 1) L F5 A5 (by omega) (by omega) (by omega) h4 hFb hAb hLb h8b h9
            · have hm : ¬ keyT (grT T a) ∈ L := fun hm => by
                obtain ⟨i, hi, hk9⟩ := mem_getD hm
                have := hnew.mpr ⟨i, by omega, hk9⟩
                rw [e] at this; cases this
              have e5 : addN (keyT (grT T a)) L = L ++ [keyT (grT T a)] := by unfold addN; rw [if_neg hm]
              rw [e5] at h9
              have := ih (a + 1) (L ++ [keyT (grT T a)]) F5 (upA A5 5 (L.length : Int) (keyT (grT T a))) (by omega) (by omega) (by rw [List.length_append, List.length_singleton]; omega) (fun x hx => ?_) hFb (hAb.up (by decide)) ⟨hLb.1, by rw [upA_ne _ _ _ (by decide)]; exact hLb.2⟩ (fun i hi => ?_) h9
              · rw [List.length_append, List.length_singleton] at this
                exact this
              · rcases List.mem_append.mp hx with hx | hx
                · exact h4 x hx
                · rw [List.mem_singleton.mp hx]; exact ⟨by omega, by omega⟩
              · rw [List.length_append, List.length_singleton] at hi
                rw [getD_append]
                by_cases hi2 : i < L.length
                · rw [if_pos hi2, upA_off _ _ _ (by omega)]; exact h8b i hi2
                · rw [if_neg hi2, show i = L.length by omega, Int.zero_add, upA_at, Nat.sub_self]; rfl
          | succ q ihq =>
            intro j isNew hjq hnew
            have e6 : A5 5 (j : Int) = L.getD j 0 := by have := h8b j (by omega); rwa [Int.zero_add] at this
            have hjr := h4 _ (getD_mem (l := L) (i := j) (by omega))
            refine wX5_more_88 K1 hk1.1 ⟨by omega, by omega, fun c => by omega, fun _ => brz (fun e => ?_) (fun e => ⟨by omega, by rw [e6]; exact hjr, by omega, fun c => ?_, fun c => ?_⟩)⟩
            · have := ihq (j + 1) false (by omega) ⟨fun _ => by obtain ⟨i, hi, hk9⟩ := hnew.mp e; exact ⟨i, by omega, hk9⟩, fun _ => rfl⟩
              exact this
            · rw [e6] at c
              have := ihq (j + 1) false (by omega) ⟨fun _ => ⟨j, by omega, c⟩, fun _ => rfl⟩
              exact this
            · rw [e6] at c
              have := ihq (j + 1) true (by omega) ⟨fun hh => (Bool.noConfusion hh), fun ⟨i, hi, hk9⟩ => by
                rcases Nat.lt_or_ge i j with g3 | g3
                · rw [hnew.mpr ⟨i, g3, hk9⟩] at e; cases e
                · rw [show i = j by omega] at hk9; exact absurd hk9 c⟩
              exact this
        exact look L.length 0 true (by omega) ⟨fun hh => (Bool.noConfusion hh), fun ⟨i, hi, _⟩ => by omega⟩
      · rw [if_pos (by omega)] at h9
        exact ih (a + 1) L F' A' (by omega) (by omega) (by omega) h4 h5 h6 h7 h8 h9
  exact key T.1 0 [] F A (by decide) (by omega) (Nat.zero_le _) (fun _ hx => by cases hx) (agF.rf _ _) (agA.rf _ _) hL (fun i hi => by cases hi) rfl
theorem c_longest {T : Tr} {d : Int → Int → Int} (h : TrOk T d) {K : KM} (hk : MK K 15) {F : Nat → Int} {A : Nat → Int → Int} {Φ : PI} (hL : LM T F A) (hΦ : Φ (longN T) F A) : RI mX5_longest K [.ref K.m] F A Φ := by
  have hn := h.n1
  have hF := hL.1
  refine RI.w (n := 14) hk (fun K1 hk1 hS => wX5_longest_0 K1 hk1.1 ?_)
  have key : ∀ (m : Nat) (a acc : Int), 0 ≤ a → a + (m : Int) = (T.1 : Int) → 0 ≤ acc → acc < 13 → max acc (maxI ((rgf a m).map fun a => dpA T a)) + 1 = longN T → VM K1 mX5_longest 4 [(0, .ref K1.m), (1, vI acc), (2, vI a)] [] F A := by
    intro m
    induction m with
    | zero =>
      intro a acc h1 h2 h3 h4 h5
      refine wX5_longest_4 K1 hk1.1 ⟨by omega, by omega, fun _ => hS _ _ _ ?_, fun c => by omega⟩
      have h5 : max acc 0 + 1 = longN T := h5
      rw [show acc + 1 = longN T by omega]; exact hΦ
    | succ m ih =>
      intro a acc h1 h2 h3 h4 h5
      have ha : inT T a := ⟨h1, by omega⟩
      have hr := dpA_rng h ha
      rw [rgf, List.map_cons, maxI_cons] at h5
      refine wX5_longest_4 K1 hk1.1 ⟨by omega, by omega, fun c => by omega, fun _ => c_deepA h hk1 ha hL ⟨by omega, by omega, by have := hk1.2.2; omega, ih (a + 1) _ (by omega) (by omega) (by omega) (by omega) (by omega)⟩⟩
  have h0 := maxI_ge ((rg T.1).map fun a => dpA T a)
  exact key T.1 0 0 (by decide) (by omega) (by decide) (by decide) (by show max 0 (maxI ((rg T.1).map fun a => dpA T a)) + 1 = maxI ((rg T.1).map fun a => dpA T a) + 1; omega)
