set_option maxRecDepth 100000
/-! all lists of the reference -/
abbrev LsAt (n : Nat) (l : List Int) (A : Nat → Int → Int) : Prop := A 4 (n : Int) = (l.length : Int) ∧ arr (A 3) (80 * (n : Int)) l
abbrev ML (F : Nat → Int) (A : Nat → Int → Int) : Prop := F 9 = 1 ∧ ∀ n, 1 ≤ n → n ≤ 10 → LsAt n (lst n) A
abbrev ML0 (F : Nat → Int) (A : Nat → Int → Int) : Prop := F 9 = 0 ∧ ∀ n : Nat, 1 ≤ n → n ≤ 10 → A 4 (n : Int) = 0
def MLL (F : Nat → Int) (A : Nat → Int → Int) : Prop := ML F A ∨ ML0 F A
abbrev Lf : List Nat := [1, 6, 7, 8, 9]
abbrev La : List Nat := [0, 3, 4]
theorem LsAt.fr {n : Nat} {l : List Int} {A A' : Nat → Int → Int} (h : LsAt n l A) (h4 : A' 4 (n : Int) = A 4 (n : Int)) (h3 : ∀ z, 80 * (n : Int) ≤ z → z < 80 * (n : Int) + (l.length : Int) → A' 3 z = A 3 z) : LsAt n l A' := ⟨h4.trans h.1, h.2.ext h3⟩
theorem c_lists (hLO : LstOk) {K : KM} (hk : MK K 20) {F : Nat → Int} {A : Nat → Int → Int} {Φ : PV} (hL : MLL F A) (hΦ : ∀ F' A', agF Lf F F' → agA La A A' → ML F' A' → Φ F' A') : RV mX5_lists K [.ref K.m] F A Φ := by
  refine RV.w (n := 19) hk (fun K1 hk1 hS => wX5_lists_0 K1 hk1.1 ?_)
  rcases hL with hL | hL
  · exact ⟨by rw [hL.1]; decide, fun c => by rw [hL.1] at c; exact absurd c (by decide), fun _ => hS _ _ (hΦ F A (agF.rf _ _) (agA.rf _ _) hL)⟩
  -- what holds ahead of the list of N
  let Inv (N : Nat) (acc : List Int) (F' : Nat → Int) (A' : Nat → Int → Int) : Prop := agF Lf F F' ∧ agA La A A' ∧ F' 9 = 1 ∧ (∀ m, 1 ≤ m → m < N → LsAt m (lst m) A') ∧ LsAt N acc A' ∧ (∀ m : Nat, N < m → m ≤ 10 → A' 4 (m : Int) = 0)
  -- one key more
  have keep1 : ∀ (N : Nat) (acc : List Int) (key : Int) (F' : Nat → Int) (A' A2 : Nat → Int → Int), 1 ≤ N → N ≤ 10 → Inv N acc F' A' → agA [3, 4] A' A2 → (∀ m : Int, m ≠ (N : Int) → A2 4 m = A' 4 m) → (∀ z, (z < 80 * (N : Int) ∨ 80 * (N : Int) + 80 ≤ z) → A2 3 z = A' 3 z) → A2 4 (N : Int) = ((insU key acc).length : Int) → arr (A2 3) (80 * (N : Int)) (insU key acc) → Inv N (insU key acc) F' A2 := by
    intro N acc key F' A' A2 hN1 hN h1 h2 h3 h4 h5 h6
    obtain ⟨g1, g2, g3, g4, g5, g6⟩ := h1
    refine ⟨g1, g2.tr (h2.sb (by decide)), g3, fun m hm1 hm2 => ?_, ⟨h5, h6⟩, fun m hm1 hm2 => ?_⟩
    · have hlen := (hLO m hm1 (by omega)).1
      exact (g4 m hm1 hm2).fr (h3 _ (by omega)) (fun z hz1 hz2 => h4 z (Or.inl (by omega)))
    · rw [h3 _ (by omega)]; exact g6 m hm1 hm2
  -- the list of n + 1 out of the list of n
  have outer : ∀ (j n : Nat), 1 ≤ n → n + j = 10 → ∀ (F' : Nat → Int) (A' : Nat → Int → Int), (agF Lf F F' ∧ agA La A A' ∧ F' 9 = 1 ∧ (∀ m, 1 ≤ m → m < n + 1 → LsAt m (lst m) A') ∧ (∀ m : Nat, n < m → m ≤ 10 → A' 4 (m : Int) = 0)) → VM K1 mX5_lists 21 [(0, .ref K1.m), (1, vI ((n + 1 : Nat) : Int))] [] F' A' := by
    intro j
    induction j with
    | zero =>
      intro n hn1 hn F' A' hI
      obtain ⟨g1, g2, g3, g4, g6⟩ := hI
      refine wX5_lists_21 K1 hk1.1 ⟨by omega, fun _ => hS _ _ (hΦ F' A' g1 g2 ⟨g3, fun m hm1 hm2 => g4 m hm1 (by omega)⟩), fun c => by omega⟩
    | succ j ihj =>
      intro n hn1 hn F' A' hI
      refine wX5_lists_21 K1 hk1.1 ⟨by omega, fun c => by omega, fun _ => ?_⟩
      have hLn := hLO n hn1 (by omega)
      have hLN := hLO (n + 1) (by omega) (by omega)
      have en : ((n + 1 : Nat) : Int) - 1 = (n : Int) := by omega
      have elst : lst (n + 1) = (lst n).foldl (addV n) [] := by
        obtain ⟨k, rfl⟩ : ∃ k, n = k + 1 := ⟨n - 1, by omega⟩
        rfl
      -- over the keys
      have mid : ∀ (i : Nat) (r acc : List Int) (F' : Nat → Int) (A' : Nat → Int → Int), (lst n).drop i = r → i ≤ (lst n).length → r.foldl (addV n) acc = lst (n + 1) → DR acc → Inv (n + 1) acc F' A' → VM K1 mX5_lists 29 [(0, .ref K1.m), (1, vI ((n + 1 : Nat) : Int)), (2, vI (i : Int))] [] F' A' := by
        intro i r
        induction r generalizing i with
        | nil =>
          intro acc F' A' hr hi hf hd hI
          have hi2 : i = (lst n).length := by
            have := congrArg List.length hr
            rw [List.length_drop, List.length_nil] at this
            omega
          obtain ⟨g1, g2, g3, g4, g5, g6⟩ := id hI
          have e4 := (g4 n hn1 (by omega)).1
          refine wX5_lists_29 K1 hk1.1 ?_
          rw [en, e4]
          refine ⟨by omega, by omega, by omega, fun _ => ?_, fun c => by omega⟩
          have hf : acc = lst (n + 1) := hf
          have h5 := ihj (n + 1) (by omega) (by omega) F' A' ⟨g1, g2, g3, fun m hm1 hm2 => ?_, fun m hm1 hm2 => g6 m (by omega) hm2⟩
          · exact h5
          · rcases Nat.lt_or_ge m (n + 1) with h6 | h6
            · exact g4 m hm1 h6
            · rw [show m = n + 1 by omega, ← hf]; exact g5
        | cons v r ihr =>
          intro acc F' A' hr hi hf hd hI
          have hi2 : i < (lst n).length := by
            have := congrArg List.length hr
            rw [List.length_drop, List.length_cons] at this
            omega
          have hv : (lst n).getD i 0 = v := by
            rw [List.getD_eq_getElem?_getD, ← List.head?_drop, hr]; rfl
          have hvm : v ∈ lst n := by rw [← hv]; exact getD_mem hi2
          have hr2 : (lst n).drop (i + 1) = r := by
            rw [← List.tail_drop, hr]; rfl
          obtain ⟨hv0, hv5, C, hC⟩ := hLn.2 v hvm
          obtain ⟨d, hT⟩ := canT_ok hn1 (by omega) hC
          have hCn := (canT_some hC).2.1
          have hp := p5_le (x := (n : Int)) (by omega)
          refine wX5_lists_29 K1 hk1.1 ?_
          rw [en, (hI.2.2.2.1 n hn1 (by omega)).1]
          refine ⟨by omega, by omega, by omega, fun c => by omega, fun _ => ?_⟩
          rw [List.foldl_cons] at hf
          have hf : r.foldl (addV n) ((rg n).foldl (addA C) acc) = lst (n + 1) := by
            have e : addV n acc v = (rg n).foldl (addA C) acc := by unfold addV; rw [hC]
            rw [← e]; exact hf
          -- over the atoms
          have inner : ∀ (m : Nat) (a : Int) (acc : List Int) (F' : Nat → Int) (A' : Nat → Int → Int), 0 ≤ a → a + (m : Int) = (n : Int) → r.foldl (addV n) ((rgf a m).foldl (addA C) acc) = lst (n + 1) → DR acc → Inv (n + 1) acc F' A' → VM K1 mX5_lists 43 [(0, .ref K1.m), (1, vI ((n + 1 : Nat) : Int)), (2, vI (i : Int)), (3, vI a)] [] F' A' := by
            intro m
            induction m with
            | zero =>
              intro a acc F' A' h1 h2 hf hd hI
              refine wX5_lists_43 K1 hk1.1 ?_
              rw [en]
              exact ⟨by omega, by omega, fun _ => ihr (i + 1) acc F' A' hr2 (by omega) hf hd hI, fun c => by omega⟩
            | succ m ihm =>
              intro a acc F' A' h1 h2 hf hd hI
              refine wX5_lists_43 K1 hk1.1 ?_
              have hL3 := hI.2.2.2.1 n hn1 (by omega)
              rw [en, hL3.2 i hi2, hv]
              have hlen : acc.length < 80 := by
                have h6 := fold_len (addA_len C) (rgf a (m + 1)) acc
                have h7 := fold_len (addV_len n) r ((rgf a (m + 1)).foldl (addA C) acc)
                rw [hf] at h7
                omega
              rw [rgf, List.foldl_cons] at hf
              refine ⟨by omega, by omega, fun c => by omega, fun _ => ⟨by omega, c_comesFrom (hk1.le (by decide)) hn1 (by omega) (by omega) (fun hno => ?_) (fun C2 q1 q2 q3 F2 A2 k1 k2 k3 => ?_)⟩⟩
              · rcases hno with hno | hno | hno
                · omega
                · omega
                · rw [hC] at hno; cases hno
              · cases hC.symm.trans q3
                have hI2 : Inv (n + 1) acc F2 A2 := by
                  obtain ⟨g1, g2, g3, g4, g5, g6⟩ := hI
                  have e3 : A2 3 = A' 3 := k2 3 (by decide)
                  have e4 : A2 4 = A' 4 := k2 4 (by decide)
                  refine ⟨g1.tr (k1.sb (by decide)), g2.tr (k2.sb (by decide)), by rw [k1 9 (by decide)]; exact g3, fun m hm1 hm2 => ?_, ?_, fun m hm1 hm2 => ?_⟩
                  · have := g4 m hm1 hm2
                    exact ⟨by rw [e4]; exact this.1, by rw [e3]; exact this.2⟩
                  · exact ⟨by rw [e4]; exact g5.1, by rw [e3]; exact g5.2⟩
                  · rw [e4]; exact g6 m hm1 hm2
                refine ⟨by omega, c_bitCount (hk1.le (by decide)) (k3.2 a h1 (by omega)).1 ?_⟩
                rw [k3.bits hT ⟨h1, by omega⟩]
                have hdeg := hT.deg a
                refine ⟨by omega, fun c => ?_, fun c => ?_⟩
                · have e : addA C acc a = acc := by unfold addA; rw [if_neg (by omega)]
                  rw [e] at hf
                  exact ihm (a + 1) acc F2 A2 (by omega) (by omega) hf hd hI2
                · have e : addA C acc a = insU (keyT (grT C a)) acc := by unfold addA; rw [if_pos (by omega)]
                  rw [e] at hf
                  refine c_binds (hk1.le (by decide)) (by omega) (by omega) fun A3 k4 k5 => ?_
                  have haC : inT C a := ⟨h1, by omega⟩
                  have hg := hT.grow haC (by omega) (by omega)
                  have hLM : LM (grT C a) (upN F2 1 ((n + 1 : Nat) : Int)) A3 := by
                    refine ⟨by rw [upN_eq, grT_n, hCn], ?_⟩
                    rw [k5, ← hCn]
                    exact BB.grow k3.2 (by omega) (by omega)
                  have hkr := keyT_rng (grT C a)
                  unfold P13 at hkr
                  have hI3 : Inv (n + 1) acc (upN F2 1 ((n + 1 : Nat) : Int)) A3 := by
                    obtain ⟨g1, g2, g3, g4, g5, g6⟩ := hI2
                    have e3 : A3 3 = A2 3 := k4 3 (by decide)
                    have e4 : A3 4 = A2 4 := k4 4 (by decide)
                    refine ⟨g1.up (by decide), g2.tr (k4.sb (by decide)), by rw [upN_ne _ _ (by decide)]; exact g3, fun m hm1 hm2 => ?_, ?_, fun m hm1 hm2 => ?_⟩
                    · have := g4 m hm1 hm2
                      exact ⟨by rw [e4]; exact this.1, by rw [e3]; exact this.2⟩
                    · exact ⟨by rw [e4]; exact g5.1, by rw [e3]; exact g5.2⟩
                    · rw [e4]; exact g6 m hm1 hm2
                  refine c_keyNow hg (hk1.le (by decide)) hLM (c_keeps (hk1.le (by decide)) (by omega) (by omega) hd.1 hd.2 hlen hI3.2.2.2.2.1.1 hI3.2.2.2.2.1.2 fun A4 q4 q5 q6 q7 q8 => ?_)
                  exact ihm (a + 1) _ _ A4 (by omega) (by omega) hf (hd.ins (by omega)) (keep1 (n + 1) acc _ _ A3 A4 (by omega) (by omega) hI3 q4 q5 q6 q7 q8)
          exact inner n 0 acc F' A' (by decide) (by omega) hf hd hI
      exact mid 0 (lst n) [] F' A' rfl (Nat.zero_le _) elst.symm ⟨List.Pairwise.nil, fun _ h => by cases h⟩ ⟨hI.1, hI.2.1, hI.2.2.1, hI.2.2.2.1, ⟨hI.2.2.2.2 (n + 1) (by omega) (by omega), fun i hi => by cases hi⟩, fun m hm1 hm2 => hI.2.2.2.2 m (by omega) hm2⟩
  refine ⟨by rw [hL.1]; decide, fun _ => ?_, fun c => absurd hL.1 c⟩
  have hI0 : Inv 1 [] (upN F 9 1) A := ⟨(agF.rf _ _).up (by decide), agA.rf _ _, upN_eq _ _ _, fun m h1 h2 => by omega, ⟨hL.2 1 (by decide) (by decide), fun i hi => by cases hi⟩, fun m h1 h2 => hL.2 m (by omega) h2⟩
  refine c_keeps (n := 1) (l := []) (hk1.le (by decide)) (by decide) (by decide) List.Pairwise.nil (fun _ h => by cases h) (by decide) hI0.2.2.2.2.1.1 hI0.2.2.2.2.1.2 fun A2 q4 q5 q6 q7 q8 => ?_
  have hI1 := keep1 1 [] 0 _ A A2 (by decide) (by decide) hI0 q4 q5 q6 q7 q8
  obtain ⟨g1, g2, g3, g4, g5, g6⟩ := hI1
  refine outer 9 1 (by decide) (by decide) _ A2 ⟨g1, g2, g3, fun m h1 h2 => ?_, fun m h1 h2 => g6 m (by omega) h2⟩
  rw [show m = 1 by omega]
  exact g5
