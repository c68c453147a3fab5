set_option maxRecDepth 100000
/-! names, chains and twigs: the reference -/
theorem top_tw {T : Tr} {d : Int → Int → Int} (h : TrOk T d) : Tw T d 13 0 (-1) := Tw.top ⟨Int.le_refl _, by have := h.n1; omega⟩ h.n1.2
theorem c_namesTree {T : Tr} {d : Int → Int → Int} (h : TrOk T d) (h12 : T.1 ≤ 12) {K : KM} (hk : MK K 57) {F : Nat → Int} {A : Nat → Int → Int} {Φ : PI} (hL : LM T F A) (hΦ : ∀ F' A', agF [16, 19, 26] F F' → agA [8, 9, 10, 11, 12, 13, 14, 15, 16, 17] A A' → arr (A' 10) 0 (nmT T) → (nmT T).length ≤ 228 → Φ ((nmT T).length : Int) F' A') : RI mX5_namesTree K [.ref K.m] F A Φ := by
  have hS := szT_tree h (b := 0) (top_tw h).1
  have hnl := nm_len h 12 0 (-1) (top_tw h) (by omega)
  refine RI.w (n := 56) hk (fun K1 hk1 hS1 => wX5_namesTree_0 K1 hk1.1 (nmc_all h h12 12 K1 0 (-1) _ A _ hk1 (top_tw h) (by omega) ⟨by rw [upN_ne _ _ (by decide), upN_ne _ _ (by decide)]; exact hL.1, hL.2⟩ (by rw [upN_eq]; omega) (by rw [upN_ne _ _ (by decide), upN_eq]; omega) fun F' A' g1 g2 g3 => hS1 _ _ _ (hΦ F' A' ?_ g2.1 ?_ (by show (nm T 12 0 (-1)).length ≤ 228; omega))))
  · exact (((agF.rf _ _).up (by decide)).up (by decide)).tr (g1.sb (by decide))
  · have := g3.2
    rw [upN_ne _ _ (by decide), upN_eq] at this
    exact this
theorem o_name {K : KM} (hk : MK K 60) {s : Sg} {F : Nat → Int} {A : Nat → Int → Int} (hV : SgOk s) (hM : MS s F A) {x : Int} (hx : rI x) {Φ : PI} (h : ∀ F' A', MS s F' A' → Φ (opName s x) F' A') : RI mX5_name K [.ref K.m, vI x] F A Φ := by
  obtain ⟨⟨d, hT⟩, h12, -⟩ := hV
  refine RI.w (n := 59) hk (fun K1 hk1 hS => wX5_name_0 K1 hk1.1 (c_looksD (hk1.le (by decide)) hM.1 fun F1 A1 g1 g2 _ g3 => c_namesTree hT h12 (hk1.le (by decide)) g3 fun F2 A2 k1 k2 k3 k4 => ?_))
  have hM2 : MS s F2 A2 := ⟨(hM.1.fr (g1.sb (by decide)) (g2.sb (by decide))).fr (k1.sb (by decide)) (k2.sb (by decide)), hM.2.fr ((k1 9 (by decide)).trans (g1 9 (by decide))) ((k2 3 (by decide)).trans (g2 3 (by decide))) ((k2 4 (by decide)).trans (g2 4 (by decide)))⟩
  have h := h F2 A2 hM2
  unfold opName nmAt at h
  refine ⟨hx, fun c => ⟨by omega, ?_⟩, fun c => hS _ _ _ ?_⟩
  · rw [if_neg c] at h
    refine c_isInM (hk1.le (by decide)) (by omega) (by decide) (by omega) (brz (fun e => hS _ _ _ ?_) (fun e => ?_))
    · rwa [if_neg (of_decide_eq_false e)] at h
    · have he := of_decide_eq_true e
      rw [if_pos he] at h
      have := k3 x.toNat (by omega)
      rw [show (0 : Int) + ((x.toNat : Nat) : Int) = x by omega] at this
      refine ⟨by omega, hS _ _ _ ?_⟩
      rwa [this]
  · rwa [if_pos c] at h
theorem o_named (hLO : LstOk) {K : KM} (hk : MK K 60) {s : Sg} {F : Nat → Int} {A : Nat → Int → Int} (hM : MS s F A) {n i x : Int} (hn : rI n) (hi : rI i) (hx : rI x) {Φ : PI} (h : ∀ F' A', MS s F' A' → Φ (opNamed n i x) F' A') : RI mX5_named K [.ref K.m, vI n, vI i, vI x] F A Φ := by
  refine RI.w (n := 59) hk (fun K1 hk1 hS => wX5_named_0 K1 hk1.1 (c_isListed hLO (hk1.le (by decide)) hM.2 hn hi fun F1 A1 g1 g2 g3 => ?_))
  have hM1 : MS s F1 A1 := ⟨hM.1.fr (g1.sb (by decide)) (g2.sb (by decide)), Or.inl g3⟩
  refine brz' (fun e => ?_) (fun e => hS _ _ _ ?_)
  · obtain ⟨C, hC, ⟨d, hT⟩, hC1, -⟩ := lst_tree hLO e
    have hnn := (isLd_iff.mp e).1
    refine c_looksAt hLO (hk1.le (by decide)) g3 e hC fun F2 A2 k1 k2 k3 => c_namesTree hT (by omega) (hk1.le (by decide)) k3 fun F3 A3 j1 j2 j3 j4 => ?_
    have hM3 : MS s F3 A3 := ⟨(hM1.1.fr (k1.sb (by decide)) (k2.sb (by decide))).fr (j1.sb (by decide)) (j2.sb (by decide)), hM1.2.fr ((j1 9 (by decide)).trans (k1 9 (by decide))) ((j2 3 (by decide)).trans (k2 3 (by decide))) ((j2 4 (by decide)).trans (k2 4 (by decide)))⟩
    have h := h F3 A3 hM3
    unfold opNamed nmAt at h
    rw [if_pos e, hC] at h
    dsimp only at h
    refine ⟨hx, fun c => ⟨by omega, ?_⟩, fun c => hS _ _ _ ?_⟩
    · rw [if_neg c] at h
      refine c_isInM (hk1.le (by decide)) (by omega) (by decide) (by omega) (brz (fun e => hS _ _ _ ?_) (fun e => ?_))
      · rwa [if_neg (of_decide_eq_false e)] at h
      · have he := of_decide_eq_true e
        rw [if_pos he] at h
        have := j3 x.toNat (by omega)
        rw [show (0 : Int) + ((x.toNat : Nat) : Int) = x by omega] at this
        refine ⟨by omega, hS _ _ _ ?_⟩
        rwa [this]
    · rwa [if_pos c] at h
  · have := h F1 A1 hM1
    unfold opNamed at this
    rwa [if_neg (by rw [e]; decide)] at this
theorem o_chain {K : KM} (hk : MK K 60) {s : Sg} {F : Nat → Int} {A : Nat → Int → Int} (hV : SgOk s) (hM : MS s F A) {x : Int} (hx : rI x) {Φ : PI} (h : ∀ F' A', MS s F' A' → Φ (opChain s x) F' A') : RI mX5_chain K [.ref K.m, vI x] F A Φ := by
  obtain ⟨⟨d, hT⟩, h12, -⟩ := hV
  refine RI.w (n := 59) hk (fun K1 hk1 hS => wX5_chain_0 K1 hk1.1 (c_looksD (hk1.le (by decide)) hM.1 fun F1 A1 g1 g2 _ g3 => c_findsBest hT (hk1.le (by decide)) (top_tw hT) ⟨by rw [upN_ne _ _ (by decide)]; exact g3.1, g3.2⟩ (by rw [upN_eq]; decide) fun F2 A2 k1 k2 k3 k4 k5 => ?_))
  rw [upN_eq] at k5
  have k0 : agF [16, 26] F1 F2 := ((agF.rf _ _).up (by decide)).tr (k1.sb (by decide))
  have hM2 : MS s F2 A2 := ⟨(hM.1.fr (g1.sb (by decide)) (g2.sb (by decide))).fr (k0.sb (by decide)) (k2.sb (by decide)), hM.2.fr ((k0 9 (by decide)).trans (g1 9 (by decide))) ((k2 3 (by decide)).trans (g2 3 (by decide))) ((k2 4 (by decide)).trans (g2 4 (by decide)))⟩
  have h := h F2 A2 hM2
  unfold opChain at h
  rcases k5 with ⟨h1, -⟩ | ⟨L, r, h1, h2, h3, h4, h5, h6, h7⟩
  · exact absurd h1 (bstK_ne hT (top_tw hT))
  rw [h1] at h
  have e0 : (L :: (r.length : Int) :: r.map fun z => -z).getD 0 0 = L := rfl
  have e1 : (L :: (r.length : Int) :: r.map fun z => -z).getD 1 0 = (r.length : Int) := rfl
  rw [e0, e1] at h
  refine ⟨hx, c_isInM (hk1.le (by decide)) (by omega) (by decide) (by decide) (brz (fun e => ?_) (fun e => ?_))⟩
  · have he := of_decide_eq_false e
    rw [if_neg (by omega), if_neg (by omega)] at h
    rw [h6]
    refine ⟨fun c => hS _ _ _ ?_, fun c => ⟨by omega, by omega, fun c2 => hS _ _ _ ?_, fun c2 => ⟨by omega, hS _ _ _ ?_⟩⟩⟩
    · rwa [if_neg (by omega)] at h
    · rwa [if_neg (by omega)] at h
    · rw [if_pos (by omega)] at h
      have e2 := h7 (x.toNat - 10) (by omega)
      rw [show 13 * (0 : Int) + ((x.toNat - 10 : Nat) : Int) = x - 10 by omega] at e2
      rw [e2]
      have e3 : (L :: (r.length : Int) :: r.map fun z => -z).getD (x.toNat - 8) 0 = -(r.getD (x.toNat - 10) 0) := by
        rw [show x.toNat - 8 = (x.toNat - 10) + 1 + 1 by omega, List.getD_cons_succ, List.getD_cons_succ, List.getD_eq_getElem?_getD, List.getElem?_map, List.getElem?_eq_getElem (by omega), List.getD_eq_getElem?_getD, List.getElem?_eq_getElem (by omega)]
        rfl
      rw [e3, Int.neg_neg] at h
      exact h
  · have he := of_decide_eq_true e
    rw [h5, h6]
    refine ⟨fun c => hS _ _ _ ?_, fun c => hS _ _ _ ?_⟩
    · rwa [if_neg c, if_pos (by omega)] at h
    · rwa [if_pos c] at h
theorem o_twig {K : KM} (hk : MK K 62) {s : Sg} {F : Nat → Int} {A : Nat → Int → Int} (hV : SgOk s) (hM : MS s F A) {a b x : Int} (ha : rI a) (hb : rI b) (hx : rI x) {Φ : PI} (h : ∀ F' A', MS s F' A' → Φ (opTwig s a b x) F' A') : RI mX5_twig K [.ref K.m, vI a, vI b, vI x] F A Φ := by
  obtain ⟨⟨d, hT⟩, h12, -⟩ := hV
  have h0 := h F A hM
  unfold opTwig at h0
  refine RI.w (n := 61) hk (fun K1 hk1 hS => wX5_twig_0 K1 hk1.1 (c_isAtom (hk1.le (by decide)) hM.1 h12 ha (brz (fun e => hS _ _ _ ?_) (fun e => c_isAtom (hk1.le (by decide)) hM.1 h12 hb (brz (fun e2 => hS _ _ _ ?_) (fun e2 => ?_))))))
  · rwa [e, if_neg (by simp)] at h0
  · rwa [e, e2, if_neg (by simp)] at h0
  have hA := of_decide_eq_true e
  have hB := of_decide_eq_true e2
  have haT : inT s.D a := ⟨hA.1, by omega⟩
  have hbT : inT s.D b := ⟨hB.1, by omega⟩
  refine ⟨by omega, c_has (hk1.le (by decide)) ?_⟩
  have hbb : hasB (A 1 a) b = s.D.2 a b := by
    exact (hM.1.1.2 a hA.1 (by omega)).2 b hB.1 (by omega)
  rw [hbb]
  refine brz' (fun e3 => ?_) (fun e3 => hS _ _ _ ?_)
  rotate_left
  · rwa [e, e2, e3, if_neg (by simp)] at h0
  have hn := hT.n1
  refine c_looksD (hk1.le (by decide)) hM.1 fun F1 A1 g1 g2 _ g3 => ?_
  have hM1 : MS s F1 A1 := ⟨hM.1.fr (g1.sb (by decide)) (g2.sb (by decide)), hM.2.fr (g1 9 (by decide)) (g2 3 (by decide)) (g2 4 (by decide))⟩
  have t : Tw s.D d 13 b a := Tw.edge hT e3 (by omega)
  refine ⟨hx, c_isInM (hk1.le (by decide)) (by omega) (by decide) (by decide) (brz (fun e4 => ?_) (fun e4 => ?_))⟩
  · have he := of_decide_eq_false e4
    have hsz : szT s.D b a ≤ 12 := by
      have := (pl_spec hT 13 b a t).1.length_le_of_subset (l₂ := rg s.D.1) (fun z hz => by
        have := (((pl_spec hT 13 b a t).2 z).mp hz).1
        exact mem_rgf.mpr ⟨this.1, by have := this.2; omega⟩)
      rw [len_rgf] at this
      show (pl s.D 13 b a).length ≤ 12
      omega
    have hnl := nm_len hT 12 b a t hsz
    refine nmc_all hT h12 12 K1 b a _ A1 _ (hk1.le (by decide)) t hsz ⟨by rw [upN_ne _ _ (by decide), upN_ne _ _ (by decide)]; exact g3.1, g3.2⟩ (by rw [upN_eq]; omega) (by rw [upN_ne _ _ (by decide), upN_eq]; omega) fun F2 A2 k1 k2 k3 => ?_
    have k0 : agF [16, 19, 26] F1 F2 := (((agF.rf _ _).up (by decide)).up (by decide)).tr (k1.sb (by decide))
    have k4 := k3.2
    rw [upN_ne _ _ (by decide), upN_eq] at k4
    have hM2 : MS s F2 A2 := ⟨hM1.1.fr (k0.sb (by decide)) (k2.1.sb (by decide)), hM1.2.fr (k0 9 (by decide)) (k2.1 3 (by decide)) (k2.1 4 (by decide))⟩
    have h := h F2 A2 hM2
    unfold opTwig at h
    rw [e, e2, e3, if_pos (by decide), if_neg (by omega), if_neg (by omega)] at h
    refine ⟨fun c => ⟨by omega, ?_⟩, fun c => hS _ _ _ ?_⟩
    · rw [if_neg c] at h
      have hw := wI_rI (x - 10)
      refine c_isInM (hk1.le (by decide)) (by omega) (by decide) (by omega) (brz (fun e5 => hS _ _ _ ?_) (fun e5 => ⟨fun c5 => hS _ _ _ ?_, fun c5 => ?_⟩))
      · rw [if_neg] at h
        · exact h
        · intro hh
          rw [wI_id (by omega)] at e5
          exact of_decide_eq_false e5 ⟨by omega, by omega⟩
      · rwa [if_neg (by omega)] at h
      · have he5 := of_decide_eq_true e5
        rw [wI_id (by omega)] at he5 ⊢
        rw [if_pos (by omega)] at h
        have := k4 (x - 10).toNat (by omega)
        rw [show (0 : Int) + (((x - 10).toNat : Nat) : Int) = x - 10 by omega] at this
        refine ⟨by omega, hS _ _ _ ?_⟩
        rwa [this]
    · rwa [if_pos c] at h
  · have he := of_decide_eq_true e4
    have h := h F1 A1 hM1
    unfold opTwig at h
    rw [e, e2, e3, if_pos (by decide)] at h
    refine ⟨fun c => c_codeOf hT 13 K1 b a (hk1.le (by decide)) t g3 (hS _ _ _ ?_), fun c => c_sizeOf hT 13 K1 b a (hk1.le (by decide)) t g3 (hS _ _ _ ?_)⟩
    · rwa [if_neg c, if_pos (by omega)] at h
    · rwa [if_pos c] at h
