set_option maxRecDepth 100000
/-! an end is cut: the reference -/
theorem sm_bit1 {g : Int → Int} {T : Tr} {d : Int → Int → Int} (h : TrOk T d) (hB : BB T g) {a p : Int} (ha : inT T a) (hp : nbs T a = [p]) : g a = ishl 1 p := by
  have hn := h.n1
  have hpT : T.2 a p = true := h.mem_nbs.mp (by rw [hp]; exact List.mem_singleton.mpr rfl)
  have hpr := (h.rng hpT).2
  have hBa := hB a ha.1 (by omega)
  refine sm_ext hBa.1 (sm_bit ⟨hpr.1, by omega⟩) fun b b1 b2 => ?_
  rw [hBa.2 b b1 b2]
  have h0 : sm 0 := by decide
  have e := hasB_set (z := 0) (k := p) (b := b) h0 ⟨hpr.1, by omega⟩ ⟨b1, by omega⟩
  have e0 : ior 0 (ishl 1 p) = ishl 1 p := by
    have := sm_bit (k := p) ⟨hpr.1, by omega⟩
    rw [ior_nat (by decide) (by omega)]
    show ((0 ||| (ishl 1 p).toNat : Nat) : Int) = _
    rw [Nat.zero_or]; omega
  rw [e0, hasB_zero ⟨b1, by omega⟩] at e
  rw [e, Bool.false_or, Bool.eq_iff_iff, beq_iff_eq]
  constructor
  · intro h1
    have := h.mem_nbs.mpr h1
    rw [hp] at this
    exact List.mem_singleton.mp this
  · rintro rfl; exact hpT
/-- the bonds while an end is cut: up to k, the last atom's are the end's -/
def CutG (T : Tr) (a last : Int) (k : Int) (g : Int → Int) : Prop := ∀ x, 0 ≤ x → x < 13 → sm (g x) ∧ ∀ y, 0 ≤ y → y < 13 → (hasB (g x) y = true ↔ if x = a then (y < k ∧ T.2 last y = true ∧ y ≠ a) else if x ≠ last ∧ x < k ∧ T.2 x last = true then (y = a ∨ T.2 x y = true ∧ y ≠ last ∧ y ≠ a) else T.2 x y = true ∧ y ≠ a)
theorem o_cut {K : KM} (hk : MK K 5) {s : Sg} {F : Nat → Int} {A : Nat → Int → Int} (hV : SgOk s) (hM : MS s F A) {a : Int} (ha : rI a) {Φ : PI} (h : ∀ F' A', MS (opCut s a).2 F' A' → Φ (opCut s a).1 F' A') : RI mX5_cut K [.ref K.m, vI a] F A Φ := by
  obtain ⟨⟨d, hT⟩, hn, -⟩ := hV
  have hn1 := hT.n1
  have h3 := hM.1.1.1
  unfold opCut at h
  refine RI.w (n := 4) hk (fun K1 hk1 hS => wX5_cut_0 K1 hk1.1 (c_isAtom (hk1.le (by decide)) hM.1 hn ha (brz' (fun e => ?_) (fun e => hS _ _ _ ?_))))
  rotate_left
  · have := h F A
    rw [if_neg (by rw [e]; decide)] at this
    exact this hM
  have hin := isAt_iff.mp e
  rw [if_pos e] at h
  refine ⟨by omega, c_bitCount (hk1.le (by decide)) (hM.1.1.2 a hin.1 (by omega)).1 ?_⟩
  rw [hM.1.1.2.bits hT ⟨hin.1, by omega⟩]
  have hdeg := hT.deg a
  refine ⟨by omega, fun c => ?_, fun c => hS _ _ _ ?_⟩
  rotate_left
  · have := h F A; rw [if_neg (by omega)] at this; exact this hM
  have hd1 : (nbs s.D a).length = 1 := by omega
  rw [if_pos hd1] at h
  obtain ⟨p, hp⟩ : ∃ p, nbs s.D a = [p] := List.length_eq_one_iff.mp hd1
  have hap : s.D.2 a p = true := hT.mem_nbs.mp (by rw [hp]; exact List.mem_singleton.mpr rfl)
  have hpr := (hT.rng hap).2
  have hpa := hT.ne hap
  have honly : ∀ y, s.D.2 a y = true → y = p := fun y hy => by
    have := hT.mem_nbs.mpr hy
    rw [hp] at this
    exact List.mem_singleton.mp this
  have hcut := hT.cut hin hd1
  refine c_looksD (hk1.le (by decide)) hM.1 fun F1 A1 g1 g2 g3 g4 => ?_
  rw [sm_bit1 hT g4.2 hin hp]
  refine c_ntz (hk1.le (by decide)) ⟨hpr.1, by omega⟩ ⟨⟨hpr.1, by omega⟩, ?_⟩
  have e1 : F1 1 = (s.D.1 : Int) := g4.1
  rw [e1]
  -- the end is free
  have hG0 : CutG s.D a ((s.D.1 : Int) - 1) 0 (upA (upA A1 0 p (iand (A1 0 p) (ixor (ishl 1 a) (-1)))) 0 a 0 0) := by
    intro x x1 x2
    rw [upA_eq, upA_eq]
    by_cases ea : x = a
    · rw [ea, upZ_eq]
      refine ⟨by decide, fun y y1 y2 => ?_⟩
      rw [hasB_zero ⟨y1, by omega⟩, if_pos rfl]
      exact ⟨fun hh => (Bool.noConfusion hh), fun hh => by omega⟩
    · rw [upZ_ne _ _ ea]
      by_cases ep : x = p
      · rw [ep, upZ_eq]
        have hBp := g4.2 p hpr.1 (by omega)
        refine ⟨sm_iclr hBp.1 ⟨hin.1, by omega⟩, fun y y1 y2 => ?_⟩
        rw [hasB_clr hBp.1 ⟨hin.1, by omega⟩ ⟨y1, by omega⟩, hBp.2 y y1 y2, if_neg (Ne.symm hpa), if_neg (fun hh => by omega)]
        simp
      · rw [upZ_ne _ _ ep]
        have hBx := g4.2 x x1 x2
        refine ⟨hBx.1, fun y y1 y2 => ?_⟩
        rw [hBx.2 y y1 y2, if_neg ea, if_neg (fun hh => by omega)]
        exact ⟨fun hh => ⟨hh, fun hy => by rw [hy] at hh; exact ep (honly x (hT.sym hh))⟩, fun hh => hh.1⟩
  have hA0 : agA [0] A (upA (upA A1 0 p (iand (A1 0 p) (ixor (ishl 1 a) (-1)))) 0 a 0) := (g2.up (by decide)).up (by decide)
  generalize upA (upA A1 0 p (iand (A1 0 p) (ixor (ishl 1 a) (-1)))) 0 a 0 = A2 at hG0 hA0 ⊢
  -- the end of all
  have fin : ∀ (A3 : Nat → Int → Int), agA [0] A A3 → BB (cuT s.D a) (upZ (A3 0) ((s.D.1 : Int) - 1) 0) → RV mX5_draws K1 [.ref K1.m] (upN F1 1 (F1 1 - 1)) (upA A3 0 ((s.D.1 : Int) - 1) 0) fun F5 A5 => SI K1 (F5 3) F5 A5 := by
    intro A3 k1 k2
    refine c_draws (hk1.le (by decide)) fun A4 k3 k4 => hS _ _ _ ?_
    rw [e1]
    have hcn : ((cuT s.D a).1 : Int) = (s.D.1 : Int) - 1 := by show ((s.D.1 - 1 : Nat) : Int) = _; omega
    have := h (upN (upN F1 1 ((s.D.1 : Int) - 1)) 3 (upN F1 1 ((s.D.1 : Int) - 1) 1)) A4 ⟨hM.1.draw (((g1.sb (by decide)).up (by decide)).up (by decide)) (((k1.sb (by decide)).up (by decide)).tr (k3.sb (by decide))) (by rw [upN_eq, upN_eq, hcn]) ((show BB (cuT s.D a) (upA A3 0 ((s.D.1 : Int) - 1) 0 0) by rw [upA_eq]; exact k2).of k4), hM.2.fr (by rw [upN_ne _ _ (by decide), upN_ne _ _ (by decide), g1 9 (by decide)]) (by rw [k3 3 (by decide), upA_ne _ _ _ (by decide), k1 3 (by decide)]) (by rw [k3 4 (by decide), upA_ne _ _ _ (by decide), k1 4 (by decide)])⟩
    rw [upN_eq] at this
    rw [upN_eq, upN_eq]
    exact this
  have tobool : ∀ {b c : Bool}, (b = true ↔ c = true) → b = c := fun {b c} hh => by cases b <;> cases c <;> simp at hh ⊢
  by_cases hal : (s.D.1 : Int) - 1 = a
  · -- the last one itself
    refine wX5_cut_71 K1 hk1.1 ?_
    rw [e1]
    refine ⟨by omega, by omega, fun c => by omega, fun _ => ⟨by omega, by omega, fun _ => ⟨by omega, ?_⟩, fun c => absurd hal c⟩⟩
    have := fin A2 hA0 (fun x x1 x2 => ?_)
    · rw [e1] at this; exact this
    · have hx := hG0 x x1 x2
      by_cases ex : x = (s.D.1 : Int) - 1
      · rw [ex, upZ_eq]
        refine ⟨by decide, fun y y1 y2 => ?_⟩
        rw [hasB_zero ⟨y1, by omega⟩]
        refine tobool ⟨fun hh => (Bool.noConfusion hh), fun hh => ?_⟩
        have := (cuT_iff.mp hh).1; omega
      · rw [upZ_ne _ _ ex]
        refine ⟨hx.1, fun y y1 y2 => tobool ?_⟩
        rw [hx.2 y y1 y2, if_neg (by omega), if_neg (fun hh => by omega), cuT_iff]
        unfold cutR
        rw [if_neg (by omega)]
        constructor
        · rintro ⟨q1, q2⟩
          have := hT.rng q1
          refine ⟨by omega, by omega, ?_⟩
          rw [if_neg q2]; exact q1
        · rintro ⟨q1, q2, q3⟩
          rw [if_neg (by omega)] at q3
          exact ⟨q3, by omega⟩
  · have key : ∀ (m : Nat) (k : Int) (A3 : Nat → Int → Int), 0 ≤ k → k + (m : Int) = (s.D.1 : Int) → agA [0] A A3 → CutG s.D a ((s.D.1 : Int) - 1) k (A3 0) → VM K1 mX5_cut 71 [(0, .ref K1.m), (1, vI a), (3, vI ((s.D.1 : Int) - 1)), (4, vI k)] [] F1 A3 := by
      intro m
      induction m with
      | zero =>
        intro k A3 k0 km q1 q2
        have hkn : k = (s.D.1 : Int) := by omega
        subst hkn
        refine wX5_cut_71 K1 hk1.1 ?_
        refine ⟨by omega, by omega, fun _ => ⟨by omega, ?_⟩, fun c => by omega⟩
        have := fin A3 q1 (fun x x1 x2 => ?_)
        · exact this
        · have hx := q2 x x1 x2
          by_cases ex : x = (s.D.1 : Int) - 1
          · rw [ex, upZ_eq]
            refine ⟨by decide, fun y y1 y2 => ?_⟩
            rw [hasB_zero ⟨y1, by omega⟩]
            refine tobool ⟨fun hh => (Bool.noConfusion hh), fun hh => ?_⟩
            have := (cuT_iff.mp hh).1; omega
          · rw [upZ_ne _ _ ex]
            refine ⟨hx.1, fun y y1 y2 => tobool ?_⟩
            rw [hx.2 y y1 y2, cuT_iff]
            by_cases ea : x = a
            · rw [if_pos ea]
              have e9 : cutR s.D a x = (s.D.1 : Int) - 1 := by unfold cutR; rw [if_pos ea]
              rw [e9]
              constructor
              · rintro ⟨-, q4, q5⟩
                have := (hT.rng q4).2
                have hne := hT.ne q4
                have e8 : cutR s.D a y = y := by unfold cutR; rw [if_neg q5]
                rw [e8]
                exact ⟨by omega, by omega, q4⟩
              · rintro ⟨q3, q4, q5⟩
                by_cases ey : y = a
                · have e8 : cutR s.D a y = (s.D.1 : Int) - 1 := by unfold cutR; rw [if_pos ey]
                  rw [e8, hT.irr] at q5; cases q5
                · have e8 : cutR s.D a y = y := by unfold cutR; rw [if_neg ey]
                  rw [e8] at q5
                  exact ⟨by omega, q5, ey⟩
            · rw [if_neg ea]
              have e9 : cutR s.D a x = x := by unfold cutR; rw [if_neg ea]
              rw [e9]
              by_cases hxl : x < (s.D.1 : Int) ∧ s.D.2 x ((s.D.1 : Int) - 1) = true
              · rw [if_pos ⟨ex, hxl⟩]
                constructor
                · rintro (q3 | ⟨q3, q4, q5⟩)
                  · have e8 : cutR s.D a y = (s.D.1 : Int) - 1 := by unfold cutR; rw [if_pos q3]
                    rw [e8]
                    exact ⟨by omega, by omega, hxl.2⟩
                  · have := (hT.rng q3).2
                    have e8 : cutR s.D a y = y := by unfold cutR; rw [if_neg q5]
                    rw [e8]
                    exact ⟨by omega, by omega, q3⟩
                · rintro ⟨q3, q4, q5⟩
                  by_cases ey : y = a
                  · exact Or.inl ey
                  · have e8 : cutR s.D a y = y := by unfold cutR; rw [if_neg ey]
                    rw [e8] at q5
                    exact Or.inr ⟨q5, by omega, ey⟩
              · rw [if_neg (fun hh => hxl hh.2)]
                constructor
                · rintro ⟨q3, q5⟩
                  have hr := hT.rng q3
                  have hyl : y ≠ (s.D.1 : Int) - 1 := fun hh => hxl ⟨hr.1.2, by rw [← hh]; exact q3⟩
                  have e8 : cutR s.D a y = y := by unfold cutR; rw [if_neg q5]
                  rw [e8]
                  exact ⟨by omega, by omega, q3⟩
                · rintro ⟨q3, q4, q5⟩
                  by_cases ey : y = a
                  · have e8 : cutR s.D a y = (s.D.1 : Int) - 1 := by unfold cutR; rw [if_pos ey]
                    rw [e8] at q5
                    exact absurd ⟨by omega, q5⟩ hxl
                  · have e8 : cutR s.D a y = y := by unfold cutR; rw [if_neg ey]
                    rw [e8] at q5
                    exact ⟨q5, ey⟩
      | succ m ih =>
        intro k A3 k0 km q1 q2
        have hgl := q2 ((s.D.1 : Int) - 1) (by omega) (by omega)
        have hbit := hgl.2 k k0 (by omega)
        rw [if_neg hal, if_neg (fun hh => hh.1 rfl)] at hbit
        refine wX5_cut_71 K1 hk1.1 ?_
        rw [e1]
        refine ⟨by omega, by omega, fun c => by omega, fun _ => ⟨by omega, by omega, fun c => absurd c hal, fun _ => ⟨by omega, c_has (hk1.le (by decide)) (brz (fun e2 => ?_) (fun e2 => ⟨by omega, by omega, ?_⟩))⟩⟩⟩
        · -- not bonded to the last
          refine ih (k + 1) A3 (by omega) (by omega) q1 fun x x1 x2 => ⟨(q2 x x1 x2).1, fun y y1 y2 => ?_⟩
          rw [(q2 x x1 x2).2 y y1 y2]
          have hno : ¬ (s.D.2 ((s.D.1 : Int) - 1) k = true ∧ k ≠ a) := fun hh => by rw [hbit.mpr hh] at e2; cases e2
          by_cases ea : x = a
          · rw [if_pos ea, if_pos ea]
            constructor
            · rintro ⟨p1, p2, p3⟩; exact ⟨by omega, p2, p3⟩
            · rintro ⟨p1, p2, p3⟩
              refine ⟨?_, p2, p3⟩
              rcases Int.lt_or_le y k with p4 | p4
              · exact p4
              · rw [show y = k by omega] at p2 p3; exact absurd ⟨p2, p3⟩ hno
          · rw [if_neg ea, if_neg ea]
            by_cases hx : x ≠ (s.D.1 : Int) - 1 ∧ x < k ∧ s.D.2 x ((s.D.1 : Int) - 1) = true
            · rw [if_pos hx, if_pos ⟨hx.1, by omega, hx.2.2⟩]
            · rw [if_neg hx, if_neg]
              rintro ⟨p1, p2, p3⟩
              rcases Int.lt_or_le x k with p4 | p4
              · exact hx ⟨p1, p4, p3⟩
              · rw [show x = k by omega] at p3 ea; exact hno ⟨hT.sym p3, ea⟩
        · -- bonded: the end takes the last one's place there
          obtain ⟨hlk, hka⟩ := hbit.mp e2
          have hkl := hT.ne hlk
          have hgk := q2 k k0 (by omega)
          have hga := q2 a hin.1 (by omega)
          have s1 := sm_iclr (k := (s.D.1 : Int) - 1) hgk.1 ⟨by omega, by omega⟩
          refine ih (k + 1) _ (by omega) (by omega) ((q1.up (by decide)).up (by decide)) fun x x1 x2 => ?_
          rw [upA_eq, upA_eq]
          by_cases ea : x = a
          · subst ea
            rw [upZ_eq, upZ_ne _ _ (Ne.symm hka)]
            refine ⟨sm_ior hga.1 (sm_bit ⟨k0, by omega⟩), fun y y1 y2 => ?_⟩
            rw [hasB_set hga.1 ⟨k0, by omega⟩ ⟨y1, by omega⟩, Bool.or_eq_true, hga.2 y y1 y2, if_pos rfl, if_pos rfl, beq_iff_eq]
            constructor
            · rintro (⟨p1, p2, p3⟩ | p1)
              · exact ⟨by omega, p2, p3⟩
              · rw [p1]; exact ⟨by omega, hlk, hka⟩
            · rintro ⟨p1, p2, p3⟩
              rcases Int.lt_or_le y k with p4 | p4
              · exact Or.inl ⟨p4, p2, p3⟩
              · exact Or.inr (by omega)
          · rw [upZ_ne _ _ ea]
            by_cases ek : x = k
            · subst ek
              rw [upZ_eq]
              refine ⟨sm_ior s1 (sm_bit ⟨hin.1, by omega⟩), fun y y1 y2 => ?_⟩
              rw [hasB_set s1 ⟨hin.1, by omega⟩ ⟨y1, by omega⟩, hasB_clr hgk.1 ⟨by omega, by omega⟩ ⟨y1, by omega⟩, Bool.or_eq_true, Bool.and_eq_true, hgk.2 y y1 y2, if_neg ea, if_neg (fun hh => by omega), if_neg ea, if_pos ⟨Ne.symm hkl, by omega, hT.sym hlk⟩, beq_iff_eq]
              have : (!(y == (s.D.1 : Int) - 1)) = true ↔ y ≠ (s.D.1 : Int) - 1 := by simp
              rw [this]
              constructor
              · rintro (⟨⟨p1, p2⟩, p3⟩ | p1)
                · exact Or.inr ⟨p1, p3, p2⟩
                · exact Or.inl p1
              · rintro (p1 | ⟨p1, p2, p3⟩)
                · exact Or.inr p1
                · exact Or.inl ⟨⟨p1, p3⟩, p2⟩
            · rw [upZ_ne _ _ ek]
              have hgx := q2 x x1 x2
              refine ⟨hgx.1, fun y y1 y2 => ?_⟩
              rw [hgx.2 y y1 y2, if_neg ea, if_neg ea]
              by_cases hx : x ≠ (s.D.1 : Int) - 1 ∧ x < k ∧ s.D.2 x ((s.D.1 : Int) - 1) = true
              · rw [if_pos hx, if_pos ⟨hx.1, by omega, hx.2.2⟩]
              · rw [if_neg hx, if_neg]
                rintro ⟨p1, p2, p3⟩
                exact hx ⟨p1, by omega, p3⟩
    exact key s.D.1 0 A2 (by decide) (by omega) hA0 hG0
