set_option maxRecDepth 100000
/-! branches of the tape: the reference -/
theorem c_takesBranch {K : KM} (hk : MK K 10) {tp : List Int} (ho : TPok tp) {g c : Int} (hg : 0 ≤ g ∧ g < 32) {p : Int} (hp : 0 ≤ p ∧ p ≤ 80) {F : Nat → Int} {A : Nat → Int → Int} {Φ : PI} (hT : TP tp F A) (h35 : 0 ≤ F 35 ∧ F 35 ≤ 80)
    (hY : ∀ k y far, stT tp (byS "yl") p 0 12 (F 35) = (some (k, y), far) → 0 ≤ y ∧ y ≤ 80 → 0 ≤ far ∧ far ≤ 80 → Φ 1 (upN (upN F 35 far) 34 y) (upA (upA A 21 g c) 22 g k))
    (hN : ∀ far, stT tp (byS "yl") p 0 12 (F 35) = (none, far) → 0 ≤ far ∧ far ≤ 80 → Φ 0 (upN F 35 far) A) : RI mX5_takesBranch K [.ref K.m, vI g, vI c, vI p] F A Φ := by
  refine RI.wT (n := 9) hk (fun K1 hk1 hst hS => wX5_takesBranch_0 K1 hk1.1 ?_)
  have hx1 : StrAt K1 (K1.G.ad 24) "yl " := hk1.str (i := 24) rfl
  have key : ∀ (m : Nat) (k : Int) (far : Int), 0 ≤ k → k + (m : Int) = 12 → 0 ≤ far ∧ far ≤ 80 → stT tp (byS "yl") p k m far = stT tp (byS "yl") p 0 12 (F 35) → VM K1 mX5_takesBranch 3 [(0, .ref K1.m), (1, vI g), (2, vI c), (3, vI p), (4, vI k)] [] (upN F 35 far) A := by
    intro m
    induction m with
    | zero =>
      intro k far h1 h2 h3 h4
      exact wX5_takesBranch_3 K1 hk1.1 hk1.2.1.1 ⟨by omega, fun _ => hS _ _ _ (hN far h4.symm h3), fun c => by omega⟩
    | succ m ih =>
      intro k far h1 h2 h3 h4
      have hT1 : TP tp (upN F 35 far) A := ⟨by rw [upN_ne _ _ (by decide)]; exact hT.1, hT.2⟩
      have e35 : upN F 35 far 35 = far := upN_eq _ _ _
      unfold stT at h4
      refine wX5_takesBranch_3 K1 hk1.1 hk1.2.1.1 ⟨by omega, fun c => by omega, fun _ => ?_⟩
      refine c_behindStem hk1 ⟨h1, by omega⟩ ho hp hT1 (by rw [e35]; exact h3) (fun y e hy => ?_) (fun y e hy => ?_)
      · have e1 : (bhd tp p (stm k)).1 = y := by rw [e]
        rw [e1, if_neg (by omega)] at h4
        refine ⟨by omega, fun _ => ?_, fun c => by omega⟩
        refine c_behindEnd hk1 hx1 (wd := byS "yl") (by decide +kernel) (by decide +kernel) (by decide +kernel) (by decide +kernel) ho hy hT1 (by rw [e35]; exact h3) (fun z e2 hz => ?_) (fun z e2 hz => ?_)
        · have e3 : (bhd tp y (byS "yl")).1 = z := by rw [e2]
          rw [e3, if_neg (by omega)] at h4
          exact ⟨by omega, fun c => by omega, fun _ => ⟨hg, hS _ _ _ (hY k z far h4.symm hz h3)⟩⟩
        · have e3 : (bhd tp y (byS "yl")).1 = -1 := by rw [e2]
          have e4 : (bhd tp y (byS "yl")).2 = z := by rw [e2]
          rw [e3, if_pos rfl, e4] at h4
          rw [e35, upN2]
          exact ⟨by decide, fun _ => ih (k + 1) _ (by omega) (by omega) (max80 h3 hz) h4, fun c => absurd rfl c⟩
      · have e1 : (bhd tp p (stm k)).1 = -1 := by rw [e]
        have e2 : (bhd tp p (stm k)).2 = y := by rw [e]
        rw [e1, if_pos rfl, e2] at h4
        rw [e35, upN2]
        exact ⟨by decide, fun c => absurd rfl c, fun _ => ih (k + 1) _ (by omega) (by omega) (max80 h3 hy) h4⟩
  have e9 : upN F 35 (F 35) = F := by
    funext j
    unfold upN
    split
    · next c9 => rw [c9]
    · rfl
  have := key 12 0 (F 35) (by decide) (by decide) h35 rfl
  rw [e9] at this
  exact this
