set_option maxRecDepth 100000
/-! stems of the tape: the reference -/
theorem wsc_zero (l : List Int) : wsc l 0 0 = 0 := by cases l <;> rfl
theorem c_behindEnd {K : KM} (hk : MK K 9) {q : Nat} {s : String} (hx : StrAt K q s) {wd : List Int} (hw : byS s = wd ++ [32]) (ha : ∀ c ∈ byS s, 0 ≤ c ∧ c < 256) (hl : s.toList.length < 1000) (h32 : ∀ c ∈ wd, c ≠ 32) {tp : List Int} (ho : TPok tp) {p : Int} (hp : 0 ≤ p ∧ p ≤ 80) {F : Nat → Int} {A : Nat → Int → Int} {Φ : PI} (hT : TP tp F A) (h35 : 0 ≤ F 35 ∧ F 35 ≤ 80)
    (hY : ∀ x, bhd tp p wd = (x, x) → 0 ≤ x ∧ x ≤ 80 → Φ x F A) (hN : ∀ y, bhd tp p wd = (-1, y) → 0 ≤ y ∧ y ≤ 80 → Φ (-1) (upN F 35 (max (F 35) y)) A) : RI mX5_behind K [.ref K.m, .ref q, vI 0, vI p] F A Φ :=
  c_behind hk hx ha hl (by decide) (by unfold spc; omega) (rest := []) (by rw [wsc_zero, List.drop_zero]; exact hw) h32 ho hp hT h35 hY hN
/-- the first stem from the k-th on that stands at p with the end behind it: stem and place behind; and how far it went -/
def stT (tp e : List Int) (p : Int) : Int → Nat → Int → Option (Int × Int) × Int
  | _, 0, far => (none, far)
  | k, m + 1, far => if (bhd tp p (stm k)).1 = -1 then stT tp e p (k + 1) m (max far (bhd tp p (stm k)).2) else if (bhd tp (bhd tp p (stm k)).1 e).1 = -1 then stT tp e p (k + 1) m (max far (bhd tp (bhd tp p (stm k)).1 e).2) else (some (k, (bhd tp (bhd tp p (stm k)).1 e).1), far)
theorem max80 {a b : Int} (h1 : 0 ≤ a ∧ a ≤ 80) (h2 : 0 ≤ b ∧ b ≤ 80) : 0 ≤ max a b ∧ max a b ≤ 80 := by omega
theorem upN2 (F : Nat → Int) (k : Nat) (x y : Int) : upN (upN F k x) k y = upN F k y := by
  funext j
  unfold upN
  split <;> rfl
theorem c_takesStem {K : KM} (hk : MK K 11) {q : Nat} {s : String} (hx : StrAt K q s) {wd : List Int} (hw : byS s = wd ++ [32]) (ha : ∀ c ∈ byS s, 0 ≤ c ∧ c < 256) (hl : s.toList.length < 1000) (h32 : ∀ c ∈ wd, c ≠ 32) {tp : List Int} (ho : TPok tp) {lv : Int} (hlv : 0 ≤ lv ∧ lv < 32) {F : Nat → Int} {A : Nat → Int → Int} {Φ : PI} (hT : TP tp F A) (hp : 0 ≤ F 34 ∧ F 34 ≤ 80)
    (hY : ∀ k y far, stT tp wd (F 34) 0 12 (F 34) = (some (k, y), far) → 0 ≤ y ∧ y ≤ 80 → 0 ≤ far ∧ far ≤ 80 → Φ 1 (upN (upN F 35 far) 34 y) (upA A 27 lv k))
    (hN : ∀ far, stT tp wd (F 34) 0 12 (F 34) = (none, far) → 0 ≤ far ∧ far ≤ 80 → Φ 0 (upN (upN F 35 far) 34 far) A) : RI mX5_takesStem K [.ref K.m, vI lv, .ref q] F A Φ := by
  refine RI.wT (n := 10) hk (fun K1 hk1 hst hS => wX5_takesStem_0 K1 hk1.1 ?_)
  have hx1 := hst q s hx
  have key : ∀ (m : Nat) (k : Int) (far : Int), 0 ≤ k → k + (m : Int) = 12 → 0 ≤ far ∧ far ≤ 80 → stT tp wd (F 34) k m far = stT tp wd (F 34) 0 12 (F 34) → VM K1 mX5_takesStem 10 [(0, .ref K1.m), (1, vI lv), (2, .ref q), (3, vI k)] [] (upN F 35 far) A := by
    intro m
    induction m with
    | zero =>
      intro k far h1 h2 h3 h4
      refine wX5_takesStem_10 K1 hk1.1 hk1.2.1.1 ⟨by omega, fun _ => ?_, fun c => by omega⟩
      refine RI.w (n := 9) hk1 (fun K2 hk2 hS2 => wX5_fails_0 K2 hk2.1 (hS2 _ _ _ ⟨Or.inl rfl, hS _ _ _ ?_⟩))
      rw [upN_eq]
      exact hN far h4.symm h3
    | succ m ih =>
      intro k far h1 h2 h3 h4
      have hT1 : TP tp (upN F 35 far) A := ⟨by rw [upN_ne _ _ (by decide)]; exact hT.1, hT.2⟩
      have e35 : upN F 35 far 35 = far := upN_eq _ _ _
      have e34 : upN F 35 far 34 = F 34 := upN_ne _ _ (by decide)
      unfold stT at h4
      refine wX5_takesStem_10 K1 hk1.1 hk1.2.1.1 ⟨by omega, fun c => by omega, fun _ => ?_⟩
      rw [e34]
      refine c_behindStem (hk1.le (by decide)) ⟨h1, by omega⟩ ho hp hT1 (by rw [e35]; exact h3) (fun y e hy => ?_) (fun y e hy => ?_)
      · have e1 : (bhd tp (F 34) (stm k)).1 = y := by rw [e]
        rw [e1, if_neg (by omega)] at h4
        refine ⟨by omega, fun _ => ?_, fun c => by omega⟩
        refine c_behindEnd (hk1.le (by decide)) hx1 hw ha hl h32 ho hy hT1 (by rw [e35]; exact h3) (fun z e2 hz => ?_) (fun z e2 hz => ?_)
        · have e3 : (bhd tp y wd).1 = z := by rw [e2]
          rw [e3, if_neg (by omega)] at h4
          exact ⟨by omega, fun c => by omega, fun _ => ⟨hlv, hS _ _ _ (hY k z far h4.symm hz h3)⟩⟩
        · have e3 : (bhd tp y wd).1 = -1 := by rw [e2]
          have e4 : (bhd tp y wd).2 = z := by rw [e2]
          rw [e3, if_pos rfl, e4] at h4
          rw [e35, upN2]
          exact ⟨by decide, fun _ => ih (k + 1) _ (by omega) (by omega) (max80 h3 hz) h4, fun c => absurd rfl c⟩
      · have e1 : (bhd tp (F 34) (stm k)).1 = -1 := by rw [e]
        have e2 : (bhd tp (F 34) (stm k)).2 = y := by rw [e]
        rw [e1, if_pos rfl, e2] at h4
        rw [e35, upN2]
        exact ⟨by decide, fun c => absurd rfl c, fun _ => ih (k + 1) _ (by omega) (by omega) (max80 h3 hy) h4⟩
  exact key 12 0 (F 34) (by decide) (by decide) hp rfl
