set_option maxRecDepth 100000
/-! what stands behind a word: the reference -/
/-- the place behind the word, or -1; and how far it was like it -/
def bhd (tp : List Int) : Int → List Int → Int × Int
  | p, [] => (p, p)
  | p, c :: r => if byA tp p = c then bhd tp (p + 1) r else (-1, p)
theorem c_behind {K : KM} (hk : MK K 9) {q : Nat} {s : String} (hs : StrAt K q s) (ha : ∀ c ∈ byS s, 0 ≤ c ∧ c < 256) (hl : s.toList.length < 1000) {k : Int} (hk0 : 0 ≤ k) (hsp : k ≤ spc (byS s)) {wd : List Int} {rest : List Int} (hw : (byS s).drop (wsc (byS s) k 0) = wd ++ 32 :: rest) (h32 : ∀ c ∈ wd, c ≠ 32) {tp : List Int} (ho : TPok tp) {p : Int} (hp : 0 ≤ p ∧ p ≤ 80) {F : Nat → Int} {A : Nat → Int → Int} {Φ : PI} (hT : TP tp F A) (h35 : 0 ≤ F 35 ∧ F 35 ≤ 80)
    (hY : ∀ x, bhd tp p wd = (x, x) → 0 ≤ x ∧ x ≤ 80 → Φ x F A) (hN : ∀ y, bhd tp p wd = (-1, y) → 0 ≤ y ∧ y ≤ 80 → Φ (-1) (upN F 35 (max (F 35) y)) A) : RI mX5_behind K [.ref K.m, .ref q, vI k, vI p] F A Φ := by
  have hlo := ho.1
  refine RI.wT (n := 8) hk (fun K1 hk1 hst hS => wX5_behind_0 K1 hk1.1 (c_wordAt hk1 (hst q s hs) ha hl hk0 hsp ?_))
  have hs1 := hst q s hs
  have hbl := byS_len s
  have key : ∀ (r : List Int) (at1 : Nat) (p : Int), (byS s).drop at1 = r ++ 32 :: rest → (∀ c ∈ r, c ≠ 32) → 0 ≤ p ∧ p ≤ 80 → (∀ x, bhd tp p r = (x, x) → 0 ≤ x ∧ x ≤ 80 → Φ x F A) → (∀ y, bhd tp p r = (-1, y) → 0 ≤ y ∧ y ≤ 80 → Φ (-1) (upN F 35 (max (F 35) y)) A) → VM K1 mX5_behind 10 [(0, .ref K1.m), (1, .ref q), (4, vI p), (5, vI (at1 : Int))] [] F A := by
    intro r
    induction r with
    | nil =>
      intro at1 p hr hr32 hp hY hN
      have hlt : at1 < (byS s).length := by
        have := congrArg List.length hr
        rw [List.length_drop, List.nil_append, List.length_cons] at this
        omega
      have hc : (byS s).getD at1 0 = 32 := by rw [List.getD_eq_getElem?_getD, ← List.head?_drop, hr]; rfl
      refine wX5_behind_10 K1 hk1.1 (c_charAt (hk1.le (by decide)) hs1 ha hl ⟨by omega, by omega⟩ ?_)
      rw [show ((at1 : Int)).toNat = at1 by omega, hc]
      exact ⟨by decide, fun _ => hS _ _ _ (hY p rfl hp), fun c => absurd rfl c⟩
    | cons c r ih =>
      intro at1 p hr hr32 hp hY hN
      have hlt : at1 < (byS s).length := by
        have := congrArg List.length hr
        rw [List.length_drop, List.cons_append, List.length_cons] at this
        omega
      have hc : (byS s).getD at1 0 = c := by rw [List.getD_eq_getElem?_getD, ← List.head?_drop, hr]; rfl
      have hr2 : (byS s).drop (at1 + 1) = r ++ 32 :: rest := by rw [← List.tail_drop, hr]; rfl
      have hcr := ha c (by rw [← hc]; exact getD_mem hlt)
      have hc32 := hr32 c List.mem_cons_self
      have hrg := byA_rng ho hp.1
      refine wX5_behind_10 K1 hk1.1 (c_charAt (hk1.le (by decide)) hs1 ha hl ⟨by omega, by omega⟩ ?_)
      rw [show ((at1 : Int)).toNat = at1 by omega, hc]
      refine ⟨by omega, fun c9 => absurd c9 hc32, fun _ => c_byteAt (hk1.le (by decide)) ho ⟨hp.1, by omega⟩ hT (c_charAt (hk1.le (by decide)) hs1 ha hl ⟨by omega, by omega⟩ ?_)⟩
      rw [show ((at1 : Int)).toNat = at1 by omega, hc]
      unfold bhd at hY hN
      refine ⟨by omega, by omega, fun e => ?_, fun e => ⟨by omega, by omega, by have := hk1.2.2; omega, hS _ _ _ ?_⟩⟩
      · rw [if_pos e] at hY hN
        have hp2 : p + 1 ≤ 80 := by
          by_cases c9 : p < (tp.length : Int)
          · omega
          · have e9 : byA tp p = -1 := if_neg c9
            omega
        have := ih (at1 + 1) (p + 1) hr2 (fun x hx => hr32 x (List.mem_cons_of_mem _ hx)) ⟨by omega, hp2⟩ hY hN
        exact this
      · rw [if_neg e] at hN
        exact hN p rfl hp
  exact key wd _ p hw h32 hp hY hN
theorem c_behindStem {K : KM} (hk : MK K 9) {k : Int} (hk12 : 0 ≤ k ∧ k < 12) {tp : List Int} (ho : TPok tp) {p : Int} (hp : 0 ≤ p ∧ p ≤ 80) {F : Nat → Int} {A : Nat → Int → Int} {Φ : PI} (hT : TP tp F A) (h35 : 0 ≤ F 35 ∧ F 35 ≤ 80)
    (hY : ∀ x, bhd tp p (stm k) = (x, x) → 0 ≤ x ∧ x ≤ 80 → Φ x F A) (hN : ∀ y, bhd tp p (stm k) = (-1, y) → 0 ≤ y ∧ y ≤ 80 → Φ (-1) (upN F 35 (max (F 35) y)) A) : RI mX5_behind K [.ref K.m, .ref (K.G.ad 22), vI k, vI p] F A Φ := by
  obtain ⟨h1, ⟨rest, h2⟩, h3⟩ := wdOk_of stemW_ok k.toNat (by omega)
  rw [show ((k.toNat : Nat) : Int) = k by omega] at h1 h2
  exact c_behind hk (hk.str (i := 22) rfl) stemW_a (by decide +kernel) hk12.1 h1 h2 h3 ho hp hT h35 hY hN
theorem c_behindMany {K : KM} (hk : MK K 9) {k : Int} (hk7 : 0 ≤ k ∧ k < 7) {tp : List Int} (ho : TPok tp) {p : Int} (hp : 0 ≤ p ∧ p ≤ 80) {F : Nat → Int} {A : Nat → Int → Int} {Φ : PI} (hT : TP tp F A) (h35 : 0 ≤ F 35 ∧ F 35 ≤ 80)
    (hY : ∀ x, bhd tp p (mny k) = (x, x) → 0 ≤ x ∧ x ≤ 80 → Φ x F A) (hN : ∀ y, bhd tp p (mny k) = (-1, y) → 0 ≤ y ∧ y ≤ 80 → Φ (-1) (upN F 35 (max (F 35) y)) A) : RI mX5_behind K [.ref K.m, .ref (K.G.ad 23), vI k, vI p] F A Φ := by
  obtain ⟨h1, ⟨rest, h2⟩, h3⟩ := wdOk_of manyW_ok k.toNat (by omega)
  rw [show ((k.toNat : Nat) : Int) = k by omega] at h1 h2
  exact c_behind hk (hk.str (i := 23) rfl) manyW_a (by decide +kernel) hk7.1 h1 h2 h3 ho hp hT h35 hY hN
