set_option maxRecDepth 100000
/-! what stays as it was -/
abbrev agF (S : List Nat) (F F' : Nat → Int) : Prop := ∀ k, k ∉ S → F' k = F k
abbrev agA (S : List Nat) (A A' : Nat → Int → Int) : Prop := ∀ j, j ∉ S → A' j = A j
theorem agF.rf (S : List Nat) (F : Nat → Int) : agF S F F := fun _ _ => rfl
theorem agA.rf (S : List Nat) (A : Nat → Int → Int) : agA S A A := fun _ _ => rfl
theorem agF.tr {S : List Nat} {F F1 F2 : Nat → Int} (h : agF S F F1) (h' : agF S F1 F2) : agF S F F2 := fun k hk => (h' k hk).trans (h k hk)
theorem agA.tr {S : List Nat} {A A1 A2 : Nat → Int → Int} (h : agA S A A1) (h' : agA S A1 A2) : agA S A A2 := fun k hk => (h' k hk).trans (h k hk)
theorem agF.sb {S S' : List Nat} {F F1 : Nat → Int} (h : agF S F F1) (hs : ∀ k, k ∈ S → k ∈ S') : agF S' F F1 := fun k hk => h k (fun hm => hk (hs k hm))
theorem agA.sb {S S' : List Nat} {A A1 : Nat → Int → Int} (h : agA S A A1) (hs : ∀ k, k ∈ S → k ∈ S') : agA S' A A1 := fun k hk => h k (fun hm => hk (hs k hm))
theorem agF.up {S : List Nat} {F F1 : Nat → Int} (h : agF S F F1) {k : Nat} {v : Int} (hk : k ∈ S) : agF S F (upN F1 k v) := fun j hj => by
  rw [upN_ne _ _ (fun e => hj (by rw [e]; exact hk))]; exact h j hj
theorem agA.up {S : List Nat} {A A1 : Nat → Int → Int} (h : agA S A A1) {k : Nat} {i v : Int} (hk : k ∈ S) : agA S A (upA A1 k i v) := fun j hj => by
  rw [upA_ne _ _ _ (fun e => hj (by rw [e]; exact hk))]; exact h j hj
theorem upA_at {α : Type} (f : Nat → Int → α) (k : Nat) (i : Int) (v : α) : upA f k i v k i = v := by rw [upA_eq, upZ_eq]
theorem upA_off {α : Type} (f : Nat → Int → α) (k : Nat) {i j : Int} (v : α) (h : j ≠ i) : upA f k i v k j = f k j := by rw [upA_eq, upZ_ne _ _ h]
/-! the drawing is looked at; what is looked at is drawn -/
theorem c_looksAtDrawing {K : KM} (hk : MK K 1) {F : Nat → Int} {A : Nat → Int → Int} {Φ : PV} (h : ∀ A', agA [0] A A' → (∀ a, 0 ≤ a → a < 13 → A' 0 a = A 1 a) → Φ (upN F 1 (F 3)) A') : RV mX5_looksAtDrawing K [.ref K.m] F A Φ := by
  refine RV.w (n := 0) hk (fun K1 hk1 hS => wX5_looksAtDrawing_0 K1 hk1.1 ?_)
  have key : ∀ (m : Nat) (k : Int) (A' : Nat → Int → Int), 0 ≤ k → k + (m : Int) = 13 → agA [0] A A' → (∀ a, 0 ≤ a → a < k → A' 0 a = A 1 a) → VM K1 mX5_looksAtDrawing 10 [(0, .ref K1.m), (1, vI k)] [] (upN F 1 (F 3)) A' := by
    intro m
    induction m with
    | zero =>
      intro k A' h0 hk' ha hall
      refine wX5_looksAtDrawing_10 K1 hk1.1 ⟨by omega, fun c => hS _ _ (h A' ha fun a h1 h2 => hall a h1 (by omega)), fun c => by omega⟩
    | succ m ih =>
      intro k A' h0 hk' ha hall
      refine wX5_looksAtDrawing_10 K1 hk1.1 ⟨by omega, fun c => by omega, fun c => ⟨by omega, ih (k + 1) _ (by omega) (by omega) (ha.up (by decide)) fun a h1 h2 => ?_⟩⟩
      by_cases e : a = k
      · rw [e, upA_at, ha 1 (by decide)]
      · rw [upA_off _ _ _ e]; exact hall a h1 (by omega)
  exact key 13 0 A (by decide) (by decide) (agA.rf _ _) (fun a h1 h2 => by omega)
theorem c_draws {K : KM} (hk : MK K 1) {F : Nat → Int} {A : Nat → Int → Int} {Φ : PV} (h : ∀ A', agA [1] A A' → (∀ a, 0 ≤ a → a < 13 → A' 1 a = A 0 a) → Φ (upN F 3 (F 1)) A') : RV mX5_draws K [.ref K.m] F A Φ := by
  refine RV.w (n := 0) hk (fun K1 hk1 hS => wX5_draws_0 K1 hk1.1 ?_)
  have key : ∀ (m : Nat) (k : Int) (A' : Nat → Int → Int), 0 ≤ k → k + (m : Int) = 13 → agA [1] A A' → (∀ a, 0 ≤ a → a < k → A' 1 a = A 0 a) → VM K1 mX5_draws 10 [(0, .ref K1.m), (1, vI k)] [] (upN F 3 (F 1)) A' := by
    intro m
    induction m with
    | zero =>
      intro k A' h0 hk' ha hall
      refine wX5_draws_10 K1 hk1.1 ⟨by omega, fun c => hS _ _ (h A' ha fun a h1 h2 => hall a h1 (by omega)), fun c => by omega⟩
    | succ m ih =>
      intro k A' h0 hk' ha hall
      refine wX5_draws_10 K1 hk1.1 ⟨by omega, fun c => by omega, fun c => ⟨by omega, ih (k + 1) _ (by omega) (by omega) (ha.up (by decide)) fun a h1 h2 => ?_⟩⟩
      by_cases e : a = k
      · rw [e, upA_at, ha 0 (by decide)]
      · rw [upA_off _ _ _ e]; exact hall a h1 (by omega)
  exact key 13 0 A (by decide) (by decide) (agA.rf _ _) (fun a h1 h2 => by omega)
/-- the bonds of two, each with the other -/
def bndF (g : Int → Int) (a b : Int) : Int → Int := upZ (upZ g a (ior (g a) (ishl 1 b))) b (ior (upZ g a (ior (g a) (ishl 1 b)) b) (ishl 1 a))
theorem c_binds {K : KM} (hk : MK K 1) {a b : Int} (ha : 0 ≤ a ∧ a < 13) (hb : 0 ≤ b ∧ b < 13) {F : Nat → Int} {A : Nat → Int → Int} {Φ : PV} (h : ∀ A', agA [0] A A' → A' 0 = bndF (A 0) a b → Φ F A') : RV mX5_binds K [.ref K.m, vI a, vI b] F A Φ := by
  refine RV.w (n := 0) hk (fun K1 hk1 hS => wX5_binds_0 K1 hk1.1 ⟨ha, hb, hS _ _ (h _ (((agA.rf _ _).up (by decide)).up (by decide)) ?_)⟩)
  rw [upA_eq, upA_eq]
  rfl
theorem sm_bnd {g : Int → Int} (hg : ∀ x, 0 ≤ x → x < 13 → sm (g x)) {a b : Int} (ha : 0 ≤ a ∧ a < 13) (hb : 0 ≤ b ∧ b < 13) {x : Int} (hx : 0 ≤ x ∧ x < 13) : sm (bndF g a b x) := by
  have h1 : sm (upZ g a (ior (g a) (ishl 1 b)) x) := by
    by_cases e : x = a
    · rw [e, upZ_eq]; exact sm_ior (hg a ha.1 ha.2) (sm_bit hb)
    · rw [upZ_ne _ _ e]; exact hg x hx.1 hx.2
  unfold bndF
  by_cases e : x = b
  · subst e
    rw [upZ_eq]; exact sm_ior h1 (sm_bit ha)
  · rw [upZ_ne _ _ e]; exact h1
theorem has_bnd {g : Int → Int} (hg : ∀ x, 0 ≤ x → x < 13 → sm (g x)) {a b : Int} (ha : 0 ≤ a ∧ a < 13) (hb : 0 ≤ b ∧ b < 13) {x y : Int} (hx : 0 ≤ x ∧ x < 13) (hy : 0 ≤ y ∧ y < 13) : hasB (bndF g a b x) y = (hasB (g x) y || (x == a && y == b) || (x == b && y == a)) := by
  have h1 : ∀ x, 0 ≤ x ∧ x < 13 → sm (upZ g a (ior (g a) (ishl 1 b)) x) ∧ hasB (upZ g a (ior (g a) (ishl 1 b)) x) y = (hasB (g x) y || (x == a && y == b)) := by
    intro x hx
    by_cases e : x = a
    · subst e
      rw [upZ_eq]
      refine ⟨sm_ior (hg x ha.1 ha.2) (sm_bit hb), ?_⟩
      rw [hasB_set (hg x ha.1 ha.2) hb ⟨hy.1, by omega⟩]; simp
    · rw [upZ_ne _ _ e]
      exact ⟨hg x hx.1 hx.2, by simp [e]⟩
  unfold bndF
  by_cases e : x = b
  · subst e
    rw [upZ_eq, hasB_set (h1 x hb).1 ha ⟨hy.1, by omega⟩, (h1 x hb).2]; simp
  · rw [upZ_ne _ _ e, (h1 x hx).2]; simp [e]
theorem BB.bnd {T T' : Tr} {g : Int → Int} (h : BB T g) {a b : Int} (ha : 0 ≤ a ∧ a < 13) (hb : 0 ≤ b ∧ b < 13) (hT : ∀ x y, 0 ≤ x ∧ x < 13 → 0 ≤ y ∧ y < 13 → T'.2 x y = (T.2 x y || (x == a && y == b) || (x == b && y == a))) : BB T' (bndF g a b) := by
  intro x h1 h2
  have hg : ∀ x, 0 ≤ x → x < 13 → sm (g x) := fun x h1 h2 => (h x h1 h2).1
  refine ⟨sm_bnd hg ha hb ⟨h1, h2⟩, fun y h3 h4 => ?_⟩
  rw [has_bnd hg ha hb ⟨h1, h2⟩ ⟨h3, h4⟩, (h x h1 h2).2 y h3 h4, hT x y ⟨h1, h2⟩ ⟨h3, h4⟩]
theorem BB.grow {T : Tr} {g : Int → Int} (h : BB T g) {a : Int} (ha : 0 ≤ a ∧ a < 13) (hn : T.1 < 13) : BB (grT T a) (bndF g a (T.1 : Int)) :=
  BB.bnd h ha (by omega) (fun _ _ _ _ => rfl)
/-! by digits -/
theorem dgt_tdiv {n : Nat} {v k : Int} (h : 0 ≤ v) : Int.tmod (Int.tdiv v (p5 ((n : Int) - 1 - k))) 5 = dgt n v k := by
  unfold dgt
  have hp := p5_pos ((n : Int) - 1 - k)
  rw [Int.tdiv_eq_ediv_of_nonneg h, Int.tmod_eq_emod_of_nonneg (Int.ediv_nonneg h (Int.le_of_lt hp))]
theorem p5_le {x : Int} (h : 0 ≤ x ∧ x ≤ 13) : 1 ≤ p5 x ∧ p5 x ≤ 1220703125 := by
  have h1 := p5_pos x
  have h2 := p5_mono h.1 h.2
  rw [← P13_eq] at h2
  exact ⟨by omega, h2⟩
theorem c_digitAt {K : KM} (hk : MK K 2) {n : Nat} {v k : Int} {F : Nat → Int} {A : Nat → Int → Int} {Φ : PI} (hv : 0 ≤ v ∧ v < 2147483648) (hkn : 0 ≤ k ∧ k < (n : Int)) (hn : n ≤ 13) (h7 : F 7 = (n : Int)) (h8 : F 8 = v) (h : Φ (dgt n v k) F A) : RI mX5_digitAt K [.ref K.m, vI k] F A Φ := by
  refine RI.w (n := 1) hk (fun K1 hk1 hS => wX5_digitAt_0 K1 hk1.1 (c_power hk1 (by omega) ?_))
  rw [h7, h8]
  have hp := p5_le (x := (n : Int) - 1 - k) (by omega)
  have h1 : 0 ≤ Int.tdiv v (p5 ((n : Int) - 1 - k)) ∧ Int.tdiv v (p5 ((n : Int) - 1 - k)) ≤ v := by
    rw [Int.tdiv_eq_ediv_of_nonneg hv.1]
    exact ⟨Int.ediv_nonneg hv.1 (by omega), Int.ediv_le_self _ hv.1⟩
  refine ⟨by omega, by omega, by omega, by omega, hS _ _ _ ?_⟩
  rw [dgt_tdiv hv.1]; exact h
/-- what growing leaves: all went well, with a tree; or it did not -/
def GW (o : Option Tr) (F : Nat → Int) (A : Nat → Int → Int) (Φ : PI) : Prop :=
  match o with
  | some T => ∀ F' A', agF [6] F F' → agA [0] A A' → F' 6 = (T.1 : Int) → BB T (A' 0) → Φ 1 F' A'
  | none => ∀ F' A', agF [6] F F' → agA [0] A A' → Φ 0 F' A'
theorem c_grows {n : Nat} {v : Int} (hn : n ≤ 13) (hv : 0 ≤ v ∧ v < 2147483648) : ∀ (f : Nat) (K : KM) (T : Tr) (on1 : Int), MK K (f + 2) → n ≤ T.1 + f → T.1 ≤ n → (on1 = -1 ∧ T.1 = 0 ∧ 1 ≤ n ∨ 0 ≤ on1 ∧ on1 < (T.1 : Int)) → ∀ {F : Nat → Int} {A : Nat → Int → Int} {Φ : PI}, F 6 = (T.1 : Int) → F 7 = (n : Int) → F 8 = v → BB (if on1 = -1 then T1 else T) (A 0) →
    GW (if T.1 < n then twg (dgt n v) n f (T.1 : Int) (if on1 = -1 then 0 else 1) (if on1 = -1 then T1 else grT T on1) else none) F A Φ → RI mX5_grows K [.ref K.m, vI on1] F A Φ := by
  intro f
  induction f with
  | zero =>
    intro K T on1 hk hf hTn hon F A Φ h6 h7 h8 hB hG
    rw [if_neg (by omega)] at hG
    exact RI.w (n := 1) hk (fun K1 hk1 hS => wX5_grows_0 K1 hk1.1 ⟨by omega, by omega, fun c => by omega, fun c => hS _ _ _ (hG F A (agF.rf _ _) (agA.rf _ _))⟩)
  | succ f ih =>
    intro K T on1 hk hf hTn hon F A Φ h6 h7 h8 hB hG
    refine RI.w (n := f + 2) hk (fun K1 hk1 hS => wX5_grows_0 K1 hk1.1 ⟨by omega, by omega, fun c => ?_, fun c => ?_⟩)
    rotate_left
    · rw [if_neg (by omega)] at hG
      exact hS _ _ _ (hG F A (agF.rf _ _) (agA.rf _ _))
    rw [if_pos (by omega)] at hG
    rw [h6]
    have hd0 := dgt_ge n v (T.1 : Int)
    have hd5 := dgt_lt n v (T.1 : Int)
    refine c_digitAt (hk1.le (by omega)) hv (by omega) hn h7 h8 ?_
    -- the loop over what hangs on the new atom
    have loop : ∀ (m : Nat) (T2 : Tr) (k : Int) (F' : Nat → Int) (A' : Nat → Int → Int), 0 ≤ k → k + (m : Int) = dgt n v (T.1 : Int) → T.1 < T2.1 → T2.1 ≤ n → F' 6 = (T2.1 : Int) → agF [6] F F' → agA [0] A A' → BB T2 (A' 0) →
        GW (rpt (fun T3 => if T3.1 < n then twg (dgt n v) n f (T3.1 : Int) 1 (grT T3 (T.1 : Int)) else none) m T2) F A Φ →
        VM K1 mX5_grows 74 [(0, .ref K1.m), (2, vI (T.1 : Int)), (3, vI (dgt n v (T.1 : Int))), (4, vI 1), (5, vI k)] [] F' A' := by
      intro m
      induction m with
      | zero =>
        intro T2 k F' A' hk0 hkm h1 h2 h3 h4 h5 h9 hG
        exact wX5_grows_74 K1 hk1.1 ⟨by omega, by omega, fun c => ⟨Or.inr rfl, hS _ _ _ (hG F' A' h4 h5 h3 h9)⟩, fun c => by omega⟩
      | succ m ihm =>
        intro T2 k F' A' hk0 hkm h1 h2 h3 h4 h5 h9 hG
        refine wX5_grows_74 K1 hk1.1 ⟨by omega, by omega, fun c => by omega, fun c => ⟨by decide, fun c2 => absurd c2 (by decide), fun c2 => ?_⟩⟩
        refine ih K1 T2 (T.1 : Int) hk1 (by omega) h2 (Or.inr ⟨by omega, by omega⟩) h3 (by rw [h4 7 (by decide)]; exact h7) (by rw [h4 8 (by decide)]; exact h8) (by rw [if_neg (by omega)]; exact h9) ?_
        have hc9 : ¬ ((T.1 : Int) = -1) := by omega
        rw [if_neg hc9, if_neg hc9]
        rw [rpt] at hG
        cases e : (if T2.1 < n then twg (dgt n v) n f (T2.1 : Int) 1 (grT T2 (T.1 : Int)) else none) with
        | none =>
          rw [e] at hG
          intro F2 A2 g1 g2
          exact wX5_grows_74 K1 hk1.1 ⟨by omega, by omega, fun c => ⟨Or.inl rfl, hS _ _ _ (hG F2 A2 (h4.tr g1) (h5.tr g2))⟩, fun c => ⟨by decide, fun c2 => ⟨Or.inl rfl, hS _ _ _ (hG F2 A2 (h4.tr g1) (h5.tr g2))⟩, fun c2 => absurd rfl c2⟩⟩
        | some T3 =>
          rw [e] at hG
          have hlt : T2.1 ≤ T3.1 ∧ T3.1 ≤ n := twg_lt e
          intro F2 A2 g1 g2 g3 g4
          exact ihm T3 (k + 1) F2 A2 (by omega) (by omega) (by omega) (by omega) g3 (h4.tr g1) (h5.tr g2) g4 hG
    have stop : ∀ (F' : Nat → Int) (A' : Nat → Int → Int), agF [6] F F' → agA [0] A A' → GW none F A Φ → VM K1 mX5_grows 74 [(0, .ref K1.m), (2, vI (T.1 : Int)), (3, vI (dgt n v (T.1 : Int))), (4, vI 0), (5, vI 0)] [] F' A' := by
      intro F' A' g1 g2 hG
      exact wX5_grows_74 K1 hk1.1 ⟨by omega, by omega, fun c => ⟨Or.inl rfl, hS _ _ _ (hG F' A' g1 g2)⟩, fun c => ⟨by decide, fun c2 => ⟨Or.inl rfl, hS _ _ _ (hG F' A' g1 g2)⟩, fun c2 => absurd rfl c2⟩⟩
    rcases hon with ⟨rfl, h0, h0n⟩ | hon
    · rw [if_pos rfl] at hG hB
      rw [if_pos rfl] at hG
      unfold twg at hG
      refine ⟨by decide, fun _ => ⟨fun c2 => absurd rfl c2, fun _ => ⟨by omega, fun c2 => ?_, fun c2 => ?_⟩⟩, fun c2 => absurd rfl c2⟩
      · rw [if_pos (by omega)] at hG
        exact stop _ A ((agF.rf _ _).up (by decide)) (agA.rf _ _) hG
      · rw [if_neg (by omega)] at hG
        have hT1 : (T1.1 : Nat) = 1 := rfl
        refine loop _ T1 0 _ A (by decide) (by omega) (by omega) (by omega) ?_ ((agF.rf _ _).up (by decide)) (agA.rf _ _) hB hG
        rw [upN_eq]; omega
    · rw [if_neg (by omega)] at hG hB
      rw [if_neg (by omega)] at hG
      unfold twg at hG
      refine ⟨by omega, fun c2 => by omega, fun _ => c_binds (hk1.le (by omega)) (by omega) (by omega) fun A' g1 g2 => ⟨fun _ => ⟨by omega, fun c2 => ?_, fun c2 => ?_⟩, fun c2 => by omega⟩⟩
      · rw [if_pos (by omega)] at hG
        exact stop _ A' ((agF.rf _ _).up (by decide)) g1 hG
      · rw [if_neg (by omega)] at hG
        refine loop _ (grT T on1) 0 _ A' (by decide) (by omega) (by rw [grT_n]; omega) (by rw [grT_n]; omega) ?_ ((agF.rf _ _).up (by decide)) g1 ?_ hG
        · rw [upN_eq, grT_n]; omega
        · rw [g2]; exact BB.grow hB (by omega) (by omega)
theorem c_comesFrom {K : KM} (hk : MK K 18) {n : Nat} (h1 : 1 ≤ n) (hn : n ≤ 13) {v : Int} (hv : rI v) {F : Nat → Int} {A : Nat → Int → Int} {Φ : PI}
    (hN : (v < 0 ∨ p5 (n : Int) ≤ v ∨ canT n v = none) → ∀ F' A', agF [1, 6, 7, 8] F F' → agA [0] A A' → Φ 0 F' A')
    (hY : ∀ C, 0 ≤ v → v < p5 (n : Int) → canT n v = some C → ∀ F' A', agF [1, 6, 7, 8] F F' → agA [0] A A' → LM C F' A' → Φ 1 F' A') : RI mX5_comesFrom K [.ref K.m, vI (n : Int), vI v] F A Φ := by
  have hp := p5_le (x := (n : Int)) (by omega)
  refine RI.w (n := 17) hk (fun K1 hk1 hS => wX5_comesFrom_0 K1 hk1.1 ⟨hv, fun c => hS _ _ _ (hN (Or.inl c) F A (agF.rf _ _) (agA.rf _ _)), fun c => c_power (hk1.le (by decide)) (by omega) ⟨by omega, fun c2 => ?_, fun c2 => hS _ _ _ (hN (Or.inr (Or.inl (by omega))) F A (agF.rf _ _) (agA.rf _ _))⟩⟩)
  have key : ∀ (m : Nat) (k : Int) (A' : Nat → Int → Int), 0 ≤ k → k + (m : Int) = 13 → agA [0] A A' → (∀ a, 0 ≤ a → a < k → A' 0 a = 0) → VM K1 mX5_comesFrom 16 [(0, .ref K1.m), (1, vI (n : Int)), (2, vI v), (3, vI k)] [] F A' := by
    intro m
    induction m with
    | succ m ih =>
      intro k A' h0 hk' ha hall
      refine wX5_comesFrom_16 K1 hk1.1 ⟨by omega, fun c => by omega, fun c => ⟨by omega, ih (k + 1) _ (by omega) (by omega) (ha.up (by decide)) fun a h1 h2 => ?_⟩⟩
      by_cases e : a = k
      · rw [e, upA_at]
      · rw [upA_off _ _ _ e]; exact hall a h1 (by omega)
    | zero =>
      intro k A' h0 hk' ha hall
      refine wX5_comesFrom_16 K1 hk1.1 ⟨by omega, fun _ => ?_, fun c => by omega⟩
      have hT0 : ((0, fun _ _ => false) : Tr).1 = 0 := rfl
      refine c_grows (v := v) hn ⟨by omega, by omega⟩ 13 K1 (0, fun _ _ => false) (-1) (hk1.le (by decide)) (by omega) (by omega) (Or.inl ⟨rfl, rfl, h1⟩) rfl rfl rfl ?_ ?_
      · intro a ha0 ha1
        rw [if_pos rfl, hall a ha0 (by omega)]
        exact ⟨by decide, fun b hb0 hb1 => hasB_zero ⟨hb0, by omega⟩⟩
      · rw [if_pos (by show 0 < n; omega), if_pos rfl, if_pos rfl]
        have hF : agF [1, 6, 7, 8] F (upN (upN (upN (upN F 1 (n : Int)) 7 (n : Int)) 8 v) 6 0) := ((((agF.rf _ _).up (by decide)).up (by decide)).up (by decide)).up (by decide)
        have hC : canT n v = (match twg (dgt n v) n 13 0 0 T1 with
          | some T => if T.1 = n ∧ nmc (cd T 13 0 (-1)) = v then some T else none
          | none => none) := rfl
        show GW (twg (dgt n v) n 13 0 0 T1) _ _ _
        cases e : twg (dgt n v) n 13 0 0 T1 with
        | none =>
          rw [e] at hC
          intro F2 A2 g1 g2
          exact ⟨by decide, fun _ => hS _ _ _ (hN (Or.inr (Or.inr hC)) F2 A2 (hF.tr (g1.sb (by decide))) (ha.tr g2)), fun c => absurd rfl c⟩
        | some T =>
          rw [e] at hC
          dsimp only at hC
          intro F2 A2 g1 g2 g3 g4
          have hlt : 1 ≤ T.1 ∧ T.1 ≤ n := twg_lt' 13 0 0 T1 T h1 e
          have g5 := hF.tr (g1.sb (by decide))
          refine ⟨by decide, fun c => absurd c (by decide), fun _ => ⟨by omega, by omega, fun c3 => ?_, fun c3 => ?_⟩⟩
          · rw [if_neg (by omega)] at hC
            exact hS _ _ _ (hN (Or.inr (Or.inr hC)) F2 A2 g5 (ha.tr g2))
          · have hTn : T.1 = n := by omega
            obtain ⟨d, hT⟩ := (twg_ok hn (dgt_ge n v) 13 0 0 T1 T _ T1_ok ⟨by decide, by decide⟩ rfl h1 e).1
            have hLM : LM T F2 A2 := by
              refine ⟨?_, g4⟩
              rw [g1 1 (by decide), hTn]
              rfl
            have hr := nmc_rng (cd T 13 0 (-1))
            have hr2 : nmc (cd T 13 0 (-1)) < 1220703125 := hr.2
            refine c_codeOf hT 13 K1 0 (-1) (hk1.le (by decide)) (Tw.top ⟨by decide, by omega⟩ hT.n1.2) hLM ⟨by omega, hv, fun c4 => ?_, fun c4 => ?_⟩
            · rw [if_neg (fun h => c4 h.2)] at hC
              exact hS _ _ _ (hN (Or.inr (Or.inr hC)) F2 A2 g5 (ha.tr g2))
            · rw [if_pos ⟨hTn, c4⟩] at hC
              exact hS _ _ _ (hY T (by omega) c2 hC F2 A2 g5 (ha.tr g2) hLM)
  exact key 13 0 A (by decide) (by decide) (agA.rf _ _) (fun a h1 h2 => by omega)
