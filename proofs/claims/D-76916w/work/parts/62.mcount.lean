set_option maxRecDepth 100000
/-! counting of the reference -/
theorem c_taken {K : KM} (hk : MK K 1) {x : Int} {n : Nat} (hx : 0 ≤ x) (hn : n < 1000) (hr : ∀ j, j < n → rL (tkn x j * (x + (j : Int)))) {F : Nat → Int} {A : Nat → Int → Int} {Φ : PI} (h : Φ (tkn x n) F A) : RL mX5_taken K [vL x, vI (n : Int)] F A Φ := by
  refine RL.ws (n := 0) hk (fun K1 hk1 hS => wX5_taken_0 K1 hk1.1 ?_)
  have key : ∀ (m k : Nat), k + m = n → VM K1 mX5_taken 5 [(0, vL x), (2, vI (n : Int)), (3, vL (tkn x k)), (5, vI (k : Int))] [] F A := by
    intro m
    induction m with
    | zero =>
      intro k hkn
      refine wX5_taken_5 K1 hk1.1 ⟨by omega, by omega, fun _ => hS _ _ _ ?_, fun c => by omega⟩
      rw [show k = n by omega]; exact h
    | succ m ih =>
      intro k hkn
      refine wX5_taken_5 K1 hk1.1 ⟨by omega, by omega, fun c => by omega, fun _ => ⟨by omega, hr k (by omega), by omega, by omega, ?_⟩⟩
      have h0 := tkn_ge hx k
      have := ih (k + 1) (by omega)
      rw [Int.tdiv_eq_ediv_of_nonneg (Int.mul_nonneg h0 (by omega))]
      exact this
  exact key n 0 (by omega)
theorem c_rowsOf : ∀ (f : Nat) (K : KM) (n from1 at1 : Int), MK K (f + 1) → 0 ≤ n ∧ n < (f : Int) ∧ n ≤ 4 → 0 ≤ from1 ∧ from1 ≤ 21 → 0 ≤ at1 ∧ at1 ≤ 19 → ∀ {F : Nat → Int} {A : Nat → Int → Int} {Φ : PI}, (∀ i, 0 ≤ i → i ≤ at1 → A 7 i = TW i) → Φ (rws f n from1 at1) F A → RL mX5_rowsOf K [.ref K.m, vI n, vI from1, vI at1] F A Φ := by
  intro f
  induction f with
  | zero => intro K n from1 at1 hk hn; omega
  | succ f ih =>
    intro K n from1 at1 hk hn hf ha F A Φ hT hΦ
    unfold rws at hΦ
    refine RL.w (n := f + 1) hk (fun K1 hk1 hS => wX5_rowsOf_0 K1 hk1.1 ⟨by omega, fun c => ?_, fun c => ⟨by omega, fun c2 => hS _ _ _ ?_, fun c2 => hS _ _ _ ?_⟩⟩)
    rotate_left
    · rwa [if_pos c, if_neg c2] at hΦ
    · rwa [if_pos c, if_pos c2] at hΦ
    rw [if_neg c] at hΦ
    have hq : ∀ size : Int, 0 ≤ size → (size * n ≤ at1 ↔ size ≤ at1 / n) := fun size _ => by
      rw [Int.le_ediv_iff_mul_le (by omega)]
    have hq0 : at1 / n ≤ at1 := Int.ediv_le_self _ ha.1
    have hqn : 0 ≤ at1 / n := Int.ediv_nonneg ha.1 (by omega)
    have key : ∀ (m : Nat) (size acc : Int), 0 ≤ size → size ≤ 21 → m = (at1 / n + 1 - size).toNat → Φ (acc + sumI ((rgf size m).map fun size => sumI ((rgf 1 n.toNat).map fun k => tkn (TW size) k.toNat * rws f (n - k) (size + 1) (at1 - size * k)))) F A → VM K1 mX5_rowsOf 20 [(0, .ref K1.m), (1, vI n), (3, vI at1), (4, vL acc), (6, vI size)] [] F A := by
      intro m
      induction m with
      | zero =>
        intro size acc h1 h2 h3 h4
        have h5 : ¬ size * n ≤ at1 := fun h5 => by rw [hq size h1] at h5; omega
        have h6 : size * n ≤ 84 := by
          have := Int.mul_le_mul h2 hn.2.2 hn.1 (by omega)
          omega
        refine wX5_rowsOf_20 K1 hk1.1 ⟨by omega, by omega, fun _ => hS _ _ _ ?_, fun c2 => by omega⟩
        rwa [rgf, List.map_nil, sumI_nil, Int.add_zero] at h4
      | succ m ihm =>
        intro size acc h1 h2 h3 h4
        have h5 : size * n ≤ at1 := by rw [hq size h1]; omega
        rw [rgf, List.map_cons, sumI_cons] at h4
        have h7 : size ≤ 20 := by
          have := (hq size h1).mp h5
          omega
        refine wX5_rowsOf_20 K1 hk1.1 ⟨⟨by have := Int.mul_nonneg h1 hn.1; omega, by omega⟩, by omega, fun c2 => by omega, fun _ => ?_⟩
        have inner : ∀ (j : Nat) (k acc : Int), 1 ≤ k → k + (j : Int) = n + 1 → Φ (acc + sumI ((rgf k j).map fun k => tkn (TW size) k.toNat * rws f (n - k) (size + 1) (at1 - size * k)) + sumI ((rgf (size + 1) m).map fun size => sumI ((rgf 1 n.toNat).map fun k => tkn (TW size) k.toNat * rws f (n - k) (size + 1) (at1 - size * k)))) F A → VM K1 mX5_rowsOf 31 [(0, .ref K1.m), (1, vI n), (3, vI at1), (4, vL acc), (6, vI size), (7, vI k)] [] F A := by
          intro j
          induction j with
          | zero =>
            intro k acc g1 g2 g3
            rw [rgf, List.map_nil, sumI_nil, Int.add_zero] at g3
            exact wX5_rowsOf_31 K1 hk1.1 ⟨by omega, by omega, fun _ => ihm (size + 1) acc (by omega) (by omega) (by omega) g3, fun c2 => by omega⟩
          | succ j ihj =>
            intro k acc g1 g2 g3
            rw [rgf, List.map_cons, sumI_cons] at g3
            have g4 : size * k ≤ size * n := Int.mul_le_mul_of_nonneg_left (by omega) h1
            have g5 : 0 ≤ size * k := Int.mul_nonneg h1 (by omega)
            have g6 : size ≤ at1 := by
              have : size * 1 ≤ size * n := Int.mul_le_mul_of_nonneg_left (by omega) h1
              omega
            refine wX5_rowsOf_31 K1 hk1.1 ⟨by omega, by omega, fun c2 => by omega, fun _ => ⟨by omega, by omega, fun c2 => by omega, fun _ => ⟨by omega, ?_⟩⟩⟩
            rw [hT size h1 g6]
            have ek : ((k.toNat : Nat) : Int) = k := by omega
            have := c_taken (n := k.toNat) (Φ := fun r5 F5 A5 => RL mX5_rowsOf K1 [.ref K1.m, vI (n - k), vI (size + 1), vI (at1 - size * k)] F5 A5 fun r6 F6 A6 => VM K1 mX5_rowsOf 31 [(0, .ref K1.m), (1, vI n), (3, vI at1), (4, vL (acc + r5 * r6)), (6, vI size), (7, vI (k + 1))] [] F6 A6) (hk1.le (by omega)) (F := F) (A := A) (TW_ge' ⟨h1, h7⟩) (by omega) (fun i hi => tkn_ok ⟨h1, h7⟩ (by omega) (by rw [ek]; omega) hi) ?_
            · rwa [ek] at this
            · refine ih K1 (n - k) (size + 1) (at1 - size * k) hk1 (by omega) (by omega) (by omega) (fun i i1 i2 => hT i i1 (by omega)) (ihj (k + 1) _ (by omega) (by omega) ?_)
              rw [Int.add_assoc acc]; exact g3
        refine inner n.toNat 1 acc (by decide) (by omega) ?_
        rw [Int.add_assoc]; exact h4
    exact key _ from1 0 hf.1 hf.2 rfl (by rw [Int.zero_add]; exact hΦ)
theorem c_countsTwigs {K : KM} (hk : MK K 8) {n : Int} (hn : 1 ≤ n ∧ n ≤ 20) {F : Nat → Int} {A : Nat → Int → Int} {Φ : PV} (hΦ : ∀ A', agA [7] A A' → (∀ i, 0 ≤ i → i ≤ n → A' 7 i = TW i) → Φ F A') : RV mX5_countsTwigs K [.ref K.m, vI n] F A Φ := by
  refine RV.w (n := 7) hk (fun K1 hk1 hS => wX5_countsTwigs_0 K1 hk1.1 ?_)
  have key : ∀ (m : Nat) (k : Int) (A' : Nat → Int → Int), 1 ≤ k → k + (m : Int) = n + 1 → agA [7] A A' → (∀ i, 0 ≤ i → i < k → A' 7 i = TW i) → VM K1 mX5_countsTwigs 9 [(0, .ref K1.m), (1, vI n), (2, vI k)] [] F A' := by
    intro m
    induction m with
    | zero =>
      intro k A' h1 h2 h3 h4
      exact wX5_countsTwigs_9 K1 hk1.1 ⟨by omega, by omega, fun _ => hS _ _ (hΦ A' h3 fun i i1 i2 => h4 i i1 (by omega)), fun c => by omega⟩
    | succ m ih =>
      intro k A' h1 h2 h3 h4
      refine wX5_countsTwigs_9 K1 hk1.1 ⟨by omega, by omega, fun c => by omega, fun _ => c_rowsOf 5 K1 3 0 (k - 1) (hk1.le (by decide)) (by decide) (by decide) (by omega) (fun i i1 i2 => h4 i i1 (by omega)) ⟨by omega, ih (k + 1) _ (by omega) (by omega) (h3.up (by decide)) fun i i1 i2 => ?_⟩⟩
      by_cases e : i = k
      · rw [e, upA_at]; exact TW_rec (by omega)
      · rw [upA_off _ _ _ e]; exact h4 i i1 (by omega)
  exact key n.toNat 1 _ (by decide) (by omega) ((agA.rf _ _).up (by decide)) fun i i1 i2 => by rw [show i = 0 by omega, upA_at]; rfl
theorem c_pairs {K : KM} (hk : MK K 2) {n : Int} (hn : 1 ≤ n ∧ n ≤ 20) {F : Nat → Int} {A : Nat → Int → Int} {Φ : PI} (hT : ∀ i, 0 ≤ i → i ≤ n → A 7 i = TW i) (hΦ : Φ (prs n) F A) : RL mX5_pairs K [.ref K.m, vI n] F A Φ := by
  refine RL.w (n := 1) hk (fun K1 hk1 hS => wX5_pairs_0 K1 hk1.1 ?_)
  have key : ∀ (m : Nat) (a acc : Int), 1 ≤ a → m = (n / 2 + 1 - a).toNat → a ≤ 11 → Φ (acc + sumI ((rgf a m).map fun a => if 2 * a = n then tkn (TW a) 2 else TW a * TW (n - a))) F A → VM K1 mX5_pairs 5 [(0, .ref K1.m), (1, vI n), (2, vL acc), (4, vI a)] [] F A := by
    intro m
    induction m with
    | zero =>
      intro a acc h1 h2 h3 h4
      refine wX5_pairs_5 K1 hk1.1 ⟨by omega, by omega, fun _ => hS _ _ _ ?_, fun c => by omega⟩
      rwa [rgf, List.map_nil, sumI_nil, Int.add_zero] at h4
    | succ m ih =>
      intro a acc h1 h2 h3 h4
      rw [rgf, List.map_cons, sumI_cons] at h4
      refine wX5_pairs_5 K1 hk1.1 ⟨by omega, by omega, fun c => by omega, fun _ => ⟨fun c => ⟨by omega, by omega, ih (a + 1) _ (by omega) (by omega) (by omega) ?_⟩, fun c => ⟨by omega, ?_⟩⟩⟩
      · rw [if_neg c] at h4
        rw [hT a (by omega) (by omega), hT (n - a) (by omega) (by omega), Int.add_assoc]; exact h4
      · rw [if_pos c] at h4
        rw [hT a (by omega) (by omega)]
        refine c_taken (n := 2) hk1 (TW_ge' (by omega)) (by decide) (fun j hj => tkn_ok (by omega) (by decide) (by show a * 2 ≤ 20; omega) hj) (ih (a + 1) _ (by omega) (by omega) (by omega) ?_)
        rw [Int.add_assoc]; exact h4
  exact key _ 1 0 (by decide) rfl (by decide) (by rw [Int.zero_add, show (n / 2 + 1 - 1).toNat = (n / 2).toNat by omega]; exact hΦ)
theorem o_counted {K : KM} (hk : MK K 9) {s : Sg} {F : Nat → Int} {A : Nat → Int → Int} (hM : MS s F A) {w n : Int} (hw : rI w) (hn : rI n) {Φ : PI} (h : ∀ F' A', MS s F' A' → Φ (opCounted w n) F' A') : RL mX5_counted K [.ref K.m, vI w, vI n] F A Φ := by
  unfold opCounted at h
  refine RL.w (n := 8) hk (fun K1 hk1 hS => wX5_counted_0 K1 hk1.1 ⟨hw, c_isInM (hk1.le (by decide)) (by omega) (by decide) (by decide) (brz (fun e => hS _ _ _ ?_) (fun e => ⟨hn, c_isInM (hk1.le (by decide)) (by omega) (by decide) (by decide) (brz' (fun e2 => ?_) (fun e2 => hS _ _ _ ?_))⟩))⟩)
  · have := h F A hM
    rwa [if_neg (fun hh => of_decide_eq_false e hh.1)] at this
  rotate_left
  · have := h F A hM
    rwa [if_neg (fun hh => of_decide_eq_false e2 hh.2)] at this
  have he := of_decide_eq_true e
  have he2 := of_decide_eq_true e2
  rw [if_pos ⟨he, he2⟩] at h
  refine c_countsTwigs (hk1.le (by decide)) he2 fun A2 g1 g2 => ?_
  have := h F A2 ⟨hM.1.fr (agF.rf _ _) (g1.sb (by decide)), hM.2.fr rfl (g1 3 (by decide)) (g1 4 (by decide))⟩
  have em : Int.tmod n 2 = n % 2 := Int.tmod_eq_emod_of_nonneg (by omega)
  have ed : Int.tdiv n 2 = n / 2 := Int.tdiv_eq_ediv_of_nonneg (by omega)
  rw [em, ed]
  have hrw : ∀ {Ψ : PI}, Ψ (rws 5 4 0 (n - 1)) F A2 → RL mX5_rowsOf K1 [.ref K1.m, vI 4, vI 0, vI (n - 1)] F A2 Ψ := fun hΨ => c_rowsOf 5 K1 4 0 (n - 1) (hk1.le (by decide)) (by decide) (by decide) (by omega) (fun i i1 i2 => g2 i i1 (by omega)) hΨ
  have hpr : ∀ {Ψ : PI}, Ψ (prs n) F A2 → RL mX5_pairs K1 [.ref K1.m, vI n] F A2 Ψ := fun hΨ => c_pairs (hk1.le (by decide)) he2 g2 hΨ
  refine ⟨by omega, fun c => ⟨fun c2 => ⟨by omega, hS _ _ _ ?_⟩, fun c2 => hrw (hS _ _ _ ?_), fun c2 => hpr (hS _ _ _ ?_), fun c2 => hS _ _ _ ?_, fun c2 => hrw (hpr (hS _ _ _ ?_))⟩, fun c => ⟨by omega, fun c2 => ⟨by omega, hS _ _ _ ?_⟩, fun c2 => hrw (hS _ _ _ ?_), fun c2 => hpr (hS _ _ _ ?_), fun c2 => hS _ _ _ ?_, fun c2 => hrw (hpr (hS _ _ _ ?_))⟩⟩
  · rw [if_pos c2] at this; rw [g2 n (by omega) (by omega)]; exact this
  · rwa [if_neg (by omega), if_pos c2] at this
  · rwa [if_neg (by omega), if_neg (by omega), if_pos c2] at this
  · rw [if_neg (by omega), if_neg (by omega), if_neg (by omega), if_pos c2] at this
    unfold hlf at this; rwa [if_neg c] at this
  · rw [if_neg (by omega), if_neg (by omega), if_neg (by omega), if_neg (by omega)] at this
    unfold hlf at this; rwa [if_neg c] at this
  · rw [if_pos c2] at this; rw [g2 n (by omega) (by omega)]; exact this
  · rwa [if_neg (by omega), if_pos c2] at this
  · rwa [if_neg (by omega), if_neg (by omega), if_pos c2] at this
  · rw [if_neg (by omega), if_neg (by omega), if_neg (by omega), if_pos c2] at this
    unfold hlf at this; rw [if_pos c] at this
    rw [g2 (n / 2) (by omega) (by omega)]; exact this
  · rw [if_neg (by omega), if_neg (by omega), if_neg (by omega), if_neg (by omega)] at this
    unfold hlf at this; rw [if_pos c] at this
    rw [g2 (n / 2) (by omega) (by omega)]; exact this
