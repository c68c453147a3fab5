set_option maxRecDepth 100000
/-! contracts of the reference: the frame of a proof -/
/-- letters of a text -/
def chr (s : String) (j : Int) : Int := ((s.toList.getD j.toNat ' ').toNat : Int)
/-- the String constants lie in the world, apart from one object -/
def SWd (G : GG) (w : Wd) (m : Nat) : Prop := ∀ (i : Nat) (x : String × Nat × String), strs[i]? = some x → ∃ b : Nat, w (G.ad i) = some (obS b) ∧ G.ad i ≠ m ∧ b ≠ m ∧ w b = some (obA 2 x.2.2.toList.length (chr x.2.2))
abbrev MX (K : KM) : Prop := XS K.G ∧ XY K.G ∧ SWd K.G K.w K.m
abbrev MK (K : KM) (n : Nat) : Prop := K.G.base ≤ K.m ∧ MX K ∧ n ≤ K.d
theorem MK.le {K : KM} {n m : Nat} (h : MK K n) (hm : m ≤ n) : MK K m := ⟨h.1, h.2.1, Nat.le_trans hm h.2.2⟩
abbrev PI : Type := Int → (Nat → Int) → (Nat → Int → Int) → Prop
abbrev PV : Type := (Nat → Int) → (Nat → Int → Int) → Prop
section MW
variable {K : KM} {Mc : Mt} {As : List Value} {F : Nat → Int} {A : Nat → Int → Int} {n : Nat}
theorem RI.w {Φ : PI} (hk : MK K (n + 1)) (k : ∀ K1 : KM, MK K1 n → (∀ x F A, Φ x F A → SI K1 x F A) → VM K1 Mc 0 (lv_args 0 (.ref K1.m :: As)) [] F A)
    (hy : plainName Mc.1.cls = true := by decide +kernel) (hfit : (lg_sl (.ref K.m :: As)).length ≤ Mc.2.2.1 := by exact Nat.le_of_ble_eq_true rfl) : RI Mc K (.ref K.m :: As) F A Φ :=
  RI.of n (by have := hk.2.2; omega) hy hfit (fun K1 e1 e2 e3 e4 e5 e6 e7 hS => by
    rw [← e4]
    exact k K1 ⟨by rw [e2, e4]; exact hk.1, by unfold MX; rw [e2, e4, e5]; exact hk.2.1, by omega⟩ hS)
theorem RI.ws {Φ : PI} (hk : MK K (n + 1)) (k : ∀ K1 : KM, MK K1 n → (∀ x F A, Φ x F A → SI K1 x F A) → VM K1 Mc 0 (lv_args 0 As) [] F A)
    (hy : plainName Mc.1.cls = true := by decide +kernel) (hfit : (lg_sl As).length ≤ Mc.2.2.1 := by exact Nat.le_of_ble_eq_true rfl) : RI Mc K As F A Φ :=
  RI.of n (by have := hk.2.2; omega) hy hfit (fun K1 e1 e2 e3 e4 e5 e6 e7 hS => k K1 ⟨by rw [e2, e4]; exact hk.1, by unfold MX; rw [e2, e4, e5]; exact hk.2.1, by omega⟩ hS)
theorem RL.w {Φ : PI} (hk : MK K (n + 1)) (k : ∀ K1 : KM, MK K1 n → (∀ x F A, Φ x F A → SL K1 x F A) → VM K1 Mc 0 (lv_args 0 (.ref K1.m :: As)) [] F A)
    (hy : plainName Mc.1.cls = true := by decide +kernel) (hfit : (lg_sl (.ref K.m :: As)).length ≤ Mc.2.2.1 := by exact Nat.le_of_ble_eq_true rfl) : RL Mc K (.ref K.m :: As) F A Φ :=
  RL.of n (by have := hk.2.2; omega) hy hfit (fun K1 e1 e2 e3 e4 e5 e6 e7 hS => by
    rw [← e4]
    exact k K1 ⟨by rw [e2, e4]; exact hk.1, by unfold MX; rw [e2, e4, e5]; exact hk.2.1, by omega⟩ hS)
theorem RL.ws {Φ : PI} (hk : MK K (n + 1)) (k : ∀ K1 : KM, MK K1 n → (∀ x F A, Φ x F A → SL K1 x F A) → VM K1 Mc 0 (lv_args 0 As) [] F A)
    (hy : plainName Mc.1.cls = true := by decide +kernel) (hfit : (lg_sl As).length ≤ Mc.2.2.1 := by exact Nat.le_of_ble_eq_true rfl) : RL Mc K As F A Φ :=
  RL.of n (by have := hk.2.2; omega) hy hfit (fun K1 e1 e2 e3 e4 e5 e6 e7 hS => k K1 ⟨by rw [e2, e4]; exact hk.1, by unfold MX; rw [e2, e4, e5]; exact hk.2.1, by omega⟩ hS)
theorem RV.w {Φ : PV} (hk : MK K (n + 1)) (k : ∀ K1 : KM, MK K1 n → (∀ F A, Φ F A → SV K1 F A) → VM K1 Mc 0 (lv_args 0 (.ref K1.m :: As)) [] F A)
    (hy : plainName Mc.1.cls = true := by decide +kernel) (hfit : (lg_sl (.ref K.m :: As)).length ≤ Mc.2.2.1 := by exact Nat.le_of_ble_eq_true rfl) : RV Mc K (.ref K.m :: As) F A Φ :=
  RV.of n (by have := hk.2.2; omega) hy hfit (fun K1 e1 e2 e3 e4 e5 e6 e7 hS => by
    rw [← e4]
    exact k K1 ⟨by rw [e2, e4]; exact hk.1, by unfold MX; rw [e2, e4, e5]; exact hk.2.1, by omega⟩ hS)
/-- a JDK method that reads nothing of the world -/
theorem RI.x {Φ : PI} (hk : MK K (n + 1)) (k : VX (K.l, K.G, n, As, K.sz, pI K Φ) Mc 0 (lv_args 0 As) [] (K.wd F A) K.sz 0)
    (hy : plainName Mc.1.cls = true := by decide +kernel) (hfit : (lg_sl As).length ≤ Mc.2.2.1 := by exact Nat.le_of_ble_eq_true rfl) : RI Mc K As F A Φ :=
  ⟨n, by have := hk.2.2; omega, Ret.of hy hfit k⟩
theorem RL.x {Φ : PI} (hk : MK K (n + 1)) (k : VX (K.l, K.G, n, As, K.sz, pL K Φ) Mc 0 (lv_args 0 As) [] (K.wd F A) K.sz 0)
    (hy : plainName Mc.1.cls = true := by decide +kernel) (hfit : (lg_sl As).length ≤ Mc.2.2.1 := by exact Nat.le_of_ble_eq_true rfl) : RL Mc K As F A Φ :=
  ⟨n, by have := hk.2.2; omega, Ret.of hy hfit k⟩
end MW
/-! small ones -/
theorem c_bitCount {K : KM} (hk : MK K 1) {z : Int} (hz : sm z) {F : Nat → Int} {A : Nat → Int → Int} {Φ : PI} (h : Φ ((bitsOf z).length : Int) F A) : RI mJ9_bitCount K [vI z] F A Φ := by
  refine RI.x (n := 0) hk (wJ9_bitCount_0 _ ⟨popN z, F, A, rfl, rfl, rfl, rfl, ?_⟩)
  rw [pop_bits hz]; exact h
theorem c_isInM {K : KM} (hk : MK K 1) {x a b : Int} (hx : rL x) (ha : rL a) (hb : rL b) {F : Nat → Int} {A : Nat → Int → Int} {Φ : PI} (h : Φ (bz (decide (a ≤ x ∧ x ≤ b))) F A) : RI mX5_isIn K [vL x, vL a, vL b] F A Φ := by
  refine RI.ws (n := 0) hk (fun K1 hk1 hS => wX5_isIn_0 K1 hk1.1 ⟨hx, ha, fun c => hS _ _ _ ?_, fun c => ⟨hb, fun c2 => hS _ _ _ ?_, fun c2 => hS _ _ _ ?_⟩⟩)
  · rw [cmpI_lt] at c
    rwa [decide_eq_false (by omega)] at h
  · rw [cmpI_gt] at c2
    rwa [decide_eq_false (by omega)] at h
  · rw [cmpI_lt] at c
    rw [cmpI_gt] at c2
    rwa [decide_eq_true (by omega)] at h
theorem c_has {K : KM} (hk : MK K 1) {z b : Int} {F : Nat → Int} {A : Nat → Int → Int} {Φ : PI} (h : Φ (bz (hasB z b)) F A) : RI mX5_has K [vI z, vI b] F A Φ := by
  refine RI.ws (n := 0) hk (fun K1 hk1 hS => wX5_has_0 K1 hk1.1 ⟨rI_iand _ _, fun c => hS _ _ _ ?_, fun c => hS _ _ _ ?_⟩)
  · unfold hasB at h; rwa [decide_eq_false c] at h
  · unfold hasB at h; rwa [decide_eq_true c] at h
theorem c_power {K : KM} (hk : MK K 1) {x : Int} (h0 : 0 ≤ x ∧ x ≤ 13) {F : Nat → Int} {A : Nat → Int → Int} {Φ : PI} (h : Φ (p5 x) F A) : RI mX5_power K [vI x] F A Φ := by
  refine RI.ws (n := 0) hk (fun K1 hk1 hS => wX5_power_0 K1 hk1.1 ?_)
  have key : ∀ (m : Nat) (k : Int), 0 ≤ k → k + (m : Int) = x → VM K1 mX5_power 4 [(0, vI x), (1, vI (p5 k)), (2, vI k)] [] F A := by
    intro m
    induction m with
    | zero =>
      intro k h1 h2
      refine wX5_power_4 K1 hk1.1 ⟨by omega, by omega, fun c => hS _ _ _ ?_, fun c => absurd c (by omega)⟩
      rw [show k = x by omega]
      exact h
    | succ m ih =>
      intro k h1 h2
      refine wX5_power_4 K1 hk1.1 ⟨by omega, by omega, fun c => absurd c (by omega), fun c => ?_⟩
      have := ih (k + 1) (by omega) (by omega)
      rwa [p5_succ h1, Int.mul_comm] at this
  exact key x.toNat 0 (by decide) (by omega)
/-! the tree that is looked at -/
abbrev BB (T : Tr) (g : Int → Int) : Prop := ∀ a, 0 ≤ a → a < 13 → sm (g a) ∧ ∀ b, 0 ≤ b → b < 13 → hasB (g a) b = T.2 a b
abbrev LM (T : Tr) (F : Nat → Int) (A : Nat → Int → Int) : Prop := F 1 = (T.1 : Int) ∧ BB T (A 0)
theorem rg_more {n m : Nat} (h : n ≤ m) {p : Int → Bool} (hp : ∀ b : Int, (n : Int) ≤ b → p b = false) : (rg m).filter p = (rg n).filter p := by
  obtain ⟨k, rfl⟩ : ∃ k, m = n + k := ⟨m - n, by omega⟩
  show (rgf 0 (n + k)).filter p = _
  have h0 : (rgf (0 + (n : Int)) k).filter p = [] := List.filter_eq_nil_iff.mpr fun b hb => by
    rw [mem_rgf] at hb
    rw [hp b (by omega)]; decide
  rw [rgf_split, List.filter_append, h0, List.append_nil]
theorem LM.bits {T : Tr} {d : Int → Int → Int} (h : TrOk T d) {F : Nat → Int} {A : Nat → Int → Int} (hL : LM T F A) {a : Int} (ha : 0 ≤ a ∧ a < 13) : bitsOf (A 0 a) = nbs T a := by
  unfold bitsOf nbs
  rw [← rg_more (n := T.1) (m := 13) h.n1.2 (p := fun b => T.2 a b)]
  · refine List.filter_congr fun b hb => ?_
    rw [mem_rgf] at hb
    exact (hL.2 a ha.1 ha.2).2 b (by omega) (by omega)
  · intro b hb
    cases e : T.2 a b with
    | false => rfl
    | true => have := (h.rng e).2; omega
/-- the children from a place on -/
def chF (T : Tr) (b a k : Int) (m : Nat) : List Int := (rgf k m).filter (fun c => T.2 b c && !(c == a))
theorem chF_all (T : Tr) (b a : Int) : chF T b a 0 T.1 = chs T b a := by
  unfold chF chs nbs
  rw [List.filter_filter]
  exact List.filter_congr fun c _ => Bool.and_comm _ _
theorem chF_zero (T : Tr) (b a k : Int) : chF T b a k 0 = [] := rfl
theorem chF_yes {T : Tr} {b a k : Int} {m : Nat} (h : T.2 b k = true) (hn : k ≠ a) : chF T b a k (m + 1) = k :: chF T b a (k + 1) m := by
  unfold chF
  rw [rgf, List.filter_cons_of_pos]
  simp [h, hn]
theorem chF_no {T : Tr} {b a k : Int} {m : Nat} (h : T.2 b k = false ∨ k = a) : chF T b a k (m + 1) = chF T b a (k + 1) m := by
  unfold chF
  rw [rgf, List.filter_cons_of_neg]
  rcases h with h | h <;> simp [h]
/-- a step of a loop over what is bonded -/
theorem nb_step {K : KM} {T : Tr} {d : Int → Int → Int} {F : Nat → Int} {A : Nat → Int → Int} {a from1 k : Int} {END : Prop} {NEXT BODY : (Nat → Int) → (Nat → Int → Int) → Prop} (hk : MK K 1) (h : TrOk T d) (hL : LM T F A) (ha : inT T a) (hk0 : 0 ≤ k ∧ k ≤ (T.1 : Int)) (hf : rI from1)
    (h1 : k = (T.1 : Int) → END) (h2 : k < (T.1 : Int) → (T.2 a k = false ∨ k = from1) → NEXT F A) (h3 : k < (T.1 : Int) → T.2 a k = true → k ≠ from1 → BODY F A) :
    rI k ∧ rI (F 1) ∧ ((F 1 ≤ k → END) ∧ (¬ F 1 ≤ k → ((0 ≤ a ∧ a < 13) ∧ RI mX5_has K [vI (A 0 a), vI k] F A fun r F A => rI r ∧ ((r = 0 → NEXT F A) ∧ (¬ r = 0 → (rI from1 ∧ ((k = from1 → NEXT F A) ∧ (¬ k = from1 → BODY F A)))))))) := by
  have hn := h.n1
  have hF := hL.1
  refine ⟨by omega, by omega, fun c => h1 (by omega), fun c => ⟨by omega, c_has hk (brz (fun e => ?_) (fun e => ⟨hf, fun c2 => ?_, fun c2 => ?_⟩))⟩⟩
  · rw [(hL.2 a ha.1 (by omega)).2 k hk0.1 (by omega)] at e
    exact h2 (by omega) (Or.inl e)
  · exact h2 (by omega) (Or.inr c2)
  · rw [(hL.2 a ha.1 (by omega)).2 k hk0.1 (by omega)] at e
    exact h3 (by omega) e c2
theorem Tw.rIa {T : Tr} {d : Int → Int → Int} (h : TrOk T d) {f : Nat} {b a : Int} (t : Tw T d f b a) : rI a := by
  have hn := h.n1
  obtain ⟨hb, ⟨h0, -⟩ | ⟨e, -⟩⟩ := t
  · omega
  · have := (h.rng e).1; omega
theorem c_sizeOf {T : Tr} {d : Int → Int → Int} (h : TrOk T d) : ∀ (f : Nat) (K : KM) (b a : Int), MK K (f + 1) → Tw T d f b a → ∀ {F : Nat → Int} {A : Nat → Int → Int} {Φ : PI}, LM T F A → Φ ((pl T f b a).length : Int) F A → RI mX5_sizeOf K [.ref K.m, vI b, vI a] F A Φ := by
  intro f
  induction f with
  | zero => intro K b a hk t; obtain ⟨f', h1⟩ := t.pos h; omega
  | succ f ih =>
    intro K b a hk t F A Φ hL hΦ
    refine RI.w (n := f + 1) hk (fun K1 hk1 hS => wX5_sizeOf_0 K1 hk1.1 ?_)
    have key : ∀ (m : Nat) (k acc : Int), 0 ≤ k → k + (m : Int) = (T.1 : Int) → acc + sumI ((chF T b a k m).map fun c => ((pl T f c b).length : Int)) = ((pl T (f + 1) b a).length : Int) → VM K1 mX5_sizeOf 5 [(0, .ref K1.m), (1, vI b), (2, vI a), (3, vI acc), (4, vI k)] [] F A := by
      intro m
      induction m with
      | zero =>
        intro k acc hk0 hkn hacc
        refine wX5_sizeOf_5 K1 hk1.1 (nb_step (hk1.le (by omega)) h hL t.1 (by omega) (t.rIa h) (fun _ => hS _ _ _ ?_) (fun c => by omega) (fun c => by omega))
        rw [chF_zero, List.map_nil, sumI_nil, Int.add_zero] at hacc
        rw [hacc]; exact hΦ
      | succ m ihm =>
        intro k acc hk0 hkn hacc
        refine wX5_sizeOf_5 K1 hk1.1 (nb_step (hk1.le (by omega)) h hL t.1 (by omega) (t.rIa h) (fun c => by omega) (fun _ c => ?_) (fun _ e c => ?_))
        · rw [chF_no c] at hacc
          exact ihm (k + 1) (acc + 0) (by omega) (by omega) (by omega)
        · rw [chF_yes e c, List.map_cons, sumI_cons] at hacc
          exact ih K1 k b hk1 (t.step h (h.mem_chs.mpr ⟨e, c⟩)) hL (ihm (k + 1) _ (by omega) (by omega) (by omega))
    exact key T.1 0 1 (by decide) (by omega) (by rw [chF_all, pl_len])
theorem c_deepOf {T : Tr} {d : Int → Int → Int} (h : TrOk T d) : ∀ (f : Nat) (K : KM) (b a : Int), MK K (f + 1) → Tw T d f b a → ∀ {F : Nat → Int} {A : Nat → Int → Int} {Φ : PI}, LM T F A → Φ (dp T f b a) F A → RI mX5_deepOf K [.ref K.m, vI b, vI a] F A Φ := by
  have hdp : ∀ (f : Nat) (b a : Int), Tw T d f b a → dp T f b a < 13 := by
    intro f b a t
    obtain ⟨-, x, hx, -, e⟩ := dp_spec h f b a t
    have := h.dlt hx t.1
    have := h.n1
    omega
  intro f
  induction f with
  | zero => intro K b a hk t; obtain ⟨f', h1⟩ := t.pos h; omega
  | succ f ih =>
    intro K b a hk t F A Φ hL hΦ
    refine RI.w (n := f + 1) hk (fun K1 hk1 hS => wX5_deepOf_0 K1 hk1.1 ?_)
    have hlt := hdp _ _ _ t
    have key : ∀ (m : Nat) (k acc : Int), 0 ≤ k → k + (m : Int) = (T.1 : Int) → 0 ≤ acc → max acc (maxI ((chF T b a k m).map fun c => 1 + dp T f c b)) = dp T (f + 1) b a → VM K1 mX5_deepOf 5 [(0, .ref K1.m), (1, vI b), (2, vI a), (3, vI acc), (4, vI k)] [] F A := by
      intro m
      induction m with
      | zero =>
        intro k acc hk0 hkn ha0 hacc
        refine wX5_deepOf_5 K1 hk1.1 (nb_step (hk1.le (by omega)) h hL t.1 (by omega) (t.rIa h) (fun _ => hS _ _ _ ?_) (fun c => by omega) (fun c => by omega))
        rw [chF_zero] at hacc
        rw [show acc = dp T (f + 1) b a by rw [← hacc]; show acc = max acc 0; omega]; exact hΦ
      | succ m ihm =>
        intro k acc hk0 hkn ha0 hacc
        refine wX5_deepOf_5 K1 hk1.1 (nb_step (hk1.le (by omega)) h hL t.1 (by omega) (t.rIa h) (fun c => by omega) (fun _ c => ?_) (fun _ e c => ?_))
        · rw [chF_no c] at hacc
          exact ihm (k + 1) acc (by omega) (by omega) ha0 hacc
        · rw [chF_yes e c, List.map_cons, maxI_cons] at hacc
          have ts := t.step h (h.mem_chs.mpr ⟨e, c⟩)
          have h2 := hdp _ _ _ ts
          have h3 := dp_ge T f k b
          exact ih K1 k b hk1 ts hL ⟨by omega, by omega, by have := hk1.2.2; omega, ihm (k + 1) _ (by omega) (by omega) (by omega) (by omega)⟩
    refine key T.1 0 0 (by decide) (by omega) (by decide) ?_
    rw [chF_all]
    show max 0 (dp T (f + 1) b a) = _
    have := dp_ge T (f + 1) b a
    omega
theorem fo_rng {T : Tr} {d : Int → Int → Int} (h : TrOk T d) {x : Int} (hx : inT T x) {f : Nat} {b a : Int} (t : Tw T d f b a) : -1 ≤ fo T f b x a ∧ fo T f b x a < 13 := by
  have hn := h.n1
  obtain ⟨h1, h2⟩ := fo_spec h hx f b a t
  by_cases c : inTw d b a x
  · rw [h1 c]
    have := h.dge hx t.1
    have := h.dlt hx t.1
    omega
  · rw [h2 c]; omega
theorem c_farOf {T : Tr} {d : Int → Int → Int} (h : TrOk T d) {x : Int} (hx : inT T x) : ∀ (f : Nat) (K : KM) (b a : Int), MK K (f + 1) → Tw T d f b a → ∀ {F : Nat → Int} {A : Nat → Int → Int} {Φ : PI}, LM T F A → Φ (fo T f b x a) F A → RI mX5_farOf K [.ref K.m, vI b, vI x, vI a] F A Φ := by
  have hn := h.n1
  intro f
  induction f with
  | zero => intro K b a hk t; obtain ⟨f', h1⟩ := t.pos h; omega
  | succ f ih =>
    intro K b a hk t F A Φ hL hΦ
    have hb := t.1
    refine RI.w (n := f + 1) hk (fun K1 hk1 hS => wX5_farOf_0 K1 hk1.1 ⟨by omega, by omega, fun c => ?_, fun c => hS _ _ _ ?_⟩)
    · have hΦ : Φ (fo1 (fun c => fo T f c x b) (chs T b a)) F A := by
        unfold fo at hΦ; rwa [if_neg c] at hΦ
      have key : ∀ (m : Nat) (k : Int), 0 ≤ k → k + (m : Int) = (T.1 : Int) → fo1 (fun c => fo T f c x b) (chF T b a k m) = fo1 (fun c => fo T f c x b) (chs T b a) → VM K1 mX5_farOf 10 [(0, .ref K1.m), (1, vI b), (2, vI x), (3, vI a), (4, vI k)] [] F A := by
        intro m
        induction m with
        | zero =>
          intro k hk0 hkn hacc
          refine wX5_farOf_10 K1 hk1.1 (nb_step (hk1.le (by omega)) h hL t.1 (by omega) (t.rIa h) (fun _ => hS _ _ _ ?_) (fun c => by omega) (fun c => by omega))
          rw [← hacc] at hΦ; exact hΦ
        | succ m ihm =>
          intro k hk0 hkn hacc
          refine wX5_farOf_10 K1 hk1.1 (nb_step (hk1.le (by omega)) h hL t.1 (by omega) (t.rIa h) (fun c => by omega) (fun _ c => ?_) (fun _ e c => ?_))
          · rw [chF_no c] at hacc
            exact ihm (k + 1) (by omega) (by omega) hacc
          · rw [chF_yes e c, fo1] at hacc
            have ts := t.step h (h.mem_chs.mpr ⟨e, c⟩)
            have h2 := fo_rng h hx ts
            refine ih K1 k b hk1 ts hL ⟨by omega, fun c2 => ?_, fun c2 => hS _ _ _ ?_⟩
            · rw [if_pos c2] at hacc
              exact ihm (k + 1) (by omega) (by omega) hacc
            · rw [if_neg c2] at hacc
              rw [hacc]; exact hΦ
      exact key T.1 0 (by decide) (by omega) (by rw [chF_all])
    · unfold fo at hΦ; rwa [if_pos c] at hΦ
