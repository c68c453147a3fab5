set_option maxRecDepth 100000
/-! a tree by its digits -/
def rpt (g : Tr → Option Tr) : Nat → Tr → Option Tr
  | 0, T => some T
  | k + 1, T => (g T).bind (rpt g k)
def twg (dg : Int → Int) (n : Nat) : Nat → Int → Int → Tr → Option Tr
  | 0, _, _, _ => none
  | f + 1, a, e, T => if 4 < dg a + e then none else rpt (fun T => if T.1 < n then twg dg n f (T.1 : Int) 1 (grT T a) else none) (dg a).toNat T
theorem rpt_succ {g : Tr → Option Tr} {k : Nat} {T T' : Tr} (h : rpt g (k + 1) T = some T') : ∃ T1, g T = some T1 ∧ rpt g k T1 = some T' := by
  unfold rpt at h
  exact Option.bind_eq_some_iff.mp h
theorem grT_n (T : Tr) (a : Int) : (grT T a).1 = T.1 + 1 := rfl
theorem twg_ok {dg : Int → Int} {n : Nat} (hn : n ≤ 13) (hd : ∀ k, 0 ≤ dg k) : ∀ (f : Nat) (a e : Int) (T T' : Tr) (d : Int → Int → Int), TrOk T d → inT T a → ((nbs T a).length : Int) = e → T.1 ≤ n → twg dg n f a e T = some T' →
    (∃ d', TrOk T' d') ∧ T.1 ≤ T'.1 ∧ T'.1 ≤ n ∧ (∀ x, inT T x → x ≠ a → nbs T' x = nbs T x) ∧ ((nbs T' a).length : Int) = e + dg a := by
  intro f
  induction f with
  | zero => intro a e T T' d _ _ _ _ h; cases h
  | succ f ih =>
    intro a e T T' d hT ha he hTn h
    unfold twg at h
    by_cases c : 4 < dg a + e
    · rw [if_pos c] at h; cases h
    rw [if_neg c] at h
    have key : ∀ (m : Nat) (T T' : Tr) (d : Int → Int → Int), TrOk T d → inT T a → ((nbs T a).length : Int) + m ≤ 4 → T.1 ≤ n → rpt (fun T => if T.1 < n then twg dg n f (T.1 : Int) 1 (grT T a) else none) m T = some T' →
        (∃ d', TrOk T' d') ∧ T.1 ≤ T'.1 ∧ T'.1 ≤ n ∧ (∀ x, inT T x → x ≠ a → nbs T' x = nbs T x) ∧ ((nbs T' a).length : Int) = (nbs T a).length + m := by
      intro m
      induction m with
      | zero =>
        intro T T' d hT ha he hTn h
        cases h
        exact ⟨⟨d, hT⟩, Nat.le_refl _, hTn, fun _ _ _ => rfl, by omega⟩
      | succ m ihm =>
        intro T T' d hT ha he hTn h
        obtain ⟨T1, h1, h2⟩ := rpt_succ h
        by_cases c : T.1 < n
        · rw [if_pos c] at h1
          have hg := hT.grow ha (by omega) (by omega)
          have hnew : nbs (grT T a) (T.1 : Int) = [a] := nbs_grT_new hT ha
          obtain ⟨⟨d1, g1⟩, g2, g3, g4, g5⟩ := ih (T.1 : Int) 1 (grT T a) T1 _ hg ⟨by omega, by rw [grT_n]; omega⟩ (by rw [hnew]; rfl) (by rw [grT_n]; omega) h1
          rw [grT_n] at g2
          have ha1 : inT T1 a := ⟨ha.1, by omega⟩
          have e1 : nbs T1 a = nbs T a ++ [(T.1 : Int)] := by
            rw [g4 a ⟨ha.1, by rw [grT_n]; omega⟩ (by omega), nbs_grT_self hT ha]
          have e2 : (nbs T1 a).length = (nbs T a).length + 1 := by rw [e1, List.length_append]; rfl
          obtain ⟨k1, k2, k3, k4, k5⟩ := ihm T1 T' d1 g1 ha1 (by rw [e2]; omega) g3 h2
          refine ⟨k1, by omega, k3, fun x hx hxa => ?_, by rw [k5, e2]; omega⟩
          rw [k4 x ⟨hx.1, by omega⟩ hxa, g4 x ⟨hx.1, by rw [grT_n]; omega⟩ (by omega), nbs_grT_other hT hxa (by omega)]
        · rw [if_neg c] at h1; cases h1
    have hda := hd a
    obtain ⟨k1, k2, k3, k4, k5⟩ := key (dg a).toNat T T' d hT ha (by omega) hTn h
    exact ⟨k1, k2, k3, k4, by omega⟩
/-- the digits of a number, so many of them -/
def dgt (n : Nat) (v k : Int) : Int := (v / p5 ((n : Int) - 1 - k)) % 5
theorem dgt_ge (n : Nat) (v k : Int) : 0 ≤ dgt n v k := by unfold dgt; omega
theorem dgt_lt (n : Nat) (v k : Int) : dgt n v k < 5 := by unfold dgt; omega
/-- the tree that a number tells, if it is its own code at its first atom -/
def canT (n : Nat) (v : Int) : Option Tr :=
  match twg (dgt n v) n 13 0 0 T1 with
  | some T => if T.1 = n ∧ nmc (cd T 13 0 (-1)) = v then some T else none
  | none => none
theorem canT_some {n : Nat} {v : Int} {C : Tr} (h : canT n v = some C) : twg (dgt n v) n 13 0 0 T1 = some C ∧ C.1 = n ∧ nmc (cd C 13 0 (-1)) = v := by
  unfold canT at h
  split at h
  · rename_i T hT
    by_cases c : T.1 = n ∧ nmc (cd T 13 0 (-1)) = v
    · rw [if_pos c] at h
      cases h
      exact ⟨hT, c⟩
    · rw [if_neg c] at h; cases h
  · cases h
theorem canT_ok {n : Nat} {v : Int} {C : Tr} (h1 : 1 ≤ n) (hn : n ≤ 13) (h : canT n v = some C) : ∃ d, TrOk C d :=
  (twg_ok hn (dgt_ge n v) 13 0 0 T1 C _ T1_ok ⟨by decide, by decide⟩ rfl h1 (canT_some h).1).1
/-! centres, keys -/
abbrev dpA (T : Tr) (a : Int) : Int := dp T 13 a (-1)
def cts (T : Tr) : List Int := (rg T.1).filter (fun a => (rg T.1).all (fun b => decide (dpA T a ≤ dpA T b)))
def ctA (T : Tr) (k : Nat) : Int := (cts T).getD k (-1)
def keyT (T : Tr) : Int := if ctA T 1 = -1 then nmc (cd T 13 (ctA T 0) (-1)) else max (nmc (cd T 13 (ctA T 0) (-1))) (nmc (cd T 13 (ctA T 1) (-1)))
theorem mem_cts {T : Tr} {a : Int} : a ∈ cts T ↔ inT T a ∧ ∀ b, inT T b → dpA T a ≤ dpA T b := by
  unfold cts
  rw [List.mem_filter, mem_rgf, List.all_eq_true]
  constructor
  · rintro ⟨h1, h2⟩
    exact ⟨by omega, fun b hb => of_decide_eq_true (h2 b (mem_rgf.mpr (by omega)))⟩
  · rintro ⟨h1, h2⟩
    exact ⟨by omega, fun b hb => decide_eq_true (h2 b (by rw [mem_rgf] at hb; omega))⟩
theorem rpt_lt {g : Tr → Option Tr} {n : Nat} (hg : ∀ T T', g T = some T' → T.1 ≤ T'.1 ∧ T'.1 ≤ n) : ∀ (k : Nat) (T T' : Tr), T.1 ≤ n → rpt g k T = some T' → T.1 ≤ T'.1 ∧ T'.1 ≤ n
  | 0, T, T', hT, h => by cases h; exact ⟨Nat.le_refl _, hT⟩
  | k + 1, T, T', hT, h => by
    obtain ⟨T1, h1, h2⟩ := rpt_succ h
    have := hg T T1 h1
    have := rpt_lt hg k T1 T' this.2 h2
    omega
theorem twg_lt' {dg : Int → Int} {n : Nat} : ∀ (f : Nat) (a e : Int) (T T' : Tr), T.1 ≤ n → twg dg n f a e T = some T' → T.1 ≤ T'.1 ∧ T'.1 ≤ n
  | 0, _, _, _, _, _, h => by cases h
  | f + 1, a, e, T, T', hT, h => by
    unfold twg at h
    by_cases c : 4 < dg a + e
    · rw [if_pos c] at h; cases h
    rw [if_neg c] at h
    refine rpt_lt (fun T T' h1 => ?_) _ T T' hT h
    by_cases c2 : T.1 < n
    · rw [if_pos c2] at h1
      have := twg_lt' f _ _ _ _ (by rw [grT_n]; omega) h1
      rw [grT_n] at this
      omega
    · rw [if_neg c2] at h1; cases h1
theorem twg_lt {dg : Int → Int} {n f : Nat} {T2 T3 : Tr} {a e1 : Int} (h : (if T2.1 < n then twg dg n f e1 1 (grT T2 a) else none) = some T3) : T2.1 ≤ T3.1 ∧ T3.1 ≤ n := by
  by_cases c : T2.1 < n
  · rw [if_pos c] at h
    have := twg_lt' _ _ _ _ _ (by rw [grT_n]; omega) h
    rw [grT_n] at this
    omega
  · rw [if_neg c] at h; cases h
/-! the first and the second centre -/
def isC (T : Tr) (a : Int) : Bool := (rg T.1).all (fun b => decide (dpA T a ≤ dpA T b))
theorem isC_iff {T : Tr} {a : Int} : isC T a = true ↔ ∀ b, inT T b → dpA T a ≤ dpA T b := by
  unfold isC
  rw [List.all_eq_true]
  constructor
  · exact fun h b hb => of_decide_eq_true (h b (mem_rgf.mpr (by omega)))
  · exact fun h b hb => decide_eq_true (h b (by rw [mem_rgf] at hb; omega))
theorem cts_cut {T : Tr} {c : Int} (hc : inT T c) (h1 : isC T c = true) (h2 : ∀ b, 0 ≤ b → b < c → isC T b = false) : cts T = c :: (rgf (c + 1) (T.1 - (c.toNat + 1))).filter (isC T) := by
  show (rgf 0 T.1).filter (isC T) = _
  have e : T.1 = c.toNat + ((T.1 - (c.toNat + 1)) + 1) := by omega
  conv => lhs; rw [e]
  have h0 : (rgf 0 c.toNat).filter (isC T) = [] := List.filter_eq_nil_iff.mpr fun b hb => by
    rw [mem_rgf] at hb
    rw [h2 b (by omega) (by omega)]; decide
  rw [rgf_split, List.filter_append, h0, List.nil_append, rgf, List.filter_cons_of_pos]
  · rw [show (0 : Int) + (c.toNat : Int) = c by omega]
  · rw [show (0 : Int) + (c.toNat : Int) = c by omega]; exact h1
/-- there is a first one -/
theorem cts_one {T : Tr} (h : 1 ≤ T.1) : ∃ c, inT T c ∧ isC T c = true ∧ ∀ b, 0 ≤ b → b < c → isC T b = false := by
  have key : ∀ m : Nat, 1 ≤ m → m ≤ T.1 → ∃ c : Int, 0 ≤ c ∧ c < m ∧ (∀ b, 0 ≤ b → b < (m : Int) → dpA T c ≤ dpA T b) ∧ ∀ b, 0 ≤ b → b < c → dpA T c < dpA T b := by
    intro m
    induction m with
    | zero => intro h; omega
    | succ m ih =>
      intro _ hm
      rcases Nat.eq_zero_or_pos m with h0 | h0
      · subst h0
        exact ⟨0, by omega, by omega, fun b h1 h2 => by rw [show b = 0 by omega]; exact Int.le_refl _, fun b h1 h2 => by omega⟩
      · obtain ⟨c, h1, h2, h3, h4⟩ := ih h0 (by omega)
        by_cases hlt : dpA T (m : Int) < dpA T c
        · refine ⟨(m : Int), by omega, by omega, fun b h5 h6 => ?_, fun b h5 h6 => ?_⟩
          · rcases Int.lt_or_le b (m : Int) with h7 | h7
            · have := h3 b h5 h7; omega
            · rw [show b = (m : Int) by omega]; exact Int.le_refl _
          · have := h3 b h5 h6; omega
        · refine ⟨c, h1, by omega, fun b h5 h6 => ?_, h4⟩
          rcases Int.lt_or_le b (m : Int) with h7 | h7
          · exact h3 b h5 h7
          · rw [show b = (m : Int) by omega]; omega
  obtain ⟨c, h1, h2, h3, h4⟩ := key T.1 h (Nat.le_refl _)
  refine ⟨c, ⟨h1, h2⟩, isC_iff.mpr fun b hb => h3 b hb.1 hb.2, fun b h5 h6 => ?_⟩
  cases e : isC T b with
  | false => rfl
  | true => have := isC_iff.mp e c ⟨h1, h2⟩; have := h4 b h5 h6; omega
theorem ctA0_spec {T : Tr} (h : 1 ≤ T.1) : inT T (ctA T 0) ∧ isC T (ctA T 0) = true ∧ ∀ b, 0 ≤ b → b < ctA T 0 → isC T b = false := by
  obtain ⟨c, h1, h2, h3⟩ := cts_one h
  have e : ctA T 0 = c := by unfold ctA; rw [cts_cut h1 h2 h3]; rfl
  rw [e]; exact ⟨h1, h2, h3⟩
theorem ctA0_of {T : Tr} {c : Int} (h1 : inT T c) (h2 : isC T c = true) (h3 : ∀ b, 0 ≤ b → b < c → isC T b = false) : ctA T 0 = c := by
  unfold ctA; rw [cts_cut h1 h2 h3]; rfl
theorem ctA1_eq {T : Tr} (h : 1 ≤ T.1) : ctA T 1 = ((rgf (ctA T 0 + 1) (T.1 - ((ctA T 0).toNat + 1))).filter (isC T)).getD 0 (-1) := by
  obtain ⟨h1, h2, h3⟩ := ctA0_spec h
  conv => lhs; unfold ctA; rw [cts_cut h1 h2 h3]
  rfl
theorem isC_eq {T : Tr} {a c : Int} (ha : inT T a) (hc : inT T c) (h : isC T c = true) : isC T a = decide (dpA T a = dpA T c) := by
  have h1 := isC_iff.mp h
  rw [Bool.eq_iff_iff, isC_iff, decide_eq_true_eq]
  constructor
  · intro h2; have := h2 c hc; have := h1 a ha; omega
  · intro h2 b hb; rw [h2]; exact h1 b hb
theorem ctA1_rng {T : Tr} (h : 1 ≤ T.1) : ctA T 1 = -1 ∨ inT T (ctA T 1) := by
  rw [ctA1_eq h]
  obtain ⟨h1, -, -⟩ := ctA0_spec h
  cases e : (rgf (ctA T 0 + 1) (T.1 - ((ctA T 0).toNat + 1))).filter (isC T) with
  | nil => exact Or.inl rfl
  | cons x l =>
    right
    have : x ∈ (rgf (ctA T 0 + 1) (T.1 - ((ctA T 0).toNat + 1))).filter (isC T) := by rw [e]; exact List.mem_cons_self
    rw [List.mem_filter, mem_rgf] at this
    show inT T x
    omega
theorem keyT_rng (T : Tr) : 0 ≤ keyT T ∧ keyT T < P13 := by
  unfold keyT
  have h1 := nmc_rng (cd T 13 (ctA T 0) (-1))
  have h2 := nmc_rng (cd T 13 (ctA T 1) (-1))
  split <;> omega
/-! a list in a row of cells; one more is put between -/
def arr (g : Int → Int) (b : Int) (l : List Int) : Prop := ∀ i : Nat, i < l.length → g (b + i) = l.getD i 0
def SH (g : Int → Int) (b : Int) (l : List Int) (k : Nat) : Prop := (∀ i : Nat, i < k → g (b + i) = l.getD i 0) ∧ ∀ i : Nat, k ≤ i → i < l.length → g (b + i + 1) = l.getD i 0
theorem SH.of {g : Int → Int} {b : Int} {l : List Int} (h : arr g b l) : SH g b l l.length := ⟨fun i hi => h i hi, fun i h1 h2 => by omega⟩
theorem SH.step {g : Int → Int} {b : Int} {l : List Int} {k : Nat} (h : SH g b l (k + 1)) : SH (upZ g (b + k + 1) (g (b + k))) b l k := by
  refine ⟨fun i hi => ?_, fun i h1 h2 => ?_⟩
  · rw [upZ_ne _ _ (by omega)]; exact h.1 i (by omega)
  · rcases Nat.lt_or_ge k i with h3 | h3
    · rw [upZ_ne _ _ (by omega)]; exact h.2 i (by omega) h2
    · rw [show i = k by omega, upZ_eq]; exact h.1 k (by omega)
theorem getD_put (l : List Int) (x : Int) : ∀ (k i : Nat), k ≤ l.length → (l.take k ++ x :: l.drop k).getD i 0 = if i < k then l.getD i 0 else if i = k then x else l.getD (i - 1) 0 := by
  induction l with
  | nil =>
    intro k i hk
    have : k = 0 := by simpa using hk
    subst this
    cases i with
    | zero => rfl
    | succ i => simp
  | cons y l ih =>
    intro k i hk
    cases k with
    | zero =>
      cases i with
      | zero => rfl
      | succ i => simp
    | succ k =>
      cases i with
      | zero => simp
      | succ i =>
        have := ih k i (by simpa using hk)
        simp only [List.take_succ_cons, List.drop_succ_cons, List.cons_append, List.getD_cons_succ]
        rw [this]
        by_cases h1 : i < k
        · rw [if_pos h1, if_pos (by omega)]
        · rw [if_neg h1, if_neg (show ¬ i + 1 < k + 1 by omega)]
          by_cases h2 : i = k
          · rw [if_pos h2, if_pos (by omega)]
          · rw [if_neg h2, if_neg (show ¬ i + 1 = k + 1 by omega)]
            obtain ⟨j, rfl⟩ : ∃ j, i = j + 1 := ⟨i - 1, by omega⟩
            simp
theorem SH.fin {g : Int → Int} {b : Int} {l : List Int} {k : Nat} (h : SH g b l k) (hk : k ≤ l.length) (x : Int) : arr (upZ g (b + k) x) b (l.take k ++ x :: l.drop k) := by
  intro i hi
  rw [getD_put l x k i hk]
  have hlen : (l.take k ++ x :: l.drop k).length = l.length + 1 := by
    rw [List.length_append, List.length_take, List.length_cons, List.length_drop]; omega
  rw [hlen] at hi
  by_cases h1 : i < k
  · rw [if_pos h1, upZ_ne _ _ (by omega)]; exact h.1 i h1
  · rw [if_neg h1]
    by_cases h2 : i = k
    · rw [if_pos h2, h2, upZ_eq]
    · rw [if_neg h2, upZ_ne _ _ (by omega)]
      have := h.2 (i - 1) (by omega) (by omega)
      rwa [show b + ((i - 1 : Nat) : Int) + 1 = b + (i : Int) by omega] at this
theorem insD_cut {x : Int} : ∀ {l1 l2 : List Int}, (∀ y ∈ l1, x ≤ y) → (∀ y ∈ l2.head?, y < x) → insD x (l1 ++ l2) = l1 ++ x :: l2
  | [], [], _, _ => rfl
  | [], y :: l2, _, h => by
    show insD x (y :: l2) = _
    unfold insD
    rw [if_pos (h y rfl)]; rfl
  | z :: l1, l2, h1, h2 => by
    rw [List.cons_append]
    unfold insD
    rw [if_neg (by have := h1 z List.mem_cons_self; omega), insD_cut (fun y hy => h1 y (List.mem_cons_of_mem _ hy)) h2]; rfl
/-- where the shifting stops -/
theorem insD_at {x : Int} {l : List Int} (hd : Desc l) {k : Nat} (hk : k ≤ l.length) (h1 : k = 0 ∨ x ≤ l.getD (k - 1) 0) (h2 : ∀ i : Nat, k ≤ i → i < l.length → l.getD i 0 < x) : insD x l = l.take k ++ x :: l.drop k := by
  conv => lhs; rw [← List.take_append_drop k l]
  refine insD_cut (fun y hy => ?_) (fun y hy => ?_)
  · rcases h1 with h1 | h1
    · subst h1; simp at hy
    · obtain ⟨i, hi, e⟩ := List.getElem_of_mem hy
      rw [List.length_take] at hi
      rw [List.getElem_take] at e
      have hlast : l.getD (k - 1) 0 = l[k - 1]'(by omega) := by rw [List.getD_eq_getElem?_getD, List.getElem?_eq_getElem (by omega)]; rfl
      rw [hlast] at h1
      rcases Nat.lt_or_ge i (k - 1) with h3 | h3
      · have := List.pairwise_iff_getElem.mp hd i (k - 1) (by omega) (by omega) h3
        rw [← e]; omega
      · have : i = k - 1 := by omega
        subst this
        rw [← e]; exact h1
  · rw [List.head?_drop] at hy
    have h3 := List.getElem?_eq_some_iff.mp hy
    obtain ⟨h4, h5⟩ := h3
    have := h2 k (Nat.le_refl _) h4
    rw [List.getD_eq_getElem?_getD, hy] at this
    exact this
