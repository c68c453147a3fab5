set_option maxRecDepth 100000
/-! names compared as the reference does it: the sign is the same -/
def cmpL : List Int → List Int → Int
  | x :: l, y :: r => if x = y then cmpL l r else x - y
  | [], [] => 0 - 0
  | [], _ :: _ => 0 - 1
  | _ :: _, [] => 1 - 0
def cmpM (s t : List Int) : Int := if cmpL (lets s) (lets t) = 0 then cmpT s t else cmpL (lets s) (lets t)
theorem cmpL_sgn : ∀ s t : List Int, (cmpL s t = 0 ↔ cmpT s t = 0) ∧ (cmpL s t < 0 ↔ cmpT s t < 0)
  | [], [] => ⟨Iff.rfl, Iff.rfl⟩
  | [], y :: t => by rw [cmpT_nil_l, List.length_cons]; show (0 - 1 = 0 ↔ _) ∧ ((0 : Int) - 1 < 0 ↔ _); omega
  | x :: s, [] => by rw [cmpT_nil_r, List.length_cons]; show (1 - 0 = 0 ↔ _) ∧ ((1 : Int) - 0 < 0 ↔ _); omega
  | x :: s, y :: t => by
    rw [cmpT_cons]
    show ((if x = y then cmpL s t else x - y) = 0 ↔ _) ∧ ((if x = y then cmpL s t else x - y) < 0 ↔ _)
    by_cases c : x = y
    · rw [if_pos c, if_pos c]; exact cmpL_sgn s t
    · rw [if_neg c, if_neg c]; omega
theorem cmpM_sgn (s t : List Int) : (cmpM s t = 0 ↔ cmpN s t = 0) ∧ (cmpM s t < 0 ↔ cmpN s t < 0) := by
  have h := cmpL_sgn (lets s) (lets t)
  unfold cmpM cmpN
  by_cases c : cmpT (lets s) (lets t) = 0
  · rw [if_pos c, if_pos (h.1.mpr c)]; exact ⟨Iff.rfl, Iff.rfl⟩
  · rw [if_neg c, if_neg (fun hh => c (h.1.mp hh))]; exact ⟨h.1, h.2⟩
/-- all letters are bytes -/
abbrev byt (l : List Int) : Prop := ∀ c ∈ l, 0 ≤ c ∧ c < 256
theorem cmpT_rng : ∀ {s t : List Int}, byt s → byt t → -256 - (t.length : Int) ≤ cmpT s t ∧ cmpT s t ≤ 256 + (s.length : Int)
  | [], t, _, _ => by rw [cmpT_nil_l]; show _ ∧ _ ≤ 256 + ((0 : Nat) : Int); omega
  | x :: s, [], _, _ => by rw [cmpT_nil_r]; show -256 - ((0 : Nat) : Int) ≤ _ ∧ _; omega
  | x :: s, y :: t, h1, h2 => by
    rw [cmpT_cons, List.length_cons, List.length_cons]
    have hx := h1 x List.mem_cons_self
    have hy := h2 y List.mem_cons_self
    by_cases c : x = y
    · rw [if_pos c]
      have := cmpT_rng (s := s) (t := t) (fun c hc => h1 c (List.mem_cons_of_mem _ hc)) (fun c hc => h2 c (List.mem_cons_of_mem _ hc))
      omega
    · rw [if_neg c]; omega
theorem cmpL_rng : ∀ {s t : List Int}, byt s → byt t → -256 ≤ cmpL s t ∧ cmpL s t ≤ 256
  | [], [], _, _ => by decide
  | [], y :: t, _, _ => by show -256 ≤ (0 : Int) - 1 ∧ (0 : Int) - 1 ≤ 256; decide
  | x :: s, [], _, _ => by show -256 ≤ (1 : Int) - 0 ∧ (1 : Int) - 0 ≤ 256; decide
  | x :: s, y :: t, h1, h2 => by
    show -256 ≤ (if x = y then cmpL s t else x - y) ∧ (if x = y then cmpL s t else x - y) ≤ 256
    have hx := h1 x List.mem_cons_self
    have hy := h2 y List.mem_cons_self
    by_cases c : x = y
    · rw [if_pos c]
      exact cmpL_rng (s := s) (t := t) (fun c hc => h1 c (List.mem_cons_of_mem _ hc)) (fun c hc => h2 c (List.mem_cons_of_mem _ hc))
    · rw [if_neg c]; omega
theorem byt_lets {s : List Int} (h : byt s) : byt (lets s) := fun c hc => h c (List.mem_filter.mp hc).1
theorem cmpM_rI {s t : List Int} (h1 : byt s) (h2 : byt t) (l1 : s.length < 100000) (l2 : t.length < 100000) : rI (cmpM s t) := by
  have h3 := cmpT_rng h1 h2
  have h4 := cmpL_rng (byt_lets h1) (byt_lets h2)
  unfold cmpM
  split <;> omega
theorem drop_cons {l : List Int} {i : Nat} (h : i < l.length) : l.drop i = l.getD i 0 :: l.drop (i + 1) := by
  rw [List.drop_eq_getElem_cons h, List.getD_eq_getElem?_getD, List.getElem?_eq_getElem h]; rfl
