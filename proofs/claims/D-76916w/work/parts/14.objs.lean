set_option maxRecDepth 100000
/-! the class's objects -/
/-- what the class's final fields hold: its five trees, its own arrays behind them, its measures at p -/
def Px (x p : Nat) (k : Nat) : Option Nat :=
  if k < 5 then some (x + (1 + 44 * k)) else if k = 14 then some p else if k = 6 then some (x + 221 + 0) else if k = 7 then some (x + 221 + 15) else if k = 8 then some (x + 221 + 16) else if k = 9 then some (x + 221 + 30) else if k = 11 then some (x + 221 + 31) else if k = 12 then some (x + 221 + 32) else if k = 15 then some (x + 221 + 33) else if k = 16 then some (x + 221 + 34) else if k = 17 then some (x + 221 + 49) else if k = 18 then some (x + 221 + 50) else if k = 19 then some (x + 221 + 51) else if k = 20 then some (x + 221 + 52) else if k = 21 then some (x + 221 + 53) else if k = 22 then some (x + 221 + 54) else if k = 23 then some (x + 221 + 60) else if k = 24 then some (x + 221 + 61) else if k = 25 then some (x + 221 + 62) else if k = 26 then some (x + 221 + 63) else if k = 28 then some (x + 221 + 64) else if k = 29 then some (x + 221 + 65) else if k = 33 then some (x + 221 + 66) else none
abbrev obX (x : Nat) (F : Nat → Int) (p : Nat) : Ob := (0, F, Px x p, nA, nB, nM, nN)
abbrev obXA (A : Nat → Int → Int) (B : Nat → Int → Option Nat) (M : Nat → Int → Int → Int) : Ob := (85, nF, nP, A, B, M, nN)
abbrev obT (F : Nat → Int) (P : Nat → Option Nat) (A : Nat → Int → Int) (M : Nat → Int → Int → Int) (N : Nat → Int → Int → Option Nat) : Ob := (81, F, P, A, nB, M, N)
abbrev obW (F : Nat → Int) (P : Nat → Option Nat) (A : Nat → Int → Int) : Ob := (82, F, P, A, nB, nM, nN)
abbrev obNm (F : Nat → Int) (P : Nat → Option Nat) (A : Nat → Int → Int) : Ob := (83, F, P, A, nB, nM, nN)
abbrev obPt (F : Nat → Int) (P : Nat → Option Nat) (A : Nat → Int → Int) : Ob := (84, F, P, A, nB, nM, nN)
abbrev obR (c : Nat) (F : Nat → Int) (P : Nat → Option Nat) : Ob := (c, F, P, nA, nB, nM, nN)
/-- an array of numbers of type t, of references of type t -/
abbrev obA (t n : Nat) (f : Int → Int) : Ob := (60 + t, fun _ => (n : Int), nP, fun _ => f, nB, nM, nN)
abbrev obQ (t n : Nat) (g : Int → Option Nat) : Ob := (60 + t, fun _ => (n : Int), nP, nA, fun _ => g, nM, nN)
abbrev obS (b : Nat) : Ob := (50, nF, fun _ => some b, nA, nB, nM, nN)
theorem nar_rf (C : String) (r : Option Nat) : narrow (.object C) (va_rf r) = va_rf r := by cases r <;> rfl
theorem fit_rf (C : String) (r : Option Nat) : fits (.object C) (va_rf r) = true := by cases r <;> rfl
theorem nar_rfA (t : FieldType) (r : Option Nat) : narrow (.array t) (va_rf r) = va_rf r := by cases r <;> rfl
theorem fit_rfA (t : FieldType) (r : Option Nat) : fits (.array t) (va_rf r) = true := by cases r <;> rfl
theorem wk_ne {w : Wd} {q q' : Nat} {o o' : Ob} (h : w q = some o) (h' : w q' = some o') (hk : o.1 ≠ o'.1) : q ≠ q' := by
  intro e
  subst e
  rw [h] at h'
  exact hk (congrArg (fun z : Ob => z.1) (Option.some.inj h'))
theorem wf_ne {w : Wd} {q q' : Nat} {o : Ob} (h : w q = some o) (h' : w q' = none) : q ≠ q' := by
  intro e
  subst e
  rw [h] at h'
  cases h'
theorem ws_ne {w : Wd} {q q' : Nat} {o o' : Option Ob} (h : w q = o) (hq : q ≠ q') : wset w q' o' q = o := (wset_ne w o' hq).trans h
/-! cells -/
theorem lay_X0 (x : Nat) (F : Nat → Int) (p : Nat) : lay x (obX x F p) 0 = some (cO 0 (fdl 0 F (Px x p))) := rfl
theorem lay_T0 (q : Nat) (F : Nat → Int) (P : Nat → Option Nat) (A : Nat → Int → Int) (M : Nat → Int → Int → Int) (N : Nat → Int → Int → Option Nat) : lay q (obT F P A M N) 0 = some (cO 1 [.ref (q + 1), .ref (q + 15), .ref (q + 29), .ref (q + 43), vI (F 4), vI (F 5), va_rf (P 6)]) := rfl
theorem lay_Tn {q : Nat} {F : Nat → Int} {P : Nat → Option Nat} {A : Nat → Int → Int} {M : Nat → Int → Int → Int} {N : Nat → Int → Int → Option Nat} {a : Int} (h : 0 ≤ a ∧ a < 13) : lay q (obT F P A M N) (2 + a.toNat) = some (cA 0 4 (fI (M 0 a))) := by
  show layT q F P A M N (2 + a.toNat) = _
  unfold layT
  have e : ((2 + a.toNat - 2 : Nat) : Int) = a := by omega
  repeat (first | rw [if_neg (by omega)] | rw [if_pos (by omega)])
  rw [e]
theorem chg_Tn {q : Nat} {F : Nat → Int} {P : Nat → Option Nat} {A : Nat → Int → Int} {M : Nat → Int → Int → Int} {N : Nat → Int → Int → Option Nat} {a : Int} (i : Int) (x : Int) (h : 0 ≤ a ∧ a < 13) : Chg q (obT F P A M N) (obT F P A (upM M 0 a i x) N) (2 + a.toNat) (cA 0 4 (fI (upZ (M 0 a) i x))) := by
  refine ⟨rfl, fun c e2 he => ?_⟩
  by_cases hc : c = 2 + a.toNat
  · subst hc
    rw [lay_Tn h, upM_eq] at he
    exact Or.inl ⟨rfl, (Option.some.inj he).symm⟩
  · refine Or.inr ⟨hc, ?_⟩
    have h1 : layT q F P A (upM M 0 a i x) N c = some e2 := he
    show layT q F P A M N c = some e2
    rw [← h1]
    unfold layT
    by_cases r1 : 2 ≤ c ∧ c < 15
    · have e : upM M 0 a i x 0 ((c - 2 : Nat) : Int) = M 0 ((c - 2 : Nat) : Int) := upM_ne2 _ _ _ _ (by omega)
      repeat (first | rw [if_neg (by omega)] | rw [if_pos (by omega)])
      rw [e]
    · (repeat' split) <;> first | rfl | (exfalso; omega)
theorem lay_Td {q : Nat} {F : Nat → Int} {P : Nat → Option Nat} {A : Nat → Int → Int} {M : Nat → Int → Int → Int} {N : Nat → Int → Int → Option Nat} {a : Int} (h : 0 ≤ a ∧ a < 13) : lay q (obT F P A M N) (16 + a.toNat) = some (cA 0 13 (fI (M 1 a))) := by
  show layT q F P A M N (16 + a.toNat) = _
  unfold layT
  have e : ((16 + a.toNat - 16 : Nat) : Int) = a := by omega
  repeat (first | rw [if_neg (by omega)] | rw [if_pos (by omega)])
  rw [e]
theorem chg_Td {q : Nat} {F : Nat → Int} {P : Nat → Option Nat} {A : Nat → Int → Int} {M : Nat → Int → Int → Int} {N : Nat → Int → Int → Option Nat} {a : Int} (i : Int) (x : Int) (h : 0 ≤ a ∧ a < 13) : Chg q (obT F P A M N) (obT F P A (upM M 1 a i x) N) (16 + a.toNat) (cA 0 13 (fI (upZ (M 1 a) i x))) := by
  refine ⟨rfl, fun c e2 he => ?_⟩
  by_cases hc : c = 16 + a.toNat
  · subst hc
    rw [lay_Td h, upM_eq] at he
    exact Or.inl ⟨rfl, (Option.some.inj he).symm⟩
  · refine Or.inr ⟨hc, ?_⟩
    have h1 : layT q F P A (upM M 1 a i x) N c = some e2 := he
    show layT q F P A M N c = some e2
    rw [← h1]
    unfold layT
    by_cases r1 : 16 ≤ c ∧ c < 29
    · have e : upM M 1 a i x 1 ((c - 16 : Nat) : Int) = M 1 ((c - 16 : Nat) : Int) := upM_ne2 _ _ _ _ (by omega)
      repeat (first | rw [if_neg (by omega)] | rw [if_pos (by omega)])
      rw [e]
    · (repeat' split) <;> first | rfl | (exfalso; omega)
theorem lay_Ts {q : Nat} {F : Nat → Int} {P : Nat → Option Nat} {A : Nat → Int → Int} {M : Nat → Int → Int → Int} {N : Nat → Int → Int → Option Nat} {a : Int} (h : 0 ≤ a ∧ a < 13) : lay q (obT F P A M N) (30 + a.toNat) = some (cA 3 13 (fQ (N 0 a))) := by
  show layT q F P A M N (30 + a.toNat) = _
  unfold layT
  have e : ((30 + a.toNat - 30 : Nat) : Int) = a := by omega
  repeat (first | rw [if_neg (by omega)] | rw [if_pos (by omega)])
  rw [e]
theorem chg_Ts {q : Nat} {F : Nat → Int} {P : Nat → Option Nat} {A : Nat → Int → Int} {M : Nat → Int → Int → Int} {N : Nat → Int → Int → Option Nat} {a : Int} (i : Int) (x : Option Nat) (h : 0 ≤ a ∧ a < 13) : Chg q (obT F P A M N) (obT F P A M (upM N 0 a i x)) (30 + a.toNat) (cA 3 13 (fQ (upZ (N 0 a) i x))) := by
  refine ⟨rfl, fun c e2 he => ?_⟩
  by_cases hc : c = 30 + a.toNat
  · subst hc
    rw [lay_Ts h, upM_eq] at he
    exact Or.inl ⟨rfl, (Option.some.inj he).symm⟩
  · refine Or.inr ⟨hc, ?_⟩
    have h1 : layT q F P A M (upM N 0 a i x) c = some e2 := he
    show layT q F P A M N c = some e2
    rw [← h1]
    unfold layT
    by_cases r1 : 30 ≤ c ∧ c < 43
    · have e : upM N 0 a i x 0 ((c - 30 : Nat) : Int) = N 0 ((c - 30 : Nat) : Int) := upM_ne2 _ _ _ _ (by omega)
      repeat (first | rw [if_neg (by omega)] | rw [if_pos (by omega)])
      rw [e]
    · (repeat' split) <;> first | rfl | (exfalso; omega)
theorem chg_T0 {q : Nat} {F F' : Nat → Int} {P P' : Nat → Option Nat} {A : Nat → Int → Int} {M : Nat → Int → Int → Int} {N : Nat → Int → Int → Option Nat} {fs : List Value} (h : [.ref (q + 1), .ref (q + 15), .ref (q + 29), .ref (q + 43), vI (F' 4), vI (F' 5), va_rf (P' 6)] = fs) : Chg q (obT F P A M N) (obT F' P' A M N) 0 (cO 1 fs) := by
  subst h
  refine ⟨rfl, fun i e2 he => ?_⟩
  by_cases hi : i = 0
  · subst hi
    exact Or.inl ⟨rfl, (Option.some.inj he).symm⟩
  · refine Or.inr ⟨hi, ?_⟩
    have h1 : layT q F' P' A M N i = some e2 := he
    show layT q F P A M N i = some e2
    unfold layT at h1 ⊢
    rw [if_neg hi] at h1 ⊢
    exact h1
theorem chg_Tb {q : Nat} {F : Nat → Int} {P : Nat → Option Nat} {A : Nat → Int → Int} {M : Nat → Int → Int → Int} {N : Nat → Int → Int → Option Nat} (i x : Int) : Chg q (obT F P A M N) (obT F P (upA A 0 i x) M N) 43 (cA 0 13 (fI (upZ (A 0) i x))) := by
  refine ⟨rfl, fun c e2 he => ?_⟩
  by_cases hc : c = 43
  · subst hc
    exact Or.inl ⟨rfl, (Option.some.inj he).symm⟩
  · refine Or.inr ⟨hc, ?_⟩
    have h1 : layT q F P (upA A 0 i x) M N c = some e2 := he
    show layT q F P A M N c = some e2
    rw [← h1]
    unfold layT
    (repeat' split) <;> first | rfl | (exfalso; omega)
theorem lay_W0 (q : Nat) (F : Nat → Int) (P : Nat → Option Nat) (A : Nat → Int → Int) : lay q (obW F P A) 0 = some (cO 3 [.ref (q + 1), vI (F 1), vI (F 2), va_rf (P 3)]) := rfl
theorem lay_W1 (q : Nat) (F : Nat → Int) (P : Nat → Option Nat) (A : Nat → Int → Int) : lay q (obW F P A) 1 = some (cA 0 13 (fI (A 0))) := rfl
theorem lay_Wn (q : Nat) (F : Nat → Int) (P : Nat → Option Nat) (A : Nat → Int → Int) {i : Nat} {e : CE} (h : lay q (obW F P A) i = some e) : i = 0 ∨ i = 1 := by
  have := lay_lt h
  have h2 : len (obW F P A) = 2 := rfl
  omega
theorem chg_W0 {q : Nat} {F F' : Nat → Int} {P P' : Nat → Option Nat} {A : Nat → Int → Int} {fs : List Value} (h : [.ref (q + 1), vI (F' 1), vI (F' 2), va_rf (P' 3)] = fs) : Chg q (obW F P A) (obW F' P' A) 0 (cO 3 fs) := by
  subst h
  refine ⟨rfl, fun i e2 he => ?_⟩
  rcases lay_Wn _ _ _ _ he with rfl | rfl
  · exact Or.inl ⟨rfl, (Option.some.inj he).symm⟩
  · exact Or.inr ⟨by decide, he⟩
theorem chg_W1 {q : Nat} {F : Nat → Int} {P : Nat → Option Nat} {A : Nat → Int → Int} (i x : Int) : Chg q (obW F P A) (obW F P (upA A 0 i x)) 1 (cA 0 13 (fI (upZ (A 0) i x))) := by
  refine ⟨rfl, fun c e2 he => ?_⟩
  rcases lay_Wn _ _ _ _ he with rfl | rfl
  · exact Or.inr ⟨by decide, he⟩
  · exact Or.inl ⟨rfl, (Option.some.inj he).symm⟩
theorem lay_Nm0 (q : Nat) (F : Nat → Int) (P : Nat → Option Nat) (A : Nat → Int → Int) : lay q (obNm F P A) 0 = some (cO 6 [va_rf (P 0), va_rf (P 1), .ref (q + 1), vI (F 3)]) := rfl
theorem lay_Nm1 (q : Nat) (F : Nat → Int) (P : Nat → Option Nat) (A : Nat → Int → Int) : lay q (obNm F P A) 1 = some (cA 0 12 (fI (A 0))) := rfl
theorem lay_Nmn (q : Nat) (F : Nat → Int) (P : Nat → Option Nat) (A : Nat → Int → Int) {i : Nat} {e : CE} (h : lay q (obNm F P A) i = some e) : i = 0 ∨ i = 1 := by
  have := lay_lt h
  have h2 : len (obNm F P A) = 2 := rfl
  omega
theorem chg_Nm0 {q : Nat} {F F' : Nat → Int} {P P' : Nat → Option Nat} {A : Nat → Int → Int} {fs : List Value} (h : [va_rf (P' 0), va_rf (P' 1), .ref (q + 1), vI (F' 3)] = fs) : Chg q (obNm F P A) (obNm F' P' A) 0 (cO 6 fs) := by
  subst h
  refine ⟨rfl, fun i e2 he => ?_⟩
  rcases lay_Nmn _ _ _ _ he with rfl | rfl
  · exact Or.inl ⟨rfl, (Option.some.inj he).symm⟩
  · exact Or.inr ⟨by decide, he⟩
theorem chg_Nm1 {q : Nat} {F : Nat → Int} {P : Nat → Option Nat} {A : Nat → Int → Int} (i x : Int) : Chg q (obNm F P A) (obNm F P (upA A 0 i x)) 1 (cA 0 12 (fI (upZ (A 0) i x))) := by
  refine ⟨rfl, fun c e2 he => ?_⟩
  rcases lay_Nmn _ _ _ _ he with rfl | rfl
  · exact Or.inr ⟨by decide, he⟩
  · exact Or.inl ⟨rfl, (Option.some.inj he).symm⟩
theorem lay_Pt0 (q : Nat) (F : Nat → Int) (P : Nat → Option Nat) (A : Nat → Int → Int) : lay q (obPt F P A) 0 = some (cO 9 [vI (F 0), .ref (q + 1), vI (F 2), vI (F 3), va_rf (P 4)]) := rfl
theorem lay_Pt1 (q : Nat) (F : Nat → Int) (P : Nat → Option Nat) (A : Nat → Int → Int) : lay q (obPt F P A) 1 = some (cA 0 80 (fI (A 0))) := rfl
theorem lay_Ptn (q : Nat) (F : Nat → Int) (P : Nat → Option Nat) (A : Nat → Int → Int) {i : Nat} {e : CE} (h : lay q (obPt F P A) i = some e) : i = 0 ∨ i = 1 := by
  have := lay_lt h
  have h2 : len (obPt F P A) = 2 := rfl
  omega
theorem chg_Pt0 {q : Nat} {F F' : Nat → Int} {P P' : Nat → Option Nat} {A : Nat → Int → Int} {fs : List Value} (h : [vI (F' 0), .ref (q + 1), vI (F' 2), vI (F' 3), va_rf (P' 4)] = fs) : Chg q (obPt F P A) (obPt F' P' A) 0 (cO 9 fs) := by
  subst h
  refine ⟨rfl, fun i e2 he => ?_⟩
  rcases lay_Ptn _ _ _ _ he with rfl | rfl
  · exact Or.inl ⟨rfl, (Option.some.inj he).symm⟩
  · exact Or.inr ⟨by decide, he⟩
theorem chg_Pt1 {q : Nat} {F : Nat → Int} {P : Nat → Option Nat} {A : Nat → Int → Int} (i x : Int) : Chg q (obPt F P A) (obPt F P (upA A 0 i x)) 1 (cA 0 80 (fI (upZ (A 0) i x))) := by
  refine ⟨rfl, fun c e2 he => ?_⟩
  rcases lay_Ptn _ _ _ _ he with rfl | rfl
  · exact Or.inr ⟨by decide, he⟩
  · exact Or.inl ⟨rfl, (Option.some.inj he).symm⟩
theorem lay_R0 {c : Nat} (q : Nat) (F : Nat → Int) (P : Nat → Option Nat) (h : c < 50) : lay q (obR c F P) 0 = some (cO c (fdl c F P)) := by
  unfold lay
  dsimp only
  rw [if_pos h, if_pos rfl]
theorem lay_raw0 {q : Nat} {o : Ob} {i : Nat} {e : CE} (h : lay q o i = some e) (hl : len o = 1) : i = 0 := by
  have := lay_lt h
  omega
theorem chg_raw {q : Nat} {o o' : Ob} {e : CE} (hl : len o = 1) (hl' : len o' = 1) (h : lay q o' 0 = some e) : Chg q o o' 0 e := by
  refine ⟨hl'.trans hl.symm, fun i e2 he => ?_⟩
  have := lay_raw0 he hl'
  subst this
  rw [h] at he
  exact Or.inl ⟨rfl, (Option.some.inj he).symm⟩
theorem lay_AI (q n : Nat) (f : Int → Int) : lay q (obA 0 n f) 0 = some (cA 0 n (fI f)) := rfl
theorem lay_AB (q n : Nat) (f : Int → Int) : lay q (obA 2 n f) 0 = some (cA 2 n (fI f)) := rfl
theorem lay_AL (q n : Nat) (f : Int → Int) : lay q (obA 1 n f) 0 = some (cA 1 n (fL f)) := rfl
theorem lay_Q3 (q n : Nat) (g : Int → Option Nat) : lay q (obQ 3 n g) 0 = some (cA 3 n (fQ g)) := rfl
theorem lay_Q4 (q n : Nat) (g : Int → Option Nat) : lay q (obQ 4 n g) 0 = some (cA 4 n (fQ g)) := rfl
theorem lay_Q5 (q n : Nat) (g : Int → Option Nat) : lay q (obQ 5 n g) 0 = some (cA 5 n (fQ g)) := rfl
theorem lay_Q6 (q n : Nat) (g : Int → Option Nat) : lay q (obQ 6 n g) 0 = some (cA 6 n (fQ g)) := rfl
theorem lay_Q7 (q n : Nat) (g : Int → Option Nat) : lay q (obQ 7 n g) 0 = some (cA 7 n (fQ g)) := rfl
theorem lay_Q8 (q n : Nat) (g : Int → Option Nat) : lay q (obQ 8 n g) 0 = some (cA 8 n (fQ g)) := rfl
theorem lay_Q9 (q n : Nat) (g : Int → Option Nat) : lay q (obQ 9 n g) 0 = some (cA 9 n (fQ g)) := rfl
theorem lay_Q10 (q n : Nat) (g : Int → Option Nat) : lay q (obQ 10 n g) 0 = some (cA 10 n (fQ g)) := rfl
theorem lay_XA {q : Nat} {A : Nat → Int → Int} {B : Nat → Int → Option Nat} {M : Nat → Int → Int → Int} (k : Nat) {e : Nat × Nat × Nat × Nat × Nat} (h : XT[k]? = some e) : lay q (obXA A B M) k = some (cA e.2.1 e.2.2.1 (if e.1 = 0 then (if e.2.1 = 1 then fL (A e.2.2.2.1) else fI (A e.2.2.2.1)) else if e.1 = 1 then fQ (B e.2.2.2.1) else if e.1 = 2 then fR (q + k + 1) else if e.2.1 = 1 then fL (M e.2.2.2.1 (e.2.2.2.2 : Nat)) else fI (M e.2.2.2.1 (e.2.2.2.2 : Nat)))) := by
  show layX q A B M k = _
  unfold layX
  rw [h]
  rfl
/-- the places of the table's entries -/
theorem xt_0 : ∀ k, k < 67 → ∀ k', k' < 67 → (XT.getD k (9, 9, 9, 9, 9)).1 = 0 → (XT.getD k' (9, 9, 9, 9, 9)).1 = 0 → (XT.getD k (9, 9, 9, 9, 9)).2.2.2.1 = (XT.getD k' (9, 9, 9, 9, 9)).2.2.2.1 → k = k' := by decide +kernel
theorem xt_1 : ∀ k, k < 67 → ∀ k', k' < 67 → (XT.getD k (9, 9, 9, 9, 9)).1 = 1 → (XT.getD k' (9, 9, 9, 9, 9)).1 = 1 → (XT.getD k (9, 9, 9, 9, 9)).2.2.2.1 = (XT.getD k' (9, 9, 9, 9, 9)).2.2.2.1 → k = k' := by decide +kernel
theorem xt_3 : ∀ k, k < 67 → ∀ k', k' < 67 → (XT.getD k (9, 9, 9, 9, 9)).1 = 3 → 10000 * (XT.getD k (9, 9, 9, 9, 9)).1 + 100 * (XT.getD k (9, 9, 9, 9, 9)).2.2.2.1 + (XT.getD k (9, 9, 9, 9, 9)).2.2.2.2 = 10000 * (XT.getD k' (9, 9, 9, 9, 9)).1 + 100 * (XT.getD k' (9, 9, 9, 9, 9)).2.2.2.1 + (XT.getD k' (9, 9, 9, 9, 9)).2.2.2.2 → k = k' := by decide +kernel
theorem xr_of {k0 n0 t n j : Nat} (h : (XT.drop k0).take n0 = (List.range n0).map (fun r => (3, t, n, j, r))) : ∀ r, r < n0 → XT[k0 + r]? = some (3, t, n, j, r) := by
  intro r hr
  have h1 : ((XT.drop k0).take n0)[r]? = some (3, t, n, j, r) := by
    rw [h]
    simp [hr]
  rw [List.getElem?_take, if_pos hr, List.getElem?_drop] at h1
  exact h1
theorem xt_c : ∀ k, k < 67 → (XT.getD k (9, 9, 9, 9, 9)).1 < 4 := by decide +kernel
theorem xt_get {k : Nat} (h : k < 67) : XT[k]? = some (XT.getD k (9, 9, 9, 9, 9)) := by
  rw [List.getD_eq_getElem?_getD, List.getElem?_eq_getElem (show k < XT.length from h)]
  rfl
theorem xt_of {k : Nat} {e : Nat × Nat × Nat × Nat × Nat} (h : XT[k]? = some e) : k < 67 ∧ XT.getD k (9, 9, 9, 9, 9) = e := by
  have h1 : k < XT.length := (List.getElem?_eq_some_iff.mp h).1
  refine ⟨h1, ?_⟩
  rw [List.getD_eq_getElem?_getD, h]
  rfl
theorem chg_XA {q : Nat} {A A' : Nat → Int → Int} {B B' : Nat → Int → Option Nat} {M M' : Nat → Int → Int → Int} (k : Nat) (e : CE) (h : lay q (obXA A' B' M') k = some e) (hk : ∀ i, i < 67 → i ≠ k → lay q (obXA A' B' M') i = lay q (obXA A B M) i) : Chg q (obXA A B M) (obXA A' B' M') k e := by
  refine ⟨rfl, fun i e2 he => ?_⟩
  by_cases hi : i = k
  · subst hi
    rw [h] at he
    exact Or.inl ⟨rfl, (Option.some.inj he).symm⟩
  · exact Or.inr ⟨hi, by rw [← hk i (lay_lt he) hi]; exact he⟩
theorem chg_XAa {q : Nat} {A : Nat → Int → Int} {B : Nat → Int → Option Nat} {M : Nat → Int → Int → Int} (k : Nat) {t n j r : Nat} (i x : Int) (h : XT[k]? = some (0, t, n, j, r)) (ht : t ≠ 1) : Chg q (obXA A B M) (obXA (upA A j i x) B M) k (cA t n (fI (upZ (A j) i x))) := by
  refine chg_XA k _ ?_ ?_
  · rw [lay_XA k h]
    dsimp only
    rw [if_pos rfl, if_neg ht, upA_eq]
  · intro c hc hne
    rw [lay_XA c (xt_get hc), lay_XA c (xt_get hc)]
    have hv := xt_of h
    by_cases hz : (XT.getD c (9, 9, 9, 9, 9)).1 = 0
    · rw [if_pos hz, if_pos hz, upA_ne _ _ _ (fun hj => hne (xt_0 c hc k hv.1 hz (by rw [hv.2]) (by rw [hv.2]; exact hj)))]
    · rw [if_neg hz, if_neg hz]
theorem chg_XAl {q : Nat} {A : Nat → Int → Int} {B : Nat → Int → Option Nat} {M : Nat → Int → Int → Int} (k : Nat) {n j r : Nat} (i x : Int) (h : XT[k]? = some (0, 1, n, j, r)) : Chg q (obXA A B M) (obXA (upA A j i x) B M) k (cA 1 n (fL (upZ (A j) i x))) := by
  refine chg_XA k _ ?_ ?_
  · rw [lay_XA k h]
    dsimp only
    rw [if_pos rfl, if_pos rfl, upA_eq]
  · intro c hc hne
    rw [lay_XA c (xt_get hc), lay_XA c (xt_get hc)]
    have hv := xt_of h
    by_cases hz : (XT.getD c (9, 9, 9, 9, 9)).1 = 0
    · rw [if_pos hz, if_pos hz, upA_ne _ _ _ (fun hj => hne (xt_0 c hc k hv.1 hz (by rw [hv.2]) (by rw [hv.2]; exact hj)))]
    · rw [if_neg hz, if_neg hz]
theorem chg_XAq {q : Nat} {A : Nat → Int → Int} {B : Nat → Int → Option Nat} {M : Nat → Int → Int → Int} (k : Nat) {t n j r : Nat} (i : Int) (x : Option Nat) (h : XT[k]? = some (1, t, n, j, r)) : Chg q (obXA A B M) (obXA A (upA B j i x) M) k (cA t n (fQ (upZ (B j) i x))) := by
  refine chg_XA k _ ?_ ?_
  · rw [lay_XA k h]
    dsimp only
    rw [if_neg (by decide), if_pos rfl, upA_eq]
  · intro c hc hne
    rw [lay_XA c (xt_get hc), lay_XA c (xt_get hc)]
    have hv := xt_of h
    by_cases hz : (XT.getD c (9, 9, 9, 9, 9)).1 = 1
    · have hz0 : ¬ (XT.getD c (9, 9, 9, 9, 9)).1 = 0 := by omega
      rw [if_neg hz0, if_neg hz0, if_pos hz, if_pos hz, upA_ne _ _ _ (fun hj => hne (xt_1 c hc k hv.1 hz (by rw [hv.2]) (by rw [hv.2]; exact hj)))]
    · by_cases hz0 : (XT.getD c (9, 9, 9, 9, 9)).1 = 0
      · rw [if_pos hz0, if_pos hz0]
      · rw [if_neg hz0, if_neg hz0, if_neg hz, if_neg hz]
/-- the rows of an array of rows: k0 is the first row's cell -/
theorem lay_XAr {q : Nat} {A : Nat → Int → Int} {B : Nat → Int → Option Nat} {M : Nat → Int → Int → Int} (k0 : Nat) {n0 t n j : Nat} {a : Int} (ht : t = 0 ∨ t = 1) (h : ∀ r, r < n0 → XT[k0 + r]? = some (3, t, n, j, r)) (ha : 0 ≤ a ∧ a < (n0 : Int)) : lay q (obXA A B M) (k0 + a.toNat) = some (cA t n (if t = 1 then fL (M j a) else fI (M j a))) := by
  rw [lay_XA _ (h a.toNat (by omega))]
  dsimp only
  rw [if_neg (by decide), if_neg (by decide), if_neg (by decide), show ((a.toNat : Nat) : Int) = a by omega]
theorem chg_XAr {q : Nat} {A : Nat → Int → Int} {B : Nat → Int → Option Nat} {M : Nat → Int → Int → Int} (k0 : Nat) {n0 t n j : Nat} {a : Int} (i x : Int) (ht : t = 0 ∨ t = 1) (h : ∀ r, r < n0 → XT[k0 + r]? = some (3, t, n, j, r)) (ha : 0 ≤ a ∧ a < (n0 : Int)) : Chg q (obXA A B M) (obXA A B (upM M j a i x)) (k0 + a.toNat) (cA t n (if t = 1 then fL (upZ (M j a) i x) else fI (upZ (M j a) i x))) := by
  refine chg_XA _ _ ?_ ?_
  · rw [lay_XAr k0 ht h ha, upM_eq]
  · intro c hc hne
    rw [lay_XA c (xt_get hc), lay_XA c (xt_get hc)]
    have hv := xt_of (h a.toNat (by omega))
    by_cases hz0 : (XT.getD c (9, 9, 9, 9, 9)).1 = 0
    · rw [if_pos hz0, if_pos hz0]
    by_cases hz1 : (XT.getD c (9, 9, 9, 9, 9)).1 = 1
    · rw [if_neg hz0, if_neg hz0, if_pos hz1, if_pos hz1]
    by_cases hz2 : (XT.getD c (9, 9, 9, 9, 9)).1 = 2
    · rw [if_neg hz0, if_neg hz0, if_neg hz1, if_neg hz1, if_pos hz2, if_pos hz2]
    rw [if_neg hz0, if_neg hz0, if_neg hz1, if_neg hz1, if_neg hz2, if_neg hz2]
    have hz3 : (XT.getD c (9, 9, 9, 9, 9)).1 = 3 := by have := xt_c c hc; omega
    have e : upM M j a i x (XT.getD c (9, 9, 9, 9, 9)).2.2.2.1 ((XT.getD c (9, 9, 9, 9, 9)).2.2.2.2 : Nat) = M (XT.getD c (9, 9, 9, 9, 9)).2.2.2.1 ((XT.getD c (9, 9, 9, 9, 9)).2.2.2.2 : Nat) := by
      by_cases hj : (XT.getD c (9, 9, 9, 9, 9)).2.2.2.1 = j
      · rw [hj]
        refine upM_ne2 _ _ _ _ (fun hr => hne (xt_3 c hc _ hv.1 hz3 ?_))
        rw [hv.2]
        dsimp only
        omega
      · rw [upM_ne _ _ _ _ hj]
    rw [e]
theorem chg_X0 {x : Nat} {F F' : Nat → Int} {p : Nat} {fs : List Value} (h : fdl 0 F' (Px x p) = fs) : Chg x (obX x F p) (obX x F' p) 0 (cO 0 fs) := by
  subst h
  exact chg_raw rfl rfl rfl
theorem xr_twigs : ∀ r, r < 14 → XT[1 + r]? = some (3, 1, 4, 0, r) := xr_of rfl
theorem xr_far : ∀ r, r < 13 → XT[17 + r]? = some (3, 0, 13, 1, r) := xr_of rfl
theorem xr_sorted : ∀ r, r < 14 → XT[35 + r]? = some (3, 1, 4, 2, r) := xr_of rfl
theorem xr_sets : ∀ r, r < 5 → XT[55 + r]? = some (3, 1, 21, 3, r) := xr_of rfl
/-! a frame in any world; calls -/
abbrev KV : Type := Launch × GG × Nat × List Value × Nat × Post
abbrev KV.l (K : KV) : Launch := K.1
abbrev KV.G (K : KV) : GG := K.2.1
abbrev KV.d (K : KV) : Nat := K.2.2.1
abbrev KV.av (K : KV) : List Value := K.2.2.2.1
abbrev KV.sz0 (K : KV) : Nat := K.2.2.2.2.1
abbrev KV.S (K : KV) : Post := K.2.2.2.2.2
abbrev VX (K : KV) (M : Mt) (pc : Nat) (ls : List (Nat × Value)) (st : List Value) (w : Wd) (sz n : Nat) : Prop := V K.l K.G M K.d K.av K.sz0 K.S pc ls st w sz n
abbrev WP : Type := Wd → Nat → Nat → Prop
def CI (Mc : Mt) (K : KV) (As : List Value) (w : Wd) (sz n : Nat) (Φ : Int → WP) : Prop := ∃ d', d' < K.d ∧ Ret K.l K.G Mc d' As w sz (fun r w1 sz1 n1 => ∃ x : Int, r = some (vI x) ∧ Φ x w1 sz1 (n + n1))
def CL (Mc : Mt) (K : KV) (As : List Value) (w : Wd) (sz n : Nat) (Φ : Int → WP) : Prop := ∃ d', d' < K.d ∧ Ret K.l K.G Mc d' As w sz (fun r w1 sz1 n1 => ∃ x : Int, r = some (vL x) ∧ Φ x w1 sz1 (n + n1))
def CQ (Mc : Mt) (K : KV) (As : List Value) (w : Wd) (sz n : Nat) (Φ : Option Nat → WP) : Prop := ∃ d', d' < K.d ∧ Ret K.l K.G Mc d' As w sz (fun r w1 sz1 n1 => ∃ x : Option Nat, r = some (va_rf x) ∧ Φ x w1 sz1 (n + n1))
def CV (Mc : Mt) (K : KV) (As : List Value) (w : Wd) (sz n : Nat) (Φ : WP) : Prop := ∃ d', d' < K.d ∧ Ret K.l K.G Mc d' As w sz (fun r w1 sz1 n1 => r = none ∧ Φ w1 sz1 (n + n1))
section VXX
variable (K : KV) {M : Mt} {pc : Nat} {ls : List (Nat × Value)} {st : List Value} {w : Wd} {sz n : Nat}
theorem x_callVI {idx b np : Nat} {C : String} {As st1 : List Value} {Mc : Mt} {Φ : Int → WP} (hd : decode M.2.1 pc = .ok (.invokevirtual idx, 3)) (hL : LkV M.1.cls idx C Mc np) (hst : st = As.reverse ++ .ref b :: st1) (hn : As.length = np) (hsum : (st1.map fun v => v.category).sum ≤ 8) (hrc : RC K.G w b C) (h : CI Mc K (.ref b :: As) w sz n Φ) (kk : ∀ x w1 sz1 n1, Φ x w1 sz1 n1 → VX K M (pc + 3) ls (vI x :: st1) w1 sz1 n1) : VX K M pc ls st w sz n := by
  obtain ⟨d', hd', h⟩ := h
  refine v_callV hd hL hst hn hsum hrc hd' (h.mono ?_)
  rintro r w1 sz1 n1 ⟨x, rfl, h5⟩
  exact kk x w1 sz1 _ h5
theorem x_callSI {idx np : Nat} {As st1 : List Value} {Mc : Mt} {Φ : Int → WP} (hd : decode M.2.1 pc = .ok (.invokestatic idx, 3)) (hL : LkS M.1.cls idx Mc np) (hst : st = As.reverse ++ st1) (hn : As.length = np) (hsum : (st1.map fun v => v.category).sum ≤ 8) (h : CI Mc K As w sz n Φ) (kk : ∀ x w1 sz1 n1, Φ x w1 sz1 n1 → VX K M (pc + 3) ls (vI x :: st1) w1 sz1 n1) : VX K M pc ls st w sz n := by
  obtain ⟨d', hd', h⟩ := h
  refine v_callS hd hL hst hn hsum hd' (h.mono ?_)
  rintro r w1 sz1 n1 ⟨x, rfl, h5⟩
  exact kk x w1 sz1 _ h5
theorem x_callVL {idx b np : Nat} {C : String} {As st1 : List Value} {Mc : Mt} {Φ : Int → WP} (hd : decode M.2.1 pc = .ok (.invokevirtual idx, 3)) (hL : LkV M.1.cls idx C Mc np) (hst : st = As.reverse ++ .ref b :: st1) (hn : As.length = np) (hsum : (st1.map fun v => v.category).sum ≤ 8) (hrc : RC K.G w b C) (h : CL Mc K (.ref b :: As) w sz n Φ) (kk : ∀ x w1 sz1 n1, Φ x w1 sz1 n1 → VX K M (pc + 3) ls (vL x :: st1) w1 sz1 n1) : VX K M pc ls st w sz n := by
  obtain ⟨d', hd', h⟩ := h
  refine v_callV hd hL hst hn hsum hrc hd' (h.mono ?_)
  rintro r w1 sz1 n1 ⟨x, rfl, h5⟩
  exact kk x w1 sz1 _ h5
theorem x_callSL {idx np : Nat} {As st1 : List Value} {Mc : Mt} {Φ : Int → WP} (hd : decode M.2.1 pc = .ok (.invokestatic idx, 3)) (hL : LkS M.1.cls idx Mc np) (hst : st = As.reverse ++ st1) (hn : As.length = np) (hsum : (st1.map fun v => v.category).sum ≤ 8) (h : CL Mc K As w sz n Φ) (kk : ∀ x w1 sz1 n1, Φ x w1 sz1 n1 → VX K M (pc + 3) ls (vL x :: st1) w1 sz1 n1) : VX K M pc ls st w sz n := by
  obtain ⟨d', hd', h⟩ := h
  refine v_callS hd hL hst hn hsum hd' (h.mono ?_)
  rintro r w1 sz1 n1 ⟨x, rfl, h5⟩
  exact kk x w1 sz1 _ h5
theorem x_callVQ {idx b np : Nat} {C : String} {As st1 : List Value} {Mc : Mt} {Φ : Option Nat → WP} (hd : decode M.2.1 pc = .ok (.invokevirtual idx, 3)) (hL : LkV M.1.cls idx C Mc np) (hst : st = As.reverse ++ .ref b :: st1) (hn : As.length = np) (hsum : (st1.map fun v => v.category).sum ≤ 8) (hrc : RC K.G w b C) (h : CQ Mc K (.ref b :: As) w sz n Φ) (kk : ∀ x w1 sz1 n1, Φ x w1 sz1 n1 → VX K M (pc + 3) ls (va_rf x :: st1) w1 sz1 n1) : VX K M pc ls st w sz n := by
  obtain ⟨d', hd', h⟩ := h
  refine v_callV hd hL hst hn hsum hrc hd' (h.mono ?_)
  rintro r w1 sz1 n1 ⟨x, rfl, h5⟩
  exact kk x w1 sz1 _ h5
theorem x_callSQ {idx np : Nat} {As st1 : List Value} {Mc : Mt} {Φ : Option Nat → WP} (hd : decode M.2.1 pc = .ok (.invokestatic idx, 3)) (hL : LkS M.1.cls idx Mc np) (hst : st = As.reverse ++ st1) (hn : As.length = np) (hsum : (st1.map fun v => v.category).sum ≤ 8) (h : CQ Mc K As w sz n Φ) (kk : ∀ x w1 sz1 n1, Φ x w1 sz1 n1 → VX K M (pc + 3) ls (va_rf x :: st1) w1 sz1 n1) : VX K M pc ls st w sz n := by
  obtain ⟨d', hd', h⟩ := h
  refine v_callS hd hL hst hn hsum hd' (h.mono ?_)
  rintro r w1 sz1 n1 ⟨x, rfl, h5⟩
  exact kk x w1 sz1 _ h5
theorem x_callVV {idx b np : Nat} {C : String} {As st1 : List Value} {Mc : Mt} {Φ : WP} (hd : decode M.2.1 pc = .ok (.invokevirtual idx, 3)) (hL : LkV M.1.cls idx C Mc np) (hst : st = As.reverse ++ .ref b :: st1) (hn : As.length = np) (hsum : (st1.map fun v => v.category).sum ≤ 8) (hrc : RC K.G w b C) (h : CV Mc K (.ref b :: As) w sz n Φ) (kk : ∀ w1 sz1 n1, Φ w1 sz1 n1 → VX K M (pc + 3) ls st1 w1 sz1 n1) : VX K M pc ls st w sz n := by
  obtain ⟨d', hd', h⟩ := h
  refine v_callV hd hL hst hn hsum hrc hd' (h.mono ?_)
  rintro r w1 sz1 n1 ⟨rfl, h5⟩
  exact kk w1 sz1 _ h5
theorem x_callSV {idx np : Nat} {As st1 : List Value} {Mc : Mt} {Φ : WP} (hd : decode M.2.1 pc = .ok (.invokestatic idx, 3)) (hL : LkS M.1.cls idx Mc np) (hst : st = As.reverse ++ st1) (hn : As.length = np) (hsum : (st1.map fun v => v.category).sum ≤ 8) (h : CV Mc K As w sz n Φ) (kk : ∀ w1 sz1 n1, Φ w1 sz1 n1 → VX K M (pc + 3) ls st1 w1 sz1 n1) : VX K M pc ls st w sz n := by
  obtain ⟨d', hd', h⟩ := h
  refine v_callS hd hL hst hn hsum hd' (h.mono ?_)
  rintro r w1 sz1 n1 ⟨rfl, h5⟩
  exact kk w1 sz1 _ h5
theorem x_callIV {idx b np : Nat} {As st1 : List Value} {Mc : Mt} {Φ : WP} (hd : decode M.2.1 pc = .ok (.invokespecial idx, 3)) (hL : LkI M.1.cls idx Mc np) (hst : st = As.reverse ++ .ref b :: st1) (hn : As.length = np) (hsum : (st1.map fun v => v.category).sum ≤ 8) (h : CV Mc K (.ref b :: As) w sz n Φ) (kk : ∀ w1 sz1 n1, Φ w1 sz1 n1 → VX K M (pc + 3) ls st1 w1 sz1 n1) : VX K M pc ls st w sz n := by
  obtain ⟨d', hd', h⟩ := h
  refine v_callI hd hL hst hn hsum hd' (h.mono ?_)
  rintro r w1 sz1 n1 ⟨rfl, h5⟩
  exact kk w1 sz1 _ h5
theorem x_iret {x : Int} (hd : decode M.2.1 pc = .ok (.ireturn, 1)) (hr : M.2.2.2 = some .int) (hS : K.S (some (vI x)) w sz n) : VX K M pc ls [vI x] w sz n := v_iret hd hr hS
theorem x_zret {x : Int} (hd : decode M.2.1 pc = .ok (.ireturn, 1)) (hr : M.2.2.2 = some .boolean) (hx : x = 0 ∨ x = 1) (hS : K.S (some (vI x)) w sz n) : VX K M pc ls [vI x] w sz n :=
  v_zret hd hr (by rcases hx with rfl | rfl <;> rfl) hS
theorem x_cret {x : Int} (hd : decode M.2.1 pc = .ok (.ireturn, 1)) (hr : M.2.2.2 = some .char) (hx : 0 ≤ x ∧ x < 256) (hS : K.S (some (vI x)) w sz n) : VX K M pc ls [vI x] w sz n := by
  refine v_zret hd hr ?_ hS
  show Value.int ((iI x).toUInt32 % 65536).toInt32 = .int (iI x)
  congr 1
  obtain ⟨k, hk⟩ : ∃ k : Nat, x = (k : Int) := ⟨x.toNat, by omega⟩
  subst hk
  have hk : k < 256 := by omega
  have : ∀ k : Nat, k < 256 → ((iI (k : Int)).toUInt32 % 65536).toInt32 = iI (k : Int) := by decide +kernel
  exact this k hk
theorem x_bret {x : Int} (hd : decode M.2.1 pc = .ok (.ireturn, 1)) (hr : M.2.2.2 = some .byte) (hx : -128 ≤ x ∧ x ≤ 127) (hS : K.S (some (vI x)) w sz n) : VX K M pc ls [vI x] w sz n :=
  v_zret hd hr (byte_nar hx) hS
theorem x_aret {r : Option Nat} {rt : FieldType} (hd : decode M.2.1 pc = .ok (.areturn, 1)) (hr : M.2.2.2 = some rt) (hrt : (∃ n, rt = .object n) ∨ ∃ t, rt = .array t) (hS : K.S (some (va_rf r)) w sz n) : VX K M pc ls [va_rf r] w sz n := v_aret hd hr hrt (isR_rf r) hS
/-- a new object: its fields at zero -/
theorem v_new {idx ci : Nat} {C : String} {T : u_T} {N : Nat} (ty : Nat → FieldType) (hd : decode M.2.1 pc = .ok (.new idx, 3)) (hci : ci < 50) (hc : cls[ci]? = some (C, T, N)) (hin : ∀ w ∈ u_ws C T N, w ∈ lw_all) (hty : ∀ k, k < N → parseFieldDescriptor (T k).2.2.1 = some (ty k)) {nn : Nat} (hcl : Cond.classLink M.1.cls idx C ∈ lw_all) (hinst : Cond.instantiable C nn ∈ lw_all) (hini : Cond.initialized C ∈ lw_all)
    (hfs : ∀ j, j < N → defaultValue (ty j) = vp_V (fdl ci nF nP) j) (hw : w sz = none) (kk : VX K M (pc + 3) ls (.ref sz :: st) (wset w sz (some (obR ci nF nP))) (sz + 1) (n + nn)) : VX K M pc ls st w sz n := by
  obtain ⟨r, w', sz', n', h1, h2, h3, k⟩ := kk
  refine ⟨r, w', sz', n', h1, by omega, by omega, fun p e s m below meth c C9 H locs la hG hS hl => ?_⟩
  obtain ⟨hx, hb, hml, hr, hlk9, hown, hts, hK, hsz9, hnm9⟩ := id C9
  have hKn := hK.1.1 ci _ hc
  have hszH := hG.1
  have hsz0 : K.sz0 ≤ sz := by have := hS.1; rw [hsz9, hszH] at this; exact this
  refine W.newcK hx hb hown (hts _ hcl) (hts _ hinst) (hts _ hini) rfl hd (by show sz - K.sz0 + 1 ≤ sz' - K.sz0; omega) (by show n + nn ≤ n'; omega) hKn.2.1 hszH fun H1 kC hkC e1 z1 o1 => ?_
  have hl1 : len (obR ci nF nP) = 1 := if_pos (show ci < 80 by omega)
  have hG1 := hG.push (H1 := H1) (o := obR ci nF nP) (by rw [hl1]; exact z1) o1 (fun j e9 hj => by
    have := lay_raw0 hj hl1
    subst this
    rw [lay_R0 _ _ _ hci] at hj
    cases hj
    exact ⟨_, hc, (u_born ty hts hin hKn hkC e1 hty).to hfs⟩)
  rw [hl1] at hG1
  have h9 := k p e s m below meth c C9 H1 locs la hG1 ⟨by rw [z1]; have := hS.1; omega, fun q h1 h2 => (o1 q (by have := hS.1; omega)).trans (hS.2.1 q h1 h2), hS.2.2⟩ hl
  rw [show sz + 1 - K.sz0 = sz - K.sz0 + 1 by omega] at h9
  exact h9
end VXX
