set_option maxRecDepth 100000
/-! the lists of keys, by how many atoms -/
def addA (C : Tr) (acc : List Int) (a : Int) : List Int := if (nbs C a).length < 4 then insU (keyT (grT C a)) acc else acc
def addV (n : Nat) (acc : List Int) (v : Int) : List Int := match canT n v with
  | some C => (rg n).foldl (addA C) acc
  | none => acc
def lst : Nat → List Int
  | 0 => []
  | 1 => [0]
  | n + 2 => (lst (n + 1)).foldl (addV (n + 1)) []
/-- no list is long; all that is listed tells a tree -/
def LstOk : Prop := ∀ n, 1 ≤ n → n ≤ 10 → (lst n).length < 80 ∧ ∀ v ∈ lst n, 0 ≤ v ∧ v < p5 (n : Int) ∧ ∃ C, canT n v = some C
theorem insU_len (x : Int) (l : List Int) : l.length ≤ (insU x l).length := by
  unfold insU
  split
  · exact Nat.le_refl _
  · rw [(insD_perm x l).length_eq, List.length_cons]; omega
theorem fold_len {f : List Int → Int → List Int} (h : ∀ acc x, acc.length ≤ (f acc x).length) : ∀ (l : List Int) (acc : List Int), acc.length ≤ (l.foldl f acc).length
  | [], _ => Nat.le_refl _
  | x :: l, acc => Nat.le_trans (h acc x) (fold_len h l (f acc x))
theorem addA_len (C : Tr) (acc : List Int) (a : Int) : acc.length ≤ (addA C acc a).length := by
  unfold addA
  split
  · exact insU_len _ _
  · exact Nat.le_refl _
theorem addV_len (n : Nat) (acc : List Int) (v : Int) : acc.length ≤ (addV n acc v).length := by
  unfold addV
  split
  · exact fold_len (addA_len _) _ _
  · exact Nat.le_refl _
abbrev DR (l : List Int) : Prop := Desc l ∧ ∀ x ∈ l, rI x
theorem DR.ins {l : List Int} (h : DR l) {x : Int} (hx : rI x) : DR (insU x l) := ⟨insU_desc h.1, fun y hy => by
  rcases mem_insU.mp hy with rfl | hy
  · exact hx
  · exact h.2 y hy⟩
theorem DR.add {l : List Int} (h : DR l) (C : Tr) (a : Int) : DR (addA C l a) := by
  unfold addA
  split
  · have := keyT_rng (grT C a); unfold P13 at this
    exact h.ins ⟨by omega, by omega⟩
  · exact h
theorem DR.fold {f : List Int → Int → List Int} (hf : ∀ l x, DR l → DR (f l x)) : ∀ (r l : List Int), DR l → DR (r.foldl f l)
  | [], _, h => h
  | x :: r, l, h => DR.fold hf r (f l x) (hf l x h)
theorem lst_DR : ∀ n, DR (lst n)
  | 0 => ⟨List.Pairwise.nil, fun _ h => by cases h⟩
  | 1 => ⟨List.pairwise_singleton _ _, fun x hx => by rw [show x = 0 by simpa [lst] using hx]; decide⟩
  | n + 2 => by
    unfold lst
    refine DR.fold (fun l v hl => ?_) _ _ ⟨List.Pairwise.nil, fun _ h => by cases h⟩
    unfold addV
    split
    · exact DR.fold (fun l a hl => hl.add _ a) _ _ hl
    · exact hl
