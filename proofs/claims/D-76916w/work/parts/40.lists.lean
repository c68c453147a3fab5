set_option maxRecDepth 100000
/-! plain lists of whole numbers -/
def rgf : Int → Nat → List Int
  | _, 0 => []
  | k, m + 1 => k :: rgf (k + 1) m
abbrev rg (n : Nat) : List Int := rgf 0 n
theorem mem_rgf {a : Int} : ∀ {m : Nat} {k : Int}, a ∈ rgf k m ↔ k ≤ a ∧ a < k + (m : Int)
  | 0, k => by simp only [rgf, List.not_mem_nil, false_iff]; omega
  | m + 1, k => by simp only [rgf, List.mem_cons]; rw [mem_rgf]; omega
theorem nodup_rgf : ∀ (m : Nat) (k : Int), (rgf k m).Nodup
  | 0, _ => List.nodup_nil
  | m + 1, k => by
    simp only [rgf, List.nodup_cons]
    exact ⟨fun h => by rw [mem_rgf] at h; omega, nodup_rgf m (k + 1)⟩
theorem len_rgf : ∀ (m : Nat) (k : Int), (rgf k m).length = m
  | 0, _ => rfl
  | m + 1, k => by simp only [rgf, List.length_cons, len_rgf m (k + 1)]
theorem rgf_last : ∀ (m : Nat) (k : Int), rgf k (m + 1) = rgf k m ++ [k + (m : Int)]
  | 0, k => by simp [rgf]
  | m + 1, k => by
    rw [rgf, rgf_last m (k + 1)]
    simp only [rgf, List.cons_append]
    rw [show k + 1 + (m : Int) = k + ((m + 1 : Nat) : Int) by omega]
theorem rgf_map (c : Int) : ∀ (m : Nat) (k : Int), (rgf k m).map (fun i => i + c) = rgf (k + c) m
  | 0, _ => rfl
  | m + 1, k => by simp only [rgf, List.map_cons, rgf_map c m (k + 1)]; rw [show k + 1 + c = k + c + 1 by omega]
theorem rgf_get : ∀ (m : Nat) (k : Int) (i : Nat), i < m → (rgf k m)[i]? = some (k + (i : Int))
  | 0, _, _, h => absurd h (Nat.not_lt_zero _)
  | m + 1, k, 0, _ => by simp [rgf]
  | m + 1, k, i + 1, h => by
    simp only [rgf, List.getElem?_cons_succ]
    rw [rgf_get m (k + 1) i (by omega)]
    congr 1; omega
theorem rgf_split (a b : Nat) : ∀ (k : Int), rgf k (a + b) = rgf k a ++ rgf (k + (a : Int)) b := by
  induction a with
  | zero => intro k; simp [rgf]
  | succ a ih =>
    intro k
    rw [show a + 1 + b = (a + b) + 1 by omega, rgf, ih (k + 1), rgf, List.cons_append]
    congr 2
    congr 1; omega
/-! sums and products -/
def sumI (l : List Int) : Int := l.foldr (fun x y => x + y) 0
theorem sumI_cons (x : Int) (l : List Int) : sumI (x :: l) = x + sumI l := rfl
theorem sumI_nil : sumI [] = 0 := rfl
theorem sumI_append (l r : List Int) : sumI (l ++ r) = sumI l + sumI r := by
  induction l with
  | nil => simp [sumI]
  | cons x l ih => rw [List.cons_append, sumI_cons, sumI_cons, ih]; omega
theorem sumI_perm {l r : List Int} (h : l.Perm r) : sumI l = sumI r := by
  induction h with
  | nil => rfl
  | cons x _ ih => rw [sumI_cons, sumI_cons, ih]
  | swap x y l => simp only [sumI_cons]; omega
  | trans _ _ h1 h2 => exact h1.trans h2
/-! the greatest ahead -/
def insD (x : Int) : List Int → List Int
  | [] => [x]
  | y :: l => if y < x then x :: y :: l else y :: insD x l
def srtD : List Int → List Int
  | [] => []
  | x :: l => insD x (srtD l)
abbrev Desc (l : List Int) : Prop := l.Pairwise (fun a b => b ≤ a)
theorem insD_perm (x : Int) : ∀ l : List Int, (insD x l).Perm (x :: l)
  | [] => List.Perm.refl _
  | y :: l => by
    unfold insD
    split
    · exact List.Perm.refl _
    · exact ((insD_perm x l).cons y).trans (List.Perm.swap x y l)
theorem srtD_perm : ∀ l : List Int, (srtD l).Perm l
  | [] => List.Perm.refl _
  | x :: l => (insD_perm x (srtD l)).trans ((srtD_perm l).cons x)
theorem insD_desc (x : Int) : ∀ {l : List Int}, Desc l → Desc (insD x l)
  | [], _ => List.pairwise_singleton _ _
  | y :: l, h => by
    obtain ⟨h1, h2⟩ := List.pairwise_cons.mp h
    unfold insD
    by_cases c : y < x
    · rw [if_pos c]
      refine List.pairwise_cons.mpr ⟨fun b hb => ?_, h⟩
      rcases List.mem_cons.mp hb with rfl | hb
      · omega
      · have := h1 b hb; omega
    · rw [if_neg c]
      refine List.pairwise_cons.mpr ⟨fun b hb => ?_, insD_desc x h2⟩
      have hb := (insD_perm x l).mem_iff.mp hb
      rcases List.mem_cons.mp hb with rfl | hb
      · omega
      · exact h1 b hb
theorem srtD_desc : ∀ l : List Int, Desc (srtD l)
  | [] => List.Pairwise.nil
  | x :: l => insD_desc x (srtD_desc l)
theorem desc_eq {l r : List Int} (hl : Desc l) (hr : Desc r) (h : l.Perm r) : l = r :=
  h.eq_of_pairwise (fun a b _ _ h1 h2 => by omega) hl hr
theorem srtD_eq {l r : List Int} (h : l.Perm r) : srtD l = srtD r :=
  desc_eq (srtD_desc l) (srtD_desc r) (((srtD_perm l).trans h).trans (srtD_perm r).symm)
theorem srtD_of {l r : List Int} (hl : Desc l) (h : l.Perm r) : srtD r = l :=
  desc_eq (srtD_desc r) hl ((srtD_perm r).trans h.symm)
theorem srtD_len (l : List Int) : (srtD l).length = l.length := (srtD_perm l).length_eq
/-- the greatest is taken out first -/
theorem srtD_max {l : List Int} {m : Int} (hm : m ∈ l) (h : ∀ x ∈ l, x ≤ m) : srtD l = m :: srtD (l.erase m) := by
  refine srtD_of (List.pairwise_cons.mpr ⟨fun b hb => ?_, srtD_desc _⟩) (((srtD_perm _).cons m).trans (List.perm_cons_erase hm).symm)
  exact h b (List.mem_of_mem_erase ((srtD_perm _).mem_iff.mp hb))
/-! a sorted list of keys, each once -/
def insU (x : Int) (l : List Int) : List Int := if x ∈ l then l else insD x l
theorem insU_desc {x : Int} {l : List Int} (h : Desc l) : Desc (insU x l) := by
  unfold insU; split
  · exact h
  · exact insD_desc x h
theorem mem_insD {x y : Int} {l : List Int} : y ∈ insD x l ↔ y = x ∨ y ∈ l := by rw [(insD_perm x l).mem_iff, List.mem_cons]
theorem mem_insU {x y : Int} {l : List Int} : y ∈ insU x l ↔ y = x ∨ y ∈ l := by
  unfold insU
  by_cases c : x ∈ l
  · rw [if_pos c]
    constructor
    · exact Or.inr
    · rintro (rfl | h)
      · exact c
      · exact h
  · rw [if_neg c]; exact mem_insD
/-- the list by places -/
def atI (l : List Int) (i : Int) : Int := l.getD i.toNat 0
theorem atI_cons0 (x : Int) (l : List Int) : atI (x :: l) 0 = x := rfl
