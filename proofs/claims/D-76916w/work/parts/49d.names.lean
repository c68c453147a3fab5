set_option maxRecDepth 100000
/-! texts, and how they are compared -/
def byS (s : String) : List Int := s.toList.map fun c => (c.toNat : Int)
def stemL : List (List Int) := [byS "meth", byS "eth", byS "prop", byS "but", byS "pent", byS "hex", byS "hept", byS "oct", byS "non", byS "dec", byS "undec", byS "dodec"]
def manyL : List (List Int) := [byS "di", byS "tri", byS "tetra", byS "penta", byS "hexa", byS "hepta", byS "octa"]
def stm (k : Int) : List Int := stemL.getD k.toNat []
def mny (k : Int) : List Int := manyL.getD k.toNat []
def isLt (c : Int) : Bool := decide (97 ≤ c ∧ c ≤ 122)
def isDg (c : Int) : Bool := decide (48 ≤ c ∧ c ≤ 57)
def cmpT : List Int → List Int → Int
  | x :: l, y :: r => if x = y then cmpT l r else x - y
  | [], r => 0 - (r.length : Int)
  | l, [] => (l.length : Int)
theorem cmpT_nil_r : ∀ l : List Int, cmpT l [] = (l.length : Int)
  | [] => rfl
  | _ :: _ => rfl
theorem cmpT_nil_l : ∀ l : List Int, cmpT [] l = 0 - (l.length : Int)
  | [] => rfl
  | _ :: _ => rfl
theorem cmpT_cons (x y : Int) (l r : List Int) : cmpT (x :: l) (y :: r) = if x = y then cmpT l r else x - y := rfl
theorem cmpT_neg : ∀ s t : List Int, cmpT t s = -cmpT s t
  | [], t => by rw [cmpT_nil_r, cmpT_nil_l]; omega
  | x :: s, [] => by rw [cmpT_nil_r, cmpT_nil_l]; omega
  | x :: s, y :: t => by
    rw [cmpT_cons, cmpT_cons]
    by_cases c : x = y
    · rw [if_pos c, if_pos c.symm, cmpT_neg s t]
    · rw [if_neg c, if_neg (fun h => c h.symm)]; omega
theorem cmpT_zero : ∀ {s t : List Int}, cmpT s t = 0 → s = t
  | [], [], _ => rfl
  | [], y :: t, h => by rw [cmpT_nil_l, List.length_cons] at h; omega
  | x :: s, [], h => by rw [cmpT_nil_r, List.length_cons] at h; omega
  | x :: s, y :: t, h => by
    rw [cmpT_cons] at h
    by_cases c : x = y
    · rw [if_pos c] at h; rw [c, cmpT_zero h]
    · rw [if_neg c] at h; omega
theorem cmpT_self : ∀ s : List Int, cmpT s s = 0
  | [] => rfl
  | x :: s => by rw [cmpT_cons, if_pos rfl, cmpT_self s]
theorem cmpT_trans : ∀ {s t u : List Int}, cmpT s t < 0 → cmpT t u < 0 → cmpT s u < 0
  | [], [], u, h, _ => by rw [cmpT_self] at h; omega
  | [], y :: t, [], _, h => by rw [cmpT_nil_r, List.length_cons] at h; omega
  | [], y :: t, z :: u, _, _ => by rw [cmpT_nil_l, List.length_cons]; omega
  | x :: s, [], u, h, _ => by rw [cmpT_nil_r, List.length_cons] at h; omega
  | x :: s, y :: t, [], _, h => by rw [cmpT_nil_r, List.length_cons] at h; omega
  | x :: s, y :: t, z :: u, h1, h2 => by
    rw [cmpT_cons] at h1 h2 ⊢
    by_cases c1 : x = y
    · rw [if_pos c1] at h1
      by_cases c2 : y = z
      · rw [if_pos c2] at h2
        rw [if_pos (c1.trans c2)]; exact cmpT_trans h1 h2
      · rw [if_neg c2] at h2
        rw [if_neg (fun h => c2 (c1.symm.trans h))]; omega
    · rw [if_neg c1] at h1
      by_cases c2 : y = z
      · rw [if_pos c2] at h2
        rw [if_neg (fun h => c1 (h.trans c2.symm))]; omega
      · rw [if_neg c2] at h2
        rw [if_neg (by omega)]; omega
def lets (l : List Int) : List Int := l.filter isLt
def cmpN (s t : List Int) : Int := if cmpT (lets s) (lets t) = 0 then cmpT s t else cmpT (lets s) (lets t)
theorem cmpN_neg (s t : List Int) : cmpN t s = -cmpN s t := by
  unfold cmpN
  rw [cmpT_neg (lets s) (lets t), cmpT_neg s t]
  by_cases c : cmpT (lets s) (lets t) = 0
  · rw [if_pos c, if_pos (by omega)]
  · rw [if_neg c, if_neg (by omega)]
theorem cmpN_zero {s t : List Int} (h : cmpN s t = 0) : s = t := by
  unfold cmpN at h
  by_cases c : cmpT (lets s) (lets t) = 0
  · rw [if_pos c] at h; exact cmpT_zero h
  · rw [if_neg c] at h; exact absurd h c
theorem cmpN_self (s : List Int) : cmpN s s = 0 := by
  unfold cmpN; rw [if_pos (cmpT_self _), cmpT_self]
theorem cmpN_trans {s t u : List Int} (h1 : cmpN s t < 0) (h2 : cmpN t u < 0) : cmpN s u < 0 := by
  unfold cmpN at h1 h2 ⊢
  by_cases c1 : cmpT (lets s) (lets t) = 0
  · rw [if_pos c1] at h1
    have e1 := cmpT_zero c1
    by_cases c2 : cmpT (lets t) (lets u) = 0
    · rw [if_pos c2] at h2
      rw [e1, if_pos c2]; exact cmpT_trans h1 h2
    · rw [if_neg c2] at h2
      rw [e1, if_neg c2]; exact h2
  · rw [if_neg c1] at h1
    by_cases c2 : cmpT (lets t) (lets u) = 0
    · rw [if_pos c2] at h2
      rw [← cmpT_zero c2, if_neg c1]; exact h1
    · rw [if_neg c2] at h2
      have := cmpT_trans h1 h2
      rw [if_neg (by omega)]; exact this
/-! names in order, each once -/
def insN (t : List Int) : List (List Int) → List (List Int)
  | [] => [t]
  | u :: l => if cmpN t u = 0 then u :: l else if cmpN t u < 0 then t :: u :: l else u :: insN t l
def srtN (l : List (List Int)) : List (List Int) := l.foldr insN []
abbrev AscN (l : List (List Int)) : Prop := l.Pairwise (fun s t => cmpN s t < 0)
theorem mem_insN {t u : List Int} : ∀ {l : List (List Int)}, u ∈ insN t l ↔ u = t ∨ u ∈ l
  | [] => by unfold insN; simp
  | v :: l => by
    unfold insN
    by_cases c : cmpN t v = 0
    · rw [if_pos c, cmpN_zero c]; simp
    · rw [if_neg c]
      by_cases c2 : cmpN t v < 0
      · rw [if_pos c2]; simp
      · rw [if_neg c2, List.mem_cons, mem_insN, List.mem_cons]
        constructor
        · rintro (h | h | h)
          · exact Or.inr (Or.inl h)
          · exact Or.inl h
          · exact Or.inr (Or.inr h)
        · rintro (h | h | h)
          · exact Or.inr (Or.inl h)
          · exact Or.inl h
          · exact Or.inr (Or.inr h)
theorem insN_asc {t : List Int} : ∀ {l : List (List Int)}, AscN l → AscN (insN t l)
  | [], _ => List.pairwise_singleton _ _
  | v :: l, h => by
    obtain ⟨h1, h2⟩ := List.pairwise_cons.mp h
    unfold insN
    by_cases c : cmpN t v = 0
    · rw [if_pos c]; exact h
    · rw [if_neg c]
      by_cases c2 : cmpN t v < 0
      · rw [if_pos c2]
        refine List.pairwise_cons.mpr ⟨fun u hu => ?_, h⟩
        rcases List.mem_cons.mp hu with rfl | hu
        · exact c2
        · exact cmpN_trans c2 (h1 u hu)
      · rw [if_neg c2]
        refine List.pairwise_cons.mpr ⟨fun u hu => ?_, insN_asc h2⟩
        rcases mem_insN.mp hu with rfl | hu
        · have := cmpN_neg v u; omega
        · exact h1 u hu
theorem srtN_asc : ∀ l : List (List Int), AscN (srtN l)
  | [] => List.Pairwise.nil
  | t :: l => insN_asc (srtN_asc l)
theorem mem_srtN {u : List Int} : ∀ {l : List (List Int)}, u ∈ srtN l ↔ u ∈ l
  | [] => Iff.rfl
  | t :: l => by
    show u ∈ insN t (srtN l) ↔ _
    rw [mem_insN, mem_srtN, List.mem_cons]
theorem asc_eq {l r : List (List Int)} (hl : AscN l) (hr : AscN r) (h : ∀ u, u ∈ l ↔ u ∈ r) : l = r := by
  have nd : ∀ {l : List (List Int)}, AscN l → l.Nodup := fun hl => hl.imp fun {s t} h he => by
    rw [he, cmpN_self] at h; omega
  refine ((List.perm_ext_iff_of_nodup (nd hl) (nd hr)).mpr h).eq_of_pairwise (le := fun s t => cmpN s t < 0) (fun s t _ _ h1 h2 => ?_) hl hr
  have := cmpN_neg s t
  omega
theorem srtN_perm {l r : List (List Int)} (h : ∀ u, u ∈ l ↔ u ∈ r) : srtN l = srtN r :=
  asc_eq (srtN_asc l) (srtN_asc r) fun u => by rw [mem_srtN, mem_srtN]; exact h u
/-! a name out of its branches' names -/
def dec (z : Int) : List Int := if 9 < z then [48 + z / 10, 48 + z % 10] else [48 + z % 10]
def jn (sep : Int) : List (List Int) → List Int
  | [] => []
  | [x] => x
  | x :: y :: l => x ++ sep :: jn sep (y :: l)
def numsT (bl : List (Int × List Int)) (t : List Int) : List Int := (bl.filter fun q => q.2 == t).map fun q => q.1
def brk (t : List Int) : List Int := if t.any isDg then 40 :: (t ++ [41]) else t
def partT (bl : List (Int × List Int)) (t : List Int) : List Int := jn 44 ((numsT bl t).map dec) ++ 45 :: ((if 1 < (numsT bl t).length then mny (((numsT bl t).length : Int) - 2) else []) ++ brk t)
def endT (tree : Bool) : List Int := if tree then byS "ane" else byS "yl"
def wholeT (bl : List (Int × List Int)) (L : Int) (tree : Bool) : List Int := jn 45 ((srtN (bl.map fun q => q.2)).map (partT bl)) ++ (stm (L - 1) ++ endT tree)
def minT : List (List Int) → List Int
  | [] => []
  | x :: l => l.foldl (fun best w => if cmpT w best < 0 then w else best) x
/-- the name by a way, the names of what hangs on it being told -/
def nameW (T : Tr) (g : Int → Int → List Int) (w : List Int) (from1 : Int) : List Int := wholeT ((brs T w from1).map fun q => (q.1, g q.2.2 q.2.1)) (w.length : Int) (decide (from1 = -1))
def bestW (T : Tr) (b from1 : Int) : List (List Int) := (waysT T b from1).filter fun w => decide (lexI (keyW T w from1) (bstK T b from1) = 0)
def nm (T : Tr) : Nat → Int → Int → List Int
  | 0, _, _ => []
  | f + 1, b, from1 => minT ((bestW T b from1).map fun w => nameW T (fun b a => nm T f b a) w from1)
/-! names are short -/
theorem stm_len : ∀ k : Fin 12, (stm ((k : Nat) : Int)).length ≤ 5 := by decide +kernel
theorem mny_len : ∀ k : Fin 7, (mny ((k : Nat) : Int)).length ≤ 5 := by decide +kernel
theorem stm_len' (k : Int) : (stm k).length ≤ 5 := by
  by_cases h : k.toNat < 12
  · have := stm_len ⟨k.toNat, h⟩
    have e : stm (((⟨k.toNat, h⟩ : Fin 12) : Nat) : Int) = stm k := by
      unfold stm; show stemL.getD ((k.toNat : Nat) : Int).toNat [] = _; rw [show ((k.toNat : Nat) : Int).toNat = k.toNat by omega]
    rwa [e] at this
  · unfold stm
    rw [List.getD_eq_getElem?_getD, List.getElem?_eq_none (by show 12 ≤ k.toNat; omega)]; decide
theorem mny_len' (k : Int) : (mny k).length ≤ 5 := by
  by_cases h : k.toNat < 7
  · have := mny_len ⟨k.toNat, h⟩
    have e : mny (((⟨k.toNat, h⟩ : Fin 7) : Nat) : Int) = mny k := by
      unfold mny; show manyL.getD ((k.toNat : Nat) : Int).toNat [] = _; rw [show ((k.toNat : Nat) : Int).toNat = k.toNat by omega]
    rwa [e] at this
  · unfold mny
    rw [List.getD_eq_getElem?_getD, List.getElem?_eq_none (by show 7 ≤ k.toNat; omega)]; decide
theorem dec_len (z : Int) : 1 ≤ (dec z).length ∧ (dec z).length ≤ 2 := by
  unfold dec; split <;> simp
theorem endT_len (q : Bool) : (endT q).length ≤ 3 := by cases q <;> decide
theorem jn_len {sep : Int} {M : Nat} : ∀ {l : List (List Int)}, (∀ x ∈ l, x.length ≤ M) → (jn sep l).length ≤ l.length * (M + 1)
  | [], _ => Nat.zero_le _
  | [x], h => by have := h x List.mem_cons_self; show x.length ≤ 1 * (M + 1); omega
  | x :: y :: l, h => by
    have h1 := h x List.mem_cons_self
    have h2 := jn_len (sep := sep) (l := y :: l) (fun z hz => h z (List.mem_cons_of_mem _ hz))
    show (x ++ sep :: jn sep (y :: l)).length ≤ _
    rw [List.length_append, List.length_cons, List.length_cons (a := x), Nat.succ_mul]
    omega
theorem jn_sum {sep : Int} : ∀ (l : List (List Int)), (jn sep l).length ≤ (l.map fun x => x.length + 1).sum
  | [] => Nat.le_refl _
  | [x] => by show x.length ≤ x.length + 1 + 0; omega
  | x :: y :: l => by
    have h2 := jn_sum (sep := sep) (y :: l)
    show (x ++ sep :: jn sep (y :: l)).length ≤ _
    rw [List.length_append, List.length_cons, List.map_cons, List.sum_cons]
    omega
theorem brk_len (t : List Int) : (brk t).length ≤ t.length + 2 := by
  unfold brk
  split
  · rw [List.length_cons, List.length_append]; show t.length + 1 + 1 ≤ _; omega
  · omega
theorem partT_len {bl : List (Int × List Int)} {t : List Int} (h : 1 ≤ (numsT bl t).length) : (partT bl t).length + 1 ≤ (numsT bl t).length * (t.length + 11) := by
  have h1 := jn_len (sep := 44) (M := 2) (l := (numsT bl t).map dec) (fun x hx => by
    obtain ⟨z, -, rfl⟩ := List.mem_map.mp hx
    exact (dec_len z).2)
  rw [List.length_map] at h1
  have h2 := brk_len t
  have h3 := mny_len' (((numsT bl t).length : Int) - 2)
  unfold partT
  rw [List.length_append, List.length_cons, List.length_append]
  generalize (numsT bl t).length = m at h h1 h3 ⊢
  have h5 : m * (t.length + 11) = m * t.length + 11 * m := by rw [Nat.mul_add, Nat.mul_comm m 11]
  have h6 : t.length ≤ m * t.length := Nat.le_mul_of_pos_left _ h
  by_cases c : 1 < m
  · rw [if_pos c]; omega
  · rw [if_neg c, List.length_nil]; omega
theorem sum_groups {g : List Int → Nat} {U : List (List Int)} (hU : U.Nodup) : ∀ (bl : List (Int × List Int)), (∀ q ∈ bl, q.2 ∈ U) → (U.map fun t => (numsT bl t).length * g t).sum = (bl.map fun q => g q.2).sum
  | [], _ => by
    have : ∀ U : List (List Int), (U.map fun t => (numsT [] t).length * g t).sum = 0 := by
      intro U
      induction U with
      | nil => rfl
      | cons t U ih => rw [List.map_cons, List.sum_cons, ih]; show 0 * g t + 0 = 0; omega
    exact this U
  | q :: bl, h => by
    have ih := sum_groups (g := g) hU bl (fun x hx => h x (List.mem_cons_of_mem _ hx))
    rw [List.map_cons, List.sum_cons, ← ih]
    have key : ∀ U : List (List Int), U.Nodup → (U.map fun t => (numsT (q :: bl) t).length * g t).sum = (if q.2 ∈ U then g q.2 else 0) + (U.map fun t => (numsT bl t).length * g t).sum := by
      intro U
      induction U with
      | nil => intro _; rfl
      | cons t U ihU =>
        intro hn
        obtain ⟨n1, n2⟩ := List.nodup_cons.mp hn
        rw [List.map_cons, List.sum_cons, List.map_cons, List.sum_cons, ihU n2]
        by_cases c : q.2 = t
        · have e : (numsT (q :: bl) t).length = (numsT bl t).length + 1 := by
            unfold numsT
            rw [List.filter_cons_of_pos (by rw [c]; exact beq_self_eq_true t), List.map_cons, List.length_cons]
          rw [e, c, if_neg n1, if_pos List.mem_cons_self, Nat.add_mul]; omega
        · have e : (numsT (q :: bl) t).length = (numsT bl t).length := by
            unfold numsT
            rw [List.filter_cons_of_neg (by simpa using c)]
          rw [e]
          by_cases c2 : q.2 ∈ U
          · rw [if_pos c2, if_pos (List.mem_cons_of_mem _ c2)]; omega
          · rw [if_neg c2, if_neg (fun h => (List.mem_cons.mp h).elim c c2)]; omega
    rw [key U hU, if_pos (h q List.mem_cons_self)]
theorem wholeT_len (bl : List (Int × List Int)) (L : Int) (tree : Bool) : (wholeT bl L tree).length ≤ (bl.map fun q => q.2.length + 11).sum + 8 := by
  have nd : (srtN (bl.map fun q => q.2)).Nodup := (srtN_asc _).imp fun {s t} h he => by rw [he, cmpN_self] at h; omega
  have h1 := jn_sum (sep := 45) ((srtN (bl.map fun q => q.2)).map (partT bl))
  have h2 := sum_groups (g := fun t => t.length + 11) nd bl (fun q hq => mem_srtN.mpr (List.mem_map.mpr ⟨q, hq, rfl⟩))
  have h3 : (((srtN (bl.map fun q => q.2)).map (partT bl)).map fun x => x.length + 1).sum ≤ ((srtN (bl.map fun q => q.2)).map fun t => (numsT bl t).length * (t.length + 11)).sum := by
    rw [List.map_map]
    have key : ∀ U : List (List Int), (∀ t ∈ U, 1 ≤ (numsT bl t).length) → (U.map ((fun x => x.length + 1) ∘ partT bl)).sum ≤ (U.map fun t => (numsT bl t).length * (t.length + 11)).sum := by
      intro U
      induction U with
      | nil => intro _; exact Nat.le_refl _
      | cons t U ih =>
        intro hU
        rw [List.map_cons, List.sum_cons, List.map_cons, List.sum_cons]
        have := partT_len (hU t List.mem_cons_self)
        have := ih (fun x hx => hU x (List.mem_cons_of_mem _ hx))
        show (partT bl t).length + 1 + _ ≤ _
        omega
    refine key _ fun t ht => ?_
    obtain ⟨q, hq, e⟩ := List.mem_map.mp (mem_srtN.mp ht)
    unfold numsT
    rw [List.length_map]
    exact List.length_pos_of_mem (List.mem_filter.mpr ⟨hq, by rw [e]; exact beq_self_eq_true t⟩)
  have h4 := stm_len' (L - 1)
  have h5 := endT_len tree
  unfold wholeT
  rw [List.length_append, List.length_append]
  omega
theorem minT_mem : ∀ {l : List (List Int)}, l ≠ [] → minT l ∈ l
  | [], h => absurd rfl h
  | x :: l, _ => by
    have key : ∀ (l : List (List Int)) (b : List Int), l.foldl (fun best w => if cmpT w best < 0 then w else best) b = b ∨ l.foldl (fun best w => if cmpT w best < 0 then w else best) b ∈ l := by
      intro l
      induction l with
      | nil => intro b; exact Or.inl rfl
      | cons y l ih =>
        intro b
        rw [List.foldl_cons]
        rcases ih (if cmpT y b < 0 then y else b) with h | h
        · rw [h]
          split
          · exact Or.inr List.mem_cons_self
          · exact Or.inl rfl
        · exact Or.inr (List.mem_cons_of_mem _ h)
    show l.foldl _ x ∈ _
    rcases key l x with h | h
    · rw [h]; exact List.mem_cons_self
    · exact List.mem_cons_of_mem _ h
theorem waysT_good {T : Tr} {d : Int → Int → Int} (h : TrOk T d) {b from1 : Int} (t : Tw T d 13 b from1) {w : List Int} (hw : w ∈ waysT T b from1) : ∃ a e, stA b from1 a = true ∧ Tw T d 13 a from1 ∧ inT T e ∧ 0 ≤ fo T 13 a e from1 ∧ w = pth T 13 a e from1 ∧ GW2 T d a from1 e w := by
  rw [waysT_eq t.1] at hw
  obtain ⟨a, ha, hw⟩ := List.mem_flatMap.mp hw
  rw [mem_rgf] at ha
  by_cases c : stA b from1 a = true
  · rw [if_pos c] at hw
    obtain ⟨e, he, rfl⟩ := List.mem_map.mp hw
    rw [List.mem_filter, mem_rgf] at he
    have hta := t.of h (by exact ⟨ha.1, by omega⟩) c
    have heT : inT T e := ⟨he.1.1, by omega⟩
    exact ⟨a, e, c, hta, heT, of_decide_eq_true he.2, rfl, pth_good2 h hta heT (of_decide_eq_true he.2)⟩
  · rw [if_neg c] at hw; cases hw
/-- a way's twig is all that is there -/
theorem way_size {T : Tr} {d : Int → Int → Int} (h : TrOk T d) {b from1 a : Int} (t : Tw T d 13 b from1) (ta : Tw T d 13 a from1) (hst : stA b from1 a = true) : szT T a from1 = szT T b from1 := by
  rcases of_decide_eq_true hst with h1 | h1
  · subst h1; rw [szT_tree h ta.1, szT_tree h t.1]
  · rw [h1]
theorem nm_len {T : Tr} {d : Int → Int → Int} (h : TrOk T d) : ∀ (f : Nat) (b from1 : Int), Tw T d 13 b from1 → szT T b from1 ≤ f → (nm T f b from1).length + 11 ≤ 19 * szT T b from1 := by
  have hn := h.n1
  intro f
  induction f with
  | zero =>
    intro b from1 t hs
    have hpos : 1 ≤ szT T b from1 := List.length_pos_of_mem (((pl_spec h 13 b from1 t).2 b).mpr ⟨t.1, inTw.self h t⟩)
    omega
  | succ f ih =>
    intro b from1 t hs
    have hpos : 1 ≤ szT T b from1 := List.length_pos_of_mem (((pl_spec h 13 b from1 t).2 b).mpr ⟨t.1, inTw.self h t⟩)
    unfold nm
    by_cases c : bestW T b from1 = []
    · rw [c]; show 0 + 11 ≤ _; omega
    · have hm := minT_mem (l := (bestW T b from1).map fun w => nameW T (fun b a => nm T f b a) w from1) (by simpa using c)
      obtain ⟨w, hw, e⟩ := List.mem_map.mp hm
      rw [← e]
      unfold bestW at hw
      rw [List.mem_filter] at hw
      obtain ⟨a, e2, hst, ta, he2, hfo, rfl, g⟩ := waysT_good h t hw.1
      have hsz := br_sizes h g ta
      rw [way_size h t ta hst] at hsz
      have hl := g.2.2.2.2.1
      have h1 := wholeT_len ((brs T (pth T 13 a e2 from1) from1).map fun q => (q.1, nm T f q.2.2 q.2.1)) ((pth T 13 a e2 from1).length : Int) (decide (from1 = -1))
      rw [List.map_map] at h1
      have key : ∀ l : List (Int × Int × Int), (∀ q ∈ l, q ∈ brs T (pth T 13 a e2 from1) from1) → (l.map ((fun q : Int × List Int => q.2.length + 11) ∘ fun q => (q.1, nm T f q.2.2 q.2.1))).sum ≤ 19 * (l.map fun t => szT T t.2.2 t.2.1).sum := by
        intro l
        induction l with
        | nil => intro _; exact Nat.le_refl _
        | cons q l ihl =>
          intro hq
          have hqm := hq q List.mem_cons_self
          have := ihl (fun x hx => hq x (List.mem_cons_of_mem _ hx))
          obtain ⟨p1, p2, p3, p4, -⟩ := br_facts h g hqm
          have hle : szT T q.2.2 q.2.1 ≤ ((brs T (pth T 13 a e2 from1) from1).map fun t => szT T t.2.2 t.2.1).sum := by
            have mem_le : ∀ (l : List (Int × Int × Int)), q ∈ l → szT T q.2.2 q.2.1 ≤ (l.map fun t => szT T t.2.2 t.2.1).sum := by
              intro l
              induction l with
              | nil => intro hh; cases hh
              | cons y l ihl =>
                intro hh
                rw [List.map_cons, List.sum_cons]
                rcases List.mem_cons.mp hh with rfl | hh
                · omega
                · have := ihl hh; omega
            exact mem_le _ hqm
          have := ih q.2.2 q.2.1 (Tw.edge h p4 (by omega)) (by omega)
          rw [List.map_cons, List.sum_cons, List.map_cons, List.sum_cons]
          show (nm T f q.2.2 q.2.1).length + 11 + _ ≤ _
          omega
      have := key _ (fun q hq => hq)
      show (wholeT ((brs T (pth T 13 a e2 from1) from1).map fun q => (q.1, nm T f q.2.2 q.2.1)) ((pth T 13 a e2 from1).length : Int) (decide (from1 = -1))).length + 11 ≤ _
      omega
