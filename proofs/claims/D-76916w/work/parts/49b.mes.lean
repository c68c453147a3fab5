set_option maxRecDepth 100000
/-! most branches on a longest chain; all measures; ranks -/
def mostL (T : Tr) (a : Int) : List Int := ((rg T.1).filter fun b => decide (fo T 13 a b (-1) = longN T - 1)).map fun b => ((brs T (pth T 13 a b (-1)) (-1)).length : Int)
def mostB (T : Tr) : Int := maxI ((rg T.1).flatMap (mostL T))
def mesr (T : Tr) (w : Int) : Int := if w = 0 then (T.1 : Int) else if w = 1 then 2 + 2 * (T.1 : Int) else if w = 2 then farT T (-1) else if w = 3 then endN T else if w = 4 then farT T 3 else if w = 5 then dpA T (ctA T 0) else if w = 6 then unlN T else if w = 7 then likeN T 0 * wys T 13 0 (-1) else if w = 8 then ((moreL T).length : Int) else if w = 9 then longN T else mostB T
def opMeasure (s : Sg) (w : Int) : Int := if 0 ≤ w ∧ w ≤ 10 then mesr s.D w else -1
def mesV (w : Int) (n : Nat) (v : Int) : Int := match canT n v with
  | some C => mesr C w
  | none => 0
/-- how many go ahead of the k-th -/
def ahd (vs : List Int) (k : Nat) : Nat := ((List.range vs.length).filter fun j => decide (vs.getD k 0 < vs.getD j 0) || (decide (vs.getD j 0 = vs.getD k 0) && decide (j < k))).length
def rkF (vs : List Int) (i : Int) : Nat → Nat → Int
  | _, 0 => -1
  | k, m + 1 => if (ahd vs k : Int) = i then (k : Int) else rkF vs i (k + 1) m
def opRanked (n w i : Int) : Int := if isLd n i = true ∧ 0 ≤ w ∧ w ≤ 10 then rkF ((lst n.toNat).map (mesV w n.toNat)) i 0 (lst n.toNat).length else -1
/-! measures are small -/
theorem sumI_rng {M : Int} (hM : 0 ≤ M) : ∀ {l : List Int}, (∀ x ∈ l, 0 ≤ x ∧ x ≤ M) → 0 ≤ sumI l ∧ sumI l ≤ (l.length : Int) * M
  | [], _ => by rw [sumI_nil]; exact ⟨Int.le_refl _, by show (0 : Int) ≤ 0 * M; rw [Int.zero_mul]; exact Int.le_refl _⟩
  | x :: l, h => by
    have h1 := h x List.mem_cons_self
    have h2 := sumI_rng hM (fun y hy => h y (List.mem_cons_of_mem _ hy))
    rw [sumI_cons, List.length_cons, show ((l.length + 1 : Nat) : Int) = (l.length : Int) + 1 by omega, Int.add_mul, Int.one_mul]
    omega
theorem farT_rng {T : Tr} {d : Int → Int → Int} (h : TrOk T d) (j : Int) : 0 ≤ farT T j ∧ farT T j ≤ 2028 := by
  have hn := h.n1
  have h1 : ∀ a, inT T a → ∀ x ∈ (rgf (a + 1) (T.1 - (a.toNat + 1))).map (fun b => farS T j a b), 0 ≤ x ∧ x ≤ 12 := by
    intro a ha x hx
    obtain ⟨b, hb, rfl⟩ := List.mem_map.mp hx
    rw [mem_rgf] at hb
    have hbT : inT T b := ⟨by have := ha.1; omega, by have := ha.1; omega⟩
    unfold farS
    split
    · have e := fo_all h ha hbT
      rw [e]
      have := h.dge ha hbT
      have := h.dlt ha hbT
      omega
    · rcases bz01 (decide (fo T 13 a b (-1) = j)) with e | e <;> rw [e] <;> decide
  have h2 : ∀ x ∈ (rg T.1).map (fun a => sumI ((rgf (a + 1) (T.1 - (a.toNat + 1))).map fun b => farS T j a b)), 0 ≤ x ∧ x ≤ 156 := by
    intro x hx
    obtain ⟨a, ha, rfl⟩ := List.mem_map.mp hx
    rw [mem_rgf] at ha
    have := sumI_rng (M := 12) (by decide) (h1 a ⟨ha.1, by omega⟩)
    rw [List.length_map, len_rgf] at this
    omega
  have := sumI_rng (M := 156) (by decide) h2
  rw [List.length_map, len_rgf] at this
  unfold farT
  omega
theorem p4_le {a b : Nat} (h : a ≤ b) : (4 : Int) ^ a ≤ 4 ^ b := by
  induction h with
  | refl => exact Int.le_refl _
  | step _ ih =>
    rw [Int.pow_succ]
    have : (0 : Int) < 4 ^ a := Int.pow_pos (by decide)
    omega
theorem wyl_rng {g w : Int → Int} {z : Int → Nat} (hw : ∀ c, 1 ≤ w c ∧ w c * 4 ≤ 4 ^ z c) : ∀ (l done : List Int), done.length + l.length ≤ 4 → 1 ≤ wyl g w done l ∧ wyl g w done l ≤ 4 ^ (l.map z).sum
  | [], done, _ => by unfold wyl; exact ⟨by decide, by show (1 : Int) ≤ 1; decide⟩
  | c :: l, done, h => by
    unfold wyl
    have h1 := wyl_rng (g := g) hw l (done ++ [c]) (by rw [List.length_append, List.length_singleton]; rw [List.length_cons] at h; omega)
    have h2 := hw c
    have h3 := List.length_filter_le (fun x => g x == g c) done
    rw [List.length_cons] at h
    have h4 : 1 ≤ (((done.filter (fun x => g x == g c)).length : Int) + 1) ∧ (((done.filter (fun x => g x == g c)).length : Int) + 1) ≤ 4 := by omega
    generalize (((done.filter (fun x => g x == g c)).length : Int) + 1) = q at h4
    have h5 : 1 ≤ q * w c := by
      have := Int.mul_le_mul h4.1 h2.1 (by decide) (by omega)
      omega
    have h6 : q * w c ≤ 4 ^ z c := by
      have := Int.mul_le_mul_of_nonneg_right h4.2 (by omega : 0 ≤ w c)
      omega
    constructor
    · have := Int.mul_le_mul h5 h1.1 (by decide) (by omega)
      omega
    · rw [List.map_cons, List.sum_cons, Int.pow_add]
      exact Int.mul_le_mul h6 h1.2 (by omega) (Int.le_of_lt (Int.pow_pos (by decide)))
theorem sum_flat {l : List Int} {p : Int → List Int} : (l.map fun c => (p c).length).sum = (l.flatMap p).length := by
  rw [List.length_flatMap]
theorem wys_rng {T : Tr} {d : Int → Int → Int} (h : TrOk T d) : ∀ (f : Nat) (b a : Int), Tw T d f b a → 1 ≤ wys T f b a ∧ wys T f b a * 4 ≤ 4 ^ (pl T f b a).length := by
  intro f
  induction f with
  | zero => intro b a t; obtain ⟨f', h1⟩ := t.pos h; omega
  | succ f ih =>
    intro b a t
    have hlen : (chs T b a).length ≤ 4 := Nat.le_trans (chs_len_le T b a) (h.deg b)
    -- outside the children the bound does not matter
    have hg : ∀ (l done : List Int), (∀ c ∈ l, c ∈ chs T b a) → done.length + l.length ≤ 4 → 1 ≤ wyl (fun c => nmc (cd T f c b)) (fun c => wys T f c b) done l ∧ wyl (fun c => nmc (cd T f c b)) (fun c => wys T f c b) done l ≤ 4 ^ (l.map fun c => (pl T f c b).length).sum := by
      intro l done hl hlen
      have e : ∀ (l done : List Int), (∀ c ∈ l, c ∈ chs T b a) → wyl (fun c => nmc (cd T f c b)) (fun c => wys T f c b) done l = wyl (fun c => nmc (cd T f c b)) (fun c => if c ∈ chs T b a then wys T f c b else 1) done l ∧ (l.map fun c => (pl T f c b).length).sum = (l.map fun c => if c ∈ chs T b a then (pl T f c b).length else 1).sum := by
        intro l
        induction l with
        | nil => intro done _; exact ⟨rfl, rfl⟩
        | cons c l ihl =>
          intro done hl
          have hc := hl c List.mem_cons_self
          have := ihl (done ++ [c]) (fun x hx => hl x (List.mem_cons_of_mem _ hx))
          unfold wyl
          rw [if_pos hc, this.1, List.map_cons, List.map_cons, List.sum_cons, List.sum_cons, if_pos hc, this.2]
          exact ⟨rfl, rfl⟩
      rw [(e l done hl).1, (e l done hl).2]
      refine wyl_rng (fun c => ?_) l done hlen
      by_cases hc : c ∈ chs T b a
      · rw [if_pos hc, if_pos hc]; exact ih c b (t.step h hc)
      · rw [if_neg hc, if_neg hc]; exact ⟨by decide, by decide⟩
    have := hg (chs T b a) [] (fun c hc => hc) (by rw [List.length_nil, Nat.zero_add]; exact hlen)
    have e2 : (pl T (f + 1) b a).length = ((chs T b a).map fun c => (pl T f c b).length).sum + 1 := by
      rw [sum_flat]; rfl
    rw [e2, Int.pow_succ]
    show 1 ≤ wyl _ _ [] _ ∧ wyl _ _ [] _ * 4 ≤ _
    exact ⟨this.1, Int.mul_le_mul_of_nonneg_right this.2 (by decide)⟩
theorem filt_len (p : Int → Bool) (n : Nat) : (((rg n).filter p).length : Int) ≤ (n : Int) := by
  have := List.length_filter_le p (rg n)
  rw [len_rgf] at this
  omega
theorem maxI_rng {M : Int} (hM : 0 ≤ M) {l : List Int} (h : ∀ x ∈ l, x ≤ M) : 0 ≤ maxI l ∧ maxI l ≤ M := ⟨maxI_ge l, maxI_le hM h⟩
theorem longN_rng {T : Tr} {d : Int → Int → Int} (h : TrOk T d) : 1 ≤ longN T ∧ longN T ≤ 13 := by
  have hn := h.n1
  have := maxI_rng (M := 12) (by decide) (l := (rg T.1).map fun a => dpA T a) (fun x hx => by
    obtain ⟨a, ha, rfl⟩ := List.mem_map.mp hx
    rw [mem_rgf] at ha
    have ha' : inT T a := ⟨ha.1, by omega⟩
    obtain ⟨-, x, hx, -, e⟩ := dp_spec h 13 a (-1) (Tw.top ha' hn.2)
    have h1 := h.dlt hx ha'
    have e : d x a = dpA T a := e
    omega)
  unfold longN
  omega
theorem moreL_len (T : Tr) : (moreL T).length ≤ T.1 := by
  have key : ∀ (l L : List Int), (l.foldl (fun l a => if (nbs T a).length = 4 then l else addN (keyT (grT T a)) l) L).length ≤ L.length + l.length := by
    intro l
    induction l with
    | nil => intro L; exact Nat.le_refl _
    | cons a l ih =>
      intro L
      rw [List.foldl_cons, List.length_cons]
      refine Nat.le_trans (ih _) ?_
      have : ∀ k, (addN k L).length ≤ L.length + 1 := by
        intro k; unfold addN; split
        · omega
        · rw [List.length_append]; exact Nat.le_refl _
      split
      · omega
      · have := this (keyT (grT T a)); omega
  have := key (rg T.1) []
  rw [len_rgf, List.length_nil, Nat.zero_add] at this
  exact this
theorem mostB_rng {T : Tr} {d : Int → Int → Int} (h : TrOk T d) : 0 ≤ mostB T ∧ mostB T ≤ 13 := by
  have hn := h.n1
  refine maxI_rng (by decide) fun x hx => ?_
  obtain ⟨a, ha, hx⟩ := List.mem_flatMap.mp hx
  obtain ⟨b, hb, rfl⟩ := List.mem_map.mp hx
  rw [List.mem_filter, mem_rgf] at hb
  rw [mem_rgf] at ha
  have hb2 := of_decide_eq_true hb.2
  have hl := longN_rng h
  have haT : inT T a := ⟨ha.1, by omega⟩
  have hbT : inT T b := ⟨hb.1.1, by omega⟩
  have ht : Tw T d 13 a (-1) := Tw.top haT hn.2
  obtain ⟨g1, g2, g3, -, -⟩ := pth_spec h hbT 13 a (-1) a 0 ht ⟨haT, h.d0 a, Or.inl rfl⟩ (Or.inl rfl)
  have := brs_len h (from1 := -1) haT g1 (fun v hv => by rw [g3] at hv; cases hv; rfl)
  omega
theorem mesr_rI {T : Tr} {d : Int → Int → Int} (h : TrOk T d) (w : Int) : rI (mesr T w) := by
  have hn := h.n1
  have h0 : inT T 0 := ⟨by decide, by omega⟩
  unfold mesr
  split
  · omega
  split
  · omega
  split
  · have := farT_rng h (-1); omega
  split
  · have := filt_len (fun a => (nbs T a).length == 1) T.1; unfold endN; omega
  split
  · have := farT_rng h 3; omega
  split
  · obtain ⟨hc, -, -⟩ := ctA0_spec hn.1
    obtain ⟨-, x, hx, -, e⟩ := dp_spec h 13 (ctA T 0) (-1) (Tw.top hc hn.2)
    have h1 := h.dlt hx hc
    have h2 := h.dge hx hc
    have e : d x (ctA T 0) = dpA T (ctA T 0) := e
    omega
  split
  · have := filt_len (fun a => likeF T a == a) T.1; unfold unlN; omega
  split
  · have h1 := filt_len (fun b => cdA T b == cdA T 0) T.1
    have h2 := wys_rng h 13 0 (-1) (Tw.top h0 hn.2)
    have h3 := pl_le h (Tw.top (f := 13) h0 hn.2)
    have h4 : (4 : Int) ^ (pl T 13 0 (-1)).length ≤ 4 ^ 13 := p4_le (by omega)
    have h5 : wys T 13 0 (-1) ≤ 16777216 := by
      have : (4 : Int) ^ 13 = 67108864 := by decide
      omega
    have h6 : 0 ≤ likeN T 0 ∧ likeN T 0 ≤ 13 := by unfold likeN; omega
    have h7 := Int.mul_le_mul h6.2 h5 (by omega) (by decide)
    have h8 := Int.mul_nonneg h6.1 (show 0 ≤ wys T 13 0 (-1) by omega)
    omega
  split
  · have := moreL_len T; omega
  split
  · have := longN_rng h; omega
  · have := mostB_rng h; omega
