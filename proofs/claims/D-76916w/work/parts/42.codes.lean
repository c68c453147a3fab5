set_option maxRecDepth 100000
/-! atoms of a twig, one behind the other -/
def pl (T : Tr) : Nat → Int → Int → List Int
  | 0, b, _ => [b]
  | f + 1, b, a => b :: (chs T b a).flatMap (fun c => pl T f c b)
theorem pl_spec {T : Tr} {d : Int → Int → Int} (h : TrOk T d) : ∀ (f : Nat) (b a : Int), Tw T d f b a → (pl T f b a).Nodup ∧ ∀ x, x ∈ pl T f b a ↔ inT T x ∧ inTw d b a x := by
  intro f
  induction f with
  | zero => intro b a t; obtain ⟨f', h1⟩ := t.pos h; omega
  | succ f ih =>
    intro b a t
    have hb := t.1
    have hI : ∀ c ∈ chs T b a, (pl T f c b).Nodup ∧ ∀ x, x ∈ pl T f c b ↔ inT T x ∧ inTw d c b x := fun c hc => ih c b (t.step h hc)
    have hmem : ∀ x, x ∈ pl T (f + 1) b a ↔ inT T x ∧ inTw d b a x := by
      intro x
      unfold pl
      rw [List.mem_cons, List.mem_flatMap]
      constructor
      · rintro (rfl | ⟨c, hc, hx⟩)
        · exact ⟨hb, inTw.self h t⟩
        · have := ((hI c hc).2 x).mp hx
          exact ⟨this.1, inTw.up h this.1 t hc this.2⟩
      · rintro ⟨hx, hi⟩
        by_cases hxb : x = b
        · exact Or.inl hxb
        · obtain ⟨c, hc, hi', -⟩ := inTw.down h hb hx hxb hi
          exact Or.inr ⟨c, hc, ((hI c hc).2 x).mpr ⟨hx, hi'⟩⟩
    refine ⟨?_, hmem⟩
    unfold pl
    rw [List.nodup_cons]
    refine ⟨fun hm => ?_, ?_⟩
    · obtain ⟨c, hc, hx⟩ := List.mem_flatMap.mp hm
      exact inTw.not h (h.mem_chs.mp hc).1 (((hI c hc).2 b).mp hx).2
    · unfold List.Nodup
      rw [List.pairwise_flatMap]
      refine ⟨fun c hc => (hI c hc).1, ?_⟩
      refine (nodup_chs T b a).imp_of_mem ?_
      intro c c' hc hc' hn x hx y hy hxy
      subst hxy
      have h1 := ((hI c hc).2 x).mp hx
      have h2 := ((hI c' hc').2 x).mp hy
      exact hn (inTw.one h hb h1.1 hc hc' h1.2 h2.2)
theorem pl_len (T : Tr) (f : Nat) (b a : Int) : ((pl T (f + 1) b a).length : Int) = 1 + sumI ((chs T b a).map fun c => ((pl T f c b).length : Int)) := by
  have key : ∀ l : List Int, (((l.flatMap (fun c => pl T f c b)).length : Nat) : Int) = sumI (l.map fun c => ((pl T f c b).length : Int)) := by
    intro l
    induction l with
    | nil => rfl
    | cons c l ih => rw [List.flatMap_cons, List.length_append, List.map_cons, sumI_cons, ← ih]; omega
  show (((b :: (chs T b a).flatMap (fun c => pl T f c b)).length : Nat) : Int) = _
  rw [List.length_cons, ← key]; omega
theorem pl_le {T : Tr} {d : Int → Int → Int} (h : TrOk T d) {f : Nat} {b a : Int} (t : Tw T d f b a) : (pl T f b a).length ≤ T.1 := by
  obtain ⟨h1, h2⟩ := pl_spec h f b a t
  have := h1.length_le_of_subset (l₂ := rg T.1) (fun x hx => by rw [mem_rgf]; have := ((h2 x).mp hx).1; omega)
  rwa [len_rgf] at this
theorem pl_all {T : Tr} {d : Int → Int → Int} (h : TrOk T d) {f : Nat} {b : Int} (t : Tw T d f b (-1)) : (pl T f b (-1)).Perm (rg T.1) := by
  obtain ⟨h1, h2⟩ := pl_spec h f b (-1) t
  refine (List.perm_ext_iff_of_nodup h1 (nodup_rgf _ _)).mpr fun x => ?_
  rw [h2, mem_rgf]
  constructor
  · rintro ⟨h3, -⟩; omega
  · intro h3; exact ⟨by omega, Or.inl rfl⟩
/-! powers of five -/
def p5 (z : Int) : Int := 5 ^ z.toNat
theorem p5_zero : p5 0 = 1 := rfl
theorem p5_succ {z : Int} (h : 0 ≤ z) : p5 (z + 1) = 5 * p5 z := by
  unfold p5
  rw [show (z + 1).toNat = z.toNat + 1 by omega, Int.pow_succ]; omega
theorem p5_nat (n : Nat) : p5 (n : Int) = 5 ^ n := rfl
theorem p5_pos (z : Int) : 0 < p5 z := by unfold p5; exact Int.pow_pos (by decide)
theorem p5_add {x y : Int} (hx : 0 ≤ x) (hy : 0 ≤ y) : p5 (x + y) = p5 x * p5 y := by
  unfold p5
  rw [show (x + y).toNat = x.toNat + y.toNat by omega, Int.pow_add]
theorem p5_mono {x y : Int} (hx : 0 ≤ x) (h : x ≤ y) : p5 x ≤ p5 y := by
  have key : ∀ n : Nat, p5 x ≤ p5 (x + n) := by
    intro n
    induction n with
    | zero => rw [show x + ((0 : Nat) : Int) = x by omega]; exact Int.le_refl _
    | succ n ih =>
      rw [show x + ((n + 1 : Nat) : Int) = (x + n) + 1 by omega, p5_succ (by omega)]
      have := p5_pos (x + n); omega
  have := key (y - x).toNat
  rwa [show x + ((y - x).toNat : Int) = y by omega] at this
/-! codes: how many digits, then these to the base of five -/
def P13 : Int := 1220703125
theorem P13_eq : P13 = p5 13 := by decide
def szc (c : Int) : Int := c / P13
def nmc (c : Int) : Int := c % P13
theorem szc_of {s v : Int} (h0 : 0 ≤ v) (h1 : v < P13) : szc (s * P13 + v) = s := by
  unfold szc P13 at *; omega
theorem nmc_of {s v : Int} (h0 : 0 ≤ v) (h1 : v < P13) : nmc (s * P13 + v) = v := by
  unfold nmc P13 at *; omega
theorem cd_split (c : Int) : c = szc c * P13 + nmc c := by unfold szc nmc P13; omega
theorem nmc_rng (c : Int) : 0 ≤ nmc c ∧ nmc c < P13 := by unfold nmc P13; omega
/-- the digits of some, one behind the other -/
def fld (v : Int) (cs : List Int) : Int := cs.foldl (fun v c => v * p5 (szc c) + nmc c) v
def cmb (cs : List Int) : Int := (1 + sumI (cs.map szc)) * P13 + fld (cs.length : Int) cs
def cd (T : Tr) : Nat → Int → Int → Int
  | 0, _, _ => P13
  | f + 1, b, a => cmb (srtD ((chs T b a).map fun c => cd T f c b))
/-- a good code: no digit ahead is nothing, but of one atom alone -/
def CG (c : Int) : Prop := 1 ≤ szc c ∧ nmc c < p5 (szc c) ∧ (szc c = 1 → nmc c = 0) ∧ (2 ≤ szc c → p5 (szc c - 1) ≤ nmc c)
theorem sumI_pos {l : List Int} (h : ∀ x ∈ l, 1 ≤ x) : (l.length : Int) ≤ sumI l := by
  induction l with
  | nil => exact Int.le_refl _
  | cons x l ih =>
    have h1 := h x List.mem_cons_self
    have h2 := ih (fun y hy => h y (List.mem_cons_of_mem _ hy))
    rw [sumI_cons, List.length_cons]; omega
theorem fld_rng : ∀ (cs : List Int) (v : Int), 0 ≤ v → (∀ c ∈ cs, CG c) → v * p5 (sumI (cs.map szc)) ≤ fld v cs ∧ fld v cs < (v + 1) * p5 (sumI (cs.map szc))
  | [], v, h0, _ => by
    simp only [List.map_nil, sumI_nil, p5_zero, fld, List.foldl_nil]; omega
  | c :: cs, v, h0, hg => by
    have hc := hg c List.mem_cons_self
    have hs : ∀ x ∈ cs.map szc, 1 ≤ x := by
      intro x hx
      obtain ⟨y, hy, rfl⟩ := List.mem_map.mp hx
      exact (hg y (List.mem_cons_of_mem _ hy)).1
    have h1 := sumI_pos hs
    have hn := nmc_rng c
    have hp := p5_pos (szc c)
    have h2 : 0 ≤ v * p5 (szc c) + nmc c := by have := Int.mul_nonneg h0 (Int.le_of_lt hp); omega
    have ih := fld_rng cs (v * p5 (szc c) + nmc c) h2 (fun y hy => hg y (List.mem_cons_of_mem _ hy))
    have hq := p5_pos (sumI (cs.map szc))
    rw [List.map_cons, sumI_cons, p5_add (by have := hc.1; omega) (by omega)]
    show v * (p5 (szc c) * p5 (sumI (cs.map szc))) ≤ fld (v * p5 (szc c) + nmc c) cs ∧ fld (v * p5 (szc c) + nmc c) cs < (v + 1) * (p5 (szc c) * p5 (sumI (cs.map szc)))
    rw [← Int.mul_assoc, ← Int.mul_assoc]
    constructor
    · refine Int.le_trans ?_ ih.1
      exact Int.mul_le_mul_of_nonneg_right (by omega) (Int.le_of_lt hq)
    · refine Int.lt_of_lt_of_le ih.2 ?_
      refine Int.mul_le_mul_of_nonneg_right ?_ (Int.le_of_lt hq)
      rw [Int.add_mul]
      have := hc.2.1
      omega
theorem cmb_good {cs : List Int} (hg : ∀ c ∈ cs, CG c) (hl : cs.length ≤ 4) (hs : sumI (cs.map szc) ≤ 12) : szc (cmb cs) = 1 + sumI (cs.map szc) ∧ nmc (cmb cs) = fld (cs.length : Int) cs ∧ CG (cmb cs) := by
  have hs1 : ∀ x ∈ cs.map szc, 1 ≤ x := by
    intro x hx
    obtain ⟨y, hy, rfl⟩ := List.mem_map.mp hx
    exact (hg y hy).1
  have h1 := sumI_pos hs1
  rw [List.length_map] at h1
  have h2 := fld_rng cs (cs.length : Int) (by omega) hg
  have hq := p5_pos (sumI (cs.map szc))
  have h3 : p5 (1 + sumI (cs.map szc)) = 5 * p5 (sumI (cs.map szc)) := by rw [Int.add_comm, p5_succ (by omega)]
  have h4 : fld (cs.length : Int) cs < p5 (1 + sumI (cs.map szc)) := by
    rw [h3]
    refine Int.lt_of_lt_of_le h2.2 (Int.mul_le_mul_of_nonneg_right (by omega) (Int.le_of_lt hq))
  have h5 : 0 ≤ fld (cs.length : Int) cs := Int.le_trans (Int.mul_nonneg (by omega) (Int.le_of_lt hq)) h2.1
  have h6 : p5 (1 + sumI (cs.map szc)) ≤ P13 := by rw [P13_eq]; exact p5_mono (by omega) (by omega)
  have e1 : szc (cmb cs) = 1 + sumI (cs.map szc) := szc_of h5 (by omega)
  have e2 : nmc (cmb cs) = fld (cs.length : Int) cs := nmc_of h5 (by omega)
  refine ⟨e1, e2, ?_⟩
  unfold CG
  rw [e1, e2]
  refine ⟨by omega, h4, fun h7 => ?_, fun h7 => ?_⟩
  · have : cs.length = 0 := by omega
    rw [List.length_eq_zero_iff] at this
    subst this; rfl
  · rw [show 1 + sumI (cs.map szc) - 1 = sumI (cs.map szc) by omega]
    have hl1 : 1 ≤ (cs.length : Int) := by
      rcases Nat.eq_zero_or_pos cs.length with h8 | h8
      · rw [List.length_eq_zero_iff] at h8
        subst h8
        simp only [List.map_nil, sumI_nil] at h7
        omega
      · omega
    refine Int.le_trans ?_ h2.1
    have := Int.mul_le_mul_of_nonneg_right hl1 (Int.le_of_lt hq)
    rwa [Int.one_mul] at this
theorem chs_len_le (T : Tr) (b a : Int) : (chs T b a).length ≤ (nbs T b).length := List.length_filter_le _ _
theorem cd_good {T : Tr} {d : Int → Int → Int} (h : TrOk T d) : ∀ (f : Nat) (b a : Int), Tw T d f b a → CG (cd T f b a) ∧ szc (cd T f b a) = ((pl T f b a).length : Int) := by
  intro f
  induction f with
  | zero => intro b a t; obtain ⟨f', h1⟩ := t.pos h; omega
  | succ f ih =>
    intro b a t
    have hp := (srtD_perm ((chs T b a).map fun c => cd T f c b))
    have hg : ∀ c ∈ srtD ((chs T b a).map fun c => cd T f c b), CG c := by
      intro c hc
      obtain ⟨k, hk, rfl⟩ := List.mem_map.mp (hp.mem_iff.mp hc)
      exact (ih k b (t.step h hk)).1
    have e0 : sumI ((srtD ((chs T b a).map fun c => cd T f c b)).map szc) = sumI ((chs T b a).map fun c => ((pl T f c b).length : Int)) := by
      rw [sumI_perm (hp.map szc), List.map_map]
      congr 1
      refine List.map_congr_left fun c hc => ?_
      exact (ih c b (t.step h hc)).2
    have e1 := pl_len T f b a
    have e2 := pl_le h t
    have e3 := h.n1
    have := cmb_good hg (by rw [srtD_len, List.length_map]; exact Nat.le_trans (chs_len_le T b a) (h.deg b)) (by omega)
    exact ⟨this.2.2, by show szc (cmb _) = _; rw [this.1]; omega⟩
/-- of good codes the greater number has the greater code -/
theorem CG.lt_iff {c c' : Int} (h : CG c) (h' : CG c') : c < c' ↔ nmc c < nmc c' := by
  have k : ∀ {c c' : Int}, CG c → CG c' → szc c < szc c' → nmc c < nmc c' := by
    intro c c' h h' hs
    have h1 := h.1
    have h2 := h.2.1
    have h3 := h'.2.2.2 (by omega)
    have := p5_mono (x := szc c) (y := szc c' - 1) (by omega) (by omega)
    omega
  have e := cd_split c
  have e' := cd_split c'
  have r := nmc_rng c
  have r' := nmc_rng c'
  unfold P13 at *
  rcases Int.lt_trichotomy (szc c) (szc c') with hs | hs | hs
  · have := k h h' hs
    constructor <;> intro _ <;> omega
  · rw [hs] at e
    constructor <;> intro _ <;> omega
  · have := k h' h hs
    constructor <;> intro _ <;> omega
theorem CG.eq_iff {c c' : Int} (h : CG c) (h' : CG c') : c = c' ↔ nmc c = nmc c' := by
  have h1 := h.lt_iff h'
  have h2 := h'.lt_iff h
  constructor
  · rintro rfl; rfl
  · intro h3; omega
/-! the greatest of some, none of which is below nothing -/
def maxI (l : List Int) : Int := l.foldr (fun x y => max x y) 0
theorem maxI_cons (x : Int) (l : List Int) : maxI (x :: l) = max x (maxI l) := rfl
theorem maxI_ge (l : List Int) : 0 ≤ maxI l := by
  induction l with
  | nil => exact Int.le_refl _
  | cons x l ih => rw [maxI_cons]; omega
theorem le_maxI {x : Int} : ∀ {l : List Int}, x ∈ l → x ≤ maxI l
  | y :: l, h => by
    rw [maxI_cons]
    rcases List.mem_cons.mp h with rfl | h
    · omega
    · have := le_maxI h; omega
theorem maxI_le {m : Int} (h0 : 0 ≤ m) : ∀ {l : List Int}, (∀ x ∈ l, x ≤ m) → maxI l ≤ m
  | [], _ => h0
  | y :: l, h => by
    rw [maxI_cons]
    have h1 := h y List.mem_cons_self
    have h2 := maxI_le h0 (fun x hx => h x (List.mem_cons_of_mem _ hx))
    omega
theorem maxI_mem : ∀ (l : List Int), maxI l = 0 ∨ maxI l ∈ l
  | [] => Or.inl rfl
  | y :: l => by
    rw [maxI_cons]
    rcases maxI_mem l with h | h
    · rw [h]
      rcases Int.le_total y 0 with h1 | h1
      · left; omega
      · right; rw [show max y 0 = y by omega]; exact List.mem_cons_self
    · rcases Int.le_total y (maxI l) with h1 | h1
      · right; rw [show max y (maxI l) = maxI l by omega]; exact List.mem_cons_of_mem _ h
      · right; rw [show max y (maxI l) = y by omega]; exact List.mem_cons_self
theorem maxI_perm {l r : List Int} (h : l.Perm r) : maxI l = maxI r := by
  induction h with
  | nil => rfl
  | cons x _ ih => rw [maxI_cons, maxI_cons, ih]
  | swap x y l => simp only [maxI_cons]; omega
  | trans _ _ h1 h2 => exact h1.trans h2
/-! how deep twigs are -/
def dp (T : Tr) : Nat → Int → Int → Int
  | 0, _, _ => 0
  | f + 1, b, a => maxI ((chs T b a).map fun c => 1 + dp T f c b)
theorem dp_ge (T : Tr) (f : Nat) (b a : Int) : 0 ≤ dp T f b a := by
  cases f with
  | zero => exact Int.le_refl _
  | succ f => exact maxI_ge _
theorem dp_spec {T : Tr} {d : Int → Int → Int} (h : TrOk T d) : ∀ (f : Nat) (b a : Int), Tw T d f b a → (∀ x, inT T x → inTw d b a x → d x b ≤ dp T f b a) ∧ ∃ x, inT T x ∧ inTw d b a x ∧ d x b = dp T f b a := by
  intro f
  induction f with
  | zero => intro b a t; obtain ⟨f', h1⟩ := t.pos h; omega
  | succ f ih =>
    intro b a t
    have hb := t.1
    refine ⟨fun x hx hi => ?_, ?_⟩
    · by_cases hxb : x = b
      · rw [hxb, h.d0]; exact dp_ge _ _ _ _
      · obtain ⟨c, hc, hi', h1⟩ := inTw.down h hb hx hxb hi
        have h2 := (ih c b (t.step h hc)).1 x hx hi'
        have h3 : 1 + dp T f c b ≤ dp T (f + 1) b a := le_maxI (List.mem_map.mpr ⟨c, hc, rfl⟩)
        omega
    · rcases maxI_mem ((chs T b a).map fun c => 1 + dp T f c b) with h1 | h1
      · exact ⟨b, hb, inTw.self h t, by rw [h.d0]; exact h1.symm⟩
      · obtain ⟨c, hc, h2⟩ := List.mem_map.mp h1
        obtain ⟨x, hx, hi, h3⟩ := (ih c b (t.step h hc)).2
        refine ⟨x, hx, inTw.up h hx t hc hi, ?_⟩
        have e := (h.mem_chs.mp hc).1
        have h4 : d x b = d x c + 1 := by
          rcases hi with hi | hi
          · rw [hi] at hb; exact absurd hb.1 (by decide)
          · rcases h.step hx e with h5 | h5 <;> omega
        show _ = maxI _
        omega
/-- how far the farthest is -/
theorem dp_row {T : Tr} {d : Int → Int → Int} (h : TrOk T d) {a : Int} (ha : inT T a) : maxI ((rg T.1).map fun b => d a b) = dp T 13 a (-1) := by
  obtain ⟨h1, x, hx, -, h2⟩ := dp_spec h 13 a (-1) (Tw.top ha h.n1.2)
  have h3 := dp_ge T 13 a (-1)
  refine Int.le_antisymm (maxI_le h3 fun y hy => ?_) ?_
  · obtain ⟨b, hb, rfl⟩ := List.mem_map.mp hy
    rw [mem_rgf] at hb
    rw [h.dsym]
    exact h1 b (by omega) (Or.inl rfl)
  · rw [← h2, h.dsym]
    exact le_maxI (List.mem_map.mpr ⟨x, by rw [mem_rgf]; omega, rfl⟩)
/-! how far two are: none, if the one does not lie in the twig -/
def fo1 (g : Int → Int) : List Int → Int
  | [] => -1
  | c :: l => if g c < 0 then fo1 g l else g c + 1
def fo (T : Tr) : Nat → Int → Int → Int → Int
  | 0, _, _, _ => -1
  | f + 1, a, b, from1 => if a = b then 0 else fo1 (fun c => fo T f c b a) (chs T a from1)
theorem fo1_none {g : Int → Int} : ∀ {l : List Int}, (∀ c ∈ l, g c < 0) → fo1 g l = -1
  | [], _ => rfl
  | c :: l, h => by
    unfold fo1
    rw [if_pos (h c List.mem_cons_self)]
    exact fo1_none fun x hx => h x (List.mem_cons_of_mem _ hx)
theorem fo1_some {g : Int → Int} {k : Int} : ∀ {l : List Int}, k ∈ l → 0 ≤ g k → (∀ c ∈ l, c ≠ k → g c < 0) → fo1 g l = g k + 1
  | c :: l, hk, h0, h => by
    unfold fo1
    by_cases hc : c = k
    · subst hc; rw [if_neg (by omega)]
    · rw [if_pos (h c List.mem_cons_self hc)]
      refine fo1_some ?_ h0 fun x hx => h x (List.mem_cons_of_mem _ hx)
      rcases List.mem_cons.mp hk with h1 | h1
      · exact absurd h1.symm hc
      · exact h1
theorem fo_spec {T : Tr} {d : Int → Int → Int} (h : TrOk T d) {x : Int} (hx : inT T x) : ∀ (f : Nat) (b a : Int), Tw T d f b a → (inTw d b a x → fo T f b x a = d x b) ∧ (¬ inTw d b a x → fo T f b x a = -1) := by
  intro f
  induction f with
  | zero => intro b a t; obtain ⟨f', h1⟩ := t.pos h; omega
  | succ f ih =>
    intro b a t
    have hb := t.1
    unfold fo
    by_cases hbx : b = x
    · rw [if_pos hbx, ← hbx]
      exact ⟨fun _ => (h.d0 b).symm, fun hn => absurd (inTw.self h t) hn⟩
    · rw [if_neg hbx]
      constructor
      · intro hi
        obtain ⟨k, hk, hi', h1⟩ := inTw.down h hb hx (Ne.symm hbx) hi
        have h2 := (ih k b (t.step h hk)).1 hi'
        have h3 := h.dge hx (h.rng (h.mem_chs.mp hk).1).2
        rw [fo1_some (k := k) hk (by show 0 ≤ fo T f k x b; omega) (fun c hc hn => ?_)]
        · show fo T f k x b + 1 = _; omega
        · have := (ih c b (t.step h hc)).2 (fun hi2 => hn (inTw.one h hb hx hc hk hi2 hi'))
          show fo T f c x b < 0; omega
      · intro hn
        refine fo1_none fun c hc => ?_
        have := (ih c b (t.step h hc)).2 (fun hi => hn (inTw.up h hx t hc hi))
        show fo T f c x b < 0; omega
theorem fo_all {T : Tr} {d : Int → Int → Int} (h : TrOk T d) {a b : Int} (ha : inT T a) (hb : inT T b) : fo T 13 a b (-1) = d a b := by
  rw [(fo_spec h hb 13 a (-1) (Tw.top ha h.n1.2)).1 (Or.inl rfl), h.dsym]
