set_option maxRecDepth 100000
/-! trees: how many atoms; which ones are bonded -/
abbrev Tr : Type := Nat × (Int → Int → Bool)
def nbs (T : Tr) (a : Int) : List Int := (rg T.1).filter (fun b => T.2 a b)
def chs (T : Tr) (b a : Int) : List Int := (nbs T b).filter (fun c => !(c == a))
abbrev inT (T : Tr) (a : Int) : Prop := 0 ≤ a ∧ a < (T.1 : Int)
/-- d tells how far atoms are; each has one nearer neighbour on the way to another one -/
def TrOk (T : Tr) (d : Int → Int → Int) : Prop :=
  (1 ≤ T.1 ∧ T.1 ≤ 13) ∧ (∀ a b, T.2 a b = true → inT T a ∧ inT T b) ∧ (∀ a b, T.2 a b = true → T.2 b a = true) ∧ (∀ a, (nbs T a).length ≤ 4) ∧
  (∀ x, d x x = 0) ∧ (∀ x y, d x y = d y x) ∧ (∀ x y, inT T x → inT T y → 0 ≤ d x y) ∧
  (∀ x b c, inT T x → T.2 b c = true → d x c = d x b + 1 ∨ d x b = d x c + 1) ∧
  (∀ x b, inT T x → inT T b → x ≠ b → ∃ c, T.2 b c = true ∧ d x b = d x c + 1 ∧ ∀ c', T.2 b c' = true → d x b = d x c' + 1 → c' = c)
theorem nodup_nbs (T : Tr) (a : Int) : (nbs T a).Nodup := (nodup_rgf T.1 0).sublist List.filter_sublist
theorem nodup_chs (T : Tr) (b a : Int) : (chs T b a).Nodup := (nodup_nbs T b).sublist List.filter_sublist
section TT
variable {T : Tr} {d : Int → Int → Int}
theorem TrOk.n1 (h : TrOk T d) : 1 ≤ T.1 ∧ T.1 ≤ 13 := h.1
theorem TrOk.rng (h : TrOk T d) {a b : Int} (e : T.2 a b = true) : inT T a ∧ inT T b := h.2.1 a b e
theorem TrOk.sym (h : TrOk T d) {a b : Int} (e : T.2 a b = true) : T.2 b a = true := h.2.2.1 a b e
theorem TrOk.deg (h : TrOk T d) (a : Int) : (nbs T a).length ≤ 4 := h.2.2.2.1 a
theorem TrOk.d0 (h : TrOk T d) (x : Int) : d x x = 0 := h.2.2.2.2.1 x
theorem TrOk.dsym (h : TrOk T d) (x y : Int) : d x y = d y x := h.2.2.2.2.2.1 x y
theorem TrOk.dge (h : TrOk T d) {x y : Int} (hx : inT T x) (hy : inT T y) : 0 ≤ d x y := h.2.2.2.2.2.2.1 x y hx hy
theorem TrOk.step (h : TrOk T d) {x b c : Int} (hx : inT T x) (e : T.2 b c = true) : d x c = d x b + 1 ∨ d x b = d x c + 1 := h.2.2.2.2.2.2.2.1 x b c hx e
theorem TrOk.near (h : TrOk T d) {x b : Int} (hx : inT T x) (hb : inT T b) (hn : x ≠ b) : ∃ c, T.2 b c = true ∧ d x b = d x c + 1 ∧ ∀ c', T.2 b c' = true → d x b = d x c' + 1 → c' = c := h.2.2.2.2.2.2.2.2 x b hx hb hn
theorem TrOk.uniq (h : TrOk T d) {x b c c' : Int} (hx : inT T x) (e : T.2 b c = true) (e' : T.2 b c' = true) (h1 : d x b = d x c + 1) (h2 : d x b = d x c' + 1) : c' = c := by
  have hb := (h.rng e).1
  have hc := (h.rng e).2
  have hn : x ≠ b := by
    rintro rfl
    have := h.d0 x; have := h.dge hx hc; omega
  obtain ⟨k, -, -, hk⟩ := h.near hx hb hn
  rw [hk c' e' h2, hk c e h1]
/-- who came from one side goes on to the other -/
theorem TrOk.away (h : TrOk T d) {x a b c : Int} (hx : inT T x) (e : T.2 a b = true) (h1 : d x b = d x a + 1) (e' : T.2 b c = true) (hc : c ≠ a) : d x c = d x b + 1 := by
  rcases h.step hx e' with h2 | h2
  · exact h2
  · exact absurd (h.uniq hx (h.sym e) e' h1 h2) hc
theorem TrOk.irr (h : TrOk T d) {a : Int} : T.2 a a = false := by
  cases e : T.2 a a with
  | false => rfl
  | true => rcases h.step (h.rng e).1 e with h1 | h1 <;> omega
theorem TrOk.ne (h : TrOk T d) {a b : Int} (e : T.2 a b = true) : a ≠ b := by
  rintro rfl
  rw [h.irr] at e; cases e
theorem TrOk.d1 (h : TrOk T d) {a b : Int} (e : T.2 a b = true) : d a b = 1 := by
  have hr := h.rng e
  have h0 := h.d0 a
  have h1 := h.dge hr.1 hr.2
  rcases h.step hr.1 e with h2 | h2 <;> omega
theorem TrOk.dpos (h : TrOk T d) {a b : Int} (ha : inT T a) (hb : inT T b) (hn : a ≠ b) : 0 < d a b := by
  obtain ⟨c, e, h1, -⟩ := h.near ha hb hn
  have := h.dge ha (h.rng e).2
  omega
theorem TrOk.mem_nbs (h : TrOk T d) {a b : Int} : b ∈ nbs T a ↔ T.2 a b = true := by
  unfold nbs
  rw [List.mem_filter, mem_rgf]
  constructor
  · exact fun h => h.2
  · intro e
    have := (h.rng e).2
    exact ⟨by omega, e⟩
theorem TrOk.mem_chs (h : TrOk T d) {a b c : Int} : c ∈ chs T b a ↔ T.2 b c = true ∧ c ≠ a := by
  unfold chs
  rw [List.mem_filter, h.mem_nbs]
  simp
/-- no way is longer than there are atoms -/
theorem TrOk.dlt (h : TrOk T d) {x y : Int} (hx : inT T x) (hy : inT T y) : d x y < (T.1 : Int) := by
  have key : ∀ (m : Nat) (y : Int), inT T y → d x y = (m : Int) → ∃ l : List Int, l.length = m + 1 ∧ l.Nodup ∧ ∀ v ∈ l, inT T v ∧ d x v ≤ (m : Int) := by
    intro m
    induction m with
    | zero =>
      intro y hy h0
      exact ⟨[y], rfl, List.nodup_cons.mpr ⟨List.not_mem_nil, List.nodup_nil⟩, fun v hv => by
        rw [List.mem_singleton] at hv; subst hv; exact ⟨hy, by omega⟩⟩
    | succ m ih =>
      intro y hy h0
      have hn : x ≠ y := by
        rintro rfl
        have := h.d0 x; omega
      obtain ⟨c, e, h1, -⟩ := h.near hx hy hn
      obtain ⟨l, l1, l2, l3⟩ := ih c (h.rng e).2 (by omega)
      refine ⟨y :: l, by rw [List.length_cons, l1], List.nodup_cons.mpr ⟨fun hm => ?_, l2⟩, fun v hv => ?_⟩
      · have := (l3 y hm).2; omega
      · rcases List.mem_cons.mp hv with rfl | hv
        · exact ⟨hy, by omega⟩
        · exact ⟨(l3 v hv).1, by have := (l3 v hv).2; omega⟩
  obtain ⟨l, l1, l2, l3⟩ := key (d x y).toNat y hy (by have := h.dge hx hy; omega)
  have := l2.length_le_of_subset (l₂ := rg T.1) (fun v hv => by rw [mem_rgf]; have := (l3 v hv).1; omega)
  rw [len_rgf, l1] at this
  have := h.dge hx hy
  omega
/-! fuel for a twig at b, seen from a -/
def Tw (T : Tr) (d : Int → Int → Int) (f : Nat) (b a : Int) : Prop :=
  inT T b ∧ ((a = -1 ∧ T.1 ≤ f) ∨ (T.2 a b = true ∧ ∃ r, inT T r ∧ d r b = d r a + 1 ∧ (T.1 : Int) ≤ (f : Int) + d r b))
theorem Tw.pos (h : TrOk T d) {f : Nat} {b a : Int} (t : Tw T d f b a) : ∃ f', f = f' + 1 := by
  obtain ⟨hb, ⟨-, h1⟩ | ⟨e, r, hr, h1, h2⟩⟩ := t
  · exact ⟨f - 1, by have := h.n1; omega⟩
  · exact ⟨f - 1, by have := h.dlt hr hb; omega⟩
theorem Tw.step (h : TrOk T d) {f : Nat} {b a c : Int} (t : Tw T d (f + 1) b a) (hc : c ∈ chs T b a) : Tw T d f c b := by
  obtain ⟨e, hca⟩ := h.mem_chs.mp hc
  obtain ⟨hb, ⟨h0, h1⟩ | ⟨e1, r, hr, h1, h2⟩⟩ := t
  · refine ⟨(h.rng e).2, Or.inr ⟨e, b, hb, ?_, ?_⟩⟩
    · rw [h.d0, h.d1 e]; rfl
    · rw [h.d1 e]; omega
  · have := h.away hr e1 h1 e hca
    exact ⟨(h.rng e).2, Or.inr ⟨e, r, hr, this, by omega⟩⟩
theorem Tw.mono {f f' : Nat} {b a : Int} (hf : f ≤ f') (t : Tw T d f b a) : Tw T d f' b a := by
  obtain ⟨hb, ⟨h0, h1⟩ | ⟨e1, r, hr, h1, h2⟩⟩ := t
  · exact ⟨hb, Or.inl ⟨h0, by omega⟩⟩
  · exact ⟨hb, Or.inr ⟨e1, r, hr, h1, by omega⟩⟩
theorem Tw.top {f : Nat} {b : Int} (hb : inT T b) (hf : T.1 ≤ f) : Tw T d f b (-1) := ⟨hb, Or.inl ⟨rfl, hf⟩⟩
theorem Tw.edge (h : TrOk T d) {f : Nat} {a b : Int} (e : T.2 a b = true) (hf : T.1 ≤ f + 1) : Tw T d f b a :=
  ⟨(h.rng e).2, Or.inr ⟨e, a, (h.rng e).1, by rw [h.d1 e, h.d0]; rfl, by rw [h.d1 e]; omega⟩⟩
/-! the atoms of a twig -/
def inTw (d : Int → Int → Int) (b a x : Int) : Prop := a = -1 ∨ d x b < d x a
theorem inTw.self (h : TrOk T d) {f : Nat} {b a : Int} (t : Tw T d f b a) : inTw d b a b := by
  obtain ⟨hb, ⟨h0, -⟩ | ⟨e, -⟩⟩ := t
  · exact Or.inl h0
  · right
    rw [h.d0, h.d1 (h.sym e)]; decide
theorem inTw.up (h : TrOk T d) {f : Nat} {b a c x : Int} (hx : inT T x) (t : Tw T d f b a) (hc : c ∈ chs T b a) (hi : inTw d c b x) : inTw d b a x := by
  obtain ⟨e, hca⟩ := h.mem_chs.mp hc
  obtain ⟨hb, ⟨h0, -⟩ | ⟨e1, -⟩⟩ := t
  · exact Or.inl h0
  · right
    have hi : d x c < d x b := by
      rcases hi with hi | hi
      · rw [hi] at hb; exact absurd hb.1 (by decide)
      · exact hi
    have h2 : d x b = d x c + 1 := by rcases h.step hx e with h3 | h3 <;> omega
    rcases h.step hx (h.sym e1) with h3 | h3
    · omega
    · exact absurd (h.uniq hx e (h.sym e1) h2 h3) (Ne.symm hca)
theorem inTw.one (h : TrOk T d) {b a c c' x : Int} (hb : inT T b) (hx : inT T x) (hc : c ∈ chs T b a) (hc' : c' ∈ chs T b a) (hi : inTw d c b x) (hi' : inTw d c' b x) : c = c' := by
  obtain ⟨e, -⟩ := h.mem_chs.mp hc
  obtain ⟨e', -⟩ := h.mem_chs.mp hc'
  have k : ∀ {c : Int}, T.2 b c = true → inTw d c b x → d x b = d x c + 1 := by
    intro c e hi
    rcases hi with hi | hi
    · rw [hi] at hb; exact absurd hb.1 (by decide)
    · rcases h.step hx e with h3 | h3 <;> omega
  exact (h.uniq hx e e' (k e hi) (k e' hi')).symm
theorem inTw.down (h : TrOk T d) {b a x : Int} (hb : inT T b) (hx : inT T x) (hn : x ≠ b) (hi : inTw d b a x) : ∃ c ∈ chs T b a, inTw d c b x ∧ d x b = d x c + 1 := by
  obtain ⟨c, e, h1, -⟩ := h.near hx hb hn
  refine ⟨c, h.mem_chs.mpr ⟨e, ?_⟩, Or.inr (by omega), h1⟩
  rintro rfl
  rcases hi with hi | hi
  · have := (h.rng e).2.1; omega
  · omega
theorem inTw.not (h : TrOk T d) {b c : Int} (e : T.2 b c = true) : ¬ inTw d c b b := by
  rintro (hi | hi)
  · have := (h.rng e).1.1; omega
  · rw [h.d0] at hi; have := h.dge (h.rng e).1 (h.rng e).2; omega
/-- what is beyond an edge is as far as the edge and more -/
theorem TrOk.beyond (h : TrOk T d) {x b : Int} (hx : inT T x) (hb : inT T b) : ∀ (k : Nat) (c a : Int), T.2 a c = true → d x c = d x a + 1 → d b a = d b c + 1 → d b c = (k : Int) → d x b = d x c + (k : Int) := by
  intro k
  induction k with
  | zero =>
    intro c a e h1 h2 h3
    have : b = c := by
      rcases Decidable.em (b = c) with h4 | h4
      · exact h4
      · have := h.dpos hb (h.rng e).2 h4; omega
    rw [this]; omega
  | succ k ih =>
    intro c a e h1 h2 h3
    have hn : b ≠ c := by
      rintro rfl
      rw [h.d0] at h3; omega
    obtain ⟨v, e1, h4, -⟩ := h.near hb (h.rng e).2 hn
    have hv : v ≠ a := by rintro rfl; omega
    have h5 := h.away hx e h1 e1 hv
    have := ih v c e1 h5 h4 (by omega)
    omega
end TT
/-! one atom more -/
def grT (T : Tr) (a : Int) : Tr := (T.1 + 1, fun x y => T.2 x y || (x == a && y == (T.1 : Int)) || (x == (T.1 : Int) && y == a))
theorem grT_iff {T : Tr} {a x y : Int} : (grT T a).2 x y = true ↔ T.2 x y = true ∨ (x = a ∧ y = (T.1 : Int)) ∨ (x = (T.1 : Int) ∧ y = a) := by
  simp [grT, or_assoc]
theorem nbs_grT_self {T : Tr} {d : Int → Int → Int} (h : TrOk T d) {a : Int} (ha : inT T a) : nbs (grT T a) a = nbs T a ++ [(T.1 : Int)] := by
  unfold nbs
  show (rgf 0 (T.1 + 1)).filter _ = _
  rw [rgf_last, List.filter_append]
  have h1 : (rgf 0 T.1).filter (fun b => (grT T a).2 a b) = (rgf 0 T.1).filter (fun b => T.2 a b) := by
    refine List.filter_congr fun b hb => ?_
    rw [mem_rgf] at hb
    rw [Bool.eq_iff_iff, grT_iff]
    constructor
    · rintro (h1 | ⟨-, h1⟩ | ⟨h1, -⟩)
      · exact h1
      · omega
      · omega
    · exact Or.inl
  rw [h1]
  congr 1
  rw [List.filter_cons_of_pos (by rw [grT_iff]; exact Or.inr (Or.inl ⟨rfl, by omega⟩)), List.filter_nil]
  congr 1; omega
theorem nbs_grT_new {T : Tr} {d : Int → Int → Int} (h : TrOk T d) {a : Int} (ha : inT T a) : nbs (grT T a) (T.1 : Int) = [a] := by
  have h1 : (nbs (grT T a) (T.1 : Int)).Perm [a] := by
    refine (List.perm_ext_iff_of_nodup (nodup_nbs _ _) (List.nodup_cons.mpr ⟨List.not_mem_nil, List.nodup_nil⟩)).mpr fun b => ?_
    unfold nbs
    rw [List.mem_filter, mem_rgf, grT_iff, List.mem_singleton]
    constructor
    · rintro ⟨-, h1 | ⟨h1, -⟩ | ⟨-, h1⟩⟩
      · have := (h.rng h1).1; omega
      · omega
      · exact h1
    · rintro rfl
      exact ⟨by show _ ∧ _ < 0 + ((T.1 + 1 : Nat) : Int); omega, Or.inr (Or.inr ⟨rfl, rfl⟩)⟩
  exact h1.eq_singleton
theorem nbs_grT_other {T : Tr} {d : Int → Int → Int} (h : TrOk T d) {a x : Int} (hx : x ≠ a) (hn : x ≠ (T.1 : Int)) : nbs (grT T a) x = nbs T x := by
  unfold nbs
  show (rgf 0 (T.1 + 1)).filter _ = _
  rw [rgf_last, List.filter_append]
  have h1 : (rgf 0 T.1).filter (fun b => (grT T a).2 x b) = (rgf 0 T.1).filter (fun b => T.2 x b) := by
    refine List.filter_congr fun b hb => ?_
    rw [Bool.eq_iff_iff, grT_iff]
    constructor
    · rintro (h1 | ⟨h1, -⟩ | ⟨h1, -⟩)
      · exact h1
      · exact absurd h1 hx
      · exact absurd h1 hn
    · exact Or.inl
  rw [h1, List.filter_cons_of_neg, List.filter_nil, List.append_nil]
  rw [grT_iff]
  rintro (h1 | ⟨h1, -⟩ | ⟨h1, -⟩)
  · have := (h.rng h1).2; omega
  · exact hx h1
  · exact hn h1
def grD (T : Tr) (d : Int → Int → Int) (a x y : Int) : Int := if x = (T.1 : Int) then (if y = (T.1 : Int) then 0 else d a y + 1) else if y = (T.1 : Int) then d x a + 1 else d x y
theorem TrOk.grow {T : Tr} {d : Int → Int → Int} (h : TrOk T d) {a : Int} (ha : inT T a) (hd : (nbs T a).length < 4) (hn : T.1 < 13) : TrOk (grT T a) (grD T d a) := by
  have hne : ∀ x, inT T x → x ≠ (T.1 : Int) := fun x hx => by omega
  have e1 : ∀ x y, inT T x → inT T y → grD T d a x y = d x y := fun x y hx hy => by unfold grD; rw [if_neg (hne x hx), if_neg (hne y hy)]
  have e2 : ∀ x, inT T x → grD T d a x (T.1 : Int) = d x a + 1 := fun x hx => by unfold grD; rw [if_neg (hne x hx), if_pos rfl]
  have e3 : ∀ y, inT T y → grD T d a (T.1 : Int) y = d a y + 1 := fun y hy => by unfold grD; rw [if_pos rfl, if_neg (hne y hy)]
  have e4 : grD T d a (T.1 : Int) (T.1 : Int) = 0 := by unfold grD; rw [if_pos rfl, if_pos rfl]
  have hsp : ∀ x, inT (grT T a) x → inT T x ∨ x = (T.1 : Int) := fun x hx => by
    have h1 : x < ((T.1 + 1 : Nat) : Int) := hx.2
    have h2 := hx.1
    rcases Decidable.em (x = (T.1 : Int)) with h3 | h3
    · exact Or.inr h3
    · exact Or.inl (by omega)
  have hup : ∀ x, inT T x → inT (grT T a) x := fun x hx => ⟨hx.1, by show x < ((T.1 + 1 : Nat) : Int); omega⟩
  have hnn : inT (grT T a) (T.1 : Int) := ⟨by omega, by show (T.1 : Int) < ((T.1 + 1 : Nat) : Int); omega⟩
  refine ⟨⟨by show 1 ≤ T.1 + 1; omega, by show T.1 + 1 ≤ 13; omega⟩, ?_, ?_, ?_, ?_, ?_, ?_, ?_, ?_⟩
  · intro x y e
    rcases grT_iff.mp e with e | ⟨rfl, rfl⟩ | ⟨rfl, rfl⟩
    · exact ⟨hup _ (h.rng e).1, hup _ (h.rng e).2⟩
    · exact ⟨hup _ ha, hnn⟩
    · exact ⟨hnn, hup _ ha⟩
  · intro x y e
    rw [grT_iff] at e ⊢
    rcases e with e | ⟨h1, h2⟩ | ⟨h1, h2⟩
    · exact Or.inl (h.sym e)
    · exact Or.inr (Or.inr ⟨h2, h1⟩)
    · exact Or.inr (Or.inl ⟨h2, h1⟩)
  · intro x
    by_cases h1 : x = a
    · subst h1
      rw [nbs_grT_self h ha, List.length_append]
      show _ + 1 ≤ 4
      omega
    · by_cases h2 : x = (T.1 : Int)
      · subst h2
        rw [nbs_grT_new h ha]; exact Nat.le_of_ble_eq_true rfl
      · rw [nbs_grT_other h h1 h2]; exact h.deg x
  · intro x
    by_cases h1 : x = (T.1 : Int)
    · rw [h1, e4]
    · unfold grD; rw [if_neg h1, if_neg h1, h.d0]
  · intro x y
    unfold grD
    by_cases h1 : x = (T.1 : Int) <;> by_cases h2 : y = (T.1 : Int)
    · rw [if_pos h1, if_pos h2, if_pos h2, if_pos h1]
    · rw [if_pos h1, if_neg h2, if_neg h2, if_pos h1, h.dsym]
    · rw [if_neg h1, if_pos h2, if_pos h2, if_neg h1, h.dsym]
    · rw [if_neg h1, if_neg h2, if_neg h2, if_neg h1, h.dsym]
  · intro x y hx0 hy0
    have hx1 := hsp x hx0; have hy1 := hsp y hy0; clear hx0 hy0
    rcases hx1 with hx | rfl <;> rcases hy1 with hy | rfl
    · rw [e1 x y hx hy]; exact h.dge hx hy
    · rw [e2 x hx]; have := h.dge hx ha; omega
    · rw [e3 y hy]; have := h.dge ha hy; omega
    · rw [e4]; omega
  · intro x b c hx0 e
    have hx1 := hsp x hx0; clear hx0
    rcases grT_iff.mp e with e | ⟨rfl, rfl⟩ | ⟨rfl, rfl⟩
    · have hr := h.rng e
      rcases hx1 with hx | rfl
      · rw [e1 x b hx hr.1, e1 x c hx hr.2]; exact h.step hx e
      · rw [e3 b hr.1, e3 c hr.2]; have := h.step ha e; omega
    · rcases hx1 with hx | rfl
      · rw [e2 x hx, e1 x b hx ha]; exact Or.inl rfl
      · rw [e4, e3 b ha, h.d0]; exact Or.inr rfl
    · rcases hx1 with hx | rfl
      · rw [e2 x hx, e1 x c hx ha]; exact Or.inr rfl
      · rw [e4, e3 c ha, h.d0]; exact Or.inl rfl
  · intro x b hx0 hb0 hxb
    have hx1 := hsp x hx0; have hb1 := hsp b hb0; clear hx0 hb0
    rcases hx1 with hx | rfl <;> rcases hb1 with hb | rfl
    · obtain ⟨c, e, h1, h2⟩ := h.near hx hb hxb
      refine ⟨c, grT_iff.mpr (Or.inl e), by rw [e1 x b hx hb, e1 x c hx (h.rng e).2, h1], fun c' e' h3 => ?_⟩
      rcases grT_iff.mp e' with e' | ⟨rfl, rfl⟩ | ⟨rfl, rfl⟩
      · exact h2 c' e' (by rw [e1 x b hx hb, e1 x c' hx (h.rng e').2] at h3; exact h3)
      · rw [e1 x b hx hb, e2 x hx] at h3; omega
      · exact absurd rfl (hne _ hb)
    · refine ⟨a, grT_iff.mpr (Or.inr (Or.inr ⟨rfl, rfl⟩)), by rw [e2 x hx, e1 x a hx ha], fun c' e' _ => ?_⟩
      rcases grT_iff.mp e' with e' | ⟨h1, -⟩ | ⟨-, h1⟩
      · exact absurd rfl (hne _ (h.rng e').1)
      · exact absurd h1.symm (hne _ ha)
      · exact h1
    · by_cases hba : b = a
      · subst hba
        refine ⟨(T.1 : Int), grT_iff.mpr (Or.inr (Or.inl ⟨rfl, rfl⟩)), by rw [e3 b hb, e4, h.d0], fun c' e' h3 => ?_⟩
        rcases grT_iff.mp e' with e' | ⟨-, h1⟩ | ⟨h1, -⟩
        · rw [e3 b hb, e3 c' (h.rng e').2, h.d0, h.d1 e'] at h3; omega
        · exact h1
        · exact absurd h1 (hne _ hb)
      · obtain ⟨c, e, h1, h2⟩ := h.near ha hb (Ne.symm hba)
        refine ⟨c, grT_iff.mpr (Or.inl e), by rw [e3 b hb, e3 c (h.rng e).2, h1], fun c' e' h3 => ?_⟩
        rcases grT_iff.mp e' with e' | ⟨h4, -⟩ | ⟨h4, -⟩
        · exact h2 c' e' (by rw [e3 b hb, e3 c' (h.rng e').2] at h3; omega)
        · exact absurd h4 hba
        · exact absurd h4 (hne _ hb)
    · exact absurd rfl hxb
/-- one atom alone -/
def T1 : Tr := (1, fun _ _ => false)
theorem T1_ok : TrOk T1 (fun _ _ => 0) := by
  refine ⟨by decide, (fun a b e => Bool.noConfusion e), (fun a b e => Bool.noConfusion e), fun a => (by show ((rgf 0 1).filter (fun _ => false)).length ≤ 4; decide), fun _ => rfl, fun _ _ => rfl, fun _ _ _ _ => Int.le_refl _, (fun x b c _ e => Bool.noConfusion e), fun x b hx hb hn => ?_⟩
  have h1 : x < ((1 : Nat) : Int) := hx.2
  have h2 : b < ((1 : Nat) : Int) := hb.2
  have := hx.1; have := hb.1
  omega
