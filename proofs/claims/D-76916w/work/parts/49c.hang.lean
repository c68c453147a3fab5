set_option maxRecDepth 100000
/-- a good chain -/
def GCh (T : Tr) (d : Int → Int → Int) (w : List Int) : Prop := ∃ r, inT T r ∧ PW T d r 0 w ∧ (∀ a ∈ w.head?, a = r) ∧ 1 ≤ w.length
theorem GCh.len {T : Tr} {d : Int → Int → Int} (h : TrOk T d) {w : List Int} (g : GCh T d w) (from1 : Int) : 1 ≤ w.length ∧ w.length + (brs T w from1).length ≤ T.1 := by
  obtain ⟨r, h1, h2, h3, h4⟩ := g
  exact ⟨h4, brs_len h h1 h2 h3⟩
theorem GCh.inT {T : Tr} {d : Int → Int → Int} {w : List Int} (g : GCh T d w) : ∀ v ∈ w, inT T v := by
  obtain ⟨r, h1, h2, h3, h4⟩ := g
  exact fun v hv => (h2.mem v hv).1
/-- where ways of a twig begin -/
abbrev stA (b from1 a : Int) : Bool := decide (from1 = -1 ∨ a = b)
theorem waysT_eq {T : Tr} {b from1 : Int} (hb : inT T b) : waysT T b from1 = (rg T.1).flatMap (fun a => if stA b from1 a then waysA T from1 a else []) := by
  unfold waysT
  by_cases c : from1 = -1
  · rw [if_pos c]
    congr 1
    funext a
    rw [if_pos (decide_eq_true (Or.inl c))]
  · rw [if_neg c]
    have e : T.1 = b.toNat + ((T.1 - (b.toNat + 1)) + 1) := by have := hb.1; have := hb.2; omega
    have nil : ∀ (k : Int) (m : Nat), (k > b ∨ k + (m : Int) ≤ b) → (rgf k m).flatMap (fun a => if stA b from1 a then waysA T from1 a else []) = [] := by
      intro k m hkm
      rw [List.flatMap_eq_nil_iff]
      intro a ha
      rw [mem_rgf] at ha
      rw [if_neg]
      intro h
      rcases of_decide_eq_true h with h | h
      · exact c h
      · omega
    conv => rhs; rw [e]
    show waysA T from1 b = (rgf 0 (b.toNat + ((T.1 - (b.toNat + 1)) + 1))).flatMap (fun a => if stA b from1 a then waysA T from1 a else [])
    rw [rgf_split, List.flatMap_append, nil 0 _ (Or.inr (by have := hb.1; omega)), List.nil_append, rgf, List.flatMap_cons, nil _ _ (Or.inl (by have := hb.1; omega)), List.append_nil]
    rw [if_pos (decide_eq_true (Or.inr (by have := hb.1; omega))), show (0 : Int) + (b.toNat : Int) = b by have := hb.1; omega]
theorem Tw.of {T : Tr} {d : Int → Int → Int} (h : TrOk T d) {b from1 a : Int} (t : Tw T d 13 b from1) (ha : inT T a) (hst : stA b from1 a = true) : Tw T d 13 a from1 := by
  rcases of_decide_eq_true hst with hst | hst
  · rw [hst]; exact Tw.top ha h.n1.2
  · rw [hst]; exact t
theorem pth_good {T : Tr} {d : Int → Int → Int} (h : TrOk T d) {a from1 e : Int} (t : Tw T d 13 a from1) (he : inT T e) (hfo : 0 ≤ fo T 13 a e from1) : GCh T d (pth T 13 a e from1) ∧ inTw d a from1 e := by
  have hi : inTw d a from1 e := by
    rcases Classical.em (inTw d a from1 e) with h1 | h1
    · exact h1
    · rw [(fo_spec h he 13 a from1 t).2 h1] at hfo; omega
  obtain ⟨g1, g2, g3, g4, g5⟩ := pth_spec h he 13 a from1 a 0 t ⟨t.1, h.d0 a, Or.inl rfl⟩ hi
  have := h.dge he t.1
  exact ⟨⟨a, t.1, g1, fun v hv => by rw [g3] at hv; cases hv; rfl, by omega⟩, hi⟩
/-! the twigs that hang on a way: apart, and smaller -/
def PE (d : Int → Int → Int) (e : Int) : List Int → Prop
  | [] => True
  | a :: l => d e a = (l.length : Int) ∧ PE d e l
theorem pth_end {T : Tr} {d : Int → Int → Int} (h : TrOk T d) {x : Int} (hx : inT T x) : ∀ (f : Nat) (b a : Int), Tw T d f b a → inTw d b a x → PE d x (pth T f b x a) := by
  intro f
  induction f with
  | zero => intro b a t; obtain ⟨f', h1⟩ := t.pos h; omega
  | succ f ih =>
    intro b a t hi
    have hb := t.1
    unfold pth
    by_cases hbx : b = x
    · subst hbx
      rw [if_pos rfl]
      exact ⟨h.d0 b, trivial⟩
    · rw [if_neg hbx]
      obtain ⟨k, hk, hi', h1⟩ := inTw.down h hb hx (Ne.symm hbx) hi
      have tk := t.step h hk
      have e : pth1 (fun c => fo T f c x b) (fun c => pth T f c x b) (chs T b a) = pth T f k x b := by
        refine pth1_some hk ?_ fun c hc hn => ?_
        · show 0 ≤ fo T f k x b
          rw [(fo_spec h hx f k b tk).1 hi']; exact h.dge hx tk.1
        · have := (fo_spec h hx f c b (t.step h hc)).2 (fun hi2 => hn (inTw.one h hb hx hc hk hi2 hi'))
          show fo T f c x b < 0; omega
      rw [e]
      have hl := (pth_spec h hx f k b k 0 tk ⟨tk.1, h.d0 k, Or.inl rfl⟩ hi').2.1
      exact ⟨by omega, ih k b tk hi'⟩
/-- branches are beyond their atoms, seen from the way's end -/
theorem brsF_end {T : Tr} {d : Int → Int → Int} (h : TrOk T d) {w : List Int} {from1 e : Int} (he : inT T e) {r : Int} : ∀ (l : List Int) (q : Int), PW T d r q l → PE d e l → (∀ v ∈ l, v ∈ w) → ∀ t ∈ brsF T w from1 q l, d e t.2.1 = q + (l.length : Int) - t.1 ∧ d e t.2.2 = d e t.2.1 + 1
  | [], _, _, _, _, t, ht => by cases ht
  | a :: l, q, hq, hp, hw, t, ht => by
    unfold brsF at ht
    rcases List.mem_append.mp ht with ht | ht
    · obtain ⟨b, hb, rfl⟩ := List.mem_map.mp ht
      obtain ⟨e1, h1, h2⟩ := (mem_brB h).mp hb
      have hda : d e a = (l.length : Int) := hp.1
      rw [List.length_cons]
      refine ⟨by show d e a = q + ((l.length + 1 : Nat) : Int) - (q + 1); omega, ?_⟩
      show d e b = d e a + 1
      rcases h.step he e1 with h3 | h3
      · exact h3
      · -- nearer to the end: then it is the next one of the way
        cases l with
        | nil =>
          have := h.dge he (h.rng e1).2
          have hda : d e a = 0 := hda
          omega
        | cons c l =>
          have hac := hq.2.2.1 c rfl
          have hdc : d e c = (l.length : Int) := hp.2.1
          have := h.uniq he hac e1 (by rw [List.length_cons] at hda; omega) h3
          exact absurd (hw c (List.mem_cons_of_mem _ List.mem_cons_self)) (by rw [← this]; exact h2)
    · have := brsF_end h he l (q + 1) hq.2.2.2 hp.2 (fun v hv => hw v (List.mem_cons_of_mem _ hv)) t ht
      rw [List.length_cons]
      exact ⟨by rw [this.1]; omega, this.2⟩
/-- a way in a twig (a tree), all that is known of it -/
def GW2 (T : Tr) (d : Int → Int → Int) (a from1 e : Int) (w : List Int) : Prop := inT T a ∧ inT T e ∧ PW T d a 0 w ∧ (∀ v ∈ w.head?, v = a) ∧ 1 ≤ w.length ∧ PE d e w ∧ (∀ v ∈ w, inTw d a from1 v) ∧ (from1 = -1 ∨ T.2 from1 a = true ∧ PW T d from1 1 w)
theorem pth_good2 {T : Tr} {d : Int → Int → Int} (h : TrOk T d) {a from1 e : Int} (t : Tw T d 13 a from1) (he : inT T e) (hfo : 0 ≤ fo T 13 a e from1) : GW2 T d a from1 e (pth T 13 a e from1) := by
  obtain ⟨⟨r, g1, g2, g3, g4⟩, hi⟩ := pth_good h t he hfo
  obtain ⟨k1, k2, k3, k4, k5⟩ := pth_spec h he 13 a from1 a 0 t ⟨t.1, h.d0 a, Or.inl rfl⟩ hi
  refine ⟨t.1, he, k1, fun v hv => by rw [k3] at hv; cases hv; rfl, g4, pth_end h he 13 a from1 t hi, k5, ?_⟩
  obtain ⟨hb, ⟨h0, -⟩ | ⟨e1, -⟩⟩ := id t
  · exact Or.inl h0
  · refine Or.inr ⟨e1, (pth_spec h he 13 a from1 from1 1 t ⟨(h.rng e1).1, h.d1 e1, Or.inr ⟨e1, by rw [h.d1 e1, h.d0]; rfl⟩⟩ hi).1⟩
/-- a branch: bonded to an atom of the way, at its place -/
theorem br_facts {T : Tr} {d : Int → Int → Int} (h : TrOk T d) {a from1 e : Int} {w : List Int} (g : GW2 T d a from1 e w) {t : Int × Int × Int} (ht : t ∈ brs T w from1) :
    inT T t.2.2 ∧ t.2.2 ∉ w ∧ t.2.1 ∈ w ∧ T.2 t.2.1 t.2.2 = true ∧ (1 ≤ t.1 ∧ t.1 ≤ (w.length : Int)) ∧ d a t.2.1 = t.1 - 1 ∧ (∀ x, inT T x → inTw d t.2.2 t.2.1 x → inTw d a from1 x ∧ d x a = d x t.2.1 + (t.1 - 1) ∧ d x e = d x t.2.1 + ((w.length : Int) - t.1)) := by
  obtain ⟨ha, he, hw, h0, hl, hpe, hin, hfr⟩ := g
  have k1 := brsF_far h (from1 := from1) ha w 0 0 hw (Or.inl rfl) (fun _ => h0) (fun v hv => hv) t ht
  have k2 := brsF_end h (from1 := from1) he w 0 hw hpe (fun v hv => hv) t ht
  obtain ⟨p1, p2, p3, p4, p5, p6, p7, p8, p9⟩ := k1
  refine ⟨p1, p2, p6, p7, by omega, p9, fun x hx hi => ?_⟩
  have hT1 := (h.rng p7).1
  have hxa : d x t.2.1 = d x t.2.2 + 1 := by
    rcases hi with hi | hi
    · have := hT1.1; omega
    · rcases h.step hx p7 with h3 | h3 <;> omega
  have q1 := h.beyond hx ha (t.1 - 1).toNat t.2.1 t.2.2 (h.sym p7) hxa (by omega) (by omega)
  have q2 := h.beyond hx he ((w.length : Int) - t.1).toNat t.2.1 t.2.2 (h.sym p7) hxa (by omega) (by omega)
  refine ⟨?_, by omega, by omega⟩
  rcases hfr with hfr | ⟨hfa, hfw⟩
  · exact Or.inl hfr
  · have hfT := (h.rng hfa).1
    have k3 := brsF_far h (from1 := from1) hfT w 1 from1 hfw (Or.inr ⟨Or.inr rfl, fun v hv => by rw [h0 v hv]; exact hfa, by rw [h.d0]; rfl⟩) (fun hh => by omega) (fun v hv => hv)
    -- the same list, counted from one more
    have key : ∀ (l : List Int) (q : Int), ∀ t ∈ brsF T w from1 q l, (t.1 + 1, t.2) ∈ brsF T w from1 (q + 1) l := by
      intro l
      induction l with
      | nil => intro q t ht; cases ht
      | cons y l ih =>
        intro q t ht
        unfold brsF at ht ⊢
        rcases List.mem_append.mp ht with ht | ht
        · obtain ⟨b, hb, rfl⟩ := List.mem_map.mp ht
          exact List.mem_append_left _ (List.mem_map.mpr ⟨b, hb, rfl⟩)
        · exact List.mem_append_right _ (ih (q + 1) t ht)
    have k4 := k3 _ (key w 0 t ht)
    obtain ⟨-, -, r3, -, -, -, -, -, r9⟩ := k4
    have r3 : d from1 t.2.2 = t.1 + 1 := r3
    have r9 : d from1 t.2.1 = t.1 + 1 - 1 := r9
    have q3 := h.beyond hx hfT t.1.toNat t.2.1 t.2.2 (h.sym p7) hxa (by omega) (by omega)
    right
    omega
/-- the atoms of what hangs on a way, and the way's own, are apart -/
theorem br_apart {T : Tr} {d : Int → Int → Int} (h : TrOk T d) {a from1 e : Int} {w : List Int} (g : GW2 T d a from1 e w) : (w ++ (brs T w from1).flatMap fun t => pl T 13 t.2.2 t.2.1).Nodup := by
  have hn := h.n1
  have hnd := brsF_nodup h (from1 := from1) g.1 w 0 0 g.2.2.1 (Or.inl rfl) (fun _ => g.2.2.2.1) (fun v hv => hv)
  have hpl : ∀ t ∈ brs T w from1, (pl T 13 t.2.2 t.2.1).Nodup ∧ ∀ x, x ∈ pl T 13 t.2.2 t.2.1 ↔ inT T x ∧ inTw d t.2.2 t.2.1 x := by
    intro t ht
    obtain ⟨-, -, -, p4, -⟩ := br_facts h g ht
    exact pl_spec h 13 _ _ (Tw.edge h p4 (by omega))
  refine List.nodup_append.mpr ⟨g.2.2.1.nodup, ?_, ?_⟩
  · unfold List.Nodup
    rw [List.pairwise_flatMap]
    refine ⟨fun t ht => (hpl t ht).1, ?_⟩
    have hpw : (brs T w from1).Pairwise (fun t t' => t.2.2 ≠ t'.2.2) := by
      have := hnd
      unfold List.Nodup at this
      rwa [List.pairwise_map] at this
    refine hpw.imp_of_mem ?_
    intro t t' ht ht' hne x hx y hy hxy
    subst hxy
    obtain ⟨hxT, h1⟩ := ((hpl t ht).2 x).mp hx
    obtain ⟨-, h2⟩ := ((hpl t' ht').2 x).mp hy
    obtain ⟨p1, p2, p3, p4, p5, p6, p7⟩ := br_facts h g ht
    obtain ⟨q1, q2, q3, q4, q5, q6, q7⟩ := br_facts h g ht'
    obtain ⟨-, e1, e2⟩ := p7 x hxT h1
    obtain ⟨-, e3, e4⟩ := q7 x hxT h2
    have e5 : t.1 = t'.1 := by omega
    -- one atom of the way for each place
    have e6 : t.2.1 = t'.2.1 := by
      have inj : ∀ (l : List Int) (q : Int), PW T d a q l → ∀ u ∈ l, ∀ v ∈ l, d a u = d a v → u = v := by
        intro l
        induction l with
        | nil => intro q _ u hu; cases hu
        | cons y l ih =>
          intro q hq u hu v hv huv
          rcases List.mem_cons.mp hu with rfl | hu' <;> rcases List.mem_cons.mp hv with rfl | hv'
          · rfl
          · have := (PW.mem hq.2.2.2 v hv').2.1; have := hq.2.1; omega
          · have := (PW.mem hq.2.2.2 u hu').2.1; have := hq.2.1; omega
          · exact ih (q + 1) hq.2.2.2 u hu' v hv' huv
      exact inj w 0 g.2.2.1 _ p3 _ q3 (by omega)
    have hT1 := (h.rng p4).1
    refine hne (inTw.one h hT1 hxT (a := -1) (h.mem_chs.mpr ⟨p4, by have := p1.1; omega⟩) (h.mem_chs.mpr ⟨by rw [e6]; exact q4, by have := q1.1; omega⟩) h1 (by rw [e6]; exact h2))
  · intro x hx y hy hxy
    subst hxy
    obtain ⟨t, ht, hx2⟩ := List.mem_flatMap.mp hy
    obtain ⟨hxT, h1⟩ := ((hpl t ht).2 x).mp hx2
    obtain ⟨p1, p2, p3, p4, p5, p6, p7⟩ := br_facts h g ht
    obtain ⟨-, e1, e2⟩ := p7 x hxT h1
    -- an atom of the way: its own place tells against it
    have hx0 : d a x + d e x = (w.length : Int) - 1 := by
      have sm1 : ∀ (l : List Int) (q : Int), PW T d a q l → PE d e l → ∀ v ∈ l, d a v + d e v = q + (l.length : Int) - 1 := by
        intro l
        induction l with
        | nil => intro q _ _ v hv; cases hv
        | cons y l ih =>
          intro q hq hp v hv
          rw [List.length_cons]
          rcases List.mem_cons.mp hv with rfl | hv'
          · have := hq.2.1; have := hp.1; omega
          · have := ih (q + 1) hq.2.2.2 hp.2 v hv'; omega
      have := sm1 w 0 g.2.2.1 g.2.2.2.2.2.1 x hx
      omega
    have hT1 := (h.rng p4).1
    have s1 := h.dsym x a
    have s2 := h.dsym x e
    have s3 := h.dsym x t.2.1
    have e7 : d t.2.1 x = 0 := by
      have := h.dge hT1 hxT
      omega
    have e8 : t.2.1 = x := by
      rcases Decidable.em (t.2.1 = x) with h3 | h3
      · exact h3
      · have := h.dpos hT1 hxT h3; omega
    rcases h1 with h1 | h1
    · have := hT1.1; omega
    · rw [h.dsym x t.2.1, e7] at h1
      have := h.dge hxT p1
      omega
/-- sizes -/
abbrev szT (T : Tr) (b a : Int) : Nat := (pl T 13 b a).length
theorem br_sizes {T : Tr} {d : Int → Int → Int} (h : TrOk T d) {a from1 e : Int} {w : List Int} (g : GW2 T d a from1 e w) (t : Tw T d 13 a from1) : w.length + ((brs T w from1).map fun t => szT T t.2.2 t.2.1).sum ≤ szT T a from1 := by
  have hn := h.n1
  have h1 := (br_apart h g).length_le_of_subset (l₂ := pl T 13 a from1) (fun x hx => by
    rw [(pl_spec h 13 a from1 t).2]
    rcases List.mem_append.mp hx with hx | hx
    · exact ⟨(g.2.2.1.mem x hx).1, g.2.2.2.2.2.2.1 x hx⟩
    · obtain ⟨q, hq, hx⟩ := List.mem_flatMap.mp hx
      obtain ⟨p1, p2, p3, p4, p5, p6, p7⟩ := br_facts h g hq
      obtain ⟨hxT, hi⟩ := ((pl_spec h 13 _ _ (Tw.edge h p4 (by omega))).2 x).mp hx
      exact ⟨hxT, (p7 x hxT hi).1⟩)
  rw [List.length_append, List.length_flatMap] at h1
  exact h1
theorem szT_tree {T : Tr} {d : Int → Int → Int} (h : TrOk T d) {b : Int} (hb : inT T b) : szT T b (-1) = T.1 := by
  have := (pl_all h (Tw.top (f := 13) hb h.n1.2)).length_eq
  rw [len_rgf] at this
  exact this
