set_option maxRecDepth 100000
/-! no way has more than eight branches -/
theorem brB_len {T : Tr} {d : Int → Int → Int} (h : TrOk T d) {w : List Int} {from1 a : Int} {xs : List Int} (hx : xs.Nodup) (hxw : ∀ x ∈ xs, x ∈ w ∧ T.2 a x = true) : (brB T w from1 a).length + xs.length ≤ 4 := by
  have h1 : (brB T w from1 a ++ xs).Nodup := List.nodup_append.mpr ⟨(nodup_nbs T a).sublist List.filter_sublist, hx, fun b hb c hc he => by
    subst he
    exact ((mem_brB h).mp hb).2.2 (hxw b hc).1⟩
  have h2 := h1.length_le_of_subset (l₂ := nbs T a) (fun b hb => by
    rw [h.mem_nbs]
    rcases List.mem_append.mp hb with hb | hb
    · exact ((mem_brB h).mp hb).1
    · exact (hxw b hb).2)
  rw [List.length_append] at h2
  exact Nat.le_trans h2 (h.deg a)
theorem brsF_le {T : Tr} {d : Int → Int → Int} (h : TrOk T d) {w : List Int} {from1 r : Int} : ∀ (l : List Int) (q : Int), PW T d r q l → (∀ v ∈ l, v ∈ w) → l ≠ [] → ((brsF T w from1 q l).length ≤ 2 * l.length + 2) ∧ ∀ p, p ∈ w → (∀ a ∈ l.head?, T.2 a p = true) → d r p = q - 1 → (brsF T w from1 q l).length ≤ 2 * l.length + 1
  | [], _, _, _, hn => absurd rfl hn
  | [a], q, hq, hw, _ => by
    have e : (brsF T w from1 q [a]).length = (brB T w from1 a).length := by
      unfold brsF
      rw [List.length_append, List.length_map]; rfl
    rw [e]
    have h0 := brB_len h (w := w) (from1 := from1) (a := a) (xs := []) List.nodup_nil (fun x hx => by cases hx)
    refine ⟨by show _ ≤ 4; exact h0, fun p hp ha _ => ?_⟩
    have h1 := brB_len h (w := w) (from1 := from1) (a := a) (xs := [p]) (List.nodup_cons.mpr ⟨List.not_mem_nil, List.nodup_nil⟩) (fun x hx => by rw [List.mem_singleton.mp hx]; exact ⟨hp, ha a rfl⟩)
    show _ ≤ 3
    rw [List.length_singleton] at h1
    omega
  | a :: b :: l, q, hq, hw, _ => by
    have e : (brsF T w from1 q (a :: b :: l)).length = (brB T w from1 a).length + (brsF T w from1 (q + 1) (b :: l)).length := by
      conv => lhs; unfold brsF
      rw [List.length_append, List.length_map]
    have hab := hq.2.2.1 b rfl
    have hda := hq.2.1
    have hdb : d r b = q + 1 := hq.2.2.2.2.1
    have ih := (brsF_le h (from1 := from1) (b :: l) (q + 1) hq.2.2.2 (fun v hv => hw v (List.mem_cons_of_mem _ hv)) (by simp)).2 a (hw a List.mem_cons_self) (fun v hv => by cases hv; exact h.sym hab) (by omega)
    rw [e, List.length_cons (as := b :: l)]
    have hbw := hw b (List.mem_cons_of_mem _ List.mem_cons_self)
    have h1 := brB_len h (w := w) (from1 := from1) (a := a) (xs := [b]) (List.nodup_cons.mpr ⟨List.not_mem_nil, List.nodup_nil⟩) (fun x hx => by rw [List.mem_singleton.mp hx]; exact ⟨hbw, hab⟩)
    rw [List.length_singleton] at h1
    refine ⟨by omega, fun p hp ha hdp => ?_⟩
    have hpb : p ≠ b := fun hh => by rw [hh] at hdp; omega
    have h2 := brB_len h (w := w) (from1 := from1) (a := a) (xs := [p, b]) (by simpa using hpb) (fun x hx => by
      rcases List.mem_cons.mp hx with rfl | hx
      · exact ⟨hp, ha a rfl⟩
      · rw [List.mem_singleton.mp hx]; exact ⟨hbw, hab⟩)
    have h3 : ([p, b] : List Int).length = 2 := rfl
    omega
theorem brs_8 {T : Tr} {d : Int → Int → Int} (h : TrOk T d) (h12 : T.1 ≤ 12) {w : List Int} (g : GCh T d w) (from1 : Int) : (brs T w from1).length ≤ 8 := by
  have h1 := g.len h from1
  obtain ⟨r, g1, g2, g3, g4⟩ := g
  have h2 : (brs T w from1).length ≤ 2 * w.length + 2 := (brsF_le h (w := w) (from1 := from1) w 0 g2 (fun v hv => hv) (fun hh => by rw [hh] at g4; exact absurd g4 (by decide))).1
  omega
/-! the best is there -/
theorem lexI_self : ∀ k : List Int, lexI k k = 0
  | [] => rfl
  | x :: l => by show (if x = x then lexI l l else x - x) = 0; rw [if_pos rfl]; exact lexI_self l
theorem fold_bet : ∀ (l : List (List Int)) (b : List Int), l.foldl betK b = b ∨ l.foldl betK b ∈ l
  | [], _ => Or.inl rfl
  | k :: l, b => by
    rw [List.foldl_cons]
    rcases fold_bet l (betK b k) with h | h
    · rw [h]
      unfold betK
      split
      · exact Or.inr List.mem_cons_self
      · exact Or.inl rfl
    · exact Or.inr (List.mem_cons_of_mem _ h)
theorem fold_bet0 : ∀ (l : List (List Int)), l ≠ [] → (∀ k ∈ l, ∃ L r, k = L :: r ∧ (1 : Int) ≤ L) → l.foldl betK [0] ∈ l
  | [], h, _ => absurd rfl h
  | k :: l, _, h => by
    obtain ⟨L, r, e, hL⟩ := h k List.mem_cons_self
    have e1 : betK [0] k = k := by
      unfold betK
      rw [if_pos]
      rw [e]; show 0 < (if L = 0 then lexI r [] else L - 0)
      rw [if_neg (by omega)]; omega
    rw [List.foldl_cons, e1]
    rcases fold_bet l k with h1 | h1
    · rw [h1]; exact List.mem_cons_self
    · exact List.mem_cons_of_mem _ h1
theorem waysT_one {T : Tr} {d : Int → Int → Int} (h : TrOk T d) {b from1 : Int} (t : Tw T d 13 b from1) : pth T 13 b b from1 ∈ waysT T b from1 := by
  have hb := t.1
  have hst : stA b from1 b = true := decide_eq_true (Or.inr rfl)
  rw [waysT_eq hb]
  refine List.mem_flatMap.mpr ⟨b, by rw [mem_rgf]; have := hb.1; have := hb.2; omega, ?_⟩
  rw [if_pos hst]
  refine List.mem_map.mpr ⟨b, List.mem_filter.mpr ⟨by rw [mem_rgf]; have := hb.1; have := hb.2; omega, decide_eq_true ?_⟩, rfl⟩
  rw [(fo_spec h hb 13 b from1 t).1 (inTw.self h t), h.d0]; exact Int.le_refl _
theorem bestW_some {T : Tr} {d : Int → Int → Int} (h : TrOk T d) {b from1 : Int} (t : Tw T d 13 b from1) : bestW T b from1 ≠ [] := by
  have h1 := waysT_one h t
  have h2 : bstK T b from1 ∈ (waysT T b from1).map fun w => keyW T w from1 := by
    refine fold_bet0 _ (fun hh => ?_) fun k hk => ?_
    · have : keyW T (pth T 13 b b from1) from1 ∈ (waysT T b from1).map fun w => keyW T w from1 := List.mem_map.mpr ⟨_, h1, rfl⟩
      rw [hh] at this; cases this
    · obtain ⟨w, hw, rfl⟩ := List.mem_map.mp hk
      obtain ⟨a, e, -, -, -, -, -, g⟩ := waysT_good h t hw
      exact ⟨_, _, rfl, by have := g.2.2.2.2.1; omega⟩
  obtain ⟨w, hw, e⟩ := List.mem_map.mp h2
  intro hh
  have : w ∈ bestW T b from1 := List.mem_filter.mpr ⟨hw, decide_eq_true (by show lexI (keyW T w from1) (bstK T b from1) = 0; rw [← e]; exact lexI_self _)⟩
  rw [hh] at this; cases this
/-! the next one in order -/
theorem asc_after {U : List (List Int)} (hU : AscN U) : ∀ {pre post : List (List Int)} {u : List Int}, U = pre ++ u :: post → ∀ t, t ∈ post ↔ t ∈ U ∧ 0 < cmpN t u := by
  intro pre post u e t
  subst e
  have h1 := List.pairwise_append.mp hU
  have h2 := List.pairwise_cons.mp h1.2.1
  have hn := cmpN_neg u t
  constructor
  · intro ht
    have := h2.1 t ht
    exact ⟨List.mem_append_right _ (List.mem_cons_of_mem _ ht), by omega⟩
  · rintro ⟨ht, hlt⟩
    rcases List.mem_append.mp ht with ht | ht
    · have := h1.2.2 t ht u List.mem_cons_self; omega
    · rcases List.mem_cons.mp ht with rfl | ht
      · rw [cmpN_self] at hlt; omega
      · exact ht
theorem asc_head {u : List Int} {post : List (List Int)} (h : AscN (u :: post)) {t : List Int} (ht : t ∈ u :: post) (hl : ∀ v ∈ u :: post, ¬ cmpN v t < 0) : t = u := by
  have h2 := List.pairwise_cons.mp h
  rcases List.mem_cons.mp ht with rfl | ht
  · rfl
  · exact absurd (h2.1 t ht) (hl u List.mem_cons_self)
theorem numsT_le (bl : List (Int × List Int)) (t : List Int) : (numsT bl t).length ≤ bl.length := by
  unfold numsT; rw [List.length_map]; exact List.length_filter_le _ _
/-- bytes alone -/
theorem byt_app {s t : List Int} (h1 : byt s) (h2 : byt t) : byt (s ++ t) := fun c hc => (List.mem_append.mp hc).elim (h1 c) (h2 c)
theorem byt_cons {c : Int} {s : List Int} (h1 : 0 ≤ c ∧ c < 256) (h2 : byt s) : byt (c :: s) := fun x hx => (List.mem_cons.mp hx).elim (fun e => by rw [e]; exact h1) (h2 x)
theorem byt_nil : byt [] := fun c hc => by cases hc
theorem byt_jn {sep : Int} (h0 : 0 ≤ sep ∧ sep < 256) : ∀ {l : List (List Int)}, (∀ x ∈ l, byt x) → byt (jn sep l)
  | [], _ => byt_nil
  | [x], h => h x List.mem_cons_self
  | x :: y :: l, h => byt_app (h x List.mem_cons_self) (byt_cons h0 (byt_jn h0 (l := y :: l) fun z hz => h z (List.mem_cons_of_mem _ hz)))
theorem byt_dec {z : Int} (h : 0 ≤ z ∧ z ≤ 99) : byt (dec z) := by
  unfold dec
  split
  · exact byt_cons (by omega) (byt_cons (by omega) byt_nil)
  · exact byt_cons (by omega) byt_nil
theorem byt_L {L : List (List Int)} (h : ∀ t ∈ L, byt t) (k : Int) : byt (L.getD k.toNat []) := by
  by_cases hk : k.toNat < L.length
  · rw [List.getD_eq_getElem?_getD, List.getElem?_eq_getElem hk]
    exact h _ (List.getElem_mem hk)
  · rw [List.getD_eq_getElem?_getD, List.getElem?_eq_none (by omega)]; exact byt_nil
theorem byt_stm (k : Int) : byt (stm k) := byt_L (by decide +kernel) k
theorem byt_mny (k : Int) : byt (mny k) := byt_L (by decide +kernel) k
theorem byt_end (q : Bool) : byt (endT q) := by cases q <;> decide +kernel
theorem byt_brk {t : List Int} (h : byt t) : byt (brk t) := by
  unfold brk
  split
  · exact byt_cons (by decide) (byt_app h (byt_cons (by decide) byt_nil))
  · exact h
theorem byt_part {bl : List (Int × List Int)} {t : List Int} (ht : byt t) (hn : ∀ q ∈ bl, 0 ≤ q.1 ∧ q.1 ≤ 99) : byt (partT bl t) := by
  unfold partT
  refine byt_app (byt_jn (by decide) fun x hx => ?_) (byt_cons (by decide) (byt_app ?_ (byt_brk ht)))
  · obtain ⟨z, hz, rfl⟩ := List.mem_map.mp hx
    unfold numsT at hz
    obtain ⟨q, hq, rfl⟩ := List.mem_map.mp hz
    exact byt_dec (hn q (List.mem_filter.mp hq).1)
  · split
    · exact byt_mny _
    · exact byt_nil
theorem byt_whole {bl : List (Int × List Int)} {L : Int} {tree : Bool} (hn : ∀ q ∈ bl, (0 ≤ q.1 ∧ q.1 ≤ 99) ∧ byt q.2) : byt (wholeT bl L tree) := by
  unfold wholeT
  refine byt_app (byt_jn (by decide) fun x hx => ?_) (byt_app (byt_stm _) (byt_end _))
  obtain ⟨t, ht, rfl⟩ := List.mem_map.mp hx
  obtain ⟨q, hq, rfl⟩ := List.mem_map.mp (mem_srtN.mp ht)
  exact byt_part (hn q hq).2 fun p hp => (hn p hp).1
theorem nm_byt {T : Tr} {d : Int → Int → Int} (h : TrOk T d) : ∀ (f : Nat) (b from1 : Int), Tw T d 13 b from1 → byt (nm T f b from1) := by
  have hn := h.n1
  intro f
  induction f with
  | zero => intro b from1 t; exact byt_nil
  | succ f ih =>
    intro b from1 t
    unfold nm
    have hm := minT_mem (l := (bestW T b from1).map fun w => nameW T (fun b a => nm T f b a) w from1) (by simpa using bestW_some h t)
    obtain ⟨w, hw, e⟩ := List.mem_map.mp hm
    rw [← e]
    obtain ⟨a, e2, hst, ta, he2, hfo, rfl, g⟩ := waysT_good h t (List.mem_filter.mp hw).1
    refine byt_whole fun q hq => ?_
    obtain ⟨p, hp, rfl⟩ := List.mem_map.mp hq
    obtain ⟨p1, p2, p3, p4, p5, -⟩ := br_facts h g hp
    have hl : ((pth T 13 a e2 from1).length : Int) ≤ 13 := by
      have := brs_len h (from1 := from1) g.1 g.2.2.1 g.2.2.2.1; omega
    exact ⟨by show 0 ≤ p.1 ∧ p.1 ≤ 99; omega, ih _ _ (Tw.edge h p4 (by omega))⟩
