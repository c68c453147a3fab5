set_option maxRecDepth 100000
/-! ways: from one atom to another one -/
def pth1 (g : Int → Int) (p : Int → List Int) : List Int → List Int
  | [] => []
  | c :: l => if g c < 0 then pth1 g p l else p c
def pth (T : Tr) : Nat → Int → Int → Int → List Int
  | 0, _, _, _ => []
  | f + 1, a, e, from1 => if a = e then [a] else a :: pth1 (fun c => fo T f c e a) (fun c => pth T f c e a) (chs T a from1)
/-- a way whose atoms are as far from r as their places say -/
def PW (T : Tr) (d : Int → Int → Int) (r : Int) : Int → List Int → Prop
  | _, [] => True
  | k, a :: l => inT T a ∧ d r a = k ∧ (∀ b ∈ l.head?, T.2 a b = true) ∧ PW T d r (k + 1) l
theorem pth1_some {g : Int → Int} {p : Int → List Int} {k : Int} : ∀ {l : List Int}, k ∈ l → 0 ≤ g k → (∀ c ∈ l, c ≠ k → g c < 0) → pth1 g p l = p k
  | c :: l, hk, h0, h => by
    unfold pth1
    by_cases hc : c = k
    · subst hc; rw [if_neg (by omega)]
    · rw [if_pos (h c List.mem_cons_self hc)]
      refine pth1_some ?_ h0 fun x hx => h x (List.mem_cons_of_mem _ hx)
      rcases List.mem_cons.mp hk with h1 | h1
      · exact absurd h1.symm hc
      · exact h1
section WW
variable {T : Tr} {d : Int → Int → Int}
/-- a place on a walk that began at r -/
def At (T : Tr) (d : Int → Int → Int) (r : Int) (at1 : Int) (b a : Int) : Prop := inT T r ∧ d r b = at1 ∧ (b = r ∨ T.2 a b = true ∧ d r b = d r a + 1)
theorem At.step (h : TrOk T d) {r at1 b a c : Int} (t : At T d r at1 b a) (hc : c ∈ chs T b a) : At T d r (at1 + 1) c b := by
  obtain ⟨e, hca⟩ := h.mem_chs.mp hc
  obtain ⟨hr, h1, h2 | ⟨h2, h3⟩⟩ := t
  · subst h2
    have h4 := h.d0 b
    have h5 := h.d1 e
    exact ⟨hr, by omega, Or.inr ⟨e, by omega⟩⟩
  · have := h.away hr h2 h3 e hca
    exact ⟨hr, by omega, Or.inr ⟨e, this⟩⟩
theorem At.lt (h : TrOk T d) {r at1 b a : Int} (t : At T d r at1 b a) (hb : inT T b) : 0 ≤ at1 ∧ at1 < (T.1 : Int) := by
  have h1 := h.dge t.1 hb
  have h2 := h.dlt t.1 hb
  have := t.2.1
  omega
/-- there is a way just where one is as far as a number tells; how long it is -/
theorem pth_spec (h : TrOk T d) {x : Int} (hx : inT T x) : ∀ (f : Nat) (b a r at1 : Int), Tw T d f b a → At T d r at1 b a → inTw d b a x → PW T d r at1 (pth T f b x a) ∧ ((pth T f b x a).length : Int) = d x b + 1 ∧ (pth T f b x a).head? = some b ∧ (pth T f b x a).getLast? = some x ∧ ∀ v ∈ pth T f b x a, inTw d b a v := by
  intro f
  induction f with
  | zero => intro b a r at1 t; obtain ⟨f', h1⟩ := t.pos h; omega
  | succ f ih =>
    intro b a r at1 t ta hi
    have hb := t.1
    unfold pth
    by_cases hbx : b = x
    · subst hbx
      rw [if_pos rfl]
      refine ⟨⟨hb, ta.2.1, (fun _ h => by cases h), trivial⟩, by rw [h.d0]; rfl, rfl, rfl, fun v hv => ?_⟩
      rw [List.mem_singleton.mp hv]; exact hi
    · rw [if_neg hbx]
      obtain ⟨k, hk, hi', h1⟩ := inTw.down h hb hx (Ne.symm hbx) hi
      have tk := t.step h hk
      have e : pth1 (fun c => fo T f c x b) (fun c => pth T f c x b) (chs T b a) = pth T f k x b := by
        refine pth1_some hk ?_ fun c hc hn => ?_
        · show 0 ≤ fo T f k x b
          rw [(fo_spec h hx f k b tk).1 hi']; exact h.dge hx tk.1
        · have := (fo_spec h hx f c b (t.step h hc)).2 (fun hi2 => hn (inTw.one h hb hx hc hk hi2 hi'))
          show fo T f c x b < 0; omega
      rw [e]
      obtain ⟨g1, g2, g3, g4, g5⟩ := ih k b r (at1 + 1) tk (ta.step h hk) hi'
      refine ⟨⟨hb, ta.2.1, fun v hv => ?_, g1⟩, by rw [List.length_cons]; omega, rfl, ?_, fun v hv => ?_⟩
      · rw [g3] at hv
        cases hv
        exact (h.mem_chs.mp hk).1
      · cases ep : pth T f k x b with
        | nil => rw [ep] at g3; cases g3
        | cons y l => rw [ep] at g4; rw [List.getLast?_cons_cons]; exact g4
      · rcases List.mem_cons.mp hv with rfl | hv
        · exact inTw.self h t
        · have hvT : inT T v := by
            have key : ∀ (l : List Int) (q : Int), PW T d r q l → ∀ v ∈ l, inT T v := by
              intro l
              induction l with
              | nil => intro q _ v hv; cases hv
              | cons y l ihl =>
                intro q hq v hv
                rcases List.mem_cons.mp hv with rfl | hv
                · exact hq.1
                · exact ihl _ hq.2.2.2 v hv
            exact key _ _ g1 v hv
          exact inTw.up h hvT t hk (g5 v hv)
theorem PW.mem {r : Int} : ∀ {l : List Int} {q : Int}, PW T d r q l → ∀ v ∈ l, inT T v ∧ q ≤ d r v ∧ d r v < q + (l.length : Int)
  | [], _, _, v, hv => by cases hv
  | y :: l, q, hq, v, hv => by
    rw [List.length_cons]
    rcases List.mem_cons.mp hv with rfl | hv
    · exact ⟨hq.1, by have := hq.2.1; omega, by have := hq.2.1; omega⟩
    · have := PW.mem hq.2.2.2 v hv
      exact ⟨this.1, by omega, by omega⟩
theorem PW.nodup {r : Int} : ∀ {l : List Int} {q : Int}, PW T d r q l → l.Nodup
  | [], _, _ => List.nodup_nil
  | y :: l, q, hq => by
    rw [List.nodup_cons]
    refine ⟨fun hm => ?_, PW.nodup hq.2.2.2⟩
    have := (PW.mem hq.2.2.2 y hm).2.1
    have := hq.2.1
    omega
end WW
/-! branches at the atoms of a way -/
def brB (T : Tr) (w : List Int) (from1 a : Int) : List Int := (nbs T a).filter (fun b => !(b == from1) && !(w.contains b))
def brsF (T : Tr) (w : List Int) (from1 : Int) : Int → List Int → List (Int × Int × Int)
  | _, [] => []
  | k, a :: l => (brB T w from1 a).map (fun b => (k + 1, a, b)) ++ brsF T w from1 (k + 1) l
abbrev brs (T : Tr) (w : List Int) (from1 : Int) : List (Int × Int × Int) := brsF T w from1 0 w
def numw (T : Tr) (w : List Int) (from1 : Int) : List Int := (brs T w from1).map fun q => q.1
/-- what a way is good for: its length, its branches, their numbers -/
def keyW (T : Tr) (w : List Int) (from1 : Int) : List Int := (w.length : Int) :: ((brs T w from1).length : Int) :: (numw T w from1).map fun z => -z
def lexI : List Int → List Int → Int
  | x :: l, y :: r => if x = y then lexI l r else x - y
  | _, _ => 0
theorem mem_brB {T : Tr} {d : Int → Int → Int} (h : TrOk T d) {w : List Int} {from1 a b : Int} : b ∈ brB T w from1 a ↔ T.2 a b = true ∧ b ≠ from1 ∧ b ∉ w := by
  unfold brB
  rw [List.mem_filter, h.mem_nbs]
  simp
theorem brsF_far {T : Tr} {d : Int → Int → Int} (h : TrOk T d) {w : List Int} {from1 r : Int} (hr : inT T r) : ∀ (l : List Int) (q p : Int), PW T d r q l → (q = 0 ∨ (p ∈ w ∨ p = from1) ∧ (∀ a ∈ l.head?, T.2 p a = true) ∧ d r p = q - 1) → (q = 0 → ∀ a ∈ l.head?, a = r) → (∀ v ∈ l, v ∈ w) → ∀ t ∈ brsF T w from1 q l, inT T t.2.2 ∧ t.2.2 ∉ w ∧ d r t.2.2 = t.1 ∧ q < t.1 ∧ t.1 ≤ q + (l.length : Int) ∧ t.2.1 ∈ l ∧ T.2 t.2.1 t.2.2 = true ∧ t.2.2 ≠ from1 ∧ d r t.2.1 = t.1 - 1
  | [], _, _, _, _, _, _, t, ht => by cases ht
  | a :: l, q, p, hq, hp, h0, hw, t, ht => by
    unfold brsF at ht
    rcases List.mem_append.mp ht with ht | ht
    · obtain ⟨b, hb, rfl⟩ := List.mem_map.mp ht
      obtain ⟨e, h1, h2⟩ := (mem_brB h).mp hb
      have hda : d r a = q := hq.2.1
      have hdb : d r b = q + 1 := by
        rcases hp with hp | ⟨hpw, hpe, hpd⟩
        · have := h0 hp a rfl
          subst this
          have := h.d1 e
          omega
        · have hpa := hpe a rfl
          have := h.away hr hpa (by omega) e (fun he => hpw.elim (fun hpw => h2 (by rw [he]; exact hpw)) (fun hpw => h1 (by rw [he]; exact hpw)))
          omega
      rw [List.length_cons]
      exact ⟨(h.rng e).2, h2, hdb, by show q < q + 1; omega, by show q + 1 ≤ q + ((l.length + 1 : Nat) : Int); omega, List.mem_cons_self, e, h1, by show d r a = q + 1 - 1; omega⟩
    · have hqge : 0 ≤ q := by have := h.dge hr hq.1; have := hq.2.1; omega
      have := brsF_far h hr l (q + 1) a hq.2.2.2 (Or.inr ⟨Or.inl (hw a List.mem_cons_self), hq.2.2.1, by have := hq.2.1; omega⟩) (fun hh => by omega) (fun v hv => hw v (List.mem_cons_of_mem _ hv)) t ht
      rw [List.length_cons]
      exact ⟨this.1, this.2.1, this.2.2.1, by have := this.2.2.2.1; omega, by have := this.2.2.2.2.1; omega, List.mem_cons_of_mem _ this.2.2.2.2.2.1, this.2.2.2.2.2.2⟩
theorem brsF_nodup {T : Tr} {d : Int → Int → Int} (h : TrOk T d) {w : List Int} {from1 r : Int} (hr : inT T r) : ∀ (l : List Int) (q p : Int), PW T d r q l → (q = 0 ∨ (p ∈ w ∨ p = from1) ∧ (∀ a ∈ l.head?, T.2 p a = true) ∧ d r p = q - 1) → (q = 0 → ∀ a ∈ l.head?, a = r) → (∀ v ∈ l, v ∈ w) → ((brsF T w from1 q l).map fun t => t.2.2).Nodup
  | [], _, _, _, _, _, _ => List.nodup_nil
  | a :: l, q, p, hq, hp, h0, hw => by
    have hqge : 0 ≤ q := by have := h.dge hr hq.1; have := hq.2.1; omega
    have hfar := brsF_far h (w := w) (from1 := from1) hr (a :: l) q p hq hp h0 hw
    have hA : (q + 1 = 0 ∨ (a ∈ w ∨ a = from1) ∧ (∀ b ∈ l.head?, T.2 a b = true) ∧ d r a = q + 1 - 1) := Or.inr ⟨Or.inl (hw a List.mem_cons_self), hq.2.2.1, by have := hq.2.1; omega⟩
    have hfar2 := brsF_far h (w := w) (from1 := from1) hr l (q + 1) a hq.2.2.2 hA (fun hh => by omega) (fun v hv => hw v (List.mem_cons_of_mem _ hv))
    unfold brsF
    rw [List.map_append, List.map_map]
    refine List.nodup_append.mpr ⟨?_, brsF_nodup h hr l (q + 1) a hq.2.2.2 hA (fun hh => by omega) (fun v hv => hw v (List.mem_cons_of_mem _ hv)), ?_⟩
    · have e : (brB T w from1 a).map ((fun t : Int × Int × Int => t.2.2) ∘ fun b => (q + 1, a, b)) = brB T w from1 a := by
        rw [show ((fun t : Int × Int × Int => t.2.2) ∘ fun b => (q + 1, a, b)) = id from rfl, List.map_id]
      rw [e]
      exact (nodup_nbs T a).sublist List.filter_sublist
    · intro b hb c hc he
      subst he
      obtain ⟨b', hb', e1⟩ := List.mem_map.mp hb
      have e1 : b' = b := e1
      subst e1
      have h1 := hfar (q + 1, a, b') (by unfold brsF; exact List.mem_append_left _ (List.mem_map.mpr ⟨b', hb', rfl⟩))
      obtain ⟨t, ht, e2⟩ := List.mem_map.mp hc
      have h2 := hfar2 t ht
      have e3 : d r b' = q + 1 := h1.2.2.1
      rw [e2] at h2
      have := h2.2.2.1
      have := h2.2.2.2.1
      omega
/-- a way and its branches have no atom twice -/
theorem brs_len {T : Tr} {d : Int → Int → Int} (h : TrOk T d) {w : List Int} {from1 r : Int} (hr : inT T r) (hw : PW T d r 0 w) (h0 : ∀ a ∈ w.head?, a = r) : w.length + (brs T w from1).length ≤ T.1 := by
  have h1 := brsF_nodup h (from1 := from1) hr w 0 0 hw (Or.inl rfl) (fun _ => h0) (fun v hv => hv)
  have h2 := brsF_far h (from1 := from1) hr w 0 0 hw (Or.inl rfl) (fun _ => h0) (fun v hv => hv)
  have h3 : (w ++ (brs T w from1).map fun t => t.2.2).Nodup := List.nodup_append.mpr ⟨hw.nodup, h1, fun x hx y hy he => by
    obtain ⟨t, ht, rfl⟩ := List.mem_map.mp hy
    exact (h2 t ht).2.1 (by rw [← he]; exact hx)⟩
  have h4 := h3.length_le_of_subset (l₂ := rg T.1) (fun v hv => by
    rw [mem_rgf]
    rcases List.mem_append.mp hv with hv | hv
    · have := (hw.mem v hv).1; omega
    · obtain ⟨t, ht, rfl⟩ := List.mem_map.mp hv
      have := (h2 t ht).1; omega)
  rw [List.length_append, List.length_map, len_rgf] at h4
  exact h4
/-! all ways that begin where they may -/
def waysA (T : Tr) (from1 a : Int) : List (List Int) := ((rg T.1).filter fun e => decide (0 ≤ fo T 13 a e from1)).map fun e => pth T 13 a e from1
def waysT (T : Tr) (b from1 : Int) : List (List Int) := if from1 = -1 then (rg T.1).flatMap (waysA T from1) else waysA T from1 b
def betK (best k : List Int) : List Int := if 0 < lexI k best then k else best
/-- the best that there is -/
def bstK (T : Tr) (b from1 : Int) : List Int := ((waysT T b from1).map fun w => keyW T w from1).foldl betK [0]
