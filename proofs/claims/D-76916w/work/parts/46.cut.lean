set_option maxRecDepth 100000
/-! an end is cut: the last atom has its number then -/
def cutR (T : Tr) (l y : Int) : Int := if y = l then (T.1 : Int) - 1 else y
def cuT (T : Tr) (l : Int) : Tr := (T.1 - 1, fun x y => decide (0 ≤ x ∧ x < (T.1 : Int) - 1) && decide (0 ≤ y ∧ y < (T.1 : Int) - 1) && T.2 (cutR T l x) (cutR T l y))
theorem cutR_in {T : Tr} {l y : Int} (hl : inT T l) (hy : 0 ≤ y ∧ y < (T.1 : Int) - 1) : inT T (cutR T l y) ∧ cutR T l y ≠ l := by
  unfold cutR
  by_cases c : y = l
  · rw [if_pos c]; exact ⟨⟨by omega, by omega⟩, by omega⟩
  · rw [if_neg c]; exact ⟨⟨by omega, by omega⟩, c⟩
theorem cutR_inj {T : Tr} {l y y' : Int} (hy : 0 ≤ y ∧ y < (T.1 : Int) - 1) (hy' : 0 ≤ y' ∧ y' < (T.1 : Int) - 1) (h : cutR T l y = cutR T l y') : y = y' := by
  unfold cutR at h
  by_cases c : y = l <;> by_cases c' : y' = l
  · rw [c, c']
  · rw [if_pos c, if_neg c'] at h; omega
  · rw [if_neg c, if_pos c'] at h; omega
  · rw [if_neg c, if_neg c'] at h; exact h
theorem cutR_onto {T : Tr} {l z : Int} (hl : inT T l) (hz : inT T z) (hn : z ≠ l) : ∃ y, (0 ≤ y ∧ y < (T.1 : Int) - 1) ∧ cutR T l y = z := by
  by_cases c : z = (T.1 : Int) - 1
  · refine ⟨l, ⟨hl.1, by have := hl.2; omega⟩, ?_⟩
    unfold cutR; rw [if_pos rfl, c]
  · refine ⟨z, ⟨hz.1, by have := hz.2; omega⟩, ?_⟩
    unfold cutR; rw [if_neg hn]
theorem cuT_iff {T : Tr} {l x y : Int} : (cuT T l).2 x y = true ↔ (0 ≤ x ∧ x < (T.1 : Int) - 1) ∧ (0 ≤ y ∧ y < (T.1 : Int) - 1) ∧ T.2 (cutR T l x) (cutR T l y) = true := by
  simp [cuT, and_assoc]
theorem TrOk.cut {T : Tr} {d : Int → Int → Int} (h : TrOk T d) {l : Int} (hl : inT T l) (hd : (nbs T l).length = 1) : TrOk (cuT T l) (fun x y => d (cutR T l x) (cutR T l y)) := by
  obtain ⟨p, hp⟩ : ∃ p, nbs T l = [p] := List.length_eq_one_iff.mp hd
  have hlp : T.2 l p = true := h.mem_nbs.mp (by rw [hp]; exact List.mem_singleton.mpr rfl)
  have honly : ∀ c, T.2 l c = true → c = p := fun c e => by
    have := h.mem_nbs.mpr e
    rw [hp] at this
    exact List.mem_singleton.mp this
  have hpr := (h.rng hlp).2
  have hne := h.ne hlp
  have hn2 : 2 ≤ T.1 := by
    have h1 := hl.1; have h2 := hl.2; have h3 := hpr.1; have h4 := hpr.2
    omega
  have hn := h.n1
  have hin : ∀ x, inT (cuT T l) x ↔ 0 ≤ x ∧ x < (T.1 : Int) - 1 := fun x => by
    show 0 ≤ x ∧ x < ((T.1 - 1 : Nat) : Int) ↔ _
    omega
  -- from elsewhere no way leads over the end
  have hnear : ∀ {x b c : Int}, inT T x → x ≠ l → T.2 b c = true → d x b = d x c + 1 → c ≠ l := by
    intro x b c hx hxl e h1 hc
    subst hc
    obtain ⟨v, e1, h2, -⟩ := h.near hx (h.rng e).2 hxl
    have hv := honly v e1
    have hb := honly b (h.sym e)
    subst hv; subst hb
    omega
  refine ⟨⟨by show 1 ≤ T.1 - 1; omega, by show T.1 - 1 ≤ 13; omega⟩, ?_, ?_, ?_, ?_, ?_, ?_, ?_, ?_⟩
  · intro a b e
    obtain ⟨h1, h2, -⟩ := cuT_iff.mp e
    exact ⟨(hin a).mpr h1, (hin b).mpr h2⟩
  · intro a b e
    obtain ⟨h1, h2, h3⟩ := cuT_iff.mp e
    exact cuT_iff.mpr ⟨h2, h1, h.sym h3⟩
  · intro a
    have h1 : ((nbs (cuT T l) a).map (cutR T l)).Nodup := by
      unfold List.Nodup
      rw [List.pairwise_map]
      refine (nodup_nbs (cuT T l) a).imp_of_mem ?_
      intro x y hx hy hxy he
      unfold nbs at hx hy
      rw [List.mem_filter] at hx hy
      exact hxy (cutR_inj (cuT_iff.mp hx.2).2.1 (cuT_iff.mp hy.2).2.1 he)
    have h2 := h1.length_le_of_subset (l₂ := nbs T (cutR T l a)) (fun z hz => by
      obtain ⟨y, hy, rfl⟩ := List.mem_map.mp hz
      unfold nbs at hy
      rw [List.mem_filter] at hy
      exact h.mem_nbs.mpr (cuT_iff.mp hy.2).2.2)
    rw [List.length_map] at h2
    exact Nat.le_trans h2 (h.deg _)
  · intro x; exact h.d0 _
  · intro x y; exact h.dsym _ _
  · intro x y hx hy
    exact h.dge (cutR_in hl ((hin x).mp hx)).1 (cutR_in hl ((hin y).mp hy)).1
  · intro x b c hx e
    exact h.step (cutR_in hl ((hin x).mp hx)).1 (cuT_iff.mp e).2.2
  · intro x b hx hb hxb
    have hx1 := cutR_in hl ((hin x).mp hx)
    have hb1 := cutR_in hl ((hin b).mp hb)
    obtain ⟨c, e, h1, h2⟩ := h.near hx1.1 hb1.1 (fun he => hxb (cutR_inj ((hin x).mp hx) ((hin b).mp hb) he))
    have hc := hnear hx1.1 hx1.2 e h1
    obtain ⟨y, hy, rfl⟩ := cutR_onto hl (h.rng e).2 hc
    refine ⟨y, cuT_iff.mpr ⟨(hin b).mp hb, hy, e⟩, h1, fun c' e' h3 => ?_⟩
    obtain ⟨-, k2, k3⟩ := cuT_iff.mp e'
    exact cutR_inj k2 hy (h2 _ k3 h3)
/-! measures -/
abbrev cdA (T : Tr) (a : Int) : Int := nmc (cd T 13 a (-1))
/-- how many look as an atom does; the first of them -/
def likeN (T : Tr) (a : Int) : Int := (((rg T.1).filter (fun b => cdA T b == cdA T a)).length : Int)
def likeF (T : Tr) (a : Int) : Int := ((rg T.1).filter (fun b => cdA T b == cdA T a)).getD 0 (-1)
def farS (T : Tr) (j a b : Int) : Int := if j = -1 then fo T 13 a b (-1) else bz (decide (fo T 13 a b (-1) = j))
def farT (T : Tr) (j : Int) : Int := sumI ((rg T.1).map fun a => sumI ((rgf (a + 1) (T.1 - (a.toNat + 1))).map fun b => farS T j a b))
def endN (T : Tr) : Int := (((rg T.1).filter (fun a => (nbs T a).length == 1)).length : Int)
def unlN (T : Tr) : Int := (((rg T.1).filter (fun a => likeF T a == a)).length : Int)
/-- in how many ways twigs lie on themselves: each by those like it ahead -/
def wyl (g w : Int → Int) : List Int → List Int → Int
  | _, [] => 1
  | done, c :: l => ((((done.filter (fun x => g x == g c)).length : Int) + 1) * w c) * wyl g w (done ++ [c]) l
def wys (T : Tr) : Nat → Int → Int → Int
  | 0, _, _ => 1
  | f + 1, b, a => wyl (fun c => nmc (cd T f c b)) (fun c => wys T f c b) [] (chs T b a)
def addN (k : Int) (l : List Int) : List Int := if k ∈ l then l else l ++ [k]
def moreL (T : Tr) : List Int := (rg T.1).foldl (fun l a => if (nbs T a).length = 4 then l else addN (keyT (grT T a)) l) []
def longN (T : Tr) : Int := maxI ((rg T.1).map fun a => dpA T a) + 1
