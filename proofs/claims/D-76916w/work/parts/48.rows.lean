set_option maxRecDepth 100000
/-! rows -/
def tab (n : Nat) (f : Nat → Int) : List Int := (List.range n).map f
theorem tab_len (n : Nat) (f : Nat → Int) : (tab n f).length = n := by simp [tab]
theorem tab_get {n : Nat} {f : Nat → Int} {i : Nat} (h : i < n) : (tab n f).getD i 0 = f i := by
  simp [tab, List.getD_eq_getElem?_getD, h]
theorem tab_mem {n : Nat} {f : Nat → Int} {x : Int} (h : x ∈ tab n f) : ∃ i, i < n ∧ x = f i := by
  unfold tab at h
  obtain ⟨i, hi, rfl⟩ := List.mem_map.mp h
  exact ⟨i, List.mem_range.mp hi, rfl⟩
theorem arr_tab {g : Int → Int} {b : Int} {n : Nat} {f : Nat → Int} (h : ∀ i : Nat, i < n → g (b + i) = f i) : arr g b (tab n f) := fun i hi => by
  rw [tab_len] at hi
  rw [tab_get hi]; exact h i hi
abbrev isRw (r : Int) : Bool := decide (0 ≤ r ∧ r ≤ 3)
abbrev Sg.setR (s : Sg) (r : Int) (p : Int × List Int) : Sg := (s.1, s.2.1, s.2.2.1, s.2.2.2.1, s.2.2.2.2.1, s.2.2.2.2.2.1, fun q => if q = r then p else s.rw q)
def heldI (k v : Int) : Int := if k = 0 then wI v else if k = 1 then v else i2b (wI v)
def opRow (s : Sg) (r k n : Int) : Int × Sg := if isRw r then (if (-1 ≤ k ∧ k ≤ 2) ∧ (k = -1 ∨ n ≤ 40) then (if k = -1 ∨ 0 ≤ n then (1, s.setR r (k, if k = -1 then [] else tab n.toNat fun _ => 0)) else (-14, s)) else (-2, s)) else (-1, s)
def opPut (s : Sg) (r i v : Int) : Int × Sg := if isRw r then (if (s.rw r).1 = -1 then (-11, s) else if 0 ≤ i ∧ i ≤ ((s.rw r).2.length : Int) - 1 then (1, s.setR r ((s.rw r).1, tab (s.rw r).2.length fun j => if (j : Int) = i then heldI (s.rw r).1 v else (s.rw r).2.getD j 0)) else (-13, s)) else (-1, s)
def opGet (s : Sg) (r i : Int) : Int := if isRw r ∧ (s.rw r).1 ≠ -1 ∧ 0 ≤ i ∧ i ≤ ((s.rw r).2.length : Int) - 1 then (s.rw r).2.getD i.toNat 0 else -9223372036854775808
def opFill (s : Sg) (r n : Int) : Int × Sg := if isRw r && isLs n then (if (s.rw r).1 = -1 then (-11, s) else if (s.rw r).1 = 2 then (-12, s) else ((min (s.rw r).2.length (lst n.toNat).length : Nat), s.setR r ((s.rw r).1, tab (s.rw r).2.length fun j => if j < (lst n.toNat).length then (lst n.toNat).getD j 0 else (s.rw r).2.getD j 0))) else (-1, s)
/-- the first place, from one on, where two lists are unlike -/
def judg (l k : List Int) : Int → Nat → Int
  | _, 0 => -1
  | i, m + 1 => if (k.length : Int) ≤ i ∨ l.getD i.toNat 0 ≠ k.getD i.toNat 0 then i else judg l k (i + 1) m
def opJudge (s : Sg) (r n : Int) : Int := if isRw r && isLs n then (if (s.rw r).1 = -1 then -11 else judg (s.rw r).2 (lst n.toNat) 0 (s.rw r).2.length) else -1
def opCopy (s : Sg) (r i o j n : Int) : Int × Sg := if isRw r && isRw o then (if (s.rw r).1 = -1 ∨ (s.rw o).1 = -1 then (-11, s) else if (s.rw r).1 ≠ (s.rw o).1 then (-12, s) else if 0 ≤ n ∧ 0 ≤ i ∧ 0 ≤ j ∧ i + n ≤ ((s.rw r).2.length : Int) ∧ j + n ≤ ((s.rw o).2.length : Int) then (n, s.setR o ((s.rw o).1, tab (s.rw o).2.length fun q => if j ≤ (q : Int) ∧ (q : Int) < j + n then (s.rw r).2.getD ((q : Int) - j + i).toNat 0 else (s.rw o).2.getD q 0)) else (-13, s)) else (-1, s)
