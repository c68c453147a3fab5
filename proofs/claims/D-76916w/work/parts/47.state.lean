set_option maxRecDepth 100000
/-! what both hold between calls: drawing, what is kept, tape, whys, reads, made, rows -/
abbrev Sg : Type := Tr × Option Tr × List Int × List (Int × Int) × Int × Int × (Int → Int × List Int)
abbrev Sg.D (s : Sg) : Tr := s.1
abbrev Sg.Kp (s : Sg) : Option Tr := s.2.1
abbrev Sg.tp (s : Sg) : List Int := s.2.2.1
abbrev Sg.wy (s : Sg) : List (Int × Int) := s.2.2.2.1
abbrev Sg.rd (s : Sg) : Int := s.2.2.2.2.1
abbrev Sg.md (s : Sg) : Int := s.2.2.2.2.2.1
abbrev Sg.rw (s : Sg) : Int → Int × List Int := s.2.2.2.2.2.2
/-- a row's items fit its sort -/
def itOk (k : Int) (v : Int) : Prop := if k = 0 then rI v else if k = 1 then rL v else -128 ≤ v ∧ v ≤ 127
def rwOk (p : Int × List Int) : Prop := (-1 ≤ p.1 ∧ p.1 ≤ 2) ∧ p.2.length ≤ 40 ∧ ∀ v ∈ p.2, itOk p.1 v
def SgOk (s : Sg) : Prop := (∃ d, TrOk s.D d) ∧ s.D.1 ≤ 12 ∧ (∀ T, s.Kp = some T → (∃ d, TrOk T d) ∧ T.1 ≤ 12) ∧ s.tp.length ≤ 80 ∧ (∀ c ∈ s.tp, 0 ≤ c ∧ c ≤ 127) ∧ (s.wy.length ≤ 32 ∧ ∀ p ∈ s.wy, rI p.1 ∧ rI p.2) ∧ ∀ r, 0 ≤ r → r < 4 → rwOk (s.rw r)
abbrev isAt (s : Sg) (a : Int) : Bool := decide (0 ≤ a ∧ a ≤ (s.D.1 : Int) - 1)
abbrev isLs (n : Int) : Bool := decide (1 ≤ n ∧ n ≤ 10)
abbrev isLd (n i : Int) : Bool := decide (1 ≤ n ∧ n ≤ 10) && decide (0 ≤ i ∧ i ≤ ((lst n.toNat).length : Int) - 1)
abbrev lsAt (n i : Int) : Int := (lst n.toNat).getD i.toNat 0
/-! what calls answer, what they leave -/
def opGrow (s : Sg) (a : Int) : Int × Sg := if isAt s a then (if (nbs s.D a).length = 4 ∨ s.D.1 = 12 then (-4, s) else ((s.D.1 : Int), (grT s.D a, s.2))) else (-1, s)
def opCut (s : Sg) (a : Int) : Int × Sg := if isAt s a then (if (nbs s.D a).length = 1 then ((s.D.1 : Int) - 1, (cuT s.D a, s.2)) else (-3, s)) else (-1, s)
def opTake (s : Sg) (n i : Int) : Int × Sg := if isLd n i then (match canT n.toNat (lsAt n i) with | some C => (lsAt n i, (C, s.2)) | none => (lsAt n i, s)) else (-1, s)
def opCode (s : Sg) (n v : Int) : Int × Sg := if 1 ≤ n ∧ n ≤ 12 ∧ 0 ≤ v ∧ v < p5 n then (match canT n.toNat v with | some C => (bz (decide (keyT C = v)), (C, s.2)) | none => (-2, s)) else (-2, s)
def idxOf (k : Int) : List Int → Int → Int
  | [], _ => -1
  | x :: l, i => if x = k then i else idxOf k l (i + 1)
def opDrawn (s : Sg) (w : Int) : Int := if w = 0 then (s.D.1 : Int) else if w = 1 then keyT s.D else if w = 2 then (if s.D.1 ≤ 10 then idxOf (keyT s.D) (lst s.D.1) 0 else -1) else if w = 3 then ctA s.D 0 else if w = 4 then ctA s.D 1 else -1
def opAtom (s : Sg) (a w : Int) : Int := if isAt s a then (if w = 0 then ((nbs s.D a).length : Int) else if w = 1 then dpA s.D a else if w = 2 then cdA s.D a else if w = 3 then likeF s.D a else if w = 4 then likeN s.D a else -1) else -1
def opBond (s : Sg) (a i : Int) : Int := if isAt s a ∧ 0 ≤ i then (nbs s.D a).getD i.toNat (-1) else -1
def opFar (s : Sg) (a b : Int) : Int := if isAt s a && isAt s b then fo s.D 13 a b (-1) else -1
def opList (n : Int) : Int := if isLs n then ((lst n.toNat).length : Int) else -1
def opKey (n i : Int) : Int := if isLd n i then lsAt n i else -1
def opFeed (s : Sg) (c : Int) : Int × Sg := if 0 ≤ c ∧ c ≤ 127 then (if s.tp.length = 80 then (-4, s) else ((s.tp.length : Int) + 1, (s.1, s.2.1, s.tp ++ [c], s.2.2.2))) else (-2, s)
def opClear (s : Sg) : Int × Sg := ((s.tp.length : Int), (s.1, s.2.1, [], s.2.2.2))
def opWhy (s : Sg) (i w : Int) : Int := if (0 ≤ i ∧ i ≤ (s.wy.length : Int) - 1) ∧ 0 ≤ w ∧ w ≤ 1 then (if w = 0 then (s.wy.getD i.toNat (0, 0)).1 else (s.wy.getD i.toNat (0, 0)).2) else -1
def opTold (s : Sg) (w : Int) : Int := if w = 0 then (s.tp.length : Int) else if w = 1 then (s.wy.length : Int) else if w = 2 then s.md else if w = 3 then s.rd else -2
def opImage (s : Sg) : Int × Sg := ((s.D.1 : Int), (s.1, some s.D, s.2.2))
def opUndo (s : Sg) : Int × Sg := match s.Kp with
  | some T => ((T.1 : Int), (T, s.2))
  | none => (-3, s)
