set_option maxRecDepth 100000
/-! names, chains and twigs that calls answer -/
abbrev nmT (T : Tr) : List Int := nm T 12 0 (-1)
def nmAt (l : List Int) (k : Int) : Int := if k = -1 then (l.length : Int) else if 0 ≤ k ∧ k ≤ (l.length : Int) - 1 then l.getD k.toNat 0 else -1
def opName (s : Sg) (k : Int) : Int := nmAt (nmT s.D) k
def opNamed (n i k : Int) : Int := if isLd n i = true then (match canT n.toNat (lsAt n i) with
  | some C => nmAt (nmT C) k
  | none => -1) else -1
def opChain (s : Sg) (w : Int) : Int := if w = 0 then (bstK s.D 0 (-1)).getD 0 0 else if w = 1 then (bstK s.D 0 (-1)).getD 1 0 else if 10 ≤ w ∧ w - 10 < (bstK s.D 0 (-1)).getD 1 0 then -((bstK s.D 0 (-1)).getD (w.toNat - 8) 0) else -1
def opTwig (s : Sg) (a b w : Int) : Int := if (isAt s a && isAt s b && s.D.2 a b) = true then (if w = 0 then (szT s.D b a : Int) else if w = 1 then nmc (cd s.D 13 b a) else if w = 2 then ((nm s.D 12 b a).length : Int) else if 10 ≤ w ∧ w - 10 ≤ ((nm s.D 12 b a).length : Int) - 1 then (nm s.D 12 b a).getD (w - 10).toNat 0 else -1) else -1
theorem bstK_ne {T : Tr} {d : Int → Int → Int} (h : TrOk T d) {b from1 : Int} (t : Tw T d 13 b from1) : bstK T b from1 ≠ [0] := by
  intro hh
  obtain ⟨w, hw⟩ := List.exists_mem_of_ne_nil _ (bestW_some h t)
  obtain ⟨h1, h2⟩ := List.mem_filter.mp hw
  have h3 := of_decide_eq_true h2
  rw [hh] at h3
  obtain ⟨a, e, -, -, -, -, -, g⟩ := waysT_good h t h1
  have hl := g.2.2.2.2.1
  have h4 : (if (w.length : Int) = 0 then lexI (((brs T w from1).length : Int) :: (numw T w from1).map fun z => -z) [] else (w.length : Int) - 0) = 0 := h3
  rw [if_neg (by omega)] at h4
  omega
