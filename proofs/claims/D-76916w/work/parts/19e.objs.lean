set_option maxRecDepth 100000
/-! Math's max and min: one row each -/
section VMX
variable {l : Launch} {G : GG} {M : Mt} {d : Nat} {av : List Value} {sz0 : Nat} {S : Post} {pc : Nat} {ls : List (Nat × Value)} {st : List Value} {w : Wd} {sz n : Nat}
theorem v_mmax {idx : Nat} {x y : Int} (hd : decode M.2.1 pc = .ok (.invokestatic idx, 3)) (h1 : Cond.methodLink M.1.cls idx Lib.Math.max.name ∈ lw_all) (hx : rI x) (hy : rI y) (hdd : 1 ≤ d) (hsum : (st.map fun v => v.category).sum ≤ 8)
    (k : V l G M d av sz0 S (pc + 3) ls (vI (max x y) :: st) w sz n) : V l G M d av sz0 S pc ls (vI y :: vI x :: st) w sz n := by
  obtain ⟨r, w', sz', n', e1, e2, e3, k⟩ := k
  refine ⟨r, w', sz', n', e1, e2, e3, fun p e s m below meth c C H locs la hG hS hl => ?_⟩
  have hts := C.2.2.2.2.2.2.1
  refine va_mmax (x := iI x) (y := iI y) C.1 C.2.1 (C.2.2.1.trans hl.1.symm) C.2.2.2.2.2.1 (hts _ h1) (hts _ q328) (hts _ q159) (hts _ q329) hdd (by show _ + 13 ≤ 48 * d + 3200; omega) (Nat.sub_le_sub_right e2 _) e3 hd ?_
  rw [show (if iI x < iI y then iI y else iI x) = iI (max x y) by
    by_cases h : x < y
    · rw [if_pos ((iI_lt hx hy).mpr h), show max x y = y by omega]
    · rw [if_neg (fun h2 => h ((iI_lt hx hy).mp h2)), show max x y = x by omega]]
  exact k p e s m below meth c C H locs la hG hS hl
theorem v_mmin {idx : Nat} {x y : Int} (hd : decode M.2.1 pc = .ok (.invokestatic idx, 3)) (h1 : Cond.methodLink M.1.cls idx Lib.Math.min.name ∈ lw_all) (hx : rI x) (hy : rI y) (hdd : 1 ≤ d) (hsum : (st.map fun v => v.category).sum ≤ 8)
    (k : V l G M d av sz0 S (pc + 3) ls (vI (min x y) :: st) w sz n) : V l G M d av sz0 S pc ls (vI y :: vI x :: st) w sz n := by
  obtain ⟨r, w', sz', n', e1, e2, e3, k⟩ := k
  refine ⟨r, w', sz', n', e1, e2, e3, fun p e s m below meth c C H locs la hG hS hl => ?_⟩
  have hts := C.2.2.2.2.2.2.1
  refine va_mmin (x := iI x) (y := iI y) C.1 C.2.1 (C.2.2.1.trans hl.1.symm) C.2.2.2.2.2.1 (hts _ h1) (hts _ q346) (hts _ q159) (hts _ q347) hdd (by show _ + 13 ≤ 48 * d + 3200; omega) (Nat.sub_le_sub_right e2 _) e3 hd ?_
  rw [show (if iI y < iI x then iI y else iI x) = iI (min x y) by
    by_cases h : y < x
    · rw [if_pos ((iI_lt hy hx).mpr h), show min x y = y by omega]
    · rw [if_neg (fun h2 => h ((iI_lt hy hx).mp h2)), show min x y = x by omega]]
  exact k p e s m below meth c C H locs la hG hS hl
theorem v_mmaxL {idx : Nat} {x y : Int} (hd : decode M.2.1 pc = .ok (.invokestatic idx, 3)) (h1 : Cond.methodLink M.1.cls idx Lib.MathLoose.max_long.x ∈ lw_all) (hx : rL x) (hy : rL y) (hdd : 1 ≤ d) (hsum : (st.map fun v => v.category).sum ≤ 8)
    (k : V l G M d av sz0 S (pc + 3) ls (vL (max x y) :: st) w sz n) : V l G M d av sz0 S pc ls (vL y :: vL x :: st) w sz n := by
  obtain ⟨r, w', sz', n', e1, e2, e3, k⟩ := k
  refine ⟨r, w', sz', n', e1, e2, e3, fun p e s m below meth c C H locs la hG hS hl => ?_⟩
  have hts := C.2.2.2.2.2.2.1
  refine va_mmax_long (x := jL x) (y := jL y) C.1 C.2.1 (C.2.2.1.trans hl.1.symm) C.2.2.2.2.2.1 (hts _ h1) (hts _ q586) (hts _ q159) (hts _ q587) hdd (by show _ + 15 ≤ 48 * d + 3200; omega) (Nat.sub_le_sub_right e2 _) e3 hd ?_
  rw [show (if jL y < jL x then jL x else jL y) = jL (max x y) by
    by_cases h : y < x
    · rw [if_pos ((jL_lt hy hx).mpr h), show max x y = x by omega]
    · rw [if_neg (fun h2 => h ((jL_lt hy hx).mp h2)), show max x y = y by omega]]
  exact k p e s m below meth c C H locs la hG hS hl
end VMX
/-! a number brought into an int's range -/
def wI (z : Int) : Int := (iI z).toInt
theorem wI_iI (z : Int) : iI (wI z) = iI z := iI_of _
theorem wI_rI (z : Int) : rI (wI z) := iI_rng _
theorem wI_id {z : Int} (h : rI z) : wI z = z := iI_toInt h
theorem v_wI {l : Launch} {G : GG} {M : Mt} {d : Nat} {av : List Value} {sz0 : Nat} {S : Post} {pc : Nat} {ls : List (Nat × Value)} {st : List Value} {w : Wd} {sz n : Nat} {z : Int} (k : V l G M d av sz0 S pc ls (vI (wI z) :: st) w sz n) : V l G M d av sz0 S pc ls (vI z :: st) w sz n := by
  rw [show vI (wI z) = vI z by show Value.int (iI (wI z)) = Value.int (iI z); rw [wI_iI]] at k
  exact k
