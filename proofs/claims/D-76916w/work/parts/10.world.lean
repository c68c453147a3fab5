set_option maxRecDepth 100000
/-! numbers of the machine as whole numbers -/
def iI (z : Int) : Int32 := Int32.ofInt z
def jL (z : Int) : Int64 := Int64.ofInt z
abbrev vI (z : Int) : Value := .int (iI z)
abbrev vL (z : Int) : Value := .long (jL z)
abbrev rI (z : Int) : Prop := -2147483648 ≤ z ∧ z < 2147483648
abbrev rL (z : Int) : Prop := -9223372036854775808 ≤ z ∧ z < 9223372036854775808
theorem iI_toInt {z : Int} (h : rI z) : (iI z).toInt = z := by
  obtain ⟨h1, h2⟩ := h
  unfold iI; rw [Int32.toInt_ofInt, show Int32.size = 4294967296 from rfl, Int.bmod_def]; omega
theorem jL_toInt {z : Int} (h : rL z) : (jL z).toInt = z := by
  obtain ⟨h1, h2⟩ := h
  unfold jL; rw [Int64.toInt_ofInt, show Int64.size = 18446744073709551616 from rfl, Int.bmod_def]; omega
theorem iI_of (x : Int32) : iI x.toInt = x := by unfold iI; exact Int32.ofInt_toInt x
theorem jL_of (x : Int64) : jL x.toInt = x := by unfold jL; exact Int64.ofInt_toInt x
theorem iI_rng (x : Int32) : rI x.toInt := by
  have h1 := Int32.le_toInt x
  have h2 := Int32.toInt_lt x
  exact ⟨by omega, by omega⟩
theorem jL_rng (x : Int64) : rL x.toInt := by
  have h1 := Int64.le_toInt x
  have h2 := Int64.toInt_lt x
  exact ⟨by omega, by omega⟩
theorem iI_add (a b : Int) : iI a + iI b = iI (a + b) := by unfold iI; rw [Int32.ofInt_add]
theorem iI_sub (a b : Int) : iI a - iI b = iI (a - b) := by unfold iI; rw [Int32.ofInt_sub]
theorem iI_mul (a b : Int) : iI a * iI b = iI (a * b) := by unfold iI; rw [Int32.ofInt_mul]
theorem iI_neg (a : Int) : -iI a = iI (-a) := by unfold iI; rw [Int32.ofInt_neg]
theorem jL_add (a b : Int) : jL a + jL b = jL (a + b) := by unfold jL; rw [Int64.ofInt_add]
theorem jL_sub (a b : Int) : jL a - jL b = jL (a - b) := by unfold jL; rw [Int64.ofInt_sub]
theorem jL_mul (a b : Int) : jL a * jL b = jL (a * b) := by unfold jL; rw [Int64.ofInt_mul]
theorem iI_lt {a b : Int} (ha : rI a) (hb : rI b) : iI a < iI b ↔ a < b := by rw [Int32.lt_iff_toInt_lt, iI_toInt ha, iI_toInt hb]
theorem iI_le {a b : Int} (ha : rI a) (hb : rI b) : iI a ≤ iI b ↔ a ≤ b := by rw [Int32.le_iff_toInt_le, iI_toInt ha, iI_toInt hb]
theorem iI_eq {a b : Int} (ha : rI a) (hb : rI b) : iI a = iI b ↔ a = b := by rw [← Int32.toInt_inj, iI_toInt ha, iI_toInt hb]
theorem jL_lt {a b : Int} (ha : rL a) (hb : rL b) : jL a < jL b ↔ a < b := by rw [Int64.lt_iff_toInt_lt, jL_toInt ha, jL_toInt hb]
theorem jL_le {a b : Int} (ha : rL a) (hb : rL b) : jL a ≤ jL b ↔ a ≤ b := by rw [Int64.le_iff_toInt_le, jL_toInt ha, jL_toInt hb]
theorem jL_eq {a b : Int} (ha : rL a) (hb : rL b) : jL a = jL b ↔ a = b := by rw [← Int64.toInt_inj, jL_toInt ha, jL_toInt hb]
theorem iI_i2l {a : Int} (h : rI a) : (iI a).toInt64 = jL a := by
  have h2 : rL a := ⟨by omega, by omega⟩
  rw [← Int64.toInt_inj, Int32.toInt_toInt64, iI_toInt h, jL_toInt h2]
theorem jL_l2i (a : Int) : (jL a).toInt32 = iI a := by
  rw [← Int32.toInt_inj, Int64.toInt_toInt32]
  unfold jL iI
  rw [Int64.toInt_ofInt, Int32.toInt_ofInt, show Int32.size = 4294967296 from rfl, show Int64.size = 18446744073709551616 from rfl, Int.bmod_def, Int.bmod_def, Int.bmod_def]
  omega
theorem iI_div {a b : Int} (ha : rI a) (hb : rI b) : iI a / iI b = iI (a.tdiv b) := by
  rw [← Int32.toInt_inj, Int32.toInt_div, iI_toInt ha, iI_toInt hb]
  unfold iI
  rw [Int32.toInt_ofInt]
theorem iI_rem {a b : Int} (ha : rI a) (hb : rI b) : iI a - iI a / iI b * iI b = iI (a.tmod b) := by
  rw [iI_div ha hb, iI_mul, iI_sub]
  have := Int.tmod_add_mul_tdiv a b
  congr 1
  rw [Int.mul_comm]
  omega
theorem jL_div {a b : Int} (ha : rL a) (hb : rL b) : jL a / jL b = jL (a.tdiv b) := by
  rw [← Int64.toInt_inj, Int64.toInt_div, jL_toInt ha, jL_toInt hb]
  unfold jL
  rw [Int64.toInt_ofInt]
theorem jL_rem {a b : Int} (ha : rL a) (hb : rL b) : jL a - jL a / jL b * jL b = jL (a.tmod b) := by
  rw [jL_div ha hb, jL_mul, jL_sub]
  have := Int.tmod_add_mul_tdiv a b
  congr 1
  rw [Int.mul_comm]
  omega
theorem iI_clamp {a : Int} (h0 : 0 ≤ a) (h : a < 2147483648) : (iI a).toNatClampNeg = a.toNat := by
  have h1 := iI_toInt (z := a) ⟨by omega, by omega⟩
  show (iI a).toInt.toNat = a.toNat
  rw [h1]
theorem iI_neg0 {a : Int} (h0 : 0 ≤ a) (h : a < 2147483648) : ¬ iI a < 0 := by
  rw [show (0 : Int32) = iI 0 from rfl, iI_lt ⟨by omega, by omega⟩ ⟨by omega, by omega⟩]
  omega
/-- bit operations keep their machine meaning -/
def iand (a b : Int) : Int := (iI a &&& iI b).toInt
def ior (a b : Int) : Int := (iI a ||| iI b).toInt
def ixor (a b : Int) : Int := (iI a ^^^ iI b).toInt
def ishl (a b : Int) : Int := (iI a <<< (iI b &&& 31)).toInt
def ishr (a b : Int) : Int := (iI a >>> (iI b &&& 31)).toInt
def iushr (a b : Int) : Int := ((iI a).toUInt32 >>> ((iI b).toUInt32 &&& Int32.toUInt32 31)).toInt32.toInt
def i2b (a : Int) : Int := (iI a).toInt8.toInt32.toInt
def i2c (a : Int) : Int := ((iI a).toUInt32 % 65536).toInt32.toInt
/-- -1, 0, 1: a long comparison's answer -/
def cmpI (a b : Int) : Int := if b < a then 1 else if a = b then 0 else -1
theorem cmpI_cmp {a b : Int} (ha : rL a) (hb : rL b) : lg_cmp (jL a) (jL b) = iI (cmpI a b) := by
  unfold lg_cmp cmpI
  by_cases h1 : b < a
  · rw [if_pos ((jL_lt hb ha).mpr h1), if_pos h1]; rfl
  · rw [if_neg (fun h => h1 ((jL_lt hb ha).mp h)), if_neg h1]
    by_cases h2 : a = b
    · rw [if_pos ((jL_eq ha hb).mpr h2), if_pos h2]; rfl
    · rw [if_neg (fun h => h2 ((jL_eq ha hb).mp h)), if_neg h2]; rfl
theorem cmpI_le {a b : Int} : cmpI a b ≤ 0 ↔ a ≤ b := by unfold cmpI; split <;> (try split) <;> omega
theorem cmpI_lt {a b : Int} : cmpI a b < 0 ↔ a < b := by unfold cmpI; split <;> (try split) <;> omega
theorem cmpI_ge {a b : Int} : 0 ≤ cmpI a b ↔ b ≤ a := by unfold cmpI; split <;> (try split) <;> omega
theorem cmpI_gt {a b : Int} : 0 < cmpI a b ↔ b < a := by unfold cmpI; split <;> (try split) <;> omega
theorem cmpI_eq {a b : Int} : cmpI a b = 0 ↔ a = b := by unfold cmpI; split <;> (try split) <;> omega
theorem cmpI_rI {a b : Int} : rI (cmpI a b) := by unfold cmpI; split <;> (try split) <;> exact ⟨by omega, by omega⟩
/-- functions changed at a place -/
def upN {α : Type} (f : Nat → α) (k : Nat) (v : α) : Nat → α := fun j => if j = k then v else f j
def upZ {α : Type} (f : Int → α) (k : Int) (v : α) : Int → α := fun j => if j = k then v else f j
def upA {α : Type} (f : Nat → Int → α) (k : Nat) (i : Int) (v : α) : Nat → Int → α := fun j => if j = k then upZ (f k) i v else f j
def upM {α : Type} (f : Nat → Int → Int → α) (k : Nat) (i j : Int) (v : α) : Nat → Int → Int → α := fun a => if a = k then (fun b => if b = i then upZ (f k i) j v else f k b) else f a
theorem upN_eq {α : Type} (f : Nat → α) (k : Nat) (v : α) : upN f k v k = v := if_pos rfl
theorem upN_ne {α : Type} (f : Nat → α) {k j : Nat} (v : α) (h : j ≠ k) : upN f k v j = f j := if_neg h
theorem upZ_eq {α : Type} (f : Int → α) (k : Int) (v : α) : upZ f k v k = v := if_pos rfl
theorem upZ_ne {α : Type} (f : Int → α) {k j : Int} (v : α) (h : j ≠ k) : upZ f k v j = f j := if_neg h
theorem upA_eq {α : Type} (f : Nat → Int → α) (k : Nat) (i : Int) (v : α) : upA f k i v k = upZ (f k) i v := if_pos rfl
theorem upA_ne {α : Type} (f : Nat → Int → α) {k j : Nat} (i : Int) (v : α) (h : j ≠ k) : upA f k i v j = f j := if_neg h
theorem upM_ne {α : Type} (f : Nat → Int → Int → α) {k a : Nat} (i j : Int) (v : α) (h : a ≠ k) : upM f k i j v a = f a := if_neg h
theorem upM_eq {α : Type} (f : Nat → Int → Int → α) (k : Nat) (i j : Int) (v : α) : upM f k i j v k i = upZ (f k i) j v := by unfold upM; rw [if_pos rfl, if_pos rfl]
theorem upM_ne2 {α : Type} (f : Nat → Int → Int → α) (k : Nat) {i b : Int} (j : Int) (v : α) (h : b ≠ i) : upM f k i j v k b = f k b := by unfold upM; rw [if_pos rfl, if_neg h]
/-! the classes by number, the arrays by number, the layout of objects with what they own -/
abbrev cls : List vw_C := [(RX0, TX0, 34), (RX1, TX1, 7), (RX2, TX2, 2), (RX3, TX3, 4), (RX4, TX4, 3), (RX5, TX5, 61), (RX6, TX6, 4), (RX7, TX7, 3), (RX8, TX8, 3), (RX9, TX9, 5), (RX11, TX11, 7), (RX12, TX12, 8), (RX13, TX13, 2), (RX14, TX14, 2), (RX15, TX15, 2), (RJ1, TJ1, 4), (RJ2, TJ2, 4), (RJ12, TJ12, 3)]
abbrev GG : Type := va_G × (Nat → ClassId) × Nat × State × (Nat → Nat) × (State → Prop)
abbrev GG.D (G : GG) : va_G := G.1
abbrev GG.tA (G : GG) : Nat → ClassId := G.2.1
abbrev GG.base (G : GG) : Nat := G.2.2.1
abbrev GG.s0 (G : GG) : State := G.2.2.2.1
abbrev GG.ad (G : GG) : Nat → Nat := G.2.2.2.2.1
abbrev GG.X (G : GG) : State → Prop := G.2.2.2.2.2
abbrev atys (G : GG) : List (ClassId × FieldType) := [(G.tA 0, .int), (G.tA 1, .long), (G.tA 2, .byte), (G.tA 3, .object "java/lang/String"), (G.tA 4, .object "BranchNames$Items"), (G.tA 5, .object "BranchNames$Measure"), (G.tA 6, .object "BranchNames$Prefers"), (G.tA 7, .object "java/lang/Object"), (G.tA 8, .array .int), (G.tA 9, .array .long), (G.tA 10, .array (.object "java/lang/String"))]
abbrev Ob : Type := Nat × (Nat → Int) × (Nat → Option Nat) × (Nat → Int → Int) × (Nat → Int → Option Nat) × (Nat → Int → Int → Int) × (Nat → Int → Int → Option Nat)
abbrev Wd : Type := Nat → Option Ob
def wset (w : Wd) (q : Nat) (o : Option Ob) : Wd := fun a => if a = q then o else w a
/-- what a cell is known to hold: an object of a class; an array of a type; an object whose fields are known in part; a cell whole -/
abbrev CE : Type := (Nat × List Value) ⊕ (Nat × Nat × (Nat → Value)) ⊕ (Nat × List Value) ⊕ (ClassId × List Value)
abbrev cO (ci : Nat) (fs : List Value) : CE := .inl (ci, fs)
abbrev cA (t n : Nat) (f : Nat → Value) : CE := .inr (.inl (t, n, f))
abbrev cW (ci : Nat) (fs : List Value) : CE := .inr (.inr (.inl (ci, fs)))
abbrev cX (c : ClassId) (l : List Value) : CE := .inr (.inr (.inr (c, l)))
abbrev fI (f : Int → Int) : Nat → Value := fun j => vI (f j)
abbrev fL (f : Int → Int) : Nat → Value := fun j => vL (f j)
abbrev fQ (f : Int → Option Nat) : Nat → Value := fun j => va_rf (f j)
/-- rows of an array of arrays, one behind the other -/
abbrev fR (q : Nat) : Nat → Value := fun j => .ref (q + j)
def fdl (ci : Nat) (F : Nat → Int) (P : Nat → Option Nat) : List Value :=
  if ci = 0 then [va_rf (P 0), va_rf (P 1), va_rf (P 2), va_rf (P 3), va_rf (P 4), vI (F 5), va_rf (P 6), va_rf (P 7), va_rf (P 8), va_rf (P 9), vI (F 10), va_rf (P 11), va_rf (P 12), vI (F 13), va_rf (P 14), va_rf (P 15), va_rf (P 16), va_rf (P 17), va_rf (P 18), va_rf (P 19), va_rf (P 20), va_rf (P 21), va_rf (P 22), va_rf (P 23), va_rf (P 24), va_rf (P 25), va_rf (P 26), vI (F 27), va_rf (P 28), va_rf (P 29), vI (F 30), vI (F 31), vI (F 32), va_rf (P 33)]
  else if ci = 1 then [va_rf (P 0), va_rf (P 1), va_rf (P 2), va_rf (P 3), vI (F 4), vI (F 5), va_rf (P 6)]
  else if ci = 2 then [va_rf (P 0), va_rf (P 1)]
  else if ci = 3 then [va_rf (P 0), vI (F 1), vI (F 2), va_rf (P 3)]
  else if ci = 4 then [va_rf (P 0), vI (F 1), va_rf (P 2)]
  else if ci = 5 then [va_rf (P 0), vI (F 1), va_rf (P 2), vI (F 3), va_rf (P 4), vI (F 5), vI (F 6), vI (F 7), vI (F 8), vI (F 9), va_rf (P 10), va_rf (P 11), va_rf (P 12), va_rf (P 13), va_rf (P 14), va_rf (P 15), vI (F 16), va_rf (P 17), va_rf (P 18), vI (F 19), va_rf (P 20), va_rf (P 21), va_rf (P 22), va_rf (P 23), va_rf (P 24), va_rf (P 25), vI (F 26), va_rf (P 27), va_rf (P 28), va_rf (P 29), va_rf (P 30), vI (F 31), vI (F 32), vI (F 33), vI (F 34), vI (F 35), vI (F 36), va_rf (P 37), va_rf (P 38), va_rf (P 39), va_rf (P 40), va_rf (P 41), va_rf (P 42), va_rf (P 43), va_rf (P 44), vI (F 45), vI (F 46), va_rf (P 47), va_rf (P 48), va_rf (P 49), va_rf (P 50), va_rf (P 51), va_rf (P 52), va_rf (P 53), va_rf (P 54), vI (F 55), vI (F 56), va_rf (P 57), va_rf (P 58), va_rf (P 59), va_rf (P 60)]
  else if ci = 6 then [va_rf (P 0), va_rf (P 1), va_rf (P 2), vI (F 3)]
  else if ci = 7 then [vI (F 0), vI (F 1), va_rf (P 2)]
  else if ci = 8 then [va_rf (P 0), vI (F 1), vI (F 2)]
  else if ci = 9 then [vI (F 0), va_rf (P 1), vI (F 2), vI (F 3), va_rf (P 4)]
  else if ci = 10 then [va_rf (P 0), va_rf (P 1), va_rf (P 2), va_rf (P 3), va_rf (P 4), vI (F 5), vI (F 6)]
  else if ci = 11 then [va_rf (P 0), va_rf (P 1), va_rf (P 2), va_rf (P 3), va_rf (P 4), vI (F 5), vI (F 6), vI (F 7)]
  else if ci = 12 then [va_rf (P 0), vI (F 1)]
  else if ci = 13 then [va_rf (P 0), vI (F 1)]
  else if ci = 14 then [va_rf (P 0), vI (F 1)]
  else if ci = 15 then [va_rf (P 0), vI (F 1), vI (F 2), vI (F 3)]
  else if ci = 16 then [va_rf (P 0), vI (F 1), vI (F 2), vI (F 3)]
  else if ci = 17 then [vI (F 0), va_rf (P 1), vI (F 2)]
  else []
/-- the reference: its object, its 39 arrays behind it -/
def MT : List (Nat × Nat) := [(0, 13), (0, 13), (0, 13), (0, 880), (0, 11), (0, 13), (0, 80), (1, 21), (0, 13), (0, 13), (0, 16384), (0, 156), (0, 156), (0, 156), (0, 169), (0, 13), (0, 13), (0, 169), (0, 80), (0, 32), (0, 32), (0, 32), (0, 32), (0, 32), (0, 32), (0, 32), (0, 80), (0, 32), (0, 33), (0, 396), (0, 396), (0, 32), (0, 32), (0, 32), (0, 32), (0, 4), (0, 4), (1, 160), (1, 40)]
def layM (q : Nat) (F : Nat → Int) (P : Nat → Option Nat) (A : Nat → Int → Int) (k : Nat) : Option CE :=
  if k = 0 then some (cO 5 [.ref (q + 1), vI (F 1), .ref (q + 2), vI (F 3), .ref (q + 3), vI (F 5), vI (F 6), vI (F 7), vI (F 8), vI (F 9), .ref (q + 4), .ref (q + 5), .ref (q + 6), .ref (q + 7), .ref (q + 8), .ref (q + 9), vI (F 16), .ref (q + 10), .ref (q + 11), vI (F 19), va_rf (P 20), va_rf (P 21), .ref (q + 12), .ref (q + 13), .ref (q + 14), .ref (q + 15), vI (F 26), .ref (q + 16), .ref (q + 17), .ref (q + 18), .ref (q + 19), vI (F 31), vI (F 32), vI (F 33), vI (F 34), vI (F 35), vI (F 36), .ref (q + 20), .ref (q + 21), .ref (q + 22), .ref (q + 23), .ref (q + 24), .ref (q + 25), .ref (q + 26), .ref (q + 27), vI (F 45), vI (F 46), .ref (q + 28), .ref (q + 29), .ref (q + 30), .ref (q + 31), .ref (q + 32), .ref (q + 33), .ref (q + 34), .ref (q + 35), vI (F 55), vI (F 56), .ref (q + 36), .ref (q + 37), .ref (q + 38), .ref (q + 39)])
  else (MT[k - 1]?).map fun e => cA e.1 e.2 (if e.1 = 1 then fL (A (k - 1)) else fI (A (k - 1)))
/-- a tree: next 1..14, drawing 15..28, names 29..42, bonds 43 -/
def layT (q : Nat) (F : Nat → Int) (P : Nat → Option Nat) (A : Nat → Int → Int) (M : Nat → Int → Int → Int) (N : Nat → Int → Int → Option Nat) (k : Nat) : Option CE :=
  if k = 0 then some (cO 1 [.ref (q + 1), .ref (q + 15), .ref (q + 29), .ref (q + 43), vI (F 4), vI (F 5), va_rf (P 6)])
  else if k = 1 then some (cA 8 13 (fR (q + 2)))
  else if k < 15 then some (cA 0 4 (fI (M 0 ((k - 2 : Nat) : Int))))
  else if k = 15 then some (cA 8 13 (fR (q + 16)))
  else if k < 29 then some (cA 0 13 (fI (M 1 ((k - 16 : Nat) : Int))))
  else if k = 29 then some (cA 10 13 (fR (q + 30)))
  else if k < 43 then some (cA 3 13 (fQ (N 0 ((k - 30 : Nat) : Int))))
  else if k = 43 then some (cA 0 13 (fI (A 0)))
  else none
/-- 0: an array of numbers; 1: of references; 2: an array of rows; 3: a row -/
def XT : List (Nat × Nat × Nat × Nat × Nat) := [(2, 9, 14, 0, 0), (3, 1, 4, 0, 0), (3, 1, 4, 0, 1), (3, 1, 4, 0, 2), (3, 1, 4, 0, 3), (3, 1, 4, 0, 4), (3, 1, 4, 0, 5), (3, 1, 4, 0, 6), (3, 1, 4, 0, 7), (3, 1, 4, 0, 8), (3, 1, 4, 0, 9), (3, 1, 4, 0, 10), (3, 1, 4, 0, 11), (3, 1, 4, 0, 12), (3, 1, 4, 0, 13), (0, 1, 14, 0, 0), (2, 8, 13, 1, 0), (3, 0, 13, 1, 0), (3, 0, 13, 1, 1), (3, 0, 13, 1, 2), (3, 0, 13, 1, 3), (3, 0, 13, 1, 4), (3, 0, 13, 1, 5), (3, 0, 13, 1, 6), (3, 0, 13, 1, 7), (3, 0, 13, 1, 8), (3, 0, 13, 1, 9), (3, 0, 13, 1, 10), (3, 0, 13, 1, 11), (3, 0, 13, 1, 12), (0, 0, 13, 1, 0), (1, 8, 11, 0, 0), (0, 0, 80, 2, 0), (0, 1, 13, 3, 0), (2, 9, 14, 2, 0), (3, 1, 4, 2, 0), (3, 1, 4, 2, 1), (3, 1, 4, 2, 2), (3, 1, 4, 2, 3), (3, 1, 4, 2, 4), (3, 1, 4, 2, 5), (3, 1, 4, 2, 6), (3, 1, 4, 2, 7), (3, 1, 4, 2, 8), (3, 1, 4, 2, 9), (3, 1, 4, 2, 10), (3, 1, 4, 2, 11), (3, 1, 4, 2, 12), (3, 1, 4, 2, 13), (0, 1, 13, 4, 0), (1, 3, 12, 1, 0), (1, 3, 12, 2, 0), (1, 3, 7, 3, 0), (0, 1, 21, 5, 0), (2, 9, 5, 3, 0), (3, 1, 21, 3, 0), (3, 1, 21, 3, 1), (3, 1, 21, 3, 2), (3, 1, 21, 3, 3), (3, 1, 21, 3, 4), (0, 0, 80, 6, 0), (1, 8, 121, 4, 0), (1, 10, 11, 5, 0), (0, 2, 80, 7, 0), (0, 0, 80, 8, 0), (0, 0, 80, 9, 0), (1, 4, 4, 6, 0)]
def layX (q : Nat) (A : Nat → Int → Int) (B : Nat → Int → Option Nat) (M : Nat → Int → Int → Int) (k : Nat) : Option CE :=
  (XT[k]?).map fun e => cA e.2.1 e.2.2.1 (if e.1 = 0 then (if e.2.1 = 1 then fL (A e.2.2.2.1) else fI (A e.2.2.2.1)) else if e.1 = 1 then fQ (B e.2.2.2.1) else if e.1 = 2 then fR (q + k + 1) else if e.2.1 = 1 then fL (M e.2.2.2.1 (e.2.2.2.2 : Nat)) else fI (M e.2.2.2.1 (e.2.2.2.2 : Nat)))
/-- KINDS: below 50: an object of that class alone; 50: a String (its bytes' array, Latin-1); 60 + t: an array of type t, its length is F 0; 80: the reference; 81: a tree; 82: a way; 83: a named part; 84: a read part; 85: the class's arrays; 90: a lambda's object, of class P 0, with F 0 fields: P 1, then P 2 or an int F 2 -/
def lay (q : Nat) (o : Ob) (k : Nat) : Option CE :=
  match o with
  | (kd, F, P, A, B, M, N) =>
  if kd < 50 then (if k = 0 then some (cO kd (fdl kd F P)) else none)
  else if kd = 50 then (if k = 0 then some (cW 16 [va_rf (P 0), vI 0]) else none)
  else if kd = 61 then (if k = 0 then some (cA 1 (F 0).toNat (fL (A 0))) else none)
  else if kd < 63 then (if k = 0 then some (cA (kd - 60) (F 0).toNat (fI (A 0))) else none)
  else if kd < 80 then (if k = 0 then some (cA (kd - 60) (F 0).toNat (fQ (B 0))) else none)
  else if kd = 80 then layM q F P A k
  else if kd = 81 then layT q F P A M N k
  else if kd = 82 then (if k = 0 then some (cO 3 [.ref (q + 1), vI (F 1), vI (F 2), va_rf (P 3)]) else if k = 1 then some (cA 0 13 (fI (A 0))) else none)
  else if kd = 83 then (if k = 0 then some (cO 6 [va_rf (P 0), va_rf (P 1), .ref (q + 1), vI (F 3)]) else if k = 1 then some (cA 0 12 (fI (A 0))) else none)
  else if kd = 84 then (if k = 0 then some (cO 9 [vI (F 0), .ref (q + 1), vI (F 2), vI (F 3), va_rf (P 4)]) else if k = 1 then some (cA 0 80 (fI (A 0))) else none)
  else if kd = 85 then layX q A B M k
  else if kd = 90 then (if k = 0 then some (cX ((P 0).getD 0) (if F 0 = 0 then [] else if F 0 = 1 then [va_rf (P 1)] else if F 0 = 2 then [va_rf (P 1), vI (F 2)] else [va_rf (P 1), va_rf (P 2), vI (F 3)])) else none)
  else none
def len (o : Ob) : Nat := if o.1 < 80 then 1 else if o.1 = 80 then 40 else if o.1 = 81 then 44 else if o.1 < 85 then 2 else if o.1 = 85 then 67 else 1
abbrev strs : List (String × Nat × String) := [("BranchNames", 377, "meth"), ("BranchNames", 379, "eth"), ("BranchNames", 381, "prop"), ("BranchNames", 383, "but"), ("BranchNames", 385, "pent"), ("BranchNames", 387, "hex"), ("BranchNames", 389, "hept"), ("BranchNames", 391, "oct"), ("BranchNames", 393, "non"), ("BranchNames", 395, "dec"), ("BranchNames", 397, "undec"), ("BranchNames", 399, "dodec"), ("BranchNames", 401, "di"), ("BranchNames", 403, "tri"), ("BranchNames", 405, "tetra"), ("BranchNames", 407, "penta"), ("BranchNames", 409, "hexa"), ("BranchNames", 411, "hepta"), ("BranchNames", 413, "octa"), ("BranchNames", 338, "yl"), ("BranchNames", 320, ""), ("BranchNames", 336, "ane"), ("BranchNamesModel", 50, "meth eth prop but pent hex hept oct non dec undec dodec "), ("BranchNamesModel", 56, "di tri tetra penta hexa hepta octa "), ("BranchNamesModel", 440, "yl "), ("BranchNamesModel", 451, "yl) "), ("BranchNamesModel", 476, "ane "), ("BranchNames$Named", 48, ","), ("BranchNames$Named", 50, "")]
/-! the world in the heap -/
def cAt (G : GG) (a : Nat) (e : CE) (H : Heap) : Prop := match e with
  | .inl (ci, fs) => ∃ r : vw_C, cls[ci]? = some r ∧ t_OB a (G.D.1 ci) r.2.2 (G.D.2 ci) H (vp_V fs)
  | .inr (.inl (t, n, f)) => H[a]? = some (arrV (G.tA t) n f)
  | .inr (.inr (.inl (ci, fs))) => ∃ (r : vw_C) (cell : Cell), cls[ci]? = some r ∧ H[a]? = some cell ∧ cell.cls = G.D.1 ci ∧ cell.vm.isStatics = false ∧ cell.vm ≠ .unknown ∧ ∀ (k : Nat) (v : Value), fs[k]? = some v → cell.slots[G.D.2 ci k]? = some v
  | .inr (.inr (.inr (c, l))) => H[a]? = some { cls := c, slots := l.toArray, vm := .none }
theorem cAt.kept {G : GG} {a : Nat} {e : CE} {H H1 : Heap} (h : cAt G a e H) (hq : H1[a]? = H[a]?) : cAt G a e H1 := by
  rcases e with ⟨ci, fs⟩ | ⟨t, n, f⟩ | ⟨ci, fs⟩ | ⟨c, l⟩
  · obtain ⟨r, h1, h2⟩ := h
    exact ⟨r, h1, h2.kept hq⟩
  · exact hq.trans h
  · obtain ⟨r, cell, h1, h2, h3⟩ := h
    exact ⟨r, cell, h1, hq.trans h2, h3⟩
  · exact hq.trans h
theorem cAt.lt {G : GG} {a : Nat} {e : CE} {H : Heap} (h : cAt G a e H) : a < H.size := by
  rcases e with ⟨ci, fs⟩ | ⟨t, n, f⟩ | ⟨ci, fs⟩ | ⟨c, l⟩
  · obtain ⟨r, h1, cell, h2, -⟩ := h
    exact (Array.getElem?_eq_some_iff.mp h2).1
  · exact (Array.getElem?_eq_some_iff.mp h).1
  · obtain ⟨r, cell, h1, h2, h3⟩ := h
    exact (Array.getElem?_eq_some_iff.mp h2).1
  · exact (Array.getElem?_eq_some_iff.mp h).1
def GoodW (G : GG) (w : Wd) (sz : Nat) (H : Heap) : Prop :=
  H.size = sz ∧ G.base ≤ sz ∧ (∀ a : Nat, a < G.base → H[a]? = G.s0.heap[a]?) ∧ G.base ≤ G.s0.heap.size ∧ (∀ (q : Nat) (o : Ob), w q = some o → q + len o ≤ sz ∧ ∀ (k : Nat) (e : CE), lay q o k = some e → cAt G (q + k) e H) ∧
  ∀ (q q' : Nat) (o o' : Ob), w q = some o → w q' = some o' → q < q' → q + len o ≤ q'
theorem wset_eq (w : Wd) (q : Nat) (o : Option Ob) : wset w q o q = o := if_pos rfl
theorem wset_ne (w : Wd) {q a : Nat} (o : Option Ob) (h : a ≠ q) : wset w q o a = w a := if_neg h
theorem wset_wset (w : Wd) (q : Nat) (o o' : Option Ob) : wset (wset w q o) q o' = wset w q o' := by
  funext a
  by_cases h : a = q
  · subst h; rw [wset_eq, wset_eq]
  · rw [wset_ne _ _ h, wset_ne _ _ h, wset_ne _ _ h]
theorem wset_same {w : Wd} {q : Nat} {o : Option Ob} (h : w q = o) : wset w q o = w := by
  funext a
  by_cases h1 : a = q
  · subst h1; rw [wset_eq, h]
  · rw [wset_ne _ _ h1]
theorem wset_comm (w : Wd) {q q' : Nat} (o o' : Option Ob) (h : q ≠ q') : wset (wset w q o) q' o' = wset (wset w q' o') q o := by
  funext a
  by_cases h1 : a = q
  · subst h1; rw [wset_ne _ _ h, wset_eq, wset_eq]
  · by_cases h2 : a = q'
    · subst h2; rw [wset_eq, wset_ne _ _ h1, wset_eq]
    · rw [wset_ne _ _ h2, wset_ne _ _ h1, wset_ne _ _ h1, wset_ne _ _ h2]
theorem lay_lt {q : Nat} {o : Ob} {k : Nat} {e : CE} (h : lay q o k = some e) : k < len o := by
  obtain ⟨kd, F, P, A, B, M, N⟩ := o
  rcases Nat.lt_or_ge k (len (kd, F, P, A, B, M, N)) with h1 | h1
  · exact h1
  · exfalso
    unfold len at h1
    dsimp only at h1
    unfold lay at h
    dsimp only at h
    by_cases c1 : kd < 50
    · rw [if_pos c1, if_neg (by rw [if_pos (by omega)] at h1; omega)] at h; cases h
    rw [if_neg c1] at h
    by_cases c2 : kd = 50
    · rw [if_pos c2, if_neg (by rw [if_pos (by omega)] at h1; omega)] at h; cases h
    rw [if_neg c2] at h
    by_cases c3 : kd = 61
    · rw [if_pos c3, if_neg (by rw [if_pos (by omega)] at h1; omega)] at h; cases h
    rw [if_neg c3] at h
    by_cases c4 : kd < 63
    · rw [if_pos c4, if_neg (by rw [if_pos (by omega)] at h1; omega)] at h; cases h
    rw [if_neg c4] at h
    by_cases c5 : kd < 80
    · rw [if_pos c5, if_neg (by rw [if_pos (by omega)] at h1; omega)] at h; cases h
    rw [if_neg c5] at h
    rw [if_neg c5] at h1
    by_cases c6 : kd = 80
    · rw [if_pos c6] at h; rw [if_pos c6] at h1
      unfold layM at h
      rw [if_neg (by omega), List.getElem?_eq_none (by show 39 ≤ k - 1; omega)] at h
      cases h
    rw [if_neg c6] at h
    rw [if_neg c6] at h1
    by_cases c7 : kd = 81
    · rw [if_pos c7] at h; rw [if_pos c7] at h1
      unfold layT at h
      repeat rw [if_neg (by omega)] at h
      cases h
    rw [if_neg c7] at h
    rw [if_neg c7] at h1
    by_cases c8 : kd = 82
    · rw [if_pos c8] at h; rw [if_pos (by omega)] at h1
      repeat rw [if_neg (by omega)] at h
      cases h
    rw [if_neg c8] at h
    by_cases c9 : kd = 83
    · rw [if_pos c9] at h; rw [if_pos (by omega)] at h1
      repeat rw [if_neg (by omega)] at h
      cases h
    rw [if_neg c9] at h
    by_cases c10 : kd = 84
    · rw [if_pos c10] at h; rw [if_pos (by omega)] at h1
      repeat rw [if_neg (by omega)] at h
      cases h
    rw [if_neg c10] at h
    rw [if_neg (by omega)] at h1
    by_cases c11 : kd = 85
    · rw [if_pos c11] at h; rw [if_pos c11] at h1
      unfold layX at h
      rw [List.getElem?_eq_none (by show 67 ≤ k; omega)] at h
      cases h
    rw [if_neg c11] at h
    rw [if_neg c11] at h1
    by_cases c12 : kd = 90
    · rw [if_pos c12, if_neg (by omega)] at h; cases h
    rw [if_neg c12] at h
    cases h
theorem len_pos (o : Ob) : 0 < len o := by unfold len; repeat (first | omega | split)
theorem GoodW.cell {G : GG} {w : Wd} {sz : Nat} {H : Heap} (h : GoodW G w sz H) {q : Nat} {o : Ob} (hq : w q = some o) {k : Nat} {e : CE} (hl : lay q o k = some e) : cAt G (q + k) e H := (h.2.2.2.2.1 q o hq).2 k e hl
theorem GoodW.le {G : GG} {w : Wd} {sz : Nat} {H : Heap} (h : GoodW G w sz H) {q : Nat} {o : Ob} (hq : w q = some o) : q + len o ≤ sz := (h.2.2.2.2.1 q o hq).1
theorem GoodW.fresh {G : GG} {w : Wd} {sz : Nat} {H : Heap} (h : GoodW G w sz H) {q : Nat} (hq : sz ≤ q) : w q = none := by
  cases hw : w q with
  | none => rfl
  | some o => exact absurd (h.le hw) (by have := len_pos o; omega)
/-- a cell of an object is written -/
theorem GoodW.put {G : GG} {w : Wd} {sz : Nat} {H H1 : Heap} (h : GoodW G w sz H) {q : Nat} {o o' : Ob} {k : Nat} {e' : CE} (hq : w q = some o) (hk : k < len o) (hlen : len o' = len o) (he : cAt G (q + k) e' H1) (hz : H1.size = H.size) (hs : ∀ x : Nat, x ≠ q + k → H1[x]? = H[x]?) (hb : G.base ≤ q)
    (hl : ∀ (j : Nat) (e2 : CE), lay q o' j = some e2 → (j = k ∧ e2 = e') ∨ (j ≠ k ∧ lay q o j = some e2)) : GoodW G (wset w q (some o')) sz H1 := by
  obtain ⟨h1, h2, h3, h4, h5, h6⟩ := h
  have key : ∀ (a : Nat) (x : Ob), wset w q (some o') a = some x → ∃ x0, w a = some x0 ∧ len x = len x0 := by
    intro a x hx
    by_cases ha : a = q
    · subst ha
      rw [wset_eq] at hx
      cases hx
      exact ⟨o, hq, hlen⟩
    · rw [wset_ne _ _ ha] at hx
      exact ⟨x, hx, rfl⟩
  refine ⟨hz.trans h1, h2, fun a ha => (hs a (by omega)).trans (h3 a ha), h4, fun a x hx => ?_, fun a a' x x' hx hx' hlt => ?_⟩
  · by_cases ha : a = q
    · subst ha
      rw [wset_eq] at hx
      cases hx
      refine ⟨by rw [hlen]; exact (h5 a o hq).1, fun j e2 hj => ?_⟩
      rcases hl j e2 hj with ⟨rfl, rfl⟩ | ⟨hj1, hj2⟩
      · exact he
      · exact ((h5 a o hq).2 j e2 hj2).kept (hs _ (by omega))
    · rw [wset_ne _ _ ha] at hx
      refine ⟨(h5 a x hx).1, fun j e2 hj => ((h5 a x hx).2 j e2 hj).kept (hs _ ?_)⟩
      have hj1 := lay_lt hj
      intro e
      rcases Nat.lt_or_ge a q with g | g
      · have := h6 a q x o hx hq g
        omega
      · have := h6 q a o x hq hx (by omega)
        omega
  · obtain ⟨x0, g1, g2⟩ := key a x hx
    obtain ⟨x1, g3, -⟩ := key a' x' hx'
    rw [g2]
    exact h6 a a' x0 x1 g1 g3 hlt
/-- new cells at the end -/
theorem GoodW.push {G : GG} {w : Wd} {sz : Nat} {H H1 : Heap} (h : GoodW G w sz H) {o : Ob} (hz : H1.size = sz + len o) (hs : ∀ x : Nat, x < sz → H1[x]? = H[x]?) (hl : ∀ (j : Nat) (e : CE), lay sz o j = some e → cAt G (sz + j) e H1) : GoodW G (wset w sz (some o)) (sz + len o) H1 := by
  have hf := h.fresh (Nat.le_refl sz)
  obtain ⟨h1, h2, h3, h4, h5, h6⟩ := h
  refine ⟨hz, by omega, fun a ha => (hs a (by omega)).trans (h3 a ha), h4, fun a x hx => ?_, fun a a' x x' hx hx' hlt => ?_⟩
  · by_cases ha : a = sz
    · subst ha
      rw [wset_eq] at hx
      cases hx
      exact ⟨Nat.le_refl _, hl⟩
    · rw [wset_ne _ _ ha] at hx
      refine ⟨by have := (h5 a x hx).1; omega, fun j e hj => ((h5 a x hx).2 j e hj).kept (hs _ ?_)⟩
      have := (h5 a x hx).1
      have := lay_lt hj
      omega
  · by_cases ha : a = sz
    · subst ha
      rw [wset_ne _ _ (by omega)] at hx'
      have := (h5 a' x' hx').1
      omega
    · rw [wset_ne _ _ ha] at hx
      by_cases ha' : a' = sz
      · subst ha'
        exact (h5 a x hx).1
      · rw [wset_ne _ _ ha'] at hx'
        exact h6 a a' x x' hx hx' hlt
/-- less is known -/
theorem GoodW.drop {G : GG} {w : Wd} {sz : Nat} {H : Heap} (h : GoodW G w sz H) (w' : Wd) (hw : ∀ (q : Nat) (o : Ob), w' q = some o → w q = some o) : GoodW G w' sz H := by
  obtain ⟨h1, h2, h3, h4, h5, h6⟩ := h
  exact ⟨h1, h2, h3, h4, fun q o hq => h5 q o (hw q o hq), fun q q' o o' hq hq' => h6 q q' o o' (hw q o hq) (hw q' o' hq')⟩
/-- objects side by side become one -/
theorem GoodW.fuse {G : GG} {w : Wd} {sz : Nat} {H : Heap} (h : GoodW G w sz H) {q : Nat} {o : Ob} (w' : Wd) (hw : ∀ (a : Nat), (a < q ∨ q + len o ≤ a) → w' a = w a) (hq : w' q = some o) (hn : ∀ a : Nat, q < a → a < q + len o → w' a = none) (h0 : ∀ (a : Nat) (x : Ob), a < q → w a = some x → a + len x ≤ q)
    (hsz : q + len o ≤ sz) (hl : ∀ (j : Nat) (e : CE), lay q o j = some e → cAt G (q + j) e H) : GoodW G w' sz H := by
  obtain ⟨h1, h2, h3, h4, h5, h6⟩ := h
  have key : ∀ (a : Nat) (x : Ob), w' a = some x → (a = q ∧ x = o) ∨ ((a < q ∨ q + len o ≤ a) ∧ w a = some x) := by
    intro a x hx
    by_cases ha : a = q
    · subst ha
      rw [hq] at hx
      cases hx
      exact Or.inl ⟨rfl, rfl⟩
    · by_cases g : a < q ∨ q + len o ≤ a
      · rw [hw a g] at hx
        exact Or.inr ⟨g, hx⟩
      · rw [hn a (by omega) (by omega)] at hx
        cases hx
  refine ⟨h1, h2, h3, h4, fun a x hx => ?_, fun a a' x x' hx hx' hlt => ?_⟩
  · rcases key a x hx with ⟨rfl, rfl⟩ | ⟨-, g⟩
    · exact ⟨hsz, hl⟩
    · exact h5 a x g
  · rcases key a x hx with ⟨rfl, rfl⟩ | ⟨g1, g⟩
    · rcases key a' x' hx' with ⟨rfl, rfl⟩ | ⟨g2, g3⟩
      · omega
      · omega
    · rcases key a' x' hx' with ⟨rfl, rfl⟩ | ⟨g2, g3⟩
      · exact h0 a x hlt g
      · exact h6 a a' x x' g g3 hlt
/-! what the tables say all through -/
def nwq (c : Cond) : Bool := match c with
  | .fieldLinkNest .. => true
  | .methodLinkNest .. => true
  | .castable .. => true
  | .declares .. => true
  | _ => false
def KN (U : State) : Prop := ∀ w ∈ lw_tbl, nwq w = true → va_Nw w U
theorem KN.moved {s U : State} (hW : s.WarmedH U.vm) (h : KN s) : KN U := by
  intro w hw hq
  have h1 := h w hw hq
  cases w <;> first | (cases hq; done) | exact va_Nw.warmF hW h1 | exact va_Nw.warmM hW h1 | exact va_Nw.warmC hW h1 | exact va_Nw.warmD hW h1
