/-! BranchNames -/
set_option maxRecDepth 100000
def RX0 : String := "BranchNames"
def TX0 : u_T := fun k => match k with
  | 0 => ("BranchNames", "drawing", "LBranchNames$Tree;", true)
  | 1 => ("BranchNames", "kept", "LBranchNames$Tree;", true)
  | 2 => ("BranchNames", "grown", "LBranchNames$Tree;", true)
  | 3 => ("BranchNames", "listed", "LBranchNames$Tree;", true)
  | 4 => ("BranchNames", "ranked", "LBranchNames$Tree;", true)
  | 5 => ("BranchNames", "isKept", "Z", false)
  | 6 => ("BranchNames", "twigs", "[[J", true)
  | 7 => ("BranchNames", "fives", "[J", true)
  | 8 => ("BranchNames", "far", "[[I", true)
  | 9 => ("BranchNames", "digits", "[I", true)
  | 10 => ("BranchNames", "digitAt", "I", false)
  | 11 => ("BranchNames", "lists", "[[I", true)
  | 12 => ("BranchNames", "row", "[I", true)
  | 13 => ("BranchNames", "rowMany", "I", false)
  | 14 => ("BranchNames", "measures", "[LBranchNames$Measure;", true)
  | 15 => ("BranchNames", "seen", "[J", true)
  | 16 => ("BranchNames", "sorted", "[[J", true)
  | 17 => ("BranchNames", "keys", "[J", true)
  | 18 => ("BranchNames", "yls", "[Ljava/lang/String;", true)
  | 19 => ("BranchNames", "stems", "[Ljava/lang/String;", true)
  | 20 => ("BranchNames", "manies", "[Ljava/lang/String;", true)
  | 21 => ("BranchNames", "twigsOf", "[J", true)
  | 22 => ("BranchNames", "sets", "[[J", true)
  | 23 => ("BranchNames", "value", "[I", true)
  | 24 => ("BranchNames", "orders", "[[I", true)
  | 25 => ("BranchNames", "namesListed", "[[Ljava/lang/String;", true)
  | 26 => ("BranchNames", "tape", "[B", true)
  | 27 => ("BranchNames", "fed", "I", false)
  | 28 => ("BranchNames", "why", "[I", true)
  | 29 => ("BranchNames", "whyPlace", "[I", true)
  | 30 => ("BranchNames", "whys", "I", false)
  | 31 => ("BranchNames", "reads", "I", false)
  | 32 => ("BranchNames", "made", "I", false)
  | _ => ("BranchNames", "rows", "[LBranchNames$Items;", true)
def tyX0 : Nat → FieldType := fun k => match k with
  | 0 => .object "BranchNames$Tree"
  | 1 => .object "BranchNames$Tree"
  | 2 => .object "BranchNames$Tree"
  | 3 => .object "BranchNames$Tree"
  | 4 => .object "BranchNames$Tree"
  | 5 => .boolean
  | 6 => .array (.array .long)
  | 7 => .array .long
  | 8 => .array (.array .int)
  | 9 => .array .int
  | 10 => .int
  | 11 => .array (.array .int)
  | 12 => .array .int
  | 13 => .int
  | 14 => .array (.object "BranchNames$Measure")
  | 15 => .array .long
  | 16 => .array (.array .long)
  | 17 => .array .long
  | 18 => .array (.object "java/lang/String")
  | 19 => .array (.object "java/lang/String")
  | 20 => .array (.object "java/lang/String")
  | 21 => .array .long
  | 22 => .array (.array .long)
  | 23 => .array .int
  | 24 => .array (.array .int)
  | 25 => .array (.array (.object "java/lang/String"))
  | 26 => .array .byte
  | 27 => .int
  | 28 => .array .int
  | 29 => .array .int
  | 30 => .int
  | 31 => .int
  | 32 => .int
  | _ => .array (.object "BranchNames$Items")
abbrev wsX00 : List Cond := u_ws RX0 TX0 34
set_option maxRecDepth 100000 in
theorem nmX0 : ∀ a, a < 34 → ∀ b, b < 34 → a ≠ b → (TX0 a).2.1 ≠ (TX0 b).2.1 := by decide +kernel
set_option maxRecDepth 100000 in
theorem tyX0_ok : ∀ k, k < 34 → parseFieldDescriptor (TX0 k).2.2.1 = some (tyX0 k) := by decide +kernel
abbrev cX0_init : ByteArray := prog_1_method_50_code
def yX0_init : MethodName := ⟨RX0, "<init>", "()V"⟩
def dkwX0_init_27 : List UInt8 := [167, 255, 231, 42, 182, 1, 216, 177]
abbrev dktX0_init_27 : List UInt8 := dkwX0_init_27 ++ []
def dkwX0_init_26 : List UInt8 := [163, 0, 25, 42, 180, 1, 172, 27, 42, 180, 0, 108, 27, 50, 190, 189, 0, 252, 83, 132, 1, 1]
abbrev dktX0_init_26 : List UInt8 := dkwX0_init_26 ++ dktX0_init_27
def dkwX0_init_25 : List UInt8 := [5, 60, 27, 16, 10, 163, 0, 14, 42, 27, 182, 1, 214, 132, 1, 1, 167, 255, 242, 4, 60, 27, 16, 10]
abbrev dktX0_init_25 : List UInt8 := dkwX0_init_25 ++ dktX0_init_26
def dkwX0_init_24 : List UInt8 := [186, 1, 210, 0, 0, 83, 181, 1, 211, 42, 3, 182, 0, 132, 42, 180, 0, 108, 4, 42, 182, 0, 136, 83]
abbrev dktX0_init_24 : List UInt8 := dkwX0_init_24 ++ dktX0_init_25
def dkwX0_init_23 : List UInt8 := [186, 1, 208, 0, 0, 83, 89, 16, 9, 42, 186, 1, 209, 0, 0, 83, 89, 16, 10, 42]
abbrev dktX0_init_23 : List UInt8 := dkwX0_init_23 ++ dktX0_init_24
def dkwX0_init_22 : List UInt8 := [186, 1, 206, 0, 0, 83, 89, 16, 7, 42, 186, 1, 207, 0, 0, 83, 89, 16, 8, 42]
abbrev dktX0_init_22 : List UInt8 := dkwX0_init_22 ++ dktX0_init_23
def dkwX0_init_21 : List UInt8 := [83, 89, 7, 42, 186, 1, 204, 0, 0, 83, 89, 8, 42, 186, 1, 205, 0, 0, 83, 89, 16, 6, 42]
abbrev dktX0_init_21 : List UInt8 := dkwX0_init_21 ++ dktX0_init_22
def dkwX0_init_20 : List UInt8 := [89, 4, 186, 1, 199, 0, 0, 83, 89, 5, 42, 186, 1, 200, 0, 0, 83, 89, 6, 186, 1, 203, 0, 0]
abbrev dktX0_init_20 : List UInt8 := dkwX0_init_20 ++ dktX0_init_21
def dkwX0_init_19 : List UInt8 := [182, 1, 24, 83, 132, 1, 1, 167, 255, 216, 42, 16, 11, 189, 1, 193, 89, 3, 186, 1, 195, 0, 0, 83]
abbrev dktX0_init_19 : List UInt8 := dkwX0_init_19 ++ dktX0_init_20
def dkwX0_init_18 : List UInt8 := [187, 1, 13, 89, 183, 1, 15, 42, 180, 1, 74, 27, 50, 182, 1, 77, 19, 1, 82, 182, 1, 77]
abbrev dktX0_init_18 : List UInt8 := dkwX0_init_18 ++ dktX0_init_19
def dkwX0_init_17 : List UInt8 := [100, 47, 105, 80, 132, 1, 1, 167, 255, 229, 3, 60, 27, 16, 12, 162, 0, 40, 42, 180, 1, 91, 27]
abbrev dktX0_init_17 : List UInt8 := dkwX0_init_17 ++ dktX0_init_18
def dkwX0_init_16 : List UInt8 := [10, 80, 4, 60, 27, 16, 13, 163, 0, 27, 42, 180, 0, 29, 27, 20, 1, 191, 42, 180, 0, 29, 27, 4]
abbrev dktX0_init_16 : List UInt8 := dkwX0_init_16 ++ dktX0_init_17
def dkwX0_init_15 : List UInt8 := [181, 1, 179, 42, 16, 80, 188, 10, 181, 1, 182, 42, 7, 189, 1, 185, 181, 1, 187, 42, 180, 0, 29, 3]
abbrev dktX0_init_15 : List UInt8 := dkwX0_init_15 ++ dktX0_init_16
def dkwX0_init_14 : List UInt8 := [42, 16, 11, 189, 1, 171, 181, 1, 172, 42, 16, 80, 188, 8, 181, 1, 175, 42, 16, 80, 188, 10]
abbrev dktX0_init_14 : List UInt8 := dkwX0_init_14 ++ dktX0_init_15
def dkwX0_init_13 : List UInt8 := [197, 1, 118, 2, 181, 1, 162, 42, 16, 80, 188, 10, 181, 1, 165, 42, 16, 121, 189, 1, 120, 181, 1, 168]
abbrev dktX0_init_13 : List UInt8 := dkwX0_init_13 ++ dktX0_init_14
def dkwX0_init_12 : List UInt8 := [16, 6, 19, 1, 157, 83, 181, 1, 66, 42, 16, 21, 188, 11, 181, 1, 159, 42, 8, 16, 21]
abbrev dktX0_init_12 : List UInt8 := dkwX0_init_12 ++ dktX0_init_13
def dkwX0_init_11 : List UInt8 := [19, 1, 149, 83, 89, 6, 19, 1, 151, 83, 89, 7, 19, 1, 153, 83, 89, 8, 19, 1, 155, 83, 89]
abbrev dktX0_init_11 : List UInt8 := dkwX0_init_11 ++ dktX0_init_12
def dkwX0_init_10 : List UInt8 := [83, 181, 1, 74, 42, 16, 7, 189, 0, 252, 89, 3, 19, 1, 145, 83, 89, 4, 19, 1, 147, 83, 89, 5]
abbrev dktX0_init_10 : List UInt8 := dkwX0_init_10 ++ dktX0_init_11
def dkwX0_init_9 : List UInt8 := [19, 1, 137, 83, 89, 16, 9, 19, 1, 139, 83, 89, 16, 10, 19, 1, 141, 83, 89, 16, 11, 19, 1, 143]
abbrev dktX0_init_9 : List UInt8 := dkwX0_init_9 ++ dktX0_init_10
def dkwX0_init_8 : List UInt8 := [89, 8, 19, 1, 131, 83, 89, 16, 6, 19, 1, 133, 83, 89, 16, 7, 19, 1, 135, 83, 89, 16, 8]
abbrev dktX0_init_8 : List UInt8 := dkwX0_init_8 ++ dktX0_init_9
def dkwX0_init_7 : List UInt8 := [89, 4, 19, 1, 123, 83, 89, 5, 19, 1, 125, 83, 89, 6, 19, 1, 127, 83, 89, 7, 19, 1, 129, 83]
abbrev dktX0_init_7 : List UInt8 := dkwX0_init_7 ++ dktX0_init_8
def dkwX0_init_6 : List UInt8 := [181, 0, 168, 42, 16, 12, 189, 0, 252, 181, 1, 91, 42, 16, 12, 189, 0, 252, 89, 3, 19, 1, 121, 83]
abbrev dktX0_init_6 : List UInt8 := dkwX0_init_6 ++ dktX0_init_7
def dkwX0_init_5 : List UInt8 := [42, 16, 13, 188, 11, 181, 0, 149, 42, 16, 14, 7, 197, 1, 118, 2, 181, 0, 158, 42, 16, 13, 188, 11]
abbrev dktX0_init_5 : List UInt8 := dkwX0_init_5 ++ dktX0_init_6
def dkwX0_init_4 : List UInt8 := [16, 13, 188, 10, 181, 0, 75, 42, 16, 11, 189, 1, 120, 181, 0, 108, 42, 16, 80, 188, 10, 181, 0, 99]
abbrev dktX0_init_4 : List UInt8 := dkwX0_init_4 ++ dktX0_init_5
def dkwX0_init_3 : List UInt8 := [181, 0, 7, 42, 16, 14, 188, 11, 181, 0, 29, 42, 16, 13, 16, 13, 197, 1, 119, 2, 181, 0, 37, 42]
abbrev dktX0_init_3 : List UInt8 := dkwX0_init_3 ++ dktX0_init_4
def dkwX0_init_2 : List UInt8 := [181, 0, 111, 42, 187, 0, 12, 89, 183, 1, 108, 181, 1, 115, 42, 16, 14, 7, 197, 1, 118, 2]
abbrev dktX0_init_2 : List UInt8 := dkwX0_init_2 ++ dktX0_init_3
def dkwX0_init_1 : List UInt8 := [181, 1, 112, 42, 187, 0, 12, 89, 183, 1, 108, 181, 0, 122, 42, 187, 0, 12, 89, 183, 1, 108]
abbrev dktX0_init_1 : List UInt8 := dkwX0_init_1 ++ dktX0_init_2
def dkwX0_init_0 : List UInt8 := [42, 183, 1, 105, 42, 187, 0, 12, 89, 183, 1, 108, 181, 1, 109, 42, 187, 0, 12, 89, 183, 1, 108]
abbrev dktX0_init_0 : List UInt8 := dkwX0_init_0 ++ dktX0_init_1
theorem dksX0_init_0 : cX0_init.data.toList.drop 0 = dktX0_init_0 := by decide +kernel
theorem dksX0_init_1 : cX0_init.data.toList.drop 23 = dktX0_init_1 := dk_seg dksX0_init_0 23 rfl rfl
theorem dksX0_init_2 : cX0_init.data.toList.drop 45 = dktX0_init_2 := dk_seg dksX0_init_1 22 rfl rfl
theorem dksX0_init_3 : cX0_init.data.toList.drop 67 = dktX0_init_3 := dk_seg dksX0_init_2 22 rfl rfl
theorem dksX0_init_4 : cX0_init.data.toList.drop 91 = dktX0_init_4 := dk_seg dksX0_init_3 24 rfl rfl
theorem dksX0_init_5 : cX0_init.data.toList.drop 115 = dktX0_init_5 := dk_seg dksX0_init_4 24 rfl rfl
theorem dksX0_init_6 : cX0_init.data.toList.drop 139 = dktX0_init_6 := dk_seg dksX0_init_5 24 rfl rfl
theorem dksX0_init_7 : cX0_init.data.toList.drop 163 = dktX0_init_7 := dk_seg dksX0_init_6 24 rfl rfl
theorem dksX0_init_8 : cX0_init.data.toList.drop 187 = dktX0_init_8 := dk_seg dksX0_init_7 24 rfl rfl
theorem dksX0_init_9 : cX0_init.data.toList.drop 210 = dktX0_init_9 := dk_seg dksX0_init_8 23 rfl rfl
theorem dksX0_init_10 : cX0_init.data.toList.drop 234 = dktX0_init_10 := dk_seg dksX0_init_9 24 rfl rfl
theorem dksX0_init_11 : cX0_init.data.toList.drop 258 = dktX0_init_11 := dk_seg dksX0_init_10 24 rfl rfl
theorem dksX0_init_12 : cX0_init.data.toList.drop 281 = dktX0_init_12 := dk_seg dksX0_init_11 23 rfl rfl
theorem dksX0_init_13 : cX0_init.data.toList.drop 302 = dktX0_init_13 := dk_seg dksX0_init_12 21 rfl rfl
theorem dksX0_init_14 : cX0_init.data.toList.drop 326 = dktX0_init_14 := dk_seg dksX0_init_13 24 rfl rfl
theorem dksX0_init_15 : cX0_init.data.toList.drop 348 = dktX0_init_15 := dk_seg dksX0_init_14 22 rfl rfl
theorem dksX0_init_16 : cX0_init.data.toList.drop 372 = dktX0_init_16 := dk_seg dksX0_init_15 24 rfl rfl
theorem dksX0_init_17 : cX0_init.data.toList.drop 396 = dktX0_init_17 := dk_seg dksX0_init_16 24 rfl rfl
theorem dksX0_init_18 : cX0_init.data.toList.drop 419 = dktX0_init_18 := dk_seg dksX0_init_17 23 rfl rfl
theorem dksX0_init_19 : cX0_init.data.toList.drop 441 = dktX0_init_19 := dk_seg dksX0_init_18 22 rfl rfl
theorem dksX0_init_20 : cX0_init.data.toList.drop 465 = dktX0_init_20 := dk_seg dksX0_init_19 24 rfl rfl
theorem dksX0_init_21 : cX0_init.data.toList.drop 489 = dktX0_init_21 := dk_seg dksX0_init_20 24 rfl rfl
theorem dksX0_init_22 : cX0_init.data.toList.drop 512 = dktX0_init_22 := dk_seg dksX0_init_21 23 rfl rfl
theorem dksX0_init_23 : cX0_init.data.toList.drop 532 = dktX0_init_23 := dk_seg dksX0_init_22 20 rfl rfl
theorem dksX0_init_24 : cX0_init.data.toList.drop 552 = dktX0_init_24 := dk_seg dksX0_init_23 20 rfl rfl
theorem dksX0_init_25 : cX0_init.data.toList.drop 576 = dktX0_init_25 := dk_seg dksX0_init_24 24 rfl rfl
theorem dksX0_init_26 : cX0_init.data.toList.drop 600 = dktX0_init_26 := dk_seg dksX0_init_25 24 rfl rfl
theorem dksX0_init_27 : cX0_init.data.toList.drop 622 = dktX0_init_27 := dk_seg dksX0_init_26 22 rfl rfl
theorem dX0_init_0 : decode cX0_init 0 = .ok (.aload_n 0, 1) := dk_42 (dk_at dksX0_init_0 0 rfl rfl)
theorem dX0_init_1 : decode cX0_init 1 = .ok (.invokespecial 361, 3) := dk_183 1 105 (dk_at dksX0_init_0 1 rfl rfl)
theorem dX0_init_4 : decode cX0_init 4 = .ok (.aload_n 0, 1) := dk_42 (dk_at dksX0_init_0 4 rfl rfl)
theorem dX0_init_5 : decode cX0_init 5 = .ok (.new 12, 3) := dk_187 0 12 (dk_at dksX0_init_0 5 rfl rfl)
theorem dX0_init_8 : decode cX0_init 8 = .ok (.dup, 1) := dk_89 (dk_at dksX0_init_0 8 rfl rfl)
theorem dX0_init_9 : decode cX0_init 9 = .ok (.invokespecial 364, 3) := dk_183 1 108 (dk_at dksX0_init_0 9 rfl rfl)
theorem dX0_init_12 : decode cX0_init 12 = .ok (.putfield 365, 3) := dk_181 1 109 (dk_at dksX0_init_0 12 rfl rfl)
theorem dX0_init_15 : decode cX0_init 15 = .ok (.aload_n 0, 1) := dk_42 (dk_at dksX0_init_0 15 rfl rfl)
theorem dX0_init_16 : decode cX0_init 16 = .ok (.new 12, 3) := dk_187 0 12 (dk_at dksX0_init_0 16 rfl rfl)
theorem dX0_init_19 : decode cX0_init 19 = .ok (.dup, 1) := dk_89 (dk_at dksX0_init_0 19 rfl rfl)
theorem dX0_init_20 : decode cX0_init 20 = .ok (.invokespecial 364, 3) := dk_183 1 108 (dk_at dksX0_init_0 20 rfl rfl)
theorem dX0_init_23 : decode cX0_init 23 = .ok (.putfield 368, 3) := dk_181 1 112 (dk_at dksX0_init_1 0 rfl rfl)
theorem dX0_init_26 : decode cX0_init 26 = .ok (.aload_n 0, 1) := dk_42 (dk_at dksX0_init_1 3 rfl rfl)
theorem dX0_init_27 : decode cX0_init 27 = .ok (.new 12, 3) := dk_187 0 12 (dk_at dksX0_init_1 4 rfl rfl)
theorem dX0_init_30 : decode cX0_init 30 = .ok (.dup, 1) := dk_89 (dk_at dksX0_init_1 7 rfl rfl)
theorem dX0_init_31 : decode cX0_init 31 = .ok (.invokespecial 364, 3) := dk_183 1 108 (dk_at dksX0_init_1 8 rfl rfl)
theorem dX0_init_34 : decode cX0_init 34 = .ok (.putfield 122, 3) := dk_181 0 122 (dk_at dksX0_init_1 11 rfl rfl)
theorem dX0_init_37 : decode cX0_init 37 = .ok (.aload_n 0, 1) := dk_42 (dk_at dksX0_init_1 14 rfl rfl)
theorem dX0_init_38 : decode cX0_init 38 = .ok (.new 12, 3) := dk_187 0 12 (dk_at dksX0_init_1 15 rfl rfl)
theorem dX0_init_41 : decode cX0_init 41 = .ok (.dup, 1) := dk_89 (dk_at dksX0_init_1 18 rfl rfl)
theorem dX0_init_42 : decode cX0_init 42 = .ok (.invokespecial 364, 3) := dk_183 1 108 (dk_at dksX0_init_1 19 rfl rfl)
theorem dX0_init_45 : decode cX0_init 45 = .ok (.putfield 111, 3) := dk_181 0 111 (dk_at dksX0_init_2 0 rfl rfl)
theorem dX0_init_48 : decode cX0_init 48 = .ok (.aload_n 0, 1) := dk_42 (dk_at dksX0_init_2 3 rfl rfl)
theorem dX0_init_49 : decode cX0_init 49 = .ok (.new 12, 3) := dk_187 0 12 (dk_at dksX0_init_2 4 rfl rfl)
theorem dX0_init_52 : decode cX0_init 52 = .ok (.dup, 1) := dk_89 (dk_at dksX0_init_2 7 rfl rfl)
theorem dX0_init_53 : decode cX0_init 53 = .ok (.invokespecial 364, 3) := dk_183 1 108 (dk_at dksX0_init_2 8 rfl rfl)
theorem dX0_init_56 : decode cX0_init 56 = .ok (.putfield 371, 3) := dk_181 1 115 (dk_at dksX0_init_2 11 rfl rfl)
theorem dX0_init_59 : decode cX0_init 59 = .ok (.aload_n 0, 1) := dk_42 (dk_at dksX0_init_2 14 rfl rfl)
theorem dX0_init_60 : decode cX0_init 60 = .ok (.bipush 14, 2) := dk_16 14 (dk_at dksX0_init_2 15 rfl rfl)
theorem dX0_init_62 : decode cX0_init 62 = .ok (.iconst 4, 1) := dk_7 (dk_at dksX0_init_2 17 rfl rfl)
theorem dX0_init_63 : decode cX0_init 63 = .ok (.multianewarray 374 2, 4) := by decide +kernel
theorem dX0_init_67 : decode cX0_init 67 = .ok (.putfield 7, 3) := dk_181 0 7 (dk_at dksX0_init_3 0 rfl rfl)
theorem dX0_init_70 : decode cX0_init 70 = .ok (.aload_n 0, 1) := dk_42 (dk_at dksX0_init_3 3 rfl rfl)
theorem dX0_init_71 : decode cX0_init 71 = .ok (.bipush 14, 2) := dk_16 14 (dk_at dksX0_init_3 4 rfl rfl)
theorem dX0_init_73 : decode cX0_init 73 = .ok (.newarray .long, 2) := dk_188_11 (dk_at dksX0_init_3 6 rfl rfl)
theorem dX0_init_75 : decode cX0_init 75 = .ok (.putfield 29, 3) := dk_181 0 29 (dk_at dksX0_init_3 8 rfl rfl)
theorem dX0_init_78 : decode cX0_init 78 = .ok (.aload_n 0, 1) := dk_42 (dk_at dksX0_init_3 11 rfl rfl)
theorem dX0_init_79 : decode cX0_init 79 = .ok (.bipush 13, 2) := dk_16 13 (dk_at dksX0_init_3 12 rfl rfl)
theorem dX0_init_81 : decode cX0_init 81 = .ok (.bipush 13, 2) := dk_16 13 (dk_at dksX0_init_3 14 rfl rfl)
theorem dX0_init_83 : decode cX0_init 83 = .ok (.multianewarray 375 2, 4) := by decide +kernel
theorem dX0_init_87 : decode cX0_init 87 = .ok (.putfield 37, 3) := dk_181 0 37 (dk_at dksX0_init_3 20 rfl rfl)
theorem dX0_init_90 : decode cX0_init 90 = .ok (.aload_n 0, 1) := dk_42 (dk_at dksX0_init_3 23 rfl rfl)
theorem dX0_init_91 : decode cX0_init 91 = .ok (.bipush 13, 2) := dk_16 13 (dk_at dksX0_init_4 0 rfl rfl)
theorem dX0_init_93 : decode cX0_init 93 = .ok (.newarray .int, 2) := dk_188_10 (dk_at dksX0_init_4 2 rfl rfl)
theorem dX0_init_95 : decode cX0_init 95 = .ok (.putfield 75, 3) := dk_181 0 75 (dk_at dksX0_init_4 4 rfl rfl)
theorem dX0_init_98 : decode cX0_init 98 = .ok (.aload_n 0, 1) := dk_42 (dk_at dksX0_init_4 7 rfl rfl)
theorem dX0_init_99 : decode cX0_init 99 = .ok (.bipush 11, 2) := dk_16 11 (dk_at dksX0_init_4 8 rfl rfl)
theorem dX0_init_101 : decode cX0_init 101 = .ok (.anewarray 376, 3) := dk_189 1 120 (dk_at dksX0_init_4 10 rfl rfl)
theorem dX0_init_104 : decode cX0_init 104 = .ok (.putfield 108, 3) := dk_181 0 108 (dk_at dksX0_init_4 13 rfl rfl)
theorem dX0_init_107 : decode cX0_init 107 = .ok (.aload_n 0, 1) := dk_42 (dk_at dksX0_init_4 16 rfl rfl)
theorem dX0_init_108 : decode cX0_init 108 = .ok (.bipush 80, 2) := dk_16 80 (dk_at dksX0_init_4 17 rfl rfl)
theorem dX0_init_110 : decode cX0_init 110 = .ok (.newarray .int, 2) := dk_188_10 (dk_at dksX0_init_4 19 rfl rfl)
theorem dX0_init_112 : decode cX0_init 112 = .ok (.putfield 99, 3) := dk_181 0 99 (dk_at dksX0_init_4 21 rfl rfl)
theorem dX0_init_115 : decode cX0_init 115 = .ok (.aload_n 0, 1) := dk_42 (dk_at dksX0_init_5 0 rfl rfl)
theorem dX0_init_116 : decode cX0_init 116 = .ok (.bipush 13, 2) := dk_16 13 (dk_at dksX0_init_5 1 rfl rfl)
theorem dX0_init_118 : decode cX0_init 118 = .ok (.newarray .long, 2) := dk_188_11 (dk_at dksX0_init_5 3 rfl rfl)
theorem dX0_init_120 : decode cX0_init 120 = .ok (.putfield 149, 3) := dk_181 0 149 (dk_at dksX0_init_5 5 rfl rfl)
theorem dX0_init_123 : decode cX0_init 123 = .ok (.aload_n 0, 1) := dk_42 (dk_at dksX0_init_5 8 rfl rfl)
theorem dX0_init_124 : decode cX0_init 124 = .ok (.bipush 14, 2) := dk_16 14 (dk_at dksX0_init_5 9 rfl rfl)
theorem dX0_init_126 : decode cX0_init 126 = .ok (.iconst 4, 1) := dk_7 (dk_at dksX0_init_5 11 rfl rfl)
theorem dX0_init_127 : decode cX0_init 127 = .ok (.multianewarray 374 2, 4) := by decide +kernel
theorem dX0_init_131 : decode cX0_init 131 = .ok (.putfield 158, 3) := dk_181 0 158 (dk_at dksX0_init_5 16 rfl rfl)
theorem dX0_init_134 : decode cX0_init 134 = .ok (.aload_n 0, 1) := dk_42 (dk_at dksX0_init_5 19 rfl rfl)
theorem dX0_init_135 : decode cX0_init 135 = .ok (.bipush 13, 2) := dk_16 13 (dk_at dksX0_init_5 20 rfl rfl)
theorem dX0_init_137 : decode cX0_init 137 = .ok (.newarray .long, 2) := dk_188_11 (dk_at dksX0_init_5 22 rfl rfl)
theorem dX0_init_139 : decode cX0_init 139 = .ok (.putfield 168, 3) := dk_181 0 168 (dk_at dksX0_init_6 0 rfl rfl)
theorem dX0_init_142 : decode cX0_init 142 = .ok (.aload_n 0, 1) := dk_42 (dk_at dksX0_init_6 3 rfl rfl)
theorem dX0_init_143 : decode cX0_init 143 = .ok (.bipush 12, 2) := dk_16 12 (dk_at dksX0_init_6 4 rfl rfl)
theorem dX0_init_145 : decode cX0_init 145 = .ok (.anewarray 252, 3) := dk_189 0 252 (dk_at dksX0_init_6 6 rfl rfl)
theorem dX0_init_148 : decode cX0_init 148 = .ok (.putfield 347, 3) := dk_181 1 91 (dk_at dksX0_init_6 9 rfl rfl)
theorem dX0_init_151 : decode cX0_init 151 = .ok (.aload_n 0, 1) := dk_42 (dk_at dksX0_init_6 12 rfl rfl)
theorem dX0_init_152 : decode cX0_init 152 = .ok (.bipush 12, 2) := dk_16 12 (dk_at dksX0_init_6 13 rfl rfl)
theorem dX0_init_154 : decode cX0_init 154 = .ok (.anewarray 252, 3) := dk_189 0 252 (dk_at dksX0_init_6 15 rfl rfl)
theorem dX0_init_157 : decode cX0_init 157 = .ok (.dup, 1) := dk_89 (dk_at dksX0_init_6 18 rfl rfl)
theorem dX0_init_158 : decode cX0_init 158 = .ok (.iconst 0, 1) := dk_3 (dk_at dksX0_init_6 19 rfl rfl)
theorem dX0_init_159 : decode cX0_init 159 = .ok (.ldc_w 377, 3) := dk_19 1 121 (dk_at dksX0_init_6 20 rfl rfl)
theorem dX0_init_162 : decode cX0_init 162 = .ok (.aastore, 1) := dk_83 (dk_at dksX0_init_6 23 rfl rfl)
theorem dX0_init_163 : decode cX0_init 163 = .ok (.dup, 1) := dk_89 (dk_at dksX0_init_7 0 rfl rfl)
theorem dX0_init_164 : decode cX0_init 164 = .ok (.iconst 1, 1) := dk_4 (dk_at dksX0_init_7 1 rfl rfl)
theorem dX0_init_165 : decode cX0_init 165 = .ok (.ldc_w 379, 3) := dk_19 1 123 (dk_at dksX0_init_7 2 rfl rfl)
theorem dX0_init_168 : decode cX0_init 168 = .ok (.aastore, 1) := dk_83 (dk_at dksX0_init_7 5 rfl rfl)
theorem dX0_init_169 : decode cX0_init 169 = .ok (.dup, 1) := dk_89 (dk_at dksX0_init_7 6 rfl rfl)
theorem dX0_init_170 : decode cX0_init 170 = .ok (.iconst 2, 1) := dk_5 (dk_at dksX0_init_7 7 rfl rfl)
theorem dX0_init_171 : decode cX0_init 171 = .ok (.ldc_w 381, 3) := dk_19 1 125 (dk_at dksX0_init_7 8 rfl rfl)
theorem dX0_init_174 : decode cX0_init 174 = .ok (.aastore, 1) := dk_83 (dk_at dksX0_init_7 11 rfl rfl)
theorem dX0_init_175 : decode cX0_init 175 = .ok (.dup, 1) := dk_89 (dk_at dksX0_init_7 12 rfl rfl)
theorem dX0_init_176 : decode cX0_init 176 = .ok (.iconst 3, 1) := dk_6 (dk_at dksX0_init_7 13 rfl rfl)
theorem dX0_init_177 : decode cX0_init 177 = .ok (.ldc_w 383, 3) := dk_19 1 127 (dk_at dksX0_init_7 14 rfl rfl)
theorem dX0_init_180 : decode cX0_init 180 = .ok (.aastore, 1) := dk_83 (dk_at dksX0_init_7 17 rfl rfl)
theorem dX0_init_181 : decode cX0_init 181 = .ok (.dup, 1) := dk_89 (dk_at dksX0_init_7 18 rfl rfl)
theorem dX0_init_182 : decode cX0_init 182 = .ok (.iconst 4, 1) := dk_7 (dk_at dksX0_init_7 19 rfl rfl)
theorem dX0_init_183 : decode cX0_init 183 = .ok (.ldc_w 385, 3) := dk_19 1 129 (dk_at dksX0_init_7 20 rfl rfl)
theorem dX0_init_186 : decode cX0_init 186 = .ok (.aastore, 1) := dk_83 (dk_at dksX0_init_7 23 rfl rfl)
theorem dX0_init_187 : decode cX0_init 187 = .ok (.dup, 1) := dk_89 (dk_at dksX0_init_8 0 rfl rfl)
theorem dX0_init_188 : decode cX0_init 188 = .ok (.iconst 5, 1) := dk_8 (dk_at dksX0_init_8 1 rfl rfl)
theorem dX0_init_189 : decode cX0_init 189 = .ok (.ldc_w 387, 3) := dk_19 1 131 (dk_at dksX0_init_8 2 rfl rfl)
theorem dX0_init_192 : decode cX0_init 192 = .ok (.aastore, 1) := dk_83 (dk_at dksX0_init_8 5 rfl rfl)
theorem dX0_init_193 : decode cX0_init 193 = .ok (.dup, 1) := dk_89 (dk_at dksX0_init_8 6 rfl rfl)
theorem dX0_init_194 : decode cX0_init 194 = .ok (.bipush 6, 2) := dk_16 6 (dk_at dksX0_init_8 7 rfl rfl)
theorem dX0_init_196 : decode cX0_init 196 = .ok (.ldc_w 389, 3) := dk_19 1 133 (dk_at dksX0_init_8 9 rfl rfl)
theorem dX0_init_199 : decode cX0_init 199 = .ok (.aastore, 1) := dk_83 (dk_at dksX0_init_8 12 rfl rfl)
theorem dX0_init_200 : decode cX0_init 200 = .ok (.dup, 1) := dk_89 (dk_at dksX0_init_8 13 rfl rfl)
theorem dX0_init_201 : decode cX0_init 201 = .ok (.bipush 7, 2) := dk_16 7 (dk_at dksX0_init_8 14 rfl rfl)
theorem dX0_init_203 : decode cX0_init 203 = .ok (.ldc_w 391, 3) := dk_19 1 135 (dk_at dksX0_init_8 16 rfl rfl)
theorem dX0_init_206 : decode cX0_init 206 = .ok (.aastore, 1) := dk_83 (dk_at dksX0_init_8 19 rfl rfl)
theorem dX0_init_207 : decode cX0_init 207 = .ok (.dup, 1) := dk_89 (dk_at dksX0_init_8 20 rfl rfl)
theorem dX0_init_208 : decode cX0_init 208 = .ok (.bipush 8, 2) := dk_16 8 (dk_at dksX0_init_8 21 rfl rfl)
theorem dX0_init_210 : decode cX0_init 210 = .ok (.ldc_w 393, 3) := dk_19 1 137 (dk_at dksX0_init_9 0 rfl rfl)
theorem dX0_init_213 : decode cX0_init 213 = .ok (.aastore, 1) := dk_83 (dk_at dksX0_init_9 3 rfl rfl)
theorem dX0_init_214 : decode cX0_init 214 = .ok (.dup, 1) := dk_89 (dk_at dksX0_init_9 4 rfl rfl)
theorem dX0_init_215 : decode cX0_init 215 = .ok (.bipush 9, 2) := dk_16 9 (dk_at dksX0_init_9 5 rfl rfl)
theorem dX0_init_217 : decode cX0_init 217 = .ok (.ldc_w 395, 3) := dk_19 1 139 (dk_at dksX0_init_9 7 rfl rfl)
theorem dX0_init_220 : decode cX0_init 220 = .ok (.aastore, 1) := dk_83 (dk_at dksX0_init_9 10 rfl rfl)
theorem dX0_init_221 : decode cX0_init 221 = .ok (.dup, 1) := dk_89 (dk_at dksX0_init_9 11 rfl rfl)
theorem dX0_init_222 : decode cX0_init 222 = .ok (.bipush 10, 2) := dk_16 10 (dk_at dksX0_init_9 12 rfl rfl)
theorem dX0_init_224 : decode cX0_init 224 = .ok (.ldc_w 397, 3) := dk_19 1 141 (dk_at dksX0_init_9 14 rfl rfl)
theorem dX0_init_227 : decode cX0_init 227 = .ok (.aastore, 1) := dk_83 (dk_at dksX0_init_9 17 rfl rfl)
theorem dX0_init_228 : decode cX0_init 228 = .ok (.dup, 1) := dk_89 (dk_at dksX0_init_9 18 rfl rfl)
theorem dX0_init_229 : decode cX0_init 229 = .ok (.bipush 11, 2) := dk_16 11 (dk_at dksX0_init_9 19 rfl rfl)
theorem dX0_init_231 : decode cX0_init 231 = .ok (.ldc_w 399, 3) := dk_19 1 143 (dk_at dksX0_init_9 21 rfl rfl)
theorem dX0_init_234 : decode cX0_init 234 = .ok (.aastore, 1) := dk_83 (dk_at dksX0_init_10 0 rfl rfl)
theorem dX0_init_235 : decode cX0_init 235 = .ok (.putfield 330, 3) := dk_181 1 74 (dk_at dksX0_init_10 1 rfl rfl)
theorem dX0_init_238 : decode cX0_init 238 = .ok (.aload_n 0, 1) := dk_42 (dk_at dksX0_init_10 4 rfl rfl)
theorem dX0_init_239 : decode cX0_init 239 = .ok (.bipush 7, 2) := dk_16 7 (dk_at dksX0_init_10 5 rfl rfl)
theorem dX0_init_241 : decode cX0_init 241 = .ok (.anewarray 252, 3) := dk_189 0 252 (dk_at dksX0_init_10 7 rfl rfl)
theorem dX0_init_244 : decode cX0_init 244 = .ok (.dup, 1) := dk_89 (dk_at dksX0_init_10 10 rfl rfl)
theorem dX0_init_245 : decode cX0_init 245 = .ok (.iconst 0, 1) := dk_3 (dk_at dksX0_init_10 11 rfl rfl)
theorem dX0_init_246 : decode cX0_init 246 = .ok (.ldc_w 401, 3) := dk_19 1 145 (dk_at dksX0_init_10 12 rfl rfl)
theorem dX0_init_249 : decode cX0_init 249 = .ok (.aastore, 1) := dk_83 (dk_at dksX0_init_10 15 rfl rfl)
theorem dX0_init_250 : decode cX0_init 250 = .ok (.dup, 1) := dk_89 (dk_at dksX0_init_10 16 rfl rfl)
theorem dX0_init_251 : decode cX0_init 251 = .ok (.iconst 1, 1) := dk_4 (dk_at dksX0_init_10 17 rfl rfl)
theorem dX0_init_252 : decode cX0_init 252 = .ok (.ldc_w 403, 3) := dk_19 1 147 (dk_at dksX0_init_10 18 rfl rfl)
theorem dX0_init_255 : decode cX0_init 255 = .ok (.aastore, 1) := dk_83 (dk_at dksX0_init_10 21 rfl rfl)
theorem dX0_init_256 : decode cX0_init 256 = .ok (.dup, 1) := dk_89 (dk_at dksX0_init_10 22 rfl rfl)
theorem dX0_init_257 : decode cX0_init 257 = .ok (.iconst 2, 1) := dk_5 (dk_at dksX0_init_10 23 rfl rfl)
theorem dX0_init_258 : decode cX0_init 258 = .ok (.ldc_w 405, 3) := dk_19 1 149 (dk_at dksX0_init_11 0 rfl rfl)
theorem dX0_init_261 : decode cX0_init 261 = .ok (.aastore, 1) := dk_83 (dk_at dksX0_init_11 3 rfl rfl)
theorem dX0_init_262 : decode cX0_init 262 = .ok (.dup, 1) := dk_89 (dk_at dksX0_init_11 4 rfl rfl)
theorem dX0_init_263 : decode cX0_init 263 = .ok (.iconst 3, 1) := dk_6 (dk_at dksX0_init_11 5 rfl rfl)
theorem dX0_init_264 : decode cX0_init 264 = .ok (.ldc_w 407, 3) := dk_19 1 151 (dk_at dksX0_init_11 6 rfl rfl)
theorem dX0_init_267 : decode cX0_init 267 = .ok (.aastore, 1) := dk_83 (dk_at dksX0_init_11 9 rfl rfl)
theorem dX0_init_268 : decode cX0_init 268 = .ok (.dup, 1) := dk_89 (dk_at dksX0_init_11 10 rfl rfl)
theorem dX0_init_269 : decode cX0_init 269 = .ok (.iconst 4, 1) := dk_7 (dk_at dksX0_init_11 11 rfl rfl)
theorem dX0_init_270 : decode cX0_init 270 = .ok (.ldc_w 409, 3) := dk_19 1 153 (dk_at dksX0_init_11 12 rfl rfl)
theorem dX0_init_273 : decode cX0_init 273 = .ok (.aastore, 1) := dk_83 (dk_at dksX0_init_11 15 rfl rfl)
theorem dX0_init_274 : decode cX0_init 274 = .ok (.dup, 1) := dk_89 (dk_at dksX0_init_11 16 rfl rfl)
theorem dX0_init_275 : decode cX0_init 275 = .ok (.iconst 5, 1) := dk_8 (dk_at dksX0_init_11 17 rfl rfl)
theorem dX0_init_276 : decode cX0_init 276 = .ok (.ldc_w 411, 3) := dk_19 1 155 (dk_at dksX0_init_11 18 rfl rfl)
theorem dX0_init_279 : decode cX0_init 279 = .ok (.aastore, 1) := dk_83 (dk_at dksX0_init_11 21 rfl rfl)
theorem dX0_init_280 : decode cX0_init 280 = .ok (.dup, 1) := dk_89 (dk_at dksX0_init_11 22 rfl rfl)
theorem dX0_init_281 : decode cX0_init 281 = .ok (.bipush 6, 2) := dk_16 6 (dk_at dksX0_init_12 0 rfl rfl)
theorem dX0_init_283 : decode cX0_init 283 = .ok (.ldc_w 413, 3) := dk_19 1 157 (dk_at dksX0_init_12 2 rfl rfl)
theorem dX0_init_286 : decode cX0_init 286 = .ok (.aastore, 1) := dk_83 (dk_at dksX0_init_12 5 rfl rfl)
theorem dX0_init_287 : decode cX0_init 287 = .ok (.putfield 322, 3) := dk_181 1 66 (dk_at dksX0_init_12 6 rfl rfl)
theorem dX0_init_290 : decode cX0_init 290 = .ok (.aload_n 0, 1) := dk_42 (dk_at dksX0_init_12 9 rfl rfl)
theorem dX0_init_291 : decode cX0_init 291 = .ok (.bipush 21, 2) := dk_16 21 (dk_at dksX0_init_12 10 rfl rfl)
theorem dX0_init_293 : decode cX0_init 293 = .ok (.newarray .long, 2) := dk_188_11 (dk_at dksX0_init_12 12 rfl rfl)
theorem dX0_init_295 : decode cX0_init 295 = .ok (.putfield 415, 3) := dk_181 1 159 (dk_at dksX0_init_12 14 rfl rfl)
theorem dX0_init_298 : decode cX0_init 298 = .ok (.aload_n 0, 1) := dk_42 (dk_at dksX0_init_12 17 rfl rfl)
theorem dX0_init_299 : decode cX0_init 299 = .ok (.iconst 5, 1) := dk_8 (dk_at dksX0_init_12 18 rfl rfl)
theorem dX0_init_300 : decode cX0_init 300 = .ok (.bipush 21, 2) := dk_16 21 (dk_at dksX0_init_12 19 rfl rfl)
theorem dX0_init_302 : decode cX0_init 302 = .ok (.multianewarray 374 2, 4) := by decide +kernel
theorem dX0_init_306 : decode cX0_init 306 = .ok (.putfield 418, 3) := dk_181 1 162 (dk_at dksX0_init_13 4 rfl rfl)
theorem dX0_init_309 : decode cX0_init 309 = .ok (.aload_n 0, 1) := dk_42 (dk_at dksX0_init_13 7 rfl rfl)
theorem dX0_init_310 : decode cX0_init 310 = .ok (.bipush 80, 2) := dk_16 80 (dk_at dksX0_init_13 8 rfl rfl)
theorem dX0_init_312 : decode cX0_init 312 = .ok (.newarray .int, 2) := dk_188_10 (dk_at dksX0_init_13 10 rfl rfl)
theorem dX0_init_314 : decode cX0_init 314 = .ok (.putfield 421, 3) := dk_181 1 165 (dk_at dksX0_init_13 12 rfl rfl)
theorem dX0_init_317 : decode cX0_init 317 = .ok (.aload_n 0, 1) := dk_42 (dk_at dksX0_init_13 15 rfl rfl)
theorem dX0_init_318 : decode cX0_init 318 = .ok (.bipush 121, 2) := dk_16 121 (dk_at dksX0_init_13 16 rfl rfl)
theorem dX0_init_320 : decode cX0_init 320 = .ok (.anewarray 376, 3) := dk_189 1 120 (dk_at dksX0_init_13 18 rfl rfl)
theorem dX0_init_323 : decode cX0_init 323 = .ok (.putfield 424, 3) := dk_181 1 168 (dk_at dksX0_init_13 21 rfl rfl)
theorem dX0_init_326 : decode cX0_init 326 = .ok (.aload_n 0, 1) := dk_42 (dk_at dksX0_init_14 0 rfl rfl)
theorem dX0_init_327 : decode cX0_init 327 = .ok (.bipush 11, 2) := dk_16 11 (dk_at dksX0_init_14 1 rfl rfl)
theorem dX0_init_329 : decode cX0_init 329 = .ok (.anewarray 427, 3) := dk_189 1 171 (dk_at dksX0_init_14 3 rfl rfl)
theorem dX0_init_332 : decode cX0_init 332 = .ok (.putfield 428, 3) := dk_181 1 172 (dk_at dksX0_init_14 6 rfl rfl)
theorem dX0_init_335 : decode cX0_init 335 = .ok (.aload_n 0, 1) := dk_42 (dk_at dksX0_init_14 9 rfl rfl)
theorem dX0_init_336 : decode cX0_init 336 = .ok (.bipush 80, 2) := dk_16 80 (dk_at dksX0_init_14 10 rfl rfl)
theorem dX0_init_338 : decode cX0_init 338 = .ok (.newarray .byte, 2) := dk_188_8 (dk_at dksX0_init_14 12 rfl rfl)
theorem dX0_init_340 : decode cX0_init 340 = .ok (.putfield 431, 3) := dk_181 1 175 (dk_at dksX0_init_14 14 rfl rfl)
theorem dX0_init_343 : decode cX0_init 343 = .ok (.aload_n 0, 1) := dk_42 (dk_at dksX0_init_14 17 rfl rfl)
theorem dX0_init_344 : decode cX0_init 344 = .ok (.bipush 80, 2) := dk_16 80 (dk_at dksX0_init_14 18 rfl rfl)
theorem dX0_init_346 : decode cX0_init 346 = .ok (.newarray .int, 2) := dk_188_10 (dk_at dksX0_init_14 20 rfl rfl)
theorem dX0_init_348 : decode cX0_init 348 = .ok (.putfield 435, 3) := dk_181 1 179 (dk_at dksX0_init_15 0 rfl rfl)
theorem dX0_init_351 : decode cX0_init 351 = .ok (.aload_n 0, 1) := dk_42 (dk_at dksX0_init_15 3 rfl rfl)
theorem dX0_init_352 : decode cX0_init 352 = .ok (.bipush 80, 2) := dk_16 80 (dk_at dksX0_init_15 4 rfl rfl)
theorem dX0_init_354 : decode cX0_init 354 = .ok (.newarray .int, 2) := dk_188_10 (dk_at dksX0_init_15 6 rfl rfl)
theorem dX0_init_356 : decode cX0_init 356 = .ok (.putfield 438, 3) := dk_181 1 182 (dk_at dksX0_init_15 8 rfl rfl)
theorem dX0_init_359 : decode cX0_init 359 = .ok (.aload_n 0, 1) := dk_42 (dk_at dksX0_init_15 11 rfl rfl)
theorem dX0_init_360 : decode cX0_init 360 = .ok (.iconst 4, 1) := dk_7 (dk_at dksX0_init_15 12 rfl rfl)
theorem dX0_init_361 : decode cX0_init 361 = .ok (.anewarray 441, 3) := dk_189 1 185 (dk_at dksX0_init_15 13 rfl rfl)
theorem dX0_init_364 : decode cX0_init 364 = .ok (.putfield 443, 3) := dk_181 1 187 (dk_at dksX0_init_15 16 rfl rfl)
theorem dX0_init_367 : decode cX0_init 367 = .ok (.aload_n 0, 1) := dk_42 (dk_at dksX0_init_15 19 rfl rfl)
theorem dX0_init_368 : decode cX0_init 368 = .ok (.getfield 29, 3) := dk_180 0 29 (dk_at dksX0_init_15 20 rfl rfl)
theorem dX0_init_371 : decode cX0_init 371 = .ok (.iconst 0, 1) := dk_3 (dk_at dksX0_init_15 23 rfl rfl)
theorem dX0_init_372 : decode cX0_init 372 = .ok (.lconst 1, 1) := dk_10 (dk_at dksX0_init_16 0 rfl rfl)
theorem dX0_init_373 : decode cX0_init 373 = .ok (.lastore, 1) := dk_80 (dk_at dksX0_init_16 1 rfl rfl)
theorem dX0_init_374 : decode cX0_init 374 = .ok (.iconst 1, 1) := dk_4 (dk_at dksX0_init_16 2 rfl rfl)
theorem dX0_init_375 : decode cX0_init 375 = .ok (.istore_n 1, 1) := dk_60 (dk_at dksX0_init_16 3 rfl rfl)
theorem dX0_init_376 : decode cX0_init 376 = .ok (.iload_n 1, 1) := dk_27 (dk_at dksX0_init_16 4 rfl rfl)
theorem dX0_init_377 : decode cX0_init 377 = .ok (.bipush 13, 2) := dk_16 13 (dk_at dksX0_init_16 5 rfl rfl)
theorem dX0_init_379 : decode cX0_init 379 = .ok (.if_icmp .gt 27, 3) := dk_163 0 27 (dk_at dksX0_init_16 7 rfl rfl)
theorem dX0_init_382 : decode cX0_init 382 = .ok (.aload_n 0, 1) := dk_42 (dk_at dksX0_init_16 10 rfl rfl)
theorem dX0_init_383 : decode cX0_init 383 = .ok (.getfield 29, 3) := dk_180 0 29 (dk_at dksX0_init_16 11 rfl rfl)
theorem dX0_init_386 : decode cX0_init 386 = .ok (.iload_n 1, 1) := dk_27 (dk_at dksX0_init_16 14 rfl rfl)
theorem dX0_init_387 : decode cX0_init 387 = .ok (.ldc2_w 447, 3) := dk_20 1 191 (dk_at dksX0_init_16 15 rfl rfl)
theorem dX0_init_390 : decode cX0_init 390 = .ok (.aload_n 0, 1) := dk_42 (dk_at dksX0_init_16 18 rfl rfl)
theorem dX0_init_391 : decode cX0_init 391 = .ok (.getfield 29, 3) := dk_180 0 29 (dk_at dksX0_init_16 19 rfl rfl)
theorem dX0_init_394 : decode cX0_init 394 = .ok (.iload_n 1, 1) := dk_27 (dk_at dksX0_init_16 22 rfl rfl)
theorem dX0_init_395 : decode cX0_init 395 = .ok (.iconst 1, 1) := dk_4 (dk_at dksX0_init_16 23 rfl rfl)
theorem dX0_init_396 : decode cX0_init 396 = .ok (.isub, 1) := dk_100 (dk_at dksX0_init_17 0 rfl rfl)
theorem dX0_init_397 : decode cX0_init 397 = .ok (.laload, 1) := dk_47 (dk_at dksX0_init_17 1 rfl rfl)
theorem dX0_init_398 : decode cX0_init 398 = .ok (.lmul, 1) := dk_105 (dk_at dksX0_init_17 2 rfl rfl)
theorem dX0_init_399 : decode cX0_init 399 = .ok (.lastore, 1) := dk_80 (dk_at dksX0_init_17 3 rfl rfl)
theorem dX0_init_400 : decode cX0_init 400 = .ok (.iinc 1 1, 3) := dk_132 1 1 (dk_at dksX0_init_17 4 rfl rfl)
theorem dX0_init_403 : decode cX0_init 403 = .ok (.goto (-27), 3) := dk_167 255 229 (dk_at dksX0_init_17 7 rfl rfl)
theorem dX0_init_406 : decode cX0_init 406 = .ok (.iconst 0, 1) := dk_3 (dk_at dksX0_init_17 10 rfl rfl)
theorem dX0_init_407 : decode cX0_init 407 = .ok (.istore_n 1, 1) := dk_60 (dk_at dksX0_init_17 11 rfl rfl)
theorem dX0_init_408 : decode cX0_init 408 = .ok (.iload_n 1, 1) := dk_27 (dk_at dksX0_init_17 12 rfl rfl)
theorem dX0_init_409 : decode cX0_init 409 = .ok (.bipush 12, 2) := dk_16 12 (dk_at dksX0_init_17 13 rfl rfl)
theorem dX0_init_411 : decode cX0_init 411 = .ok (.if_icmp .ge 40, 3) := dk_162 0 40 (dk_at dksX0_init_17 15 rfl rfl)
theorem dX0_init_414 : decode cX0_init 414 = .ok (.aload_n 0, 1) := dk_42 (dk_at dksX0_init_17 18 rfl rfl)
theorem dX0_init_415 : decode cX0_init 415 = .ok (.getfield 347, 3) := dk_180 1 91 (dk_at dksX0_init_17 19 rfl rfl)
theorem dX0_init_418 : decode cX0_init 418 = .ok (.iload_n 1, 1) := dk_27 (dk_at dksX0_init_17 22 rfl rfl)
theorem dX0_init_419 : decode cX0_init 419 = .ok (.new 269, 3) := dk_187 1 13 (dk_at dksX0_init_18 0 rfl rfl)
theorem dX0_init_422 : decode cX0_init 422 = .ok (.dup, 1) := dk_89 (dk_at dksX0_init_18 3 rfl rfl)
theorem dX0_init_423 : decode cX0_init 423 = .ok (.invokespecial 271, 3) := dk_183 1 15 (dk_at dksX0_init_18 4 rfl rfl)
theorem dX0_init_426 : decode cX0_init 426 = .ok (.aload_n 0, 1) := dk_42 (dk_at dksX0_init_18 7 rfl rfl)
theorem dX0_init_427 : decode cX0_init 427 = .ok (.getfield 330, 3) := dk_180 1 74 (dk_at dksX0_init_18 8 rfl rfl)
theorem dX0_init_430 : decode cX0_init 430 = .ok (.iload_n 1, 1) := dk_27 (dk_at dksX0_init_18 11 rfl rfl)
theorem dX0_init_431 : decode cX0_init 431 = .ok (.aaload, 1) := dk_50 (dk_at dksX0_init_18 12 rfl rfl)
theorem dX0_init_432 : decode cX0_init 432 = .ok (.invokevirtual 333, 3) := dk_182 1 77 (dk_at dksX0_init_18 13 rfl rfl)
theorem dX0_init_435 : decode cX0_init 435 = .ok (.ldc_w 338, 3) := dk_19 1 82 (dk_at dksX0_init_18 16 rfl rfl)
theorem dX0_init_438 : decode cX0_init 438 = .ok (.invokevirtual 333, 3) := dk_182 1 77 (dk_at dksX0_init_18 19 rfl rfl)
theorem dX0_init_441 : decode cX0_init 441 = .ok (.invokevirtual 280, 3) := dk_182 1 24 (dk_at dksX0_init_19 0 rfl rfl)
theorem dX0_init_444 : decode cX0_init 444 = .ok (.aastore, 1) := dk_83 (dk_at dksX0_init_19 3 rfl rfl)
theorem dX0_init_445 : decode cX0_init 445 = .ok (.iinc 1 1, 3) := dk_132 1 1 (dk_at dksX0_init_19 4 rfl rfl)
theorem dX0_init_448 : decode cX0_init 448 = .ok (.goto (-40), 3) := dk_167 255 216 (dk_at dksX0_init_19 7 rfl rfl)
theorem dX0_init_451 : decode cX0_init 451 = .ok (.aload_n 0, 1) := dk_42 (dk_at dksX0_init_19 10 rfl rfl)
theorem dX0_init_452 : decode cX0_init 452 = .ok (.bipush 11, 2) := dk_16 11 (dk_at dksX0_init_19 11 rfl rfl)
theorem dX0_init_454 : decode cX0_init 454 = .ok (.anewarray 449, 3) := dk_189 1 193 (dk_at dksX0_init_19 13 rfl rfl)
theorem dX0_init_457 : decode cX0_init 457 = .ok (.dup, 1) := dk_89 (dk_at dksX0_init_19 16 rfl rfl)
theorem dX0_init_458 : decode cX0_init 458 = .ok (.iconst 0, 1) := dk_3 (dk_at dksX0_init_19 17 rfl rfl)
theorem dX0_init_459 : decode cX0_init 459 = .ok (.invokedynamic 451, 5) := by decide +kernel
theorem dX0_init_464 : decode cX0_init 464 = .ok (.aastore, 1) := dk_83 (dk_at dksX0_init_19 23 rfl rfl)
theorem dX0_init_465 : decode cX0_init 465 = .ok (.dup, 1) := dk_89 (dk_at dksX0_init_20 0 rfl rfl)
theorem dX0_init_466 : decode cX0_init 466 = .ok (.iconst 1, 1) := dk_4 (dk_at dksX0_init_20 1 rfl rfl)
theorem dX0_init_467 : decode cX0_init 467 = .ok (.invokedynamic 455, 5) := by decide +kernel
theorem dX0_init_472 : decode cX0_init 472 = .ok (.aastore, 1) := dk_83 (dk_at dksX0_init_20 7 rfl rfl)
theorem dX0_init_473 : decode cX0_init 473 = .ok (.dup, 1) := dk_89 (dk_at dksX0_init_20 8 rfl rfl)
theorem dX0_init_474 : decode cX0_init 474 = .ok (.iconst 2, 1) := dk_5 (dk_at dksX0_init_20 9 rfl rfl)
theorem dX0_init_475 : decode cX0_init 475 = .ok (.aload_n 0, 1) := dk_42 (dk_at dksX0_init_20 10 rfl rfl)
theorem dX0_init_476 : decode cX0_init 476 = .ok (.invokedynamic 456, 5) := by decide +kernel
theorem dX0_init_481 : decode cX0_init 481 = .ok (.aastore, 1) := dk_83 (dk_at dksX0_init_20 16 rfl rfl)
theorem dX0_init_482 : decode cX0_init 482 = .ok (.dup, 1) := dk_89 (dk_at dksX0_init_20 17 rfl rfl)
theorem dX0_init_483 : decode cX0_init 483 = .ok (.iconst 3, 1) := dk_6 (dk_at dksX0_init_20 18 rfl rfl)
theorem dX0_init_484 : decode cX0_init 484 = .ok (.invokedynamic 459, 5) := by decide +kernel
theorem dX0_init_489 : decode cX0_init 489 = .ok (.aastore, 1) := dk_83 (dk_at dksX0_init_21 0 rfl rfl)
theorem dX0_init_490 : decode cX0_init 490 = .ok (.dup, 1) := dk_89 (dk_at dksX0_init_21 1 rfl rfl)
theorem dX0_init_491 : decode cX0_init 491 = .ok (.iconst 4, 1) := dk_7 (dk_at dksX0_init_21 2 rfl rfl)
theorem dX0_init_492 : decode cX0_init 492 = .ok (.aload_n 0, 1) := dk_42 (dk_at dksX0_init_21 3 rfl rfl)
theorem dX0_init_493 : decode cX0_init 493 = .ok (.invokedynamic 460, 5) := by decide +kernel
theorem dX0_init_498 : decode cX0_init 498 = .ok (.aastore, 1) := dk_83 (dk_at dksX0_init_21 9 rfl rfl)
theorem dX0_init_499 : decode cX0_init 499 = .ok (.dup, 1) := dk_89 (dk_at dksX0_init_21 10 rfl rfl)
theorem dX0_init_500 : decode cX0_init 500 = .ok (.iconst 5, 1) := dk_8 (dk_at dksX0_init_21 11 rfl rfl)
theorem dX0_init_501 : decode cX0_init 501 = .ok (.aload_n 0, 1) := dk_42 (dk_at dksX0_init_21 12 rfl rfl)
theorem dX0_init_502 : decode cX0_init 502 = .ok (.invokedynamic 461, 5) := by decide +kernel
theorem dX0_init_507 : decode cX0_init 507 = .ok (.aastore, 1) := dk_83 (dk_at dksX0_init_21 18 rfl rfl)
theorem dX0_init_508 : decode cX0_init 508 = .ok (.dup, 1) := dk_89 (dk_at dksX0_init_21 19 rfl rfl)
theorem dX0_init_509 : decode cX0_init 509 = .ok (.bipush 6, 2) := dk_16 6 (dk_at dksX0_init_21 20 rfl rfl)
theorem dX0_init_511 : decode cX0_init 511 = .ok (.aload_n 0, 1) := dk_42 (dk_at dksX0_init_21 22 rfl rfl)
theorem dX0_init_512 : decode cX0_init 512 = .ok (.invokedynamic 462, 5) := by decide +kernel
theorem dX0_init_517 : decode cX0_init 517 = .ok (.aastore, 1) := dk_83 (dk_at dksX0_init_22 5 rfl rfl)
theorem dX0_init_518 : decode cX0_init 518 = .ok (.dup, 1) := dk_89 (dk_at dksX0_init_22 6 rfl rfl)
theorem dX0_init_519 : decode cX0_init 519 = .ok (.bipush 7, 2) := dk_16 7 (dk_at dksX0_init_22 7 rfl rfl)
theorem dX0_init_521 : decode cX0_init 521 = .ok (.aload_n 0, 1) := dk_42 (dk_at dksX0_init_22 9 rfl rfl)
theorem dX0_init_522 : decode cX0_init 522 = .ok (.invokedynamic 463, 5) := by decide +kernel
theorem dX0_init_527 : decode cX0_init 527 = .ok (.aastore, 1) := dk_83 (dk_at dksX0_init_22 15 rfl rfl)
theorem dX0_init_528 : decode cX0_init 528 = .ok (.dup, 1) := dk_89 (dk_at dksX0_init_22 16 rfl rfl)
theorem dX0_init_529 : decode cX0_init 529 = .ok (.bipush 8, 2) := dk_16 8 (dk_at dksX0_init_22 17 rfl rfl)
theorem dX0_init_531 : decode cX0_init 531 = .ok (.aload_n 0, 1) := dk_42 (dk_at dksX0_init_22 19 rfl rfl)
theorem dX0_init_532 : decode cX0_init 532 = .ok (.invokedynamic 464, 5) := by decide +kernel
theorem dX0_init_537 : decode cX0_init 537 = .ok (.aastore, 1) := dk_83 (dk_at dksX0_init_23 5 rfl rfl)
theorem dX0_init_538 : decode cX0_init 538 = .ok (.dup, 1) := dk_89 (dk_at dksX0_init_23 6 rfl rfl)
theorem dX0_init_539 : decode cX0_init 539 = .ok (.bipush 9, 2) := dk_16 9 (dk_at dksX0_init_23 7 rfl rfl)
theorem dX0_init_541 : decode cX0_init 541 = .ok (.aload_n 0, 1) := dk_42 (dk_at dksX0_init_23 9 rfl rfl)
theorem dX0_init_542 : decode cX0_init 542 = .ok (.invokedynamic 465, 5) := by decide +kernel
theorem dX0_init_547 : decode cX0_init 547 = .ok (.aastore, 1) := dk_83 (dk_at dksX0_init_23 15 rfl rfl)
theorem dX0_init_548 : decode cX0_init 548 = .ok (.dup, 1) := dk_89 (dk_at dksX0_init_23 16 rfl rfl)
theorem dX0_init_549 : decode cX0_init 549 = .ok (.bipush 10, 2) := dk_16 10 (dk_at dksX0_init_23 17 rfl rfl)
theorem dX0_init_551 : decode cX0_init 551 = .ok (.aload_n 0, 1) := dk_42 (dk_at dksX0_init_23 19 rfl rfl)
theorem dX0_init_552 : decode cX0_init 552 = .ok (.invokedynamic 466, 5) := by decide +kernel
theorem dX0_init_557 : decode cX0_init 557 = .ok (.aastore, 1) := dk_83 (dk_at dksX0_init_24 5 rfl rfl)
theorem dX0_init_558 : decode cX0_init 558 = .ok (.putfield 467, 3) := dk_181 1 211 (dk_at dksX0_init_24 6 rfl rfl)
theorem dX0_init_561 : decode cX0_init 561 = .ok (.aload_n 0, 1) := dk_42 (dk_at dksX0_init_24 9 rfl rfl)
theorem dX0_init_562 : decode cX0_init 562 = .ok (.iconst 0, 1) := dk_3 (dk_at dksX0_init_24 10 rfl rfl)
theorem dX0_init_563 : decode cX0_init 563 = .ok (.invokevirtual 132, 3) := dk_182 0 132 (dk_at dksX0_init_24 11 rfl rfl)
theorem dX0_init_566 : decode cX0_init 566 = .ok (.aload_n 0, 1) := dk_42 (dk_at dksX0_init_24 14 rfl rfl)
theorem dX0_init_567 : decode cX0_init 567 = .ok (.getfield 108, 3) := dk_180 0 108 (dk_at dksX0_init_24 15 rfl rfl)
theorem dX0_init_570 : decode cX0_init 570 = .ok (.iconst 1, 1) := dk_4 (dk_at dksX0_init_24 18 rfl rfl)
theorem dX0_init_571 : decode cX0_init 571 = .ok (.aload_n 0, 1) := dk_42 (dk_at dksX0_init_24 19 rfl rfl)
theorem dX0_init_572 : decode cX0_init 572 = .ok (.invokevirtual 136, 3) := dk_182 0 136 (dk_at dksX0_init_24 20 rfl rfl)
theorem dX0_init_575 : decode cX0_init 575 = .ok (.aastore, 1) := dk_83 (dk_at dksX0_init_24 23 rfl rfl)
theorem dX0_init_576 : decode cX0_init 576 = .ok (.iconst 2, 1) := dk_5 (dk_at dksX0_init_25 0 rfl rfl)
theorem dX0_init_577 : decode cX0_init 577 = .ok (.istore_n 1, 1) := dk_60 (dk_at dksX0_init_25 1 rfl rfl)
theorem dX0_init_578 : decode cX0_init 578 = .ok (.iload_n 1, 1) := dk_27 (dk_at dksX0_init_25 2 rfl rfl)
theorem dX0_init_579 : decode cX0_init 579 = .ok (.bipush 10, 2) := dk_16 10 (dk_at dksX0_init_25 3 rfl rfl)
theorem dX0_init_581 : decode cX0_init 581 = .ok (.if_icmp .gt 14, 3) := dk_163 0 14 (dk_at dksX0_init_25 5 rfl rfl)
theorem dX0_init_584 : decode cX0_init 584 = .ok (.aload_n 0, 1) := dk_42 (dk_at dksX0_init_25 8 rfl rfl)
theorem dX0_init_585 : decode cX0_init 585 = .ok (.iload_n 1, 1) := dk_27 (dk_at dksX0_init_25 9 rfl rfl)
theorem dX0_init_586 : decode cX0_init 586 = .ok (.invokevirtual 470, 3) := dk_182 1 214 (dk_at dksX0_init_25 10 rfl rfl)
theorem dX0_init_589 : decode cX0_init 589 = .ok (.iinc 1 1, 3) := dk_132 1 1 (dk_at dksX0_init_25 13 rfl rfl)
theorem dX0_init_592 : decode cX0_init 592 = .ok (.goto (-14), 3) := dk_167 255 242 (dk_at dksX0_init_25 16 rfl rfl)
theorem dX0_init_595 : decode cX0_init 595 = .ok (.iconst 1, 1) := dk_4 (dk_at dksX0_init_25 19 rfl rfl)
theorem dX0_init_596 : decode cX0_init 596 = .ok (.istore_n 1, 1) := dk_60 (dk_at dksX0_init_25 20 rfl rfl)
theorem dX0_init_597 : decode cX0_init 597 = .ok (.iload_n 1, 1) := dk_27 (dk_at dksX0_init_25 21 rfl rfl)
theorem dX0_init_598 : decode cX0_init 598 = .ok (.bipush 10, 2) := dk_16 10 (dk_at dksX0_init_25 22 rfl rfl)
theorem dX0_init_600 : decode cX0_init 600 = .ok (.if_icmp .gt 25, 3) := dk_163 0 25 (dk_at dksX0_init_26 0 rfl rfl)
theorem dX0_init_603 : decode cX0_init 603 = .ok (.aload_n 0, 1) := dk_42 (dk_at dksX0_init_26 3 rfl rfl)
theorem dX0_init_604 : decode cX0_init 604 = .ok (.getfield 428, 3) := dk_180 1 172 (dk_at dksX0_init_26 4 rfl rfl)
theorem dX0_init_607 : decode cX0_init 607 = .ok (.iload_n 1, 1) := dk_27 (dk_at dksX0_init_26 7 rfl rfl)
theorem dX0_init_608 : decode cX0_init 608 = .ok (.aload_n 0, 1) := dk_42 (dk_at dksX0_init_26 8 rfl rfl)
theorem dX0_init_609 : decode cX0_init 609 = .ok (.getfield 108, 3) := dk_180 0 108 (dk_at dksX0_init_26 9 rfl rfl)
theorem dX0_init_612 : decode cX0_init 612 = .ok (.iload_n 1, 1) := dk_27 (dk_at dksX0_init_26 12 rfl rfl)
theorem dX0_init_613 : decode cX0_init 613 = .ok (.aaload, 1) := dk_50 (dk_at dksX0_init_26 13 rfl rfl)
theorem dX0_init_614 : decode cX0_init 614 = .ok (.arraylength, 1) := dk_190 (dk_at dksX0_init_26 14 rfl rfl)
theorem dX0_init_615 : decode cX0_init 615 = .ok (.anewarray 252, 3) := dk_189 0 252 (dk_at dksX0_init_26 15 rfl rfl)
theorem dX0_init_618 : decode cX0_init 618 = .ok (.aastore, 1) := dk_83 (dk_at dksX0_init_26 18 rfl rfl)
theorem dX0_init_619 : decode cX0_init 619 = .ok (.iinc 1 1, 3) := dk_132 1 1 (dk_at dksX0_init_26 19 rfl rfl)
theorem dX0_init_622 : decode cX0_init 622 = .ok (.goto (-25), 3) := dk_167 255 231 (dk_at dksX0_init_27 0 rfl rfl)
theorem dX0_init_625 : decode cX0_init 625 = .ok (.aload_n 0, 1) := dk_42 (dk_at dksX0_init_27 3 rfl rfl)
theorem dX0_init_626 : decode cX0_init 626 = .ok (.invokevirtual 472, 3) := dk_182 1 216 (dk_at dksX0_init_27 4 rfl rfl)
theorem dX0_init_629 : decode cX0_init 629 = .ok (.return_, 1) := dk_177 (dk_at dksX0_init_27 7 rfl rfl)
abbrev cX0_atomsOf : ByteArray := prog_1_method_19_code
def yX0_atomsOf : MethodName := ⟨RX0, "atomsOf", "(LBranchNames$Tree;)I"⟩
theorem dX0_atomsOf_0 : decode cX0_atomsOf 0 = .ok (.aload_n 0, 1) := by decide +kernel
theorem dX0_atomsOf_1 : decode cX0_atomsOf 1 = .ok (.getfield 44, 3) := by decide +kernel
theorem dX0_atomsOf_4 : decode cX0_atomsOf 4 = .ok (.ireturn, 1) := by decide +kernel
abbrev cX0_hydrogensOf : ByteArray := prog_1_method_20_code
def yX0_hydrogensOf : MethodName := ⟨RX0, "hydrogensOf", "(LBranchNames$Tree;)I"⟩
def dkwX0_hydrogensOf_0 : List UInt8 := [5, 42, 180, 0, 44, 104, 5, 96, 172]
abbrev dktX0_hydrogensOf_0 : List UInt8 := dkwX0_hydrogensOf_0 ++ []
theorem dksX0_hydrogensOf_0 : cX0_hydrogensOf.data.toList.drop 0 = dktX0_hydrogensOf_0 := by decide +kernel
theorem dX0_hydrogensOf_0 : decode cX0_hydrogensOf 0 = .ok (.iconst 2, 1) := dk_5 (dk_at dksX0_hydrogensOf_0 0 rfl rfl)
theorem dX0_hydrogensOf_1 : decode cX0_hydrogensOf 1 = .ok (.aload_n 0, 1) := dk_42 (dk_at dksX0_hydrogensOf_0 1 rfl rfl)
theorem dX0_hydrogensOf_2 : decode cX0_hydrogensOf 2 = .ok (.getfield 44, 3) := dk_180 0 44 (dk_at dksX0_hydrogensOf_0 2 rfl rfl)
theorem dX0_hydrogensOf_5 : decode cX0_hydrogensOf 5 = .ok (.imul, 1) := dk_104 (dk_at dksX0_hydrogensOf_0 5 rfl rfl)
theorem dX0_hydrogensOf_6 : decode cX0_hydrogensOf 6 = .ok (.iconst 2, 1) := dk_5 (dk_at dksX0_hydrogensOf_0 6 rfl rfl)
theorem dX0_hydrogensOf_7 : decode cX0_hydrogensOf 7 = .ok (.iadd, 1) := dk_96 (dk_at dksX0_hydrogensOf_0 7 rfl rfl)
theorem dX0_hydrogensOf_8 : decode cX0_hydrogensOf 8 = .ok (.ireturn, 1) := dk_172 (dk_at dksX0_hydrogensOf_0 8 rfl rfl)
abbrev cX0_lambda_new_2 : ByteArray := prog_1_method_105_code
def yX0_lambda_new_2 : MethodName := ⟨RX0, "lambda$new$2", "(LBranchNames$Tree;)I"⟩
def dkwX0_lambda_new_2_0 : List UInt8 := [42, 43, 2, 182, 2, 180, 172]
abbrev dktX0_lambda_new_2_0 : List UInt8 := dkwX0_lambda_new_2_0 ++ []
theorem dksX0_lambda_new_2_0 : cX0_lambda_new_2.data.toList.drop 0 = dktX0_lambda_new_2_0 := by decide +kernel
theorem dX0_lambda_new_2_0 : decode cX0_lambda_new_2 0 = .ok (.aload_n 0, 1) := dk_42 (dk_at dksX0_lambda_new_2_0 0 rfl rfl)
theorem dX0_lambda_new_2_1 : decode cX0_lambda_new_2 1 = .ok (.aload_n 1, 1) := dk_43 (dk_at dksX0_lambda_new_2_0 1 rfl rfl)
theorem dX0_lambda_new_2_2 : decode cX0_lambda_new_2 2 = .ok (.iconst (-1), 1) := dk_2 (dk_at dksX0_lambda_new_2_0 2 rfl rfl)
theorem dX0_lambda_new_2_3 : decode cX0_lambda_new_2 3 = .ok (.invokevirtual 692, 3) := dk_182 2 180 (dk_at dksX0_lambda_new_2_0 3 rfl rfl)
theorem dX0_lambda_new_2_6 : decode cX0_lambda_new_2 6 = .ok (.ireturn, 1) := dk_172 (dk_at dksX0_lambda_new_2_0 6 rfl rfl)
abbrev cX0_twos : ByteArray := prog_1_method_22_code
def yX0_twos : MethodName := ⟨RX0, "twos", "(LBranchNames$Tree;I)I"⟩
def dkwX0_twos_3 : List UInt8 := [3, 96, 62, 132, 5, 1, 167, 255, 204, 132, 4, 1, 167, 255, 183, 29, 172]
abbrev dktX0_twos_3 : List UInt8 := dkwX0_twos_3 ++ []
def dkwX0_twos_2 : List UInt8 := [21, 5, 46, 167, 0, 22, 42, 180, 0, 37, 21, 4, 50, 21, 5, 46, 28, 160, 0, 7, 4, 167, 0, 4]
abbrev dktX0_twos_2 : List UInt8 := dkwX0_twos_2 ++ dktX0_twos_3
def dkwX0_twos_1 : List UInt8 := [54, 5, 21, 5, 43, 180, 0, 44, 162, 0, 49, 29, 28, 2, 160, 0, 16, 42, 180, 0, 37, 21, 4, 50]
abbrev dktX0_twos_1 : List UInt8 := dkwX0_twos_1 ++ dktX0_twos_2
def dkwX0_twos_0 : List UInt8 := [42, 43, 182, 0, 54, 3, 62, 3, 54, 4, 21, 4, 43, 180, 0, 44, 162, 0, 70, 21, 4, 4, 96]
abbrev dktX0_twos_0 : List UInt8 := dkwX0_twos_0 ++ dktX0_twos_1
theorem dksX0_twos_0 : cX0_twos.data.toList.drop 0 = dktX0_twos_0 := by decide +kernel
theorem dksX0_twos_1 : cX0_twos.data.toList.drop 23 = dktX0_twos_1 := dk_seg dksX0_twos_0 23 rfl rfl
theorem dksX0_twos_2 : cX0_twos.data.toList.drop 47 = dktX0_twos_2 := dk_seg dksX0_twos_1 24 rfl rfl
theorem dksX0_twos_3 : cX0_twos.data.toList.drop 71 = dktX0_twos_3 := dk_seg dksX0_twos_2 24 rfl rfl
theorem dX0_twos_0 : decode cX0_twos 0 = .ok (.aload_n 0, 1) := dk_42 (dk_at dksX0_twos_0 0 rfl rfl)
theorem dX0_twos_1 : decode cX0_twos 1 = .ok (.aload_n 1, 1) := dk_43 (dk_at dksX0_twos_0 1 rfl rfl)
theorem dX0_twos_2 : decode cX0_twos 2 = .ok (.invokevirtual 54, 3) := dk_182 0 54 (dk_at dksX0_twos_0 2 rfl rfl)
theorem dX0_twos_5 : decode cX0_twos 5 = .ok (.iconst 0, 1) := dk_3 (dk_at dksX0_twos_0 5 rfl rfl)
theorem dX0_twos_6 : decode cX0_twos 6 = .ok (.istore_n 3, 1) := dk_62 (dk_at dksX0_twos_0 6 rfl rfl)
theorem dX0_twos_7 : decode cX0_twos 7 = .ok (.iconst 0, 1) := dk_3 (dk_at dksX0_twos_0 7 rfl rfl)
theorem dX0_twos_8 : decode cX0_twos 8 = .ok (.istore 4, 2) := dk_54 4 (dk_at dksX0_twos_0 8 rfl rfl)
theorem dX0_twos_10 : decode cX0_twos 10 = .ok (.iload 4, 2) := dk_21 4 (dk_at dksX0_twos_0 10 rfl rfl)
theorem dX0_twos_12 : decode cX0_twos 12 = .ok (.aload_n 1, 1) := dk_43 (dk_at dksX0_twos_0 12 rfl rfl)
theorem dX0_twos_13 : decode cX0_twos 13 = .ok (.getfield 44, 3) := dk_180 0 44 (dk_at dksX0_twos_0 13 rfl rfl)
theorem dX0_twos_16 : decode cX0_twos 16 = .ok (.if_icmp .ge 70, 3) := dk_162 0 70 (dk_at dksX0_twos_0 16 rfl rfl)
theorem dX0_twos_19 : decode cX0_twos 19 = .ok (.iload 4, 2) := dk_21 4 (dk_at dksX0_twos_0 19 rfl rfl)
theorem dX0_twos_21 : decode cX0_twos 21 = .ok (.iconst 1, 1) := dk_4 (dk_at dksX0_twos_0 21 rfl rfl)
theorem dX0_twos_22 : decode cX0_twos 22 = .ok (.iadd, 1) := dk_96 (dk_at dksX0_twos_0 22 rfl rfl)
theorem dX0_twos_23 : decode cX0_twos 23 = .ok (.istore 5, 2) := dk_54 5 (dk_at dksX0_twos_1 0 rfl rfl)
theorem dX0_twos_25 : decode cX0_twos 25 = .ok (.iload 5, 2) := dk_21 5 (dk_at dksX0_twos_1 2 rfl rfl)
theorem dX0_twos_27 : decode cX0_twos 27 = .ok (.aload_n 1, 1) := dk_43 (dk_at dksX0_twos_1 4 rfl rfl)
theorem dX0_twos_28 : decode cX0_twos 28 = .ok (.getfield 44, 3) := dk_180 0 44 (dk_at dksX0_twos_1 5 rfl rfl)
theorem dX0_twos_31 : decode cX0_twos 31 = .ok (.if_icmp .ge 49, 3) := dk_162 0 49 (dk_at dksX0_twos_1 8 rfl rfl)
theorem dX0_twos_34 : decode cX0_twos 34 = .ok (.iload_n 3, 1) := dk_29 (dk_at dksX0_twos_1 11 rfl rfl)
theorem dX0_twos_35 : decode cX0_twos 35 = .ok (.iload_n 2, 1) := dk_28 (dk_at dksX0_twos_1 12 rfl rfl)
theorem dX0_twos_36 : decode cX0_twos 36 = .ok (.iconst (-1), 1) := dk_2 (dk_at dksX0_twos_1 13 rfl rfl)
theorem dX0_twos_37 : decode cX0_twos 37 = .ok (.if_icmp .ne 16, 3) := dk_160 0 16 (dk_at dksX0_twos_1 14 rfl rfl)
theorem dX0_twos_40 : decode cX0_twos 40 = .ok (.aload_n 0, 1) := dk_42 (dk_at dksX0_twos_1 17 rfl rfl)
theorem dX0_twos_41 : decode cX0_twos 41 = .ok (.getfield 37, 3) := dk_180 0 37 (dk_at dksX0_twos_1 18 rfl rfl)
theorem dX0_twos_44 : decode cX0_twos 44 = .ok (.iload 4, 2) := dk_21 4 (dk_at dksX0_twos_1 21 rfl rfl)
theorem dX0_twos_46 : decode cX0_twos 46 = .ok (.aaload, 1) := dk_50 (dk_at dksX0_twos_1 23 rfl rfl)
theorem dX0_twos_47 : decode cX0_twos 47 = .ok (.iload 5, 2) := dk_21 5 (dk_at dksX0_twos_2 0 rfl rfl)
theorem dX0_twos_49 : decode cX0_twos 49 = .ok (.iaload, 1) := dk_46 (dk_at dksX0_twos_2 2 rfl rfl)
theorem dX0_twos_50 : decode cX0_twos 50 = .ok (.goto 22, 3) := dk_167 0 22 (dk_at dksX0_twos_2 3 rfl rfl)
theorem dX0_twos_53 : decode cX0_twos 53 = .ok (.aload_n 0, 1) := dk_42 (dk_at dksX0_twos_2 6 rfl rfl)
theorem dX0_twos_54 : decode cX0_twos 54 = .ok (.getfield 37, 3) := dk_180 0 37 (dk_at dksX0_twos_2 7 rfl rfl)
theorem dX0_twos_57 : decode cX0_twos 57 = .ok (.iload 4, 2) := dk_21 4 (dk_at dksX0_twos_2 10 rfl rfl)
theorem dX0_twos_59 : decode cX0_twos 59 = .ok (.aaload, 1) := dk_50 (dk_at dksX0_twos_2 12 rfl rfl)
theorem dX0_twos_60 : decode cX0_twos 60 = .ok (.iload 5, 2) := dk_21 5 (dk_at dksX0_twos_2 13 rfl rfl)
theorem dX0_twos_62 : decode cX0_twos 62 = .ok (.iaload, 1) := dk_46 (dk_at dksX0_twos_2 15 rfl rfl)
theorem dX0_twos_63 : decode cX0_twos 63 = .ok (.iload_n 2, 1) := dk_28 (dk_at dksX0_twos_2 16 rfl rfl)
theorem dX0_twos_64 : decode cX0_twos 64 = .ok (.if_icmp .ne 7, 3) := dk_160 0 7 (dk_at dksX0_twos_2 17 rfl rfl)
theorem dX0_twos_67 : decode cX0_twos 67 = .ok (.iconst 1, 1) := dk_4 (dk_at dksX0_twos_2 20 rfl rfl)
theorem dX0_twos_68 : decode cX0_twos 68 = .ok (.goto 4, 3) := dk_167 0 4 (dk_at dksX0_twos_2 21 rfl rfl)
theorem dX0_twos_71 : decode cX0_twos 71 = .ok (.iconst 0, 1) := dk_3 (dk_at dksX0_twos_3 0 rfl rfl)
theorem dX0_twos_72 : decode cX0_twos 72 = .ok (.iadd, 1) := dk_96 (dk_at dksX0_twos_3 1 rfl rfl)
theorem dX0_twos_73 : decode cX0_twos 73 = .ok (.istore_n 3, 1) := dk_62 (dk_at dksX0_twos_3 2 rfl rfl)
theorem dX0_twos_74 : decode cX0_twos 74 = .ok (.iinc 5 1, 3) := dk_132 5 1 (dk_at dksX0_twos_3 3 rfl rfl)
theorem dX0_twos_77 : decode cX0_twos 77 = .ok (.goto (-52), 3) := dk_167 255 204 (dk_at dksX0_twos_3 6 rfl rfl)
theorem dX0_twos_80 : decode cX0_twos 80 = .ok (.iinc 4 1, 3) := dk_132 4 1 (dk_at dksX0_twos_3 9 rfl rfl)
theorem dX0_twos_83 : decode cX0_twos 83 = .ok (.goto (-73), 3) := dk_167 255 183 (dk_at dksX0_twos_3 12 rfl rfl)
theorem dX0_twos_86 : decode cX0_twos 86 = .ok (.iload_n 3, 1) := dk_29 (dk_at dksX0_twos_3 15 rfl rfl)
theorem dX0_twos_87 : decode cX0_twos 87 = .ok (.ireturn, 1) := dk_172 (dk_at dksX0_twos_3 16 rfl rfl)
abbrev cX0_measures : ByteArray := prog_1_method_7_code
def yX0_measures : MethodName := ⟨RX0, "measures", "(LBranchNames$Tree;)V"⟩
def dkwX0_measures_1 : List UInt8 := [167, 255, 236, 177]
abbrev dktX0_measures_1 : List UInt8 := dkwX0_measures_1 ++ []
def dkwX0_measures_0 : List UInt8 := [3, 61, 28, 43, 180, 0, 44, 162, 0, 18, 42, 43, 28, 28, 2, 3, 182, 0, 40, 132, 2, 1]
abbrev dktX0_measures_0 : List UInt8 := dkwX0_measures_0 ++ dktX0_measures_1
theorem dksX0_measures_0 : cX0_measures.data.toList.drop 0 = dktX0_measures_0 := by decide +kernel
theorem dksX0_measures_1 : cX0_measures.data.toList.drop 22 = dktX0_measures_1 := dk_seg dksX0_measures_0 22 rfl rfl
theorem dX0_measures_0 : decode cX0_measures 0 = .ok (.iconst 0, 1) := dk_3 (dk_at dksX0_measures_0 0 rfl rfl)
theorem dX0_measures_1 : decode cX0_measures 1 = .ok (.istore_n 2, 1) := dk_61 (dk_at dksX0_measures_0 1 rfl rfl)
theorem dX0_measures_2 : decode cX0_measures 2 = .ok (.iload_n 2, 1) := dk_28 (dk_at dksX0_measures_0 2 rfl rfl)
theorem dX0_measures_3 : decode cX0_measures 3 = .ok (.aload_n 1, 1) := dk_43 (dk_at dksX0_measures_0 3 rfl rfl)
theorem dX0_measures_4 : decode cX0_measures 4 = .ok (.getfield 44, 3) := dk_180 0 44 (dk_at dksX0_measures_0 4 rfl rfl)
theorem dX0_measures_7 : decode cX0_measures 7 = .ok (.if_icmp .ge 18, 3) := dk_162 0 18 (dk_at dksX0_measures_0 7 rfl rfl)
theorem dX0_measures_10 : decode cX0_measures 10 = .ok (.aload_n 0, 1) := dk_42 (dk_at dksX0_measures_0 10 rfl rfl)
theorem dX0_measures_11 : decode cX0_measures 11 = .ok (.aload_n 1, 1) := dk_43 (dk_at dksX0_measures_0 11 rfl rfl)
theorem dX0_measures_12 : decode cX0_measures 12 = .ok (.iload_n 2, 1) := dk_28 (dk_at dksX0_measures_0 12 rfl rfl)
theorem dX0_measures_13 : decode cX0_measures 13 = .ok (.iload_n 2, 1) := dk_28 (dk_at dksX0_measures_0 13 rfl rfl)
theorem dX0_measures_14 : decode cX0_measures 14 = .ok (.iconst (-1), 1) := dk_2 (dk_at dksX0_measures_0 14 rfl rfl)
theorem dX0_measures_15 : decode cX0_measures 15 = .ok (.iconst 0, 1) := dk_3 (dk_at dksX0_measures_0 15 rfl rfl)
theorem dX0_measures_16 : decode cX0_measures 16 = .ok (.invokevirtual 40, 3) := dk_182 0 40 (dk_at dksX0_measures_0 16 rfl rfl)
theorem dX0_measures_19 : decode cX0_measures 19 = .ok (.iinc 2 1, 3) := dk_132 2 1 (dk_at dksX0_measures_0 19 rfl rfl)
theorem dX0_measures_22 : decode cX0_measures 22 = .ok (.goto (-20), 3) := dk_167 255 236 (dk_at dksX0_measures_1 0 rfl rfl)
theorem dX0_measures_25 : decode cX0_measures 25 = .ok (.return_, 1) := dk_177 (dk_at dksX0_measures_1 3 rfl rfl)
abbrev cX0_goes : ByteArray := prog_1_method_6_code
def yX0_goes : MethodName := ⟨RX0, "goes", "(LBranchNames$Tree;IIII)V"⟩
def dkwX0_goes_2 : List UInt8 := [21, 6, 46, 29, 21, 5, 4, 96, 182, 0, 40, 132, 6, 1, 167, 255, 208, 177]
abbrev dktX0_goes_2 : List UInt8 := dkwX0_goes_2 ++ []
def dkwX0_goes_1 : List UInt8 := [43, 180, 0, 17, 29, 50, 21, 6, 46, 21, 4, 159, 0, 23, 42, 43, 28, 43, 180, 0, 17, 29, 50]
abbrev dktX0_goes_1 : List UInt8 := dkwX0_goes_1 ++ dktX0_goes_2
def dkwX0_goes_0 : List UInt8 := [42, 180, 0, 37, 28, 50, 29, 21, 5, 79, 3, 54, 6, 21, 6, 43, 180, 0, 11, 29, 46, 162, 0, 43]
abbrev dktX0_goes_0 : List UInt8 := dkwX0_goes_0 ++ dktX0_goes_1
theorem dksX0_goes_0 : cX0_goes.data.toList.drop 0 = dktX0_goes_0 := by decide +kernel
theorem dksX0_goes_1 : cX0_goes.data.toList.drop 24 = dktX0_goes_1 := dk_seg dksX0_goes_0 24 rfl rfl
theorem dksX0_goes_2 : cX0_goes.data.toList.drop 47 = dktX0_goes_2 := dk_seg dksX0_goes_1 23 rfl rfl
theorem dX0_goes_0 : decode cX0_goes 0 = .ok (.aload_n 0, 1) := dk_42 (dk_at dksX0_goes_0 0 rfl rfl)
theorem dX0_goes_1 : decode cX0_goes 1 = .ok (.getfield 37, 3) := dk_180 0 37 (dk_at dksX0_goes_0 1 rfl rfl)
theorem dX0_goes_4 : decode cX0_goes 4 = .ok (.iload_n 2, 1) := dk_28 (dk_at dksX0_goes_0 4 rfl rfl)
theorem dX0_goes_5 : decode cX0_goes 5 = .ok (.aaload, 1) := dk_50 (dk_at dksX0_goes_0 5 rfl rfl)
theorem dX0_goes_6 : decode cX0_goes 6 = .ok (.iload_n 3, 1) := dk_29 (dk_at dksX0_goes_0 6 rfl rfl)
theorem dX0_goes_7 : decode cX0_goes 7 = .ok (.iload 5, 2) := dk_21 5 (dk_at dksX0_goes_0 7 rfl rfl)
theorem dX0_goes_9 : decode cX0_goes 9 = .ok (.iastore, 1) := dk_79 (dk_at dksX0_goes_0 9 rfl rfl)
theorem dX0_goes_10 : decode cX0_goes 10 = .ok (.iconst 0, 1) := dk_3 (dk_at dksX0_goes_0 10 rfl rfl)
theorem dX0_goes_11 : decode cX0_goes 11 = .ok (.istore 6, 2) := dk_54 6 (dk_at dksX0_goes_0 11 rfl rfl)
theorem dX0_goes_13 : decode cX0_goes 13 = .ok (.iload 6, 2) := dk_21 6 (dk_at dksX0_goes_0 13 rfl rfl)
theorem dX0_goes_15 : decode cX0_goes 15 = .ok (.aload_n 1, 1) := dk_43 (dk_at dksX0_goes_0 15 rfl rfl)
theorem dX0_goes_16 : decode cX0_goes 16 = .ok (.getfield 11, 3) := dk_180 0 11 (dk_at dksX0_goes_0 16 rfl rfl)
theorem dX0_goes_19 : decode cX0_goes 19 = .ok (.iload_n 3, 1) := dk_29 (dk_at dksX0_goes_0 19 rfl rfl)
theorem dX0_goes_20 : decode cX0_goes 20 = .ok (.iaload, 1) := dk_46 (dk_at dksX0_goes_0 20 rfl rfl)
theorem dX0_goes_21 : decode cX0_goes 21 = .ok (.if_icmp .ge 43, 3) := dk_162 0 43 (dk_at dksX0_goes_0 21 rfl rfl)
theorem dX0_goes_24 : decode cX0_goes 24 = .ok (.aload_n 1, 1) := dk_43 (dk_at dksX0_goes_1 0 rfl rfl)
theorem dX0_goes_25 : decode cX0_goes 25 = .ok (.getfield 17, 3) := dk_180 0 17 (dk_at dksX0_goes_1 1 rfl rfl)
theorem dX0_goes_28 : decode cX0_goes 28 = .ok (.iload_n 3, 1) := dk_29 (dk_at dksX0_goes_1 4 rfl rfl)
theorem dX0_goes_29 : decode cX0_goes 29 = .ok (.aaload, 1) := dk_50 (dk_at dksX0_goes_1 5 rfl rfl)
theorem dX0_goes_30 : decode cX0_goes 30 = .ok (.iload 6, 2) := dk_21 6 (dk_at dksX0_goes_1 6 rfl rfl)
theorem dX0_goes_32 : decode cX0_goes 32 = .ok (.iaload, 1) := dk_46 (dk_at dksX0_goes_1 8 rfl rfl)
theorem dX0_goes_33 : decode cX0_goes 33 = .ok (.iload 4, 2) := dk_21 4 (dk_at dksX0_goes_1 9 rfl rfl)
theorem dX0_goes_35 : decode cX0_goes 35 = .ok (.if_icmp .eq 23, 3) := dk_159 0 23 (dk_at dksX0_goes_1 11 rfl rfl)
theorem dX0_goes_38 : decode cX0_goes 38 = .ok (.aload_n 0, 1) := dk_42 (dk_at dksX0_goes_1 14 rfl rfl)
theorem dX0_goes_39 : decode cX0_goes 39 = .ok (.aload_n 1, 1) := dk_43 (dk_at dksX0_goes_1 15 rfl rfl)
theorem dX0_goes_40 : decode cX0_goes 40 = .ok (.iload_n 2, 1) := dk_28 (dk_at dksX0_goes_1 16 rfl rfl)
theorem dX0_goes_41 : decode cX0_goes 41 = .ok (.aload_n 1, 1) := dk_43 (dk_at dksX0_goes_1 17 rfl rfl)
theorem dX0_goes_42 : decode cX0_goes 42 = .ok (.getfield 17, 3) := dk_180 0 17 (dk_at dksX0_goes_1 18 rfl rfl)
theorem dX0_goes_45 : decode cX0_goes 45 = .ok (.iload_n 3, 1) := dk_29 (dk_at dksX0_goes_1 21 rfl rfl)
theorem dX0_goes_46 : decode cX0_goes 46 = .ok (.aaload, 1) := dk_50 (dk_at dksX0_goes_1 22 rfl rfl)
theorem dX0_goes_47 : decode cX0_goes 47 = .ok (.iload 6, 2) := dk_21 6 (dk_at dksX0_goes_2 0 rfl rfl)
theorem dX0_goes_49 : decode cX0_goes 49 = .ok (.iaload, 1) := dk_46 (dk_at dksX0_goes_2 2 rfl rfl)
theorem dX0_goes_50 : decode cX0_goes 50 = .ok (.iload_n 3, 1) := dk_29 (dk_at dksX0_goes_2 3 rfl rfl)
theorem dX0_goes_51 : decode cX0_goes 51 = .ok (.iload 5, 2) := dk_21 5 (dk_at dksX0_goes_2 4 rfl rfl)
theorem dX0_goes_53 : decode cX0_goes 53 = .ok (.iconst 1, 1) := dk_4 (dk_at dksX0_goes_2 6 rfl rfl)
theorem dX0_goes_54 : decode cX0_goes 54 = .ok (.iadd, 1) := dk_96 (dk_at dksX0_goes_2 7 rfl rfl)
theorem dX0_goes_55 : decode cX0_goes 55 = .ok (.invokevirtual 40, 3) := dk_182 0 40 (dk_at dksX0_goes_2 8 rfl rfl)
theorem dX0_goes_58 : decode cX0_goes 58 = .ok (.iinc 6 1, 3) := dk_132 6 1 (dk_at dksX0_goes_2 11 rfl rfl)
theorem dX0_goes_61 : decode cX0_goes 61 = .ok (.goto (-48), 3) := dk_167 255 208 (dk_at dksX0_goes_2 14 rfl rfl)
theorem dX0_goes_64 : decode cX0_goes 64 = .ok (.return_, 1) := dk_177 (dk_at dksX0_goes_2 17 rfl rfl)
abbrev cX0_endsOf : ByteArray := prog_1_method_21_code
def yX0_endsOf : MethodName := ⟨RX0, "endsOf", "(LBranchNames$Tree;)I"⟩
def dkwX0_endsOf_1 : List UInt8 := [167, 0, 4, 3, 96, 60, 132, 2, 1, 167, 255, 227, 27, 172]
abbrev dktX0_endsOf_1 : List UInt8 := dkwX0_endsOf_1 ++ []
def dkwX0_endsOf_0 : List UInt8 := [3, 60, 3, 61, 28, 42, 180, 0, 44, 162, 0, 27, 27, 42, 180, 0, 11, 28, 46, 4, 160, 0, 7, 4]
abbrev dktX0_endsOf_0 : List UInt8 := dkwX0_endsOf_0 ++ dktX0_endsOf_1
theorem dksX0_endsOf_0 : cX0_endsOf.data.toList.drop 0 = dktX0_endsOf_0 := by decide +kernel
theorem dksX0_endsOf_1 : cX0_endsOf.data.toList.drop 24 = dktX0_endsOf_1 := dk_seg dksX0_endsOf_0 24 rfl rfl
theorem dX0_endsOf_0 : decode cX0_endsOf 0 = .ok (.iconst 0, 1) := dk_3 (dk_at dksX0_endsOf_0 0 rfl rfl)
theorem dX0_endsOf_1 : decode cX0_endsOf 1 = .ok (.istore_n 1, 1) := dk_60 (dk_at dksX0_endsOf_0 1 rfl rfl)
theorem dX0_endsOf_2 : decode cX0_endsOf 2 = .ok (.iconst 0, 1) := dk_3 (dk_at dksX0_endsOf_0 2 rfl rfl)
theorem dX0_endsOf_3 : decode cX0_endsOf 3 = .ok (.istore_n 2, 1) := dk_61 (dk_at dksX0_endsOf_0 3 rfl rfl)
theorem dX0_endsOf_4 : decode cX0_endsOf 4 = .ok (.iload_n 2, 1) := dk_28 (dk_at dksX0_endsOf_0 4 rfl rfl)
theorem dX0_endsOf_5 : decode cX0_endsOf 5 = .ok (.aload_n 0, 1) := dk_42 (dk_at dksX0_endsOf_0 5 rfl rfl)
theorem dX0_endsOf_6 : decode cX0_endsOf 6 = .ok (.getfield 44, 3) := dk_180 0 44 (dk_at dksX0_endsOf_0 6 rfl rfl)
theorem dX0_endsOf_9 : decode cX0_endsOf 9 = .ok (.if_icmp .ge 27, 3) := dk_162 0 27 (dk_at dksX0_endsOf_0 9 rfl rfl)
theorem dX0_endsOf_12 : decode cX0_endsOf 12 = .ok (.iload_n 1, 1) := dk_27 (dk_at dksX0_endsOf_0 12 rfl rfl)
theorem dX0_endsOf_13 : decode cX0_endsOf 13 = .ok (.aload_n 0, 1) := dk_42 (dk_at dksX0_endsOf_0 13 rfl rfl)
theorem dX0_endsOf_14 : decode cX0_endsOf 14 = .ok (.getfield 11, 3) := dk_180 0 11 (dk_at dksX0_endsOf_0 14 rfl rfl)
theorem dX0_endsOf_17 : decode cX0_endsOf 17 = .ok (.iload_n 2, 1) := dk_28 (dk_at dksX0_endsOf_0 17 rfl rfl)
theorem dX0_endsOf_18 : decode cX0_endsOf 18 = .ok (.iaload, 1) := dk_46 (dk_at dksX0_endsOf_0 18 rfl rfl)
theorem dX0_endsOf_19 : decode cX0_endsOf 19 = .ok (.iconst 1, 1) := dk_4 (dk_at dksX0_endsOf_0 19 rfl rfl)
theorem dX0_endsOf_20 : decode cX0_endsOf 20 = .ok (.if_icmp .ne 7, 3) := dk_160 0 7 (dk_at dksX0_endsOf_0 20 rfl rfl)
theorem dX0_endsOf_23 : decode cX0_endsOf 23 = .ok (.iconst 1, 1) := dk_4 (dk_at dksX0_endsOf_0 23 rfl rfl)
theorem dX0_endsOf_24 : decode cX0_endsOf 24 = .ok (.goto 4, 3) := dk_167 0 4 (dk_at dksX0_endsOf_1 0 rfl rfl)
theorem dX0_endsOf_27 : decode cX0_endsOf 27 = .ok (.iconst 0, 1) := dk_3 (dk_at dksX0_endsOf_1 3 rfl rfl)
theorem dX0_endsOf_28 : decode cX0_endsOf 28 = .ok (.iadd, 1) := dk_96 (dk_at dksX0_endsOf_1 4 rfl rfl)
theorem dX0_endsOf_29 : decode cX0_endsOf 29 = .ok (.istore_n 1, 1) := dk_60 (dk_at dksX0_endsOf_1 5 rfl rfl)
theorem dX0_endsOf_30 : decode cX0_endsOf 30 = .ok (.iinc 2 1, 3) := dk_132 2 1 (dk_at dksX0_endsOf_1 6 rfl rfl)
theorem dX0_endsOf_33 : decode cX0_endsOf 33 = .ok (.goto (-29), 3) := dk_167 255 227 (dk_at dksX0_endsOf_1 9 rfl rfl)
theorem dX0_endsOf_36 : decode cX0_endsOf 36 = .ok (.iload_n 1, 1) := dk_27 (dk_at dksX0_endsOf_1 12 rfl rfl)
theorem dX0_endsOf_37 : decode cX0_endsOf 37 = .ok (.ireturn, 1) := dk_172 (dk_at dksX0_endsOf_1 13 rfl rfl)
abbrev cX0_lambda_new_3 : ByteArray := prog_1_method_104_code
def yX0_lambda_new_3 : MethodName := ⟨RX0, "lambda$new$3", "(LBranchNames$Tree;)I"⟩
def dkwX0_lambda_new_3_0 : List UInt8 := [42, 43, 6, 182, 2, 180, 172]
abbrev dktX0_lambda_new_3_0 : List UInt8 := dkwX0_lambda_new_3_0 ++ []
theorem dksX0_lambda_new_3_0 : cX0_lambda_new_3.data.toList.drop 0 = dktX0_lambda_new_3_0 := by decide +kernel
theorem dX0_lambda_new_3_0 : decode cX0_lambda_new_3 0 = .ok (.aload_n 0, 1) := dk_42 (dk_at dksX0_lambda_new_3_0 0 rfl rfl)
theorem dX0_lambda_new_3_1 : decode cX0_lambda_new_3 1 = .ok (.aload_n 1, 1) := dk_43 (dk_at dksX0_lambda_new_3_0 1 rfl rfl)
theorem dX0_lambda_new_3_2 : decode cX0_lambda_new_3 2 = .ok (.iconst 3, 1) := dk_6 (dk_at dksX0_lambda_new_3_0 2 rfl rfl)
theorem dX0_lambda_new_3_3 : decode cX0_lambda_new_3 3 = .ok (.invokevirtual 692, 3) := dk_182 2 180 (dk_at dksX0_lambda_new_3_0 3 rfl rfl)
theorem dX0_lambda_new_3_6 : decode cX0_lambda_new_3 6 = .ok (.ireturn, 1) := dk_172 (dk_at dksX0_lambda_new_3_0 6 rfl rfl)
abbrev cX0_leastDeep : ByteArray := prog_1_method_23_code
def yX0_leastDeep : MethodName := ⟨RX0, "leastDeep", "(LBranchNames$Tree;)I"⟩
def dkwX0_leastDeep_0 : List UInt8 := [42, 43, 3, 182, 0, 65, 61, 42, 43, 28, 182, 0, 58, 172]
abbrev dktX0_leastDeep_0 : List UInt8 := dkwX0_leastDeep_0 ++ []
theorem dksX0_leastDeep_0 : cX0_leastDeep.data.toList.drop 0 = dktX0_leastDeep_0 := by decide +kernel
theorem dX0_leastDeep_0 : decode cX0_leastDeep 0 = .ok (.aload_n 0, 1) := dk_42 (dk_at dksX0_leastDeep_0 0 rfl rfl)
theorem dX0_leastDeep_1 : decode cX0_leastDeep 1 = .ok (.aload_n 1, 1) := dk_43 (dk_at dksX0_leastDeep_0 1 rfl rfl)
theorem dX0_leastDeep_2 : decode cX0_leastDeep 2 = .ok (.iconst 0, 1) := dk_3 (dk_at dksX0_leastDeep_0 2 rfl rfl)
theorem dX0_leastDeep_3 : decode cX0_leastDeep 3 = .ok (.invokevirtual 65, 3) := dk_182 0 65 (dk_at dksX0_leastDeep_0 3 rfl rfl)
theorem dX0_leastDeep_6 : decode cX0_leastDeep 6 = .ok (.istore_n 2, 1) := dk_61 (dk_at dksX0_leastDeep_0 6 rfl rfl)
theorem dX0_leastDeep_7 : decode cX0_leastDeep 7 = .ok (.aload_n 0, 1) := dk_42 (dk_at dksX0_leastDeep_0 7 rfl rfl)
theorem dX0_leastDeep_8 : decode cX0_leastDeep 8 = .ok (.aload_n 1, 1) := dk_43 (dk_at dksX0_leastDeep_0 8 rfl rfl)
theorem dX0_leastDeep_9 : decode cX0_leastDeep 9 = .ok (.iload_n 2, 1) := dk_28 (dk_at dksX0_leastDeep_0 9 rfl rfl)
theorem dX0_leastDeep_10 : decode cX0_leastDeep 10 = .ok (.invokevirtual 58, 3) := dk_182 0 58 (dk_at dksX0_leastDeep_0 10 rfl rfl)
theorem dX0_leastDeep_13 : decode cX0_leastDeep 13 = .ok (.ireturn, 1) := dk_172 (dk_at dksX0_leastDeep_0 13 rfl rfl)
abbrev cX0_centre : ByteArray := prog_1_method_9_code
def yX0_centre : MethodName := ⟨RX0, "centre", "(LBranchNames$Tree;I)I"⟩
def dkwX0_centre_3 : List UInt8 := [154, 0, 6, 21, 5, 172, 132, 4, 255, 132, 5, 1, 167, 255, 219, 2, 172]
abbrev dktX0_centre_3 : List UInt8 := dkwX0_centre_3 ++ []
def dkwX0_centre_2 : List UInt8 := [180, 0, 44, 162, 0, 34, 42, 43, 21, 5, 182, 0, 58, 29, 159, 0, 6, 167, 0, 14, 21, 4]
abbrev dktX0_centre_2 : List UInt8 := dkwX0_centre_2 ++ dktX0_centre_3
def dkwX0_centre_1 : List UInt8 := [21, 4, 182, 0, 58, 184, 0, 62, 62, 132, 4, 1, 167, 255, 232, 28, 54, 4, 3, 54, 5, 21, 5, 43]
abbrev dktX0_centre_1 : List UInt8 := dkwX0_centre_1 ++ dktX0_centre_2
def dkwX0_centre_0 : List UInt8 := [42, 43, 182, 0, 54, 16, 13, 62, 3, 54, 4, 21, 4, 43, 180, 0, 44, 162, 0, 21, 29, 42, 43]
abbrev dktX0_centre_0 : List UInt8 := dkwX0_centre_0 ++ dktX0_centre_1
theorem dksX0_centre_0 : cX0_centre.data.toList.drop 0 = dktX0_centre_0 := by decide +kernel
theorem dksX0_centre_1 : cX0_centre.data.toList.drop 23 = dktX0_centre_1 := dk_seg dksX0_centre_0 23 rfl rfl
theorem dksX0_centre_2 : cX0_centre.data.toList.drop 47 = dktX0_centre_2 := dk_seg dksX0_centre_1 24 rfl rfl
theorem dksX0_centre_3 : cX0_centre.data.toList.drop 69 = dktX0_centre_3 := dk_seg dksX0_centre_2 22 rfl rfl
theorem dX0_centre_0 : decode cX0_centre 0 = .ok (.aload_n 0, 1) := dk_42 (dk_at dksX0_centre_0 0 rfl rfl)
theorem dX0_centre_1 : decode cX0_centre 1 = .ok (.aload_n 1, 1) := dk_43 (dk_at dksX0_centre_0 1 rfl rfl)
theorem dX0_centre_2 : decode cX0_centre 2 = .ok (.invokevirtual 54, 3) := dk_182 0 54 (dk_at dksX0_centre_0 2 rfl rfl)
theorem dX0_centre_5 : decode cX0_centre 5 = .ok (.bipush 13, 2) := dk_16 13 (dk_at dksX0_centre_0 5 rfl rfl)
theorem dX0_centre_7 : decode cX0_centre 7 = .ok (.istore_n 3, 1) := dk_62 (dk_at dksX0_centre_0 7 rfl rfl)
theorem dX0_centre_8 : decode cX0_centre 8 = .ok (.iconst 0, 1) := dk_3 (dk_at dksX0_centre_0 8 rfl rfl)
theorem dX0_centre_9 : decode cX0_centre 9 = .ok (.istore 4, 2) := dk_54 4 (dk_at dksX0_centre_0 9 rfl rfl)
theorem dX0_centre_11 : decode cX0_centre 11 = .ok (.iload 4, 2) := dk_21 4 (dk_at dksX0_centre_0 11 rfl rfl)
theorem dX0_centre_13 : decode cX0_centre 13 = .ok (.aload_n 1, 1) := dk_43 (dk_at dksX0_centre_0 13 rfl rfl)
theorem dX0_centre_14 : decode cX0_centre 14 = .ok (.getfield 44, 3) := dk_180 0 44 (dk_at dksX0_centre_0 14 rfl rfl)
theorem dX0_centre_17 : decode cX0_centre 17 = .ok (.if_icmp .ge 21, 3) := dk_162 0 21 (dk_at dksX0_centre_0 17 rfl rfl)
theorem dX0_centre_20 : decode cX0_centre 20 = .ok (.iload_n 3, 1) := dk_29 (dk_at dksX0_centre_0 20 rfl rfl)
theorem dX0_centre_21 : decode cX0_centre 21 = .ok (.aload_n 0, 1) := dk_42 (dk_at dksX0_centre_0 21 rfl rfl)
theorem dX0_centre_22 : decode cX0_centre 22 = .ok (.aload_n 1, 1) := dk_43 (dk_at dksX0_centre_0 22 rfl rfl)
theorem dX0_centre_23 : decode cX0_centre 23 = .ok (.iload 4, 2) := dk_21 4 (dk_at dksX0_centre_1 0 rfl rfl)
theorem dX0_centre_25 : decode cX0_centre 25 = .ok (.invokevirtual 58, 3) := dk_182 0 58 (dk_at dksX0_centre_1 2 rfl rfl)
theorem dX0_centre_28 : decode cX0_centre 28 = .ok (.invokestatic 62, 3) := dk_184 0 62 (dk_at dksX0_centre_1 5 rfl rfl)
theorem dX0_centre_31 : decode cX0_centre 31 = .ok (.istore_n 3, 1) := dk_62 (dk_at dksX0_centre_1 8 rfl rfl)
theorem dX0_centre_32 : decode cX0_centre 32 = .ok (.iinc 4 1, 3) := dk_132 4 1 (dk_at dksX0_centre_1 9 rfl rfl)
theorem dX0_centre_35 : decode cX0_centre 35 = .ok (.goto (-24), 3) := dk_167 255 232 (dk_at dksX0_centre_1 12 rfl rfl)
theorem dX0_centre_38 : decode cX0_centre 38 = .ok (.iload_n 2, 1) := dk_28 (dk_at dksX0_centre_1 15 rfl rfl)
theorem dX0_centre_39 : decode cX0_centre 39 = .ok (.istore 4, 2) := dk_54 4 (dk_at dksX0_centre_1 16 rfl rfl)
theorem dX0_centre_41 : decode cX0_centre 41 = .ok (.iconst 0, 1) := dk_3 (dk_at dksX0_centre_1 18 rfl rfl)
theorem dX0_centre_42 : decode cX0_centre 42 = .ok (.istore 5, 2) := dk_54 5 (dk_at dksX0_centre_1 19 rfl rfl)
theorem dX0_centre_44 : decode cX0_centre 44 = .ok (.iload 5, 2) := dk_21 5 (dk_at dksX0_centre_1 21 rfl rfl)
theorem dX0_centre_46 : decode cX0_centre 46 = .ok (.aload_n 1, 1) := dk_43 (dk_at dksX0_centre_1 23 rfl rfl)
theorem dX0_centre_47 : decode cX0_centre 47 = .ok (.getfield 44, 3) := dk_180 0 44 (dk_at dksX0_centre_2 0 rfl rfl)
theorem dX0_centre_50 : decode cX0_centre 50 = .ok (.if_icmp .ge 34, 3) := dk_162 0 34 (dk_at dksX0_centre_2 3 rfl rfl)
theorem dX0_centre_53 : decode cX0_centre 53 = .ok (.aload_n 0, 1) := dk_42 (dk_at dksX0_centre_2 6 rfl rfl)
theorem dX0_centre_54 : decode cX0_centre 54 = .ok (.aload_n 1, 1) := dk_43 (dk_at dksX0_centre_2 7 rfl rfl)
theorem dX0_centre_55 : decode cX0_centre 55 = .ok (.iload 5, 2) := dk_21 5 (dk_at dksX0_centre_2 8 rfl rfl)
theorem dX0_centre_57 : decode cX0_centre 57 = .ok (.invokevirtual 58, 3) := dk_182 0 58 (dk_at dksX0_centre_2 10 rfl rfl)
theorem dX0_centre_60 : decode cX0_centre 60 = .ok (.iload_n 3, 1) := dk_29 (dk_at dksX0_centre_2 13 rfl rfl)
theorem dX0_centre_61 : decode cX0_centre 61 = .ok (.if_icmp .eq 6, 3) := dk_159 0 6 (dk_at dksX0_centre_2 14 rfl rfl)
theorem dX0_centre_64 : decode cX0_centre 64 = .ok (.goto 14, 3) := dk_167 0 14 (dk_at dksX0_centre_2 17 rfl rfl)
theorem dX0_centre_67 : decode cX0_centre 67 = .ok (.iload 4, 2) := dk_21 4 (dk_at dksX0_centre_2 20 rfl rfl)
theorem dX0_centre_69 : decode cX0_centre 69 = .ok (.ifCond .ne 6, 3) := dk_154 0 6 (dk_at dksX0_centre_3 0 rfl rfl)
theorem dX0_centre_72 : decode cX0_centre 72 = .ok (.iload 5, 2) := dk_21 5 (dk_at dksX0_centre_3 3 rfl rfl)
theorem dX0_centre_74 : decode cX0_centre 74 = .ok (.ireturn, 1) := dk_172 (dk_at dksX0_centre_3 5 rfl rfl)
theorem dX0_centre_75 : decode cX0_centre 75 = .ok (.iinc 4 (-1), 3) := dk_132 4 255 (dk_at dksX0_centre_3 6 rfl rfl)
theorem dX0_centre_78 : decode cX0_centre 78 = .ok (.iinc 5 1, 3) := dk_132 5 1 (dk_at dksX0_centre_3 9 rfl rfl)
theorem dX0_centre_81 : decode cX0_centre 81 = .ok (.goto (-37), 3) := dk_167 255 219 (dk_at dksX0_centre_3 12 rfl rfl)
theorem dX0_centre_84 : decode cX0_centre 84 = .ok (.iconst (-1), 1) := dk_2 (dk_at dksX0_centre_3 15 rfl rfl)
theorem dX0_centre_85 : decode cX0_centre 85 = .ok (.ireturn, 1) := dk_172 (dk_at dksX0_centre_3 16 rfl rfl)
abbrev cX0_deep : ByteArray := prog_1_method_8_code
def yX0_deep : MethodName := ⟨RX0, "deep", "(LBranchNames$Tree;I)I"⟩
def dkwX0_deep_1 : List UInt8 := [184, 0, 48, 62, 132, 4, 1, 167, 255, 230, 29, 172]
abbrev dktX0_deep_1 : List UInt8 := dkwX0_deep_1 ++ []
def dkwX0_deep_0 : List UInt8 := [3, 62, 3, 54, 4, 21, 4, 43, 180, 0, 44, 162, 0, 23, 29, 42, 180, 0, 37, 28, 50, 21, 4, 46]
abbrev dktX0_deep_0 : List UInt8 := dkwX0_deep_0 ++ dktX0_deep_1
theorem dksX0_deep_0 : cX0_deep.data.toList.drop 0 = dktX0_deep_0 := by decide +kernel
theorem dksX0_deep_1 : cX0_deep.data.toList.drop 24 = dktX0_deep_1 := dk_seg dksX0_deep_0 24 rfl rfl
theorem dX0_deep_0 : decode cX0_deep 0 = .ok (.iconst 0, 1) := dk_3 (dk_at dksX0_deep_0 0 rfl rfl)
theorem dX0_deep_1 : decode cX0_deep 1 = .ok (.istore_n 3, 1) := dk_62 (dk_at dksX0_deep_0 1 rfl rfl)
theorem dX0_deep_2 : decode cX0_deep 2 = .ok (.iconst 0, 1) := dk_3 (dk_at dksX0_deep_0 2 rfl rfl)
theorem dX0_deep_3 : decode cX0_deep 3 = .ok (.istore 4, 2) := dk_54 4 (dk_at dksX0_deep_0 3 rfl rfl)
theorem dX0_deep_5 : decode cX0_deep 5 = .ok (.iload 4, 2) := dk_21 4 (dk_at dksX0_deep_0 5 rfl rfl)
theorem dX0_deep_7 : decode cX0_deep 7 = .ok (.aload_n 1, 1) := dk_43 (dk_at dksX0_deep_0 7 rfl rfl)
theorem dX0_deep_8 : decode cX0_deep 8 = .ok (.getfield 44, 3) := dk_180 0 44 (dk_at dksX0_deep_0 8 rfl rfl)
theorem dX0_deep_11 : decode cX0_deep 11 = .ok (.if_icmp .ge 23, 3) := dk_162 0 23 (dk_at dksX0_deep_0 11 rfl rfl)
theorem dX0_deep_14 : decode cX0_deep 14 = .ok (.iload_n 3, 1) := dk_29 (dk_at dksX0_deep_0 14 rfl rfl)
theorem dX0_deep_15 : decode cX0_deep 15 = .ok (.aload_n 0, 1) := dk_42 (dk_at dksX0_deep_0 15 rfl rfl)
theorem dX0_deep_16 : decode cX0_deep 16 = .ok (.getfield 37, 3) := dk_180 0 37 (dk_at dksX0_deep_0 16 rfl rfl)
theorem dX0_deep_19 : decode cX0_deep 19 = .ok (.iload_n 2, 1) := dk_28 (dk_at dksX0_deep_0 19 rfl rfl)
theorem dX0_deep_20 : decode cX0_deep 20 = .ok (.aaload, 1) := dk_50 (dk_at dksX0_deep_0 20 rfl rfl)
theorem dX0_deep_21 : decode cX0_deep 21 = .ok (.iload 4, 2) := dk_21 4 (dk_at dksX0_deep_0 21 rfl rfl)
theorem dX0_deep_23 : decode cX0_deep 23 = .ok (.iaload, 1) := dk_46 (dk_at dksX0_deep_0 23 rfl rfl)
theorem dX0_deep_24 : decode cX0_deep 24 = .ok (.invokestatic 48, 3) := dk_184 0 48 (dk_at dksX0_deep_1 0 rfl rfl)
theorem dX0_deep_27 : decode cX0_deep 27 = .ok (.istore_n 3, 1) := dk_62 (dk_at dksX0_deep_1 3 rfl rfl)
theorem dX0_deep_28 : decode cX0_deep 28 = .ok (.iinc 4 1, 3) := dk_132 4 1 (dk_at dksX0_deep_1 4 rfl rfl)
theorem dX0_deep_31 : decode cX0_deep 31 = .ok (.goto (-26), 3) := dk_167 255 230 (dk_at dksX0_deep_1 7 rfl rfl)
theorem dX0_deep_34 : decode cX0_deep 34 = .ok (.iload_n 3, 1) := dk_29 (dk_at dksX0_deep_1 10 rfl rfl)
theorem dX0_deep_35 : decode cX0_deep 35 = .ok (.ireturn, 1) := dk_172 (dk_at dksX0_deep_1 11 rfl rfl)
abbrev cX0_unlikeOf : ByteArray := prog_1_method_28_code
def yX0_unlikeOf : MethodName := ⟨RX0, "unlikeOf", "(LBranchNames$Tree;)I"⟩
def dkwX0_unlikeOf_1 : List UInt8 := [160, 0, 7, 4, 167, 0, 4, 3, 96, 61, 132, 3, 1, 167, 255, 228, 28, 172]
abbrev dktX0_unlikeOf_1 : List UInt8 := dkwX0_unlikeOf_1 ++ []
def dkwX0_unlikeOf_0 : List UInt8 := [42, 43, 182, 0, 152, 3, 61, 3, 62, 29, 43, 180, 0, 44, 162, 0, 26, 28, 42, 29, 182, 0, 155, 29]
abbrev dktX0_unlikeOf_0 : List UInt8 := dkwX0_unlikeOf_0 ++ dktX0_unlikeOf_1
theorem dksX0_unlikeOf_0 : cX0_unlikeOf.data.toList.drop 0 = dktX0_unlikeOf_0 := by decide +kernel
theorem dksX0_unlikeOf_1 : cX0_unlikeOf.data.toList.drop 24 = dktX0_unlikeOf_1 := dk_seg dksX0_unlikeOf_0 24 rfl rfl
theorem dX0_unlikeOf_0 : decode cX0_unlikeOf 0 = .ok (.aload_n 0, 1) := dk_42 (dk_at dksX0_unlikeOf_0 0 rfl rfl)
theorem dX0_unlikeOf_1 : decode cX0_unlikeOf 1 = .ok (.aload_n 1, 1) := dk_43 (dk_at dksX0_unlikeOf_0 1 rfl rfl)
theorem dX0_unlikeOf_2 : decode cX0_unlikeOf 2 = .ok (.invokevirtual 152, 3) := dk_182 0 152 (dk_at dksX0_unlikeOf_0 2 rfl rfl)
theorem dX0_unlikeOf_5 : decode cX0_unlikeOf 5 = .ok (.iconst 0, 1) := dk_3 (dk_at dksX0_unlikeOf_0 5 rfl rfl)
theorem dX0_unlikeOf_6 : decode cX0_unlikeOf 6 = .ok (.istore_n 2, 1) := dk_61 (dk_at dksX0_unlikeOf_0 6 rfl rfl)
theorem dX0_unlikeOf_7 : decode cX0_unlikeOf 7 = .ok (.iconst 0, 1) := dk_3 (dk_at dksX0_unlikeOf_0 7 rfl rfl)
theorem dX0_unlikeOf_8 : decode cX0_unlikeOf 8 = .ok (.istore_n 3, 1) := dk_62 (dk_at dksX0_unlikeOf_0 8 rfl rfl)
theorem dX0_unlikeOf_9 : decode cX0_unlikeOf 9 = .ok (.iload_n 3, 1) := dk_29 (dk_at dksX0_unlikeOf_0 9 rfl rfl)
theorem dX0_unlikeOf_10 : decode cX0_unlikeOf 10 = .ok (.aload_n 1, 1) := dk_43 (dk_at dksX0_unlikeOf_0 10 rfl rfl)
theorem dX0_unlikeOf_11 : decode cX0_unlikeOf 11 = .ok (.getfield 44, 3) := dk_180 0 44 (dk_at dksX0_unlikeOf_0 11 rfl rfl)
theorem dX0_unlikeOf_14 : decode cX0_unlikeOf 14 = .ok (.if_icmp .ge 26, 3) := dk_162 0 26 (dk_at dksX0_unlikeOf_0 14 rfl rfl)
theorem dX0_unlikeOf_17 : decode cX0_unlikeOf 17 = .ok (.iload_n 2, 1) := dk_28 (dk_at dksX0_unlikeOf_0 17 rfl rfl)
theorem dX0_unlikeOf_18 : decode cX0_unlikeOf 18 = .ok (.aload_n 0, 1) := dk_42 (dk_at dksX0_unlikeOf_0 18 rfl rfl)
theorem dX0_unlikeOf_19 : decode cX0_unlikeOf 19 = .ok (.iload_n 3, 1) := dk_29 (dk_at dksX0_unlikeOf_0 19 rfl rfl)
theorem dX0_unlikeOf_20 : decode cX0_unlikeOf 20 = .ok (.invokevirtual 155, 3) := dk_182 0 155 (dk_at dksX0_unlikeOf_0 20 rfl rfl)
theorem dX0_unlikeOf_23 : decode cX0_unlikeOf 23 = .ok (.iload_n 3, 1) := dk_29 (dk_at dksX0_unlikeOf_0 23 rfl rfl)
theorem dX0_unlikeOf_24 : decode cX0_unlikeOf 24 = .ok (.if_icmp .ne 7, 3) := dk_160 0 7 (dk_at dksX0_unlikeOf_1 0 rfl rfl)
theorem dX0_unlikeOf_27 : decode cX0_unlikeOf 27 = .ok (.iconst 1, 1) := dk_4 (dk_at dksX0_unlikeOf_1 3 rfl rfl)
theorem dX0_unlikeOf_28 : decode cX0_unlikeOf 28 = .ok (.goto 4, 3) := dk_167 0 4 (dk_at dksX0_unlikeOf_1 4 rfl rfl)
theorem dX0_unlikeOf_31 : decode cX0_unlikeOf 31 = .ok (.iconst 0, 1) := dk_3 (dk_at dksX0_unlikeOf_1 7 rfl rfl)
theorem dX0_unlikeOf_32 : decode cX0_unlikeOf 32 = .ok (.iadd, 1) := dk_96 (dk_at dksX0_unlikeOf_1 8 rfl rfl)
theorem dX0_unlikeOf_33 : decode cX0_unlikeOf 33 = .ok (.istore_n 2, 1) := dk_61 (dk_at dksX0_unlikeOf_1 9 rfl rfl)
theorem dX0_unlikeOf_34 : decode cX0_unlikeOf 34 = .ok (.iinc 3 1, 3) := dk_132 3 1 (dk_at dksX0_unlikeOf_1 10 rfl rfl)
theorem dX0_unlikeOf_37 : decode cX0_unlikeOf 37 = .ok (.goto (-28), 3) := dk_167 255 228 (dk_at dksX0_unlikeOf_1 13 rfl rfl)
theorem dX0_unlikeOf_40 : decode cX0_unlikeOf 40 = .ok (.iload_n 2, 1) := dk_28 (dk_at dksX0_unlikeOf_1 16 rfl rfl)
theorem dX0_unlikeOf_41 : decode cX0_unlikeOf 41 = .ok (.ireturn, 1) := dk_172 (dk_at dksX0_unlikeOf_1 17 rfl rfl)
abbrev cX0_looks : ByteArray := prog_1_method_25_code
def yX0_looks : MethodName := ⟨RX0, "looks", "(LBranchNames$Tree;)V"⟩
def dkwX0_looks_1 : List UInt8 := [132, 2, 1, 167, 255, 233, 177]
abbrev dktX0_looks_1 : List UInt8 := dkwX0_looks_1 ++ []
def dkwX0_looks_0 : List UInt8 := [3, 61, 28, 43, 180, 0, 44, 162, 0, 21, 42, 180, 0, 149, 28, 42, 43, 28, 182, 0, 68, 80]
abbrev dktX0_looks_0 : List UInt8 := dkwX0_looks_0 ++ dktX0_looks_1
theorem dksX0_looks_0 : cX0_looks.data.toList.drop 0 = dktX0_looks_0 := by decide +kernel
theorem dksX0_looks_1 : cX0_looks.data.toList.drop 22 = dktX0_looks_1 := dk_seg dksX0_looks_0 22 rfl rfl
theorem dX0_looks_0 : decode cX0_looks 0 = .ok (.iconst 0, 1) := dk_3 (dk_at dksX0_looks_0 0 rfl rfl)
theorem dX0_looks_1 : decode cX0_looks 1 = .ok (.istore_n 2, 1) := dk_61 (dk_at dksX0_looks_0 1 rfl rfl)
theorem dX0_looks_2 : decode cX0_looks 2 = .ok (.iload_n 2, 1) := dk_28 (dk_at dksX0_looks_0 2 rfl rfl)
theorem dX0_looks_3 : decode cX0_looks 3 = .ok (.aload_n 1, 1) := dk_43 (dk_at dksX0_looks_0 3 rfl rfl)
theorem dX0_looks_4 : decode cX0_looks 4 = .ok (.getfield 44, 3) := dk_180 0 44 (dk_at dksX0_looks_0 4 rfl rfl)
theorem dX0_looks_7 : decode cX0_looks 7 = .ok (.if_icmp .ge 21, 3) := dk_162 0 21 (dk_at dksX0_looks_0 7 rfl rfl)
theorem dX0_looks_10 : decode cX0_looks 10 = .ok (.aload_n 0, 1) := dk_42 (dk_at dksX0_looks_0 10 rfl rfl)
theorem dX0_looks_11 : decode cX0_looks 11 = .ok (.getfield 149, 3) := dk_180 0 149 (dk_at dksX0_looks_0 11 rfl rfl)
theorem dX0_looks_14 : decode cX0_looks 14 = .ok (.iload_n 2, 1) := dk_28 (dk_at dksX0_looks_0 14 rfl rfl)
theorem dX0_looks_15 : decode cX0_looks 15 = .ok (.aload_n 0, 1) := dk_42 (dk_at dksX0_looks_0 15 rfl rfl)
theorem dX0_looks_16 : decode cX0_looks 16 = .ok (.aload_n 1, 1) := dk_43 (dk_at dksX0_looks_0 16 rfl rfl)
theorem dX0_looks_17 : decode cX0_looks 17 = .ok (.iload_n 2, 1) := dk_28 (dk_at dksX0_looks_0 17 rfl rfl)
theorem dX0_looks_18 : decode cX0_looks 18 = .ok (.invokevirtual 68, 3) := dk_182 0 68 (dk_at dksX0_looks_0 18 rfl rfl)
theorem dX0_looks_21 : decode cX0_looks 21 = .ok (.lastore, 1) := dk_80 (dk_at dksX0_looks_0 21 rfl rfl)
theorem dX0_looks_22 : decode cX0_looks 22 = .ok (.iinc 2 1, 3) := dk_132 2 1 (dk_at dksX0_looks_1 0 rfl rfl)
theorem dX0_looks_25 : decode cX0_looks 25 = .ok (.goto (-23), 3) := dk_167 255 233 (dk_at dksX0_looks_1 3 rfl rfl)
theorem dX0_looks_28 : decode cX0_looks 28 = .ok (.return_, 1) := dk_177 (dk_at dksX0_looks_1 6 rfl rfl)
abbrev cX0_seenAt : ByteArray := prog_1_method_5_code
def yX0_seenAt : MethodName := ⟨RX0, "seenAt", "(LBranchNames$Tree;I)J"⟩
def dkwX0_seenAt_0 : List UInt8 := [42, 43, 28, 2, 3, 182, 0, 21, 173]
abbrev dktX0_seenAt_0 : List UInt8 := dkwX0_seenAt_0 ++ []
theorem dksX0_seenAt_0 : cX0_seenAt.data.toList.drop 0 = dktX0_seenAt_0 := by decide +kernel
theorem dX0_seenAt_0 : decode cX0_seenAt 0 = .ok (.aload_n 0, 1) := dk_42 (dk_at dksX0_seenAt_0 0 rfl rfl)
theorem dX0_seenAt_1 : decode cX0_seenAt 1 = .ok (.aload_n 1, 1) := dk_43 (dk_at dksX0_seenAt_0 1 rfl rfl)
theorem dX0_seenAt_2 : decode cX0_seenAt 2 = .ok (.iload_n 2, 1) := dk_28 (dk_at dksX0_seenAt_0 2 rfl rfl)
theorem dX0_seenAt_3 : decode cX0_seenAt 3 = .ok (.iconst (-1), 1) := dk_2 (dk_at dksX0_seenAt_0 3 rfl rfl)
theorem dX0_seenAt_4 : decode cX0_seenAt 4 = .ok (.iconst 0, 1) := dk_3 (dk_at dksX0_seenAt_0 4 rfl rfl)
theorem dX0_seenAt_5 : decode cX0_seenAt 5 = .ok (.invokevirtual 21, 3) := dk_182 0 21 (dk_at dksX0_seenAt_0 5 rfl rfl)
theorem dX0_seenAt_8 : decode cX0_seenAt 8 = .ok (.lreturn, 1) := dk_173 (dk_at dksX0_seenAt_0 8 rfl rfl)
abbrev cX0_codeOf : ByteArray := prog_1_method_4_code
def yX0_codeOf : MethodName := ⟨RX0, "codeOf", "(LBranchNames$Tree;III)J"⟩
def dkwX0_codeOf_7 : List UInt8 := [184, 0, 33, 97, 55, 8, 132, 10, 1, 167, 255, 219, 21, 7, 133, 20, 0, 5, 105, 22, 8, 97, 173]
abbrev dktX0_codeOf_7 : List UInt8 := dkwX0_codeOf_7 ++ []
def dkwX0_codeOf_6 : List UInt8 := [162, 0, 36, 22, 8, 42, 180, 0, 29, 25, 5, 21, 10, 47, 184, 0, 25, 47, 105, 25, 5, 21, 10, 47]
abbrev dktX0_codeOf_6 : List UInt8 := dkwX0_codeOf_6 ++ dktX0_codeOf_7
def dkwX0_codeOf_5 : List UInt8 := [184, 0, 25, 96, 54, 7, 132, 8, 1, 167, 255, 148, 21, 6, 133, 55, 8, 3, 54, 10, 21, 10, 21, 6]
abbrev dktX0_codeOf_5 : List UInt8 := dkwX0_codeOf_5 ++ dktX0_codeOf_6
def dkwX0_codeOf_4 : List UInt8 := [4, 100, 47, 80, 132, 12, 255, 167, 255, 223, 25, 5, 21, 12, 22, 10, 80, 132, 6, 1, 21, 7, 22, 10]
abbrev dktX0_codeOf_4 : List UInt8 := dkwX0_codeOf_4 ++ dktX0_codeOf_5
def dkwX0_codeOf_3 : List UInt8 := [158, 0, 34, 25, 5, 21, 12, 4, 100, 47, 22, 10, 148, 156, 0, 21, 25, 5, 21, 12, 25, 5, 21, 12]
abbrev dktX0_codeOf_3 : List UInt8 := dkwX0_codeOf_3 ++ dktX0_codeOf_4
def dkwX0_codeOf_2 : List UInt8 := [167, 0, 77, 42, 43, 21, 9, 28, 21, 4, 4, 96, 182, 0, 21, 55, 10, 21, 6, 54, 12, 21, 12]
abbrev dktX0_codeOf_2 : List UInt8 := dkwX0_codeOf_2 ++ dktX0_codeOf_3
def dkwX0_codeOf_1 : List UInt8 := [28, 46, 162, 0, 103, 43, 180, 0, 17, 28, 50, 21, 8, 46, 54, 9, 21, 9, 29, 160, 0, 6]
abbrev dktX0_codeOf_1 : List UInt8 := dkwX0_codeOf_1 ++ dktX0_codeOf_2
def dkwX0_codeOf_0 : List UInt8 := [42, 180, 0, 7, 21, 4, 50, 58, 5, 3, 54, 6, 4, 54, 7, 3, 54, 8, 21, 8, 43, 180, 0, 11]
abbrev dktX0_codeOf_0 : List UInt8 := dkwX0_codeOf_0 ++ dktX0_codeOf_1
theorem dksX0_codeOf_0 : cX0_codeOf.data.toList.drop 0 = dktX0_codeOf_0 := by decide +kernel
theorem dksX0_codeOf_1 : cX0_codeOf.data.toList.drop 24 = dktX0_codeOf_1 := dk_seg dksX0_codeOf_0 24 rfl rfl
theorem dksX0_codeOf_2 : cX0_codeOf.data.toList.drop 46 = dktX0_codeOf_2 := dk_seg dksX0_codeOf_1 22 rfl rfl
theorem dksX0_codeOf_3 : cX0_codeOf.data.toList.drop 69 = dktX0_codeOf_3 := dk_seg dksX0_codeOf_2 23 rfl rfl
theorem dksX0_codeOf_4 : cX0_codeOf.data.toList.drop 93 = dktX0_codeOf_4 := dk_seg dksX0_codeOf_3 24 rfl rfl
theorem dksX0_codeOf_5 : cX0_codeOf.data.toList.drop 117 = dktX0_codeOf_5 := dk_seg dksX0_codeOf_4 24 rfl rfl
theorem dksX0_codeOf_6 : cX0_codeOf.data.toList.drop 141 = dktX0_codeOf_6 := dk_seg dksX0_codeOf_5 24 rfl rfl
theorem dksX0_codeOf_7 : cX0_codeOf.data.toList.drop 165 = dktX0_codeOf_7 := dk_seg dksX0_codeOf_6 24 rfl rfl
theorem dX0_codeOf_0 : decode cX0_codeOf 0 = .ok (.aload_n 0, 1) := dk_42 (dk_at dksX0_codeOf_0 0 rfl rfl)
theorem dX0_codeOf_1 : decode cX0_codeOf 1 = .ok (.getfield 7, 3) := dk_180 0 7 (dk_at dksX0_codeOf_0 1 rfl rfl)
theorem dX0_codeOf_4 : decode cX0_codeOf 4 = .ok (.iload 4, 2) := dk_21 4 (dk_at dksX0_codeOf_0 4 rfl rfl)
theorem dX0_codeOf_6 : decode cX0_codeOf 6 = .ok (.aaload, 1) := dk_50 (dk_at dksX0_codeOf_0 6 rfl rfl)
theorem dX0_codeOf_7 : decode cX0_codeOf 7 = .ok (.astore 5, 2) := dk_58 5 (dk_at dksX0_codeOf_0 7 rfl rfl)
theorem dX0_codeOf_9 : decode cX0_codeOf 9 = .ok (.iconst 0, 1) := dk_3 (dk_at dksX0_codeOf_0 9 rfl rfl)
theorem dX0_codeOf_10 : decode cX0_codeOf 10 = .ok (.istore 6, 2) := dk_54 6 (dk_at dksX0_codeOf_0 10 rfl rfl)
theorem dX0_codeOf_12 : decode cX0_codeOf 12 = .ok (.iconst 1, 1) := dk_4 (dk_at dksX0_codeOf_0 12 rfl rfl)
theorem dX0_codeOf_13 : decode cX0_codeOf 13 = .ok (.istore 7, 2) := dk_54 7 (dk_at dksX0_codeOf_0 13 rfl rfl)
theorem dX0_codeOf_15 : decode cX0_codeOf 15 = .ok (.iconst 0, 1) := dk_3 (dk_at dksX0_codeOf_0 15 rfl rfl)
theorem dX0_codeOf_16 : decode cX0_codeOf 16 = .ok (.istore 8, 2) := dk_54 8 (dk_at dksX0_codeOf_0 16 rfl rfl)
theorem dX0_codeOf_18 : decode cX0_codeOf 18 = .ok (.iload 8, 2) := dk_21 8 (dk_at dksX0_codeOf_0 18 rfl rfl)
theorem dX0_codeOf_20 : decode cX0_codeOf 20 = .ok (.aload_n 1, 1) := dk_43 (dk_at dksX0_codeOf_0 20 rfl rfl)
theorem dX0_codeOf_21 : decode cX0_codeOf 21 = .ok (.getfield 11, 3) := dk_180 0 11 (dk_at dksX0_codeOf_0 21 rfl rfl)
theorem dX0_codeOf_24 : decode cX0_codeOf 24 = .ok (.iload_n 2, 1) := dk_28 (dk_at dksX0_codeOf_1 0 rfl rfl)
theorem dX0_codeOf_25 : decode cX0_codeOf 25 = .ok (.iaload, 1) := dk_46 (dk_at dksX0_codeOf_1 1 rfl rfl)
theorem dX0_codeOf_26 : decode cX0_codeOf 26 = .ok (.if_icmp .ge 103, 3) := dk_162 0 103 (dk_at dksX0_codeOf_1 2 rfl rfl)
theorem dX0_codeOf_29 : decode cX0_codeOf 29 = .ok (.aload_n 1, 1) := dk_43 (dk_at dksX0_codeOf_1 5 rfl rfl)
theorem dX0_codeOf_30 : decode cX0_codeOf 30 = .ok (.getfield 17, 3) := dk_180 0 17 (dk_at dksX0_codeOf_1 6 rfl rfl)
theorem dX0_codeOf_33 : decode cX0_codeOf 33 = .ok (.iload_n 2, 1) := dk_28 (dk_at dksX0_codeOf_1 9 rfl rfl)
theorem dX0_codeOf_34 : decode cX0_codeOf 34 = .ok (.aaload, 1) := dk_50 (dk_at dksX0_codeOf_1 10 rfl rfl)
theorem dX0_codeOf_35 : decode cX0_codeOf 35 = .ok (.iload 8, 2) := dk_21 8 (dk_at dksX0_codeOf_1 11 rfl rfl)
theorem dX0_codeOf_37 : decode cX0_codeOf 37 = .ok (.iaload, 1) := dk_46 (dk_at dksX0_codeOf_1 13 rfl rfl)
theorem dX0_codeOf_38 : decode cX0_codeOf 38 = .ok (.istore 9, 2) := dk_54 9 (dk_at dksX0_codeOf_1 14 rfl rfl)
theorem dX0_codeOf_40 : decode cX0_codeOf 40 = .ok (.iload 9, 2) := dk_21 9 (dk_at dksX0_codeOf_1 16 rfl rfl)
theorem dX0_codeOf_42 : decode cX0_codeOf 42 = .ok (.iload_n 3, 1) := dk_29 (dk_at dksX0_codeOf_1 18 rfl rfl)
theorem dX0_codeOf_43 : decode cX0_codeOf 43 = .ok (.if_icmp .ne 6, 3) := dk_160 0 6 (dk_at dksX0_codeOf_1 19 rfl rfl)
theorem dX0_codeOf_46 : decode cX0_codeOf 46 = .ok (.goto 77, 3) := dk_167 0 77 (dk_at dksX0_codeOf_2 0 rfl rfl)
theorem dX0_codeOf_49 : decode cX0_codeOf 49 = .ok (.aload_n 0, 1) := dk_42 (dk_at dksX0_codeOf_2 3 rfl rfl)
theorem dX0_codeOf_50 : decode cX0_codeOf 50 = .ok (.aload_n 1, 1) := dk_43 (dk_at dksX0_codeOf_2 4 rfl rfl)
theorem dX0_codeOf_51 : decode cX0_codeOf 51 = .ok (.iload 9, 2) := dk_21 9 (dk_at dksX0_codeOf_2 5 rfl rfl)
theorem dX0_codeOf_53 : decode cX0_codeOf 53 = .ok (.iload_n 2, 1) := dk_28 (dk_at dksX0_codeOf_2 7 rfl rfl)
theorem dX0_codeOf_54 : decode cX0_codeOf 54 = .ok (.iload 4, 2) := dk_21 4 (dk_at dksX0_codeOf_2 8 rfl rfl)
theorem dX0_codeOf_56 : decode cX0_codeOf 56 = .ok (.iconst 1, 1) := dk_4 (dk_at dksX0_codeOf_2 10 rfl rfl)
theorem dX0_codeOf_57 : decode cX0_codeOf 57 = .ok (.iadd, 1) := dk_96 (dk_at dksX0_codeOf_2 11 rfl rfl)
theorem dX0_codeOf_58 : decode cX0_codeOf 58 = .ok (.invokevirtual 21, 3) := dk_182 0 21 (dk_at dksX0_codeOf_2 12 rfl rfl)
theorem dX0_codeOf_61 : decode cX0_codeOf 61 = .ok (.lstore 10, 2) := dk_55 10 (dk_at dksX0_codeOf_2 15 rfl rfl)
theorem dX0_codeOf_63 : decode cX0_codeOf 63 = .ok (.iload 6, 2) := dk_21 6 (dk_at dksX0_codeOf_2 17 rfl rfl)
theorem dX0_codeOf_65 : decode cX0_codeOf 65 = .ok (.istore 12, 2) := dk_54 12 (dk_at dksX0_codeOf_2 19 rfl rfl)
theorem dX0_codeOf_67 : decode cX0_codeOf 67 = .ok (.iload 12, 2) := dk_21 12 (dk_at dksX0_codeOf_2 21 rfl rfl)
theorem dX0_codeOf_69 : decode cX0_codeOf 69 = .ok (.ifCond .le 34, 3) := dk_158 0 34 (dk_at dksX0_codeOf_3 0 rfl rfl)
theorem dX0_codeOf_72 : decode cX0_codeOf 72 = .ok (.aload 5, 2) := dk_25 5 (dk_at dksX0_codeOf_3 3 rfl rfl)
theorem dX0_codeOf_74 : decode cX0_codeOf 74 = .ok (.iload 12, 2) := dk_21 12 (dk_at dksX0_codeOf_3 5 rfl rfl)
theorem dX0_codeOf_76 : decode cX0_codeOf 76 = .ok (.iconst 1, 1) := dk_4 (dk_at dksX0_codeOf_3 7 rfl rfl)
theorem dX0_codeOf_77 : decode cX0_codeOf 77 = .ok (.isub, 1) := dk_100 (dk_at dksX0_codeOf_3 8 rfl rfl)
theorem dX0_codeOf_78 : decode cX0_codeOf 78 = .ok (.laload, 1) := dk_47 (dk_at dksX0_codeOf_3 9 rfl rfl)
theorem dX0_codeOf_79 : decode cX0_codeOf 79 = .ok (.lload 10, 2) := dk_22 10 (dk_at dksX0_codeOf_3 10 rfl rfl)
theorem dX0_codeOf_81 : decode cX0_codeOf 81 = .ok (.lcmp, 1) := dk_148 (dk_at dksX0_codeOf_3 12 rfl rfl)
theorem dX0_codeOf_82 : decode cX0_codeOf 82 = .ok (.ifCond .ge 21, 3) := dk_156 0 21 (dk_at dksX0_codeOf_3 13 rfl rfl)
theorem dX0_codeOf_85 : decode cX0_codeOf 85 = .ok (.aload 5, 2) := dk_25 5 (dk_at dksX0_codeOf_3 16 rfl rfl)
theorem dX0_codeOf_87 : decode cX0_codeOf 87 = .ok (.iload 12, 2) := dk_21 12 (dk_at dksX0_codeOf_3 18 rfl rfl)
theorem dX0_codeOf_89 : decode cX0_codeOf 89 = .ok (.aload 5, 2) := dk_25 5 (dk_at dksX0_codeOf_3 20 rfl rfl)
theorem dX0_codeOf_91 : decode cX0_codeOf 91 = .ok (.iload 12, 2) := dk_21 12 (dk_at dksX0_codeOf_3 22 rfl rfl)
theorem dX0_codeOf_93 : decode cX0_codeOf 93 = .ok (.iconst 1, 1) := dk_4 (dk_at dksX0_codeOf_4 0 rfl rfl)
theorem dX0_codeOf_94 : decode cX0_codeOf 94 = .ok (.isub, 1) := dk_100 (dk_at dksX0_codeOf_4 1 rfl rfl)
theorem dX0_codeOf_95 : decode cX0_codeOf 95 = .ok (.laload, 1) := dk_47 (dk_at dksX0_codeOf_4 2 rfl rfl)
theorem dX0_codeOf_96 : decode cX0_codeOf 96 = .ok (.lastore, 1) := dk_80 (dk_at dksX0_codeOf_4 3 rfl rfl)
theorem dX0_codeOf_97 : decode cX0_codeOf 97 = .ok (.iinc 12 (-1), 3) := dk_132 12 255 (dk_at dksX0_codeOf_4 4 rfl rfl)
theorem dX0_codeOf_100 : decode cX0_codeOf 100 = .ok (.goto (-33), 3) := dk_167 255 223 (dk_at dksX0_codeOf_4 7 rfl rfl)
theorem dX0_codeOf_103 : decode cX0_codeOf 103 = .ok (.aload 5, 2) := dk_25 5 (dk_at dksX0_codeOf_4 10 rfl rfl)
theorem dX0_codeOf_105 : decode cX0_codeOf 105 = .ok (.iload 12, 2) := dk_21 12 (dk_at dksX0_codeOf_4 12 rfl rfl)
theorem dX0_codeOf_107 : decode cX0_codeOf 107 = .ok (.lload 10, 2) := dk_22 10 (dk_at dksX0_codeOf_4 14 rfl rfl)
theorem dX0_codeOf_109 : decode cX0_codeOf 109 = .ok (.lastore, 1) := dk_80 (dk_at dksX0_codeOf_4 16 rfl rfl)
theorem dX0_codeOf_110 : decode cX0_codeOf 110 = .ok (.iinc 6 1, 3) := dk_132 6 1 (dk_at dksX0_codeOf_4 17 rfl rfl)
theorem dX0_codeOf_113 : decode cX0_codeOf 113 = .ok (.iload 7, 2) := dk_21 7 (dk_at dksX0_codeOf_4 20 rfl rfl)
theorem dX0_codeOf_115 : decode cX0_codeOf 115 = .ok (.lload 10, 2) := dk_22 10 (dk_at dksX0_codeOf_4 22 rfl rfl)
theorem dX0_codeOf_117 : decode cX0_codeOf 117 = .ok (.invokestatic 25, 3) := dk_184 0 25 (dk_at dksX0_codeOf_5 0 rfl rfl)
theorem dX0_codeOf_120 : decode cX0_codeOf 120 = .ok (.iadd, 1) := dk_96 (dk_at dksX0_codeOf_5 3 rfl rfl)
theorem dX0_codeOf_121 : decode cX0_codeOf 121 = .ok (.istore 7, 2) := dk_54 7 (dk_at dksX0_codeOf_5 4 rfl rfl)
theorem dX0_codeOf_123 : decode cX0_codeOf 123 = .ok (.iinc 8 1, 3) := dk_132 8 1 (dk_at dksX0_codeOf_5 6 rfl rfl)
theorem dX0_codeOf_126 : decode cX0_codeOf 126 = .ok (.goto (-108), 3) := dk_167 255 148 (dk_at dksX0_codeOf_5 9 rfl rfl)
theorem dX0_codeOf_129 : decode cX0_codeOf 129 = .ok (.iload 6, 2) := dk_21 6 (dk_at dksX0_codeOf_5 12 rfl rfl)
theorem dX0_codeOf_131 : decode cX0_codeOf 131 = .ok (.i2l, 1) := dk_133 (dk_at dksX0_codeOf_5 14 rfl rfl)
theorem dX0_codeOf_132 : decode cX0_codeOf 132 = .ok (.lstore 8, 2) := dk_55 8 (dk_at dksX0_codeOf_5 15 rfl rfl)
theorem dX0_codeOf_134 : decode cX0_codeOf 134 = .ok (.iconst 0, 1) := dk_3 (dk_at dksX0_codeOf_5 17 rfl rfl)
theorem dX0_codeOf_135 : decode cX0_codeOf 135 = .ok (.istore 10, 2) := dk_54 10 (dk_at dksX0_codeOf_5 18 rfl rfl)
theorem dX0_codeOf_137 : decode cX0_codeOf 137 = .ok (.iload 10, 2) := dk_21 10 (dk_at dksX0_codeOf_5 20 rfl rfl)
theorem dX0_codeOf_139 : decode cX0_codeOf 139 = .ok (.iload 6, 2) := dk_21 6 (dk_at dksX0_codeOf_5 22 rfl rfl)
theorem dX0_codeOf_141 : decode cX0_codeOf 141 = .ok (.if_icmp .ge 36, 3) := dk_162 0 36 (dk_at dksX0_codeOf_6 0 rfl rfl)
theorem dX0_codeOf_144 : decode cX0_codeOf 144 = .ok (.lload 8, 2) := dk_22 8 (dk_at dksX0_codeOf_6 3 rfl rfl)
theorem dX0_codeOf_146 : decode cX0_codeOf 146 = .ok (.aload_n 0, 1) := dk_42 (dk_at dksX0_codeOf_6 5 rfl rfl)
theorem dX0_codeOf_147 : decode cX0_codeOf 147 = .ok (.getfield 29, 3) := dk_180 0 29 (dk_at dksX0_codeOf_6 6 rfl rfl)
theorem dX0_codeOf_150 : decode cX0_codeOf 150 = .ok (.aload 5, 2) := dk_25 5 (dk_at dksX0_codeOf_6 9 rfl rfl)
theorem dX0_codeOf_152 : decode cX0_codeOf 152 = .ok (.iload 10, 2) := dk_21 10 (dk_at dksX0_codeOf_6 11 rfl rfl)
theorem dX0_codeOf_154 : decode cX0_codeOf 154 = .ok (.laload, 1) := dk_47 (dk_at dksX0_codeOf_6 13 rfl rfl)
theorem dX0_codeOf_155 : decode cX0_codeOf 155 = .ok (.invokestatic 25, 3) := dk_184 0 25 (dk_at dksX0_codeOf_6 14 rfl rfl)
theorem dX0_codeOf_158 : decode cX0_codeOf 158 = .ok (.laload, 1) := dk_47 (dk_at dksX0_codeOf_6 17 rfl rfl)
theorem dX0_codeOf_159 : decode cX0_codeOf 159 = .ok (.lmul, 1) := dk_105 (dk_at dksX0_codeOf_6 18 rfl rfl)
theorem dX0_codeOf_160 : decode cX0_codeOf 160 = .ok (.aload 5, 2) := dk_25 5 (dk_at dksX0_codeOf_6 19 rfl rfl)
theorem dX0_codeOf_162 : decode cX0_codeOf 162 = .ok (.iload 10, 2) := dk_21 10 (dk_at dksX0_codeOf_6 21 rfl rfl)
theorem dX0_codeOf_164 : decode cX0_codeOf 164 = .ok (.laload, 1) := dk_47 (dk_at dksX0_codeOf_6 23 rfl rfl)
theorem dX0_codeOf_165 : decode cX0_codeOf 165 = .ok (.invokestatic 33, 3) := dk_184 0 33 (dk_at dksX0_codeOf_7 0 rfl rfl)
theorem dX0_codeOf_168 : decode cX0_codeOf 168 = .ok (.ladd, 1) := dk_97 (dk_at dksX0_codeOf_7 3 rfl rfl)
theorem dX0_codeOf_169 : decode cX0_codeOf 169 = .ok (.lstore 8, 2) := dk_55 8 (dk_at dksX0_codeOf_7 4 rfl rfl)
theorem dX0_codeOf_171 : decode cX0_codeOf 171 = .ok (.iinc 10 1, 3) := dk_132 10 1 (dk_at dksX0_codeOf_7 6 rfl rfl)
theorem dX0_codeOf_174 : decode cX0_codeOf 174 = .ok (.goto (-37), 3) := dk_167 255 219 (dk_at dksX0_codeOf_7 9 rfl rfl)
theorem dX0_codeOf_177 : decode cX0_codeOf 177 = .ok (.iload 7, 2) := dk_21 7 (dk_at dksX0_codeOf_7 12 rfl rfl)
theorem dX0_codeOf_179 : decode cX0_codeOf 179 = .ok (.i2l, 1) := dk_133 (dk_at dksX0_codeOf_7 14 rfl rfl)
theorem dX0_codeOf_180 : decode cX0_codeOf 180 = .ok (.ldc2_w 5, 3) := dk_20 0 5 (dk_at dksX0_codeOf_7 15 rfl rfl)
theorem dX0_codeOf_183 : decode cX0_codeOf 183 = .ok (.lmul, 1) := dk_105 (dk_at dksX0_codeOf_7 18 rfl rfl)
theorem dX0_codeOf_184 : decode cX0_codeOf 184 = .ok (.lload 8, 2) := dk_22 8 (dk_at dksX0_codeOf_7 19 rfl rfl)
theorem dX0_codeOf_186 : decode cX0_codeOf 186 = .ok (.ladd, 1) := dk_97 (dk_at dksX0_codeOf_7 21 rfl rfl)
theorem dX0_codeOf_187 : decode cX0_codeOf 187 = .ok (.lreturn, 1) := dk_173 (dk_at dksX0_codeOf_7 22 rfl rfl)
abbrev cX0_digitsOf : ByteArray := prog_1_method_2_code
def yX0_digitsOf : MethodName := ⟨RX0, "digitsOf", "(J)I"⟩
def dkwX0_digitsOf_0 : List UInt8 := [30, 20, 0, 5, 109, 136, 172]
abbrev dktX0_digitsOf_0 : List UInt8 := dkwX0_digitsOf_0 ++ []
theorem dksX0_digitsOf_0 : cX0_digitsOf.data.toList.drop 0 = dktX0_digitsOf_0 := by decide +kernel
theorem dX0_digitsOf_0 : decode cX0_digitsOf 0 = .ok (.lload_n 0, 1) := dk_30 (dk_at dksX0_digitsOf_0 0 rfl rfl)
theorem dX0_digitsOf_1 : decode cX0_digitsOf 1 = .ok (.ldc2_w 5, 3) := dk_20 0 5 (dk_at dksX0_digitsOf_0 1 rfl rfl)
theorem dX0_digitsOf_4 : decode cX0_digitsOf 4 = .ok (.ldiv, 1) := dk_109 (dk_at dksX0_digitsOf_0 4 rfl rfl)
theorem dX0_digitsOf_5 : decode cX0_digitsOf 5 = .ok (.l2i, 1) := dk_136 (dk_at dksX0_digitsOf_0 5 rfl rfl)
theorem dX0_digitsOf_6 : decode cX0_digitsOf 6 = .ok (.ireturn, 1) := dk_172 (dk_at dksX0_digitsOf_0 6 rfl rfl)
abbrev cX0_numberOf : ByteArray := prog_1_method_3_code
def yX0_numberOf : MethodName := ⟨RX0, "numberOf", "(J)J"⟩
def dkwX0_numberOf_0 : List UInt8 := [30, 20, 0, 5, 113, 173]
abbrev dktX0_numberOf_0 : List UInt8 := dkwX0_numberOf_0 ++ []
theorem dksX0_numberOf_0 : cX0_numberOf.data.toList.drop 0 = dktX0_numberOf_0 := by decide +kernel
theorem dX0_numberOf_0 : decode cX0_numberOf 0 = .ok (.lload_n 0, 1) := dk_30 (dk_at dksX0_numberOf_0 0 rfl rfl)
theorem dX0_numberOf_1 : decode cX0_numberOf 1 = .ok (.ldc2_w 5, 3) := dk_20 0 5 (dk_at dksX0_numberOf_0 1 rfl rfl)
theorem dX0_numberOf_4 : decode cX0_numberOf 4 = .ok (.lrem, 1) := dk_113 (dk_at dksX0_numberOf_0 4 rfl rfl)
theorem dX0_numberOf_5 : decode cX0_numberOf 5 = .ok (.lreturn, 1) := dk_173 (dk_at dksX0_numberOf_0 5 rfl rfl)
abbrev cX0_leastAlike : ByteArray := prog_1_method_26_code
def yX0_leastAlike : MethodName := ⟨RX0, "leastAlike", "(I)I"⟩
def dkwX0_leastAlike_1 : List UInt8 := [28, 172]
abbrev dktX0_leastAlike_1 : List UInt8 := dkwX0_leastAlike_1 ++ []
def dkwX0_leastAlike_0 : List UInt8 := [3, 61, 42, 180, 0, 149, 28, 47, 42, 180, 0, 149, 27, 47, 148, 153, 0, 9, 132, 2, 1, 167, 255, 237]
abbrev dktX0_leastAlike_0 : List UInt8 := dkwX0_leastAlike_0 ++ dktX0_leastAlike_1
theorem dksX0_leastAlike_0 : cX0_leastAlike.data.toList.drop 0 = dktX0_leastAlike_0 := by decide +kernel
theorem dksX0_leastAlike_1 : cX0_leastAlike.data.toList.drop 24 = dktX0_leastAlike_1 := dk_seg dksX0_leastAlike_0 24 rfl rfl
theorem dX0_leastAlike_0 : decode cX0_leastAlike 0 = .ok (.iconst 0, 1) := dk_3 (dk_at dksX0_leastAlike_0 0 rfl rfl)
theorem dX0_leastAlike_1 : decode cX0_leastAlike 1 = .ok (.istore_n 2, 1) := dk_61 (dk_at dksX0_leastAlike_0 1 rfl rfl)
theorem dX0_leastAlike_2 : decode cX0_leastAlike 2 = .ok (.aload_n 0, 1) := dk_42 (dk_at dksX0_leastAlike_0 2 rfl rfl)
theorem dX0_leastAlike_3 : decode cX0_leastAlike 3 = .ok (.getfield 149, 3) := dk_180 0 149 (dk_at dksX0_leastAlike_0 3 rfl rfl)
theorem dX0_leastAlike_6 : decode cX0_leastAlike 6 = .ok (.iload_n 2, 1) := dk_28 (dk_at dksX0_leastAlike_0 6 rfl rfl)
theorem dX0_leastAlike_7 : decode cX0_leastAlike 7 = .ok (.laload, 1) := dk_47 (dk_at dksX0_leastAlike_0 7 rfl rfl)
theorem dX0_leastAlike_8 : decode cX0_leastAlike 8 = .ok (.aload_n 0, 1) := dk_42 (dk_at dksX0_leastAlike_0 8 rfl rfl)
theorem dX0_leastAlike_9 : decode cX0_leastAlike 9 = .ok (.getfield 149, 3) := dk_180 0 149 (dk_at dksX0_leastAlike_0 9 rfl rfl)
theorem dX0_leastAlike_12 : decode cX0_leastAlike 12 = .ok (.iload_n 1, 1) := dk_27 (dk_at dksX0_leastAlike_0 12 rfl rfl)
theorem dX0_leastAlike_13 : decode cX0_leastAlike 13 = .ok (.laload, 1) := dk_47 (dk_at dksX0_leastAlike_0 13 rfl rfl)
theorem dX0_leastAlike_14 : decode cX0_leastAlike 14 = .ok (.lcmp, 1) := dk_148 (dk_at dksX0_leastAlike_0 14 rfl rfl)
theorem dX0_leastAlike_15 : decode cX0_leastAlike 15 = .ok (.ifCond .eq 9, 3) := dk_153 0 9 (dk_at dksX0_leastAlike_0 15 rfl rfl)
theorem dX0_leastAlike_18 : decode cX0_leastAlike 18 = .ok (.iinc 2 1, 3) := dk_132 2 1 (dk_at dksX0_leastAlike_0 18 rfl rfl)
theorem dX0_leastAlike_21 : decode cX0_leastAlike 21 = .ok (.goto (-19), 3) := dk_167 255 237 (dk_at dksX0_leastAlike_0 21 rfl rfl)
theorem dX0_leastAlike_24 : decode cX0_leastAlike 24 = .ok (.iload_n 2, 1) := dk_28 (dk_at dksX0_leastAlike_1 0 rfl rfl)
theorem dX0_leastAlike_25 : decode cX0_leastAlike 25 = .ok (.ireturn, 1) := dk_172 (dk_at dksX0_leastAlike_1 1 rfl rfl)
abbrev cX0_waysOf : ByteArray := prog_1_method_30_code
def yX0_waysOf : MethodName := ⟨RX0, "waysOf", "(LBranchNames$Tree;)I"⟩
def dkwX0_waysOf_0 : List UInt8 := [42, 43, 182, 0, 152, 42, 43, 3, 182, 0, 165, 42, 43, 3, 2, 3, 182, 0, 161, 104, 172]
abbrev dktX0_waysOf_0 : List UInt8 := dkwX0_waysOf_0 ++ []
theorem dksX0_waysOf_0 : cX0_waysOf.data.toList.drop 0 = dktX0_waysOf_0 := by decide +kernel
theorem dX0_waysOf_0 : decode cX0_waysOf 0 = .ok (.aload_n 0, 1) := dk_42 (dk_at dksX0_waysOf_0 0 rfl rfl)
theorem dX0_waysOf_1 : decode cX0_waysOf 1 = .ok (.aload_n 1, 1) := dk_43 (dk_at dksX0_waysOf_0 1 rfl rfl)
theorem dX0_waysOf_2 : decode cX0_waysOf 2 = .ok (.invokevirtual 152, 3) := dk_182 0 152 (dk_at dksX0_waysOf_0 2 rfl rfl)
theorem dX0_waysOf_5 : decode cX0_waysOf 5 = .ok (.aload_n 0, 1) := dk_42 (dk_at dksX0_waysOf_0 5 rfl rfl)
theorem dX0_waysOf_6 : decode cX0_waysOf 6 = .ok (.aload_n 1, 1) := dk_43 (dk_at dksX0_waysOf_0 6 rfl rfl)
theorem dX0_waysOf_7 : decode cX0_waysOf 7 = .ok (.iconst 0, 1) := dk_3 (dk_at dksX0_waysOf_0 7 rfl rfl)
theorem dX0_waysOf_8 : decode cX0_waysOf 8 = .ok (.invokevirtual 165, 3) := dk_182 0 165 (dk_at dksX0_waysOf_0 8 rfl rfl)
theorem dX0_waysOf_11 : decode cX0_waysOf 11 = .ok (.aload_n 0, 1) := dk_42 (dk_at dksX0_waysOf_0 11 rfl rfl)
theorem dX0_waysOf_12 : decode cX0_waysOf 12 = .ok (.aload_n 1, 1) := dk_43 (dk_at dksX0_waysOf_0 12 rfl rfl)
theorem dX0_waysOf_13 : decode cX0_waysOf 13 = .ok (.iconst 0, 1) := dk_3 (dk_at dksX0_waysOf_0 13 rfl rfl)
theorem dX0_waysOf_14 : decode cX0_waysOf 14 = .ok (.iconst (-1), 1) := dk_2 (dk_at dksX0_waysOf_0 14 rfl rfl)
theorem dX0_waysOf_15 : decode cX0_waysOf 15 = .ok (.iconst 0, 1) := dk_3 (dk_at dksX0_waysOf_0 15 rfl rfl)
theorem dX0_waysOf_16 : decode cX0_waysOf 16 = .ok (.invokevirtual 161, 3) := dk_182 0 161 (dk_at dksX0_waysOf_0 16 rfl rfl)
theorem dX0_waysOf_19 : decode cX0_waysOf 19 = .ok (.imul, 1) := dk_104 (dk_at dksX0_waysOf_0 19 rfl rfl)
theorem dX0_waysOf_20 : decode cX0_waysOf 20 = .ok (.ireturn, 1) := dk_172 (dk_at dksX0_waysOf_0 20 rfl rfl)
abbrev cX0_alike : ByteArray := prog_1_method_27_code
def yX0_alike : MethodName := ⟨RX0, "alike", "(LBranchNames$Tree;I)I"⟩
def dkwX0_alike_1 : List UInt8 := [180, 0, 149, 28, 47, 148, 154, 0, 7, 4, 167, 0, 4, 3, 96, 62, 132, 4, 1, 167, 255, 219, 29, 172]
abbrev dktX0_alike_1 : List UInt8 := dkwX0_alike_1 ++ []
def dkwX0_alike_0 : List UInt8 := [3, 62, 3, 54, 4, 21, 4, 43, 180, 0, 44, 162, 0, 34, 29, 42, 180, 0, 149, 21, 4, 47, 42]
abbrev dktX0_alike_0 : List UInt8 := dkwX0_alike_0 ++ dktX0_alike_1
theorem dksX0_alike_0 : cX0_alike.data.toList.drop 0 = dktX0_alike_0 := by decide +kernel
theorem dksX0_alike_1 : cX0_alike.data.toList.drop 23 = dktX0_alike_1 := dk_seg dksX0_alike_0 23 rfl rfl
theorem dX0_alike_0 : decode cX0_alike 0 = .ok (.iconst 0, 1) := dk_3 (dk_at dksX0_alike_0 0 rfl rfl)
theorem dX0_alike_1 : decode cX0_alike 1 = .ok (.istore_n 3, 1) := dk_62 (dk_at dksX0_alike_0 1 rfl rfl)
theorem dX0_alike_2 : decode cX0_alike 2 = .ok (.iconst 0, 1) := dk_3 (dk_at dksX0_alike_0 2 rfl rfl)
theorem dX0_alike_3 : decode cX0_alike 3 = .ok (.istore 4, 2) := dk_54 4 (dk_at dksX0_alike_0 3 rfl rfl)
theorem dX0_alike_5 : decode cX0_alike 5 = .ok (.iload 4, 2) := dk_21 4 (dk_at dksX0_alike_0 5 rfl rfl)
theorem dX0_alike_7 : decode cX0_alike 7 = .ok (.aload_n 1, 1) := dk_43 (dk_at dksX0_alike_0 7 rfl rfl)
theorem dX0_alike_8 : decode cX0_alike 8 = .ok (.getfield 44, 3) := dk_180 0 44 (dk_at dksX0_alike_0 8 rfl rfl)
theorem dX0_alike_11 : decode cX0_alike 11 = .ok (.if_icmp .ge 34, 3) := dk_162 0 34 (dk_at dksX0_alike_0 11 rfl rfl)
theorem dX0_alike_14 : decode cX0_alike 14 = .ok (.iload_n 3, 1) := dk_29 (dk_at dksX0_alike_0 14 rfl rfl)
theorem dX0_alike_15 : decode cX0_alike 15 = .ok (.aload_n 0, 1) := dk_42 (dk_at dksX0_alike_0 15 rfl rfl)
theorem dX0_alike_16 : decode cX0_alike 16 = .ok (.getfield 149, 3) := dk_180 0 149 (dk_at dksX0_alike_0 16 rfl rfl)
theorem dX0_alike_19 : decode cX0_alike 19 = .ok (.iload 4, 2) := dk_21 4 (dk_at dksX0_alike_0 19 rfl rfl)
theorem dX0_alike_21 : decode cX0_alike 21 = .ok (.laload, 1) := dk_47 (dk_at dksX0_alike_0 21 rfl rfl)
theorem dX0_alike_22 : decode cX0_alike 22 = .ok (.aload_n 0, 1) := dk_42 (dk_at dksX0_alike_0 22 rfl rfl)
theorem dX0_alike_23 : decode cX0_alike 23 = .ok (.getfield 149, 3) := dk_180 0 149 (dk_at dksX0_alike_1 0 rfl rfl)
theorem dX0_alike_26 : decode cX0_alike 26 = .ok (.iload_n 2, 1) := dk_28 (dk_at dksX0_alike_1 3 rfl rfl)
theorem dX0_alike_27 : decode cX0_alike 27 = .ok (.laload, 1) := dk_47 (dk_at dksX0_alike_1 4 rfl rfl)
theorem dX0_alike_28 : decode cX0_alike 28 = .ok (.lcmp, 1) := dk_148 (dk_at dksX0_alike_1 5 rfl rfl)
theorem dX0_alike_29 : decode cX0_alike 29 = .ok (.ifCond .ne 7, 3) := dk_154 0 7 (dk_at dksX0_alike_1 6 rfl rfl)
theorem dX0_alike_32 : decode cX0_alike 32 = .ok (.iconst 1, 1) := dk_4 (dk_at dksX0_alike_1 9 rfl rfl)
theorem dX0_alike_33 : decode cX0_alike 33 = .ok (.goto 4, 3) := dk_167 0 4 (dk_at dksX0_alike_1 10 rfl rfl)
theorem dX0_alike_36 : decode cX0_alike 36 = .ok (.iconst 0, 1) := dk_3 (dk_at dksX0_alike_1 13 rfl rfl)
theorem dX0_alike_37 : decode cX0_alike 37 = .ok (.iadd, 1) := dk_96 (dk_at dksX0_alike_1 14 rfl rfl)
theorem dX0_alike_38 : decode cX0_alike 38 = .ok (.istore_n 3, 1) := dk_62 (dk_at dksX0_alike_1 15 rfl rfl)
theorem dX0_alike_39 : decode cX0_alike 39 = .ok (.iinc 4 1, 3) := dk_132 4 1 (dk_at dksX0_alike_1 16 rfl rfl)
theorem dX0_alike_42 : decode cX0_alike 42 = .ok (.goto (-37), 3) := dk_167 255 219 (dk_at dksX0_alike_1 19 rfl rfl)
theorem dX0_alike_45 : decode cX0_alike 45 = .ok (.iload_n 3, 1) := dk_29 (dk_at dksX0_alike_1 22 rfl rfl)
theorem dX0_alike_46 : decode cX0_alike 46 = .ok (.ireturn, 1) := dk_172 (dk_at dksX0_alike_1 23 rfl rfl)
abbrev cX0_ways : ByteArray := prog_1_method_29_code
def yX0_ways : MethodName := ⟨RX0, "ways", "(LBranchNames$Tree;III)I"⟩
def dkwX0_ways_5 : List UInt8 := [21, 9, 28, 21, 4, 4, 96, 182, 0, 161, 104, 104, 54, 7, 132, 8, 1, 167, 255, 140, 21, 7, 172]
abbrev dktX0_ways_5 : List UInt8 := dkwX0_ways_5 ++ []
def dkwX0_ways_4 : List UInt8 := [154, 0, 7, 4, 167, 0, 4, 3, 96, 54, 10, 132, 11, 1, 167, 255, 220, 21, 7, 21, 10, 42, 43]
abbrev dktX0_ways_4 : List UInt8 := dkwX0_ways_4 ++ dktX0_ways_5
def dkwX0_ways_3 : List UInt8 := [54, 11, 21, 11, 21, 6, 162, 0, 35, 21, 10, 25, 5, 21, 11, 47, 25, 5, 21, 6, 4, 100, 47, 148]
abbrev dktX0_ways_3 : List UInt8 := dkwX0_ways_3 ++ dktX0_ways_4
def dkwX0_ways_2 : List UInt8 := [167, 0, 85, 25, 5, 21, 6, 42, 43, 21, 9, 28, 3, 182, 0, 21, 80, 132, 6, 1, 3, 54, 10, 3]
abbrev dktX0_ways_2 : List UInt8 := dkwX0_ways_2 ++ dktX0_ways_3
def dkwX0_ways_1 : List UInt8 := [28, 46, 162, 0, 111, 43, 180, 0, 17, 28, 50, 21, 8, 46, 54, 9, 21, 9, 29, 160, 0, 6]
abbrev dktX0_ways_1 : List UInt8 := dkwX0_ways_1 ++ dktX0_ways_2
def dkwX0_ways_0 : List UInt8 := [42, 180, 0, 158, 21, 4, 50, 58, 5, 3, 54, 6, 4, 54, 7, 3, 54, 8, 21, 8, 43, 180, 0, 11]
abbrev dktX0_ways_0 : List UInt8 := dkwX0_ways_0 ++ dktX0_ways_1
theorem dksX0_ways_0 : cX0_ways.data.toList.drop 0 = dktX0_ways_0 := by decide +kernel
theorem dksX0_ways_1 : cX0_ways.data.toList.drop 24 = dktX0_ways_1 := dk_seg dksX0_ways_0 24 rfl rfl
theorem dksX0_ways_2 : cX0_ways.data.toList.drop 46 = dktX0_ways_2 := dk_seg dksX0_ways_1 22 rfl rfl
theorem dksX0_ways_3 : cX0_ways.data.toList.drop 70 = dktX0_ways_3 := dk_seg dksX0_ways_2 24 rfl rfl
theorem dksX0_ways_4 : cX0_ways.data.toList.drop 94 = dktX0_ways_4 := dk_seg dksX0_ways_3 24 rfl rfl
theorem dksX0_ways_5 : cX0_ways.data.toList.drop 117 = dktX0_ways_5 := dk_seg dksX0_ways_4 23 rfl rfl
theorem dX0_ways_0 : decode cX0_ways 0 = .ok (.aload_n 0, 1) := dk_42 (dk_at dksX0_ways_0 0 rfl rfl)
theorem dX0_ways_1 : decode cX0_ways 1 = .ok (.getfield 158, 3) := dk_180 0 158 (dk_at dksX0_ways_0 1 rfl rfl)
theorem dX0_ways_4 : decode cX0_ways 4 = .ok (.iload 4, 2) := dk_21 4 (dk_at dksX0_ways_0 4 rfl rfl)
theorem dX0_ways_6 : decode cX0_ways 6 = .ok (.aaload, 1) := dk_50 (dk_at dksX0_ways_0 6 rfl rfl)
theorem dX0_ways_7 : decode cX0_ways 7 = .ok (.astore 5, 2) := dk_58 5 (dk_at dksX0_ways_0 7 rfl rfl)
theorem dX0_ways_9 : decode cX0_ways 9 = .ok (.iconst 0, 1) := dk_3 (dk_at dksX0_ways_0 9 rfl rfl)
theorem dX0_ways_10 : decode cX0_ways 10 = .ok (.istore 6, 2) := dk_54 6 (dk_at dksX0_ways_0 10 rfl rfl)
theorem dX0_ways_12 : decode cX0_ways 12 = .ok (.iconst 1, 1) := dk_4 (dk_at dksX0_ways_0 12 rfl rfl)
theorem dX0_ways_13 : decode cX0_ways 13 = .ok (.istore 7, 2) := dk_54 7 (dk_at dksX0_ways_0 13 rfl rfl)
theorem dX0_ways_15 : decode cX0_ways 15 = .ok (.iconst 0, 1) := dk_3 (dk_at dksX0_ways_0 15 rfl rfl)
theorem dX0_ways_16 : decode cX0_ways 16 = .ok (.istore 8, 2) := dk_54 8 (dk_at dksX0_ways_0 16 rfl rfl)
theorem dX0_ways_18 : decode cX0_ways 18 = .ok (.iload 8, 2) := dk_21 8 (dk_at dksX0_ways_0 18 rfl rfl)
theorem dX0_ways_20 : decode cX0_ways 20 = .ok (.aload_n 1, 1) := dk_43 (dk_at dksX0_ways_0 20 rfl rfl)
theorem dX0_ways_21 : decode cX0_ways 21 = .ok (.getfield 11, 3) := dk_180 0 11 (dk_at dksX0_ways_0 21 rfl rfl)
theorem dX0_ways_24 : decode cX0_ways 24 = .ok (.iload_n 2, 1) := dk_28 (dk_at dksX0_ways_1 0 rfl rfl)
theorem dX0_ways_25 : decode cX0_ways 25 = .ok (.iaload, 1) := dk_46 (dk_at dksX0_ways_1 1 rfl rfl)
theorem dX0_ways_26 : decode cX0_ways 26 = .ok (.if_icmp .ge 111, 3) := dk_162 0 111 (dk_at dksX0_ways_1 2 rfl rfl)
theorem dX0_ways_29 : decode cX0_ways 29 = .ok (.aload_n 1, 1) := dk_43 (dk_at dksX0_ways_1 5 rfl rfl)
theorem dX0_ways_30 : decode cX0_ways 30 = .ok (.getfield 17, 3) := dk_180 0 17 (dk_at dksX0_ways_1 6 rfl rfl)
theorem dX0_ways_33 : decode cX0_ways 33 = .ok (.iload_n 2, 1) := dk_28 (dk_at dksX0_ways_1 9 rfl rfl)
theorem dX0_ways_34 : decode cX0_ways 34 = .ok (.aaload, 1) := dk_50 (dk_at dksX0_ways_1 10 rfl rfl)
theorem dX0_ways_35 : decode cX0_ways 35 = .ok (.iload 8, 2) := dk_21 8 (dk_at dksX0_ways_1 11 rfl rfl)
theorem dX0_ways_37 : decode cX0_ways 37 = .ok (.iaload, 1) := dk_46 (dk_at dksX0_ways_1 13 rfl rfl)
theorem dX0_ways_38 : decode cX0_ways 38 = .ok (.istore 9, 2) := dk_54 9 (dk_at dksX0_ways_1 14 rfl rfl)
theorem dX0_ways_40 : decode cX0_ways 40 = .ok (.iload 9, 2) := dk_21 9 (dk_at dksX0_ways_1 16 rfl rfl)
theorem dX0_ways_42 : decode cX0_ways 42 = .ok (.iload_n 3, 1) := dk_29 (dk_at dksX0_ways_1 18 rfl rfl)
theorem dX0_ways_43 : decode cX0_ways 43 = .ok (.if_icmp .ne 6, 3) := dk_160 0 6 (dk_at dksX0_ways_1 19 rfl rfl)
theorem dX0_ways_46 : decode cX0_ways 46 = .ok (.goto 85, 3) := dk_167 0 85 (dk_at dksX0_ways_2 0 rfl rfl)
theorem dX0_ways_49 : decode cX0_ways 49 = .ok (.aload 5, 2) := dk_25 5 (dk_at dksX0_ways_2 3 rfl rfl)
theorem dX0_ways_51 : decode cX0_ways 51 = .ok (.iload 6, 2) := dk_21 6 (dk_at dksX0_ways_2 5 rfl rfl)
theorem dX0_ways_53 : decode cX0_ways 53 = .ok (.aload_n 0, 1) := dk_42 (dk_at dksX0_ways_2 7 rfl rfl)
theorem dX0_ways_54 : decode cX0_ways 54 = .ok (.aload_n 1, 1) := dk_43 (dk_at dksX0_ways_2 8 rfl rfl)
theorem dX0_ways_55 : decode cX0_ways 55 = .ok (.iload 9, 2) := dk_21 9 (dk_at dksX0_ways_2 9 rfl rfl)
theorem dX0_ways_57 : decode cX0_ways 57 = .ok (.iload_n 2, 1) := dk_28 (dk_at dksX0_ways_2 11 rfl rfl)
theorem dX0_ways_58 : decode cX0_ways 58 = .ok (.iconst 0, 1) := dk_3 (dk_at dksX0_ways_2 12 rfl rfl)
theorem dX0_ways_59 : decode cX0_ways 59 = .ok (.invokevirtual 21, 3) := dk_182 0 21 (dk_at dksX0_ways_2 13 rfl rfl)
theorem dX0_ways_62 : decode cX0_ways 62 = .ok (.lastore, 1) := dk_80 (dk_at dksX0_ways_2 16 rfl rfl)
theorem dX0_ways_63 : decode cX0_ways 63 = .ok (.iinc 6 1, 3) := dk_132 6 1 (dk_at dksX0_ways_2 17 rfl rfl)
theorem dX0_ways_66 : decode cX0_ways 66 = .ok (.iconst 0, 1) := dk_3 (dk_at dksX0_ways_2 20 rfl rfl)
theorem dX0_ways_67 : decode cX0_ways 67 = .ok (.istore 10, 2) := dk_54 10 (dk_at dksX0_ways_2 21 rfl rfl)
theorem dX0_ways_69 : decode cX0_ways 69 = .ok (.iconst 0, 1) := dk_3 (dk_at dksX0_ways_2 23 rfl rfl)
theorem dX0_ways_70 : decode cX0_ways 70 = .ok (.istore 11, 2) := dk_54 11 (dk_at dksX0_ways_3 0 rfl rfl)
theorem dX0_ways_72 : decode cX0_ways 72 = .ok (.iload 11, 2) := dk_21 11 (dk_at dksX0_ways_3 2 rfl rfl)
theorem dX0_ways_74 : decode cX0_ways 74 = .ok (.iload 6, 2) := dk_21 6 (dk_at dksX0_ways_3 4 rfl rfl)
theorem dX0_ways_76 : decode cX0_ways 76 = .ok (.if_icmp .ge 35, 3) := dk_162 0 35 (dk_at dksX0_ways_3 6 rfl rfl)
theorem dX0_ways_79 : decode cX0_ways 79 = .ok (.iload 10, 2) := dk_21 10 (dk_at dksX0_ways_3 9 rfl rfl)
theorem dX0_ways_81 : decode cX0_ways 81 = .ok (.aload 5, 2) := dk_25 5 (dk_at dksX0_ways_3 11 rfl rfl)
theorem dX0_ways_83 : decode cX0_ways 83 = .ok (.iload 11, 2) := dk_21 11 (dk_at dksX0_ways_3 13 rfl rfl)
theorem dX0_ways_85 : decode cX0_ways 85 = .ok (.laload, 1) := dk_47 (dk_at dksX0_ways_3 15 rfl rfl)
theorem dX0_ways_86 : decode cX0_ways 86 = .ok (.aload 5, 2) := dk_25 5 (dk_at dksX0_ways_3 16 rfl rfl)
theorem dX0_ways_88 : decode cX0_ways 88 = .ok (.iload 6, 2) := dk_21 6 (dk_at dksX0_ways_3 18 rfl rfl)
theorem dX0_ways_90 : decode cX0_ways 90 = .ok (.iconst 1, 1) := dk_4 (dk_at dksX0_ways_3 20 rfl rfl)
theorem dX0_ways_91 : decode cX0_ways 91 = .ok (.isub, 1) := dk_100 (dk_at dksX0_ways_3 21 rfl rfl)
theorem dX0_ways_92 : decode cX0_ways 92 = .ok (.laload, 1) := dk_47 (dk_at dksX0_ways_3 22 rfl rfl)
theorem dX0_ways_93 : decode cX0_ways 93 = .ok (.lcmp, 1) := dk_148 (dk_at dksX0_ways_3 23 rfl rfl)
theorem dX0_ways_94 : decode cX0_ways 94 = .ok (.ifCond .ne 7, 3) := dk_154 0 7 (dk_at dksX0_ways_4 0 rfl rfl)
theorem dX0_ways_97 : decode cX0_ways 97 = .ok (.iconst 1, 1) := dk_4 (dk_at dksX0_ways_4 3 rfl rfl)
theorem dX0_ways_98 : decode cX0_ways 98 = .ok (.goto 4, 3) := dk_167 0 4 (dk_at dksX0_ways_4 4 rfl rfl)
theorem dX0_ways_101 : decode cX0_ways 101 = .ok (.iconst 0, 1) := dk_3 (dk_at dksX0_ways_4 7 rfl rfl)
theorem dX0_ways_102 : decode cX0_ways 102 = .ok (.iadd, 1) := dk_96 (dk_at dksX0_ways_4 8 rfl rfl)
theorem dX0_ways_103 : decode cX0_ways 103 = .ok (.istore 10, 2) := dk_54 10 (dk_at dksX0_ways_4 9 rfl rfl)
theorem dX0_ways_105 : decode cX0_ways 105 = .ok (.iinc 11 1, 3) := dk_132 11 1 (dk_at dksX0_ways_4 11 rfl rfl)
theorem dX0_ways_108 : decode cX0_ways 108 = .ok (.goto (-36), 3) := dk_167 255 220 (dk_at dksX0_ways_4 14 rfl rfl)
theorem dX0_ways_111 : decode cX0_ways 111 = .ok (.iload 7, 2) := dk_21 7 (dk_at dksX0_ways_4 17 rfl rfl)
theorem dX0_ways_113 : decode cX0_ways 113 = .ok (.iload 10, 2) := dk_21 10 (dk_at dksX0_ways_4 19 rfl rfl)
theorem dX0_ways_115 : decode cX0_ways 115 = .ok (.aload_n 0, 1) := dk_42 (dk_at dksX0_ways_4 21 rfl rfl)
theorem dX0_ways_116 : decode cX0_ways 116 = .ok (.aload_n 1, 1) := dk_43 (dk_at dksX0_ways_4 22 rfl rfl)
theorem dX0_ways_117 : decode cX0_ways 117 = .ok (.iload 9, 2) := dk_21 9 (dk_at dksX0_ways_5 0 rfl rfl)
theorem dX0_ways_119 : decode cX0_ways 119 = .ok (.iload_n 2, 1) := dk_28 (dk_at dksX0_ways_5 2 rfl rfl)
theorem dX0_ways_120 : decode cX0_ways 120 = .ok (.iload 4, 2) := dk_21 4 (dk_at dksX0_ways_5 3 rfl rfl)
theorem dX0_ways_122 : decode cX0_ways 122 = .ok (.iconst 1, 1) := dk_4 (dk_at dksX0_ways_5 5 rfl rfl)
theorem dX0_ways_123 : decode cX0_ways 123 = .ok (.iadd, 1) := dk_96 (dk_at dksX0_ways_5 6 rfl rfl)
theorem dX0_ways_124 : decode cX0_ways 124 = .ok (.invokevirtual 161, 3) := dk_182 0 161 (dk_at dksX0_ways_5 7 rfl rfl)
theorem dX0_ways_127 : decode cX0_ways 127 = .ok (.imul, 1) := dk_104 (dk_at dksX0_ways_5 10 rfl rfl)
theorem dX0_ways_128 : decode cX0_ways 128 = .ok (.imul, 1) := dk_104 (dk_at dksX0_ways_5 11 rfl rfl)
theorem dX0_ways_129 : decode cX0_ways 129 = .ok (.istore 7, 2) := dk_54 7 (dk_at dksX0_ways_5 12 rfl rfl)
theorem dX0_ways_131 : decode cX0_ways 131 = .ok (.iinc 8 1, 3) := dk_132 8 1 (dk_at dksX0_ways_5 14 rfl rfl)
theorem dX0_ways_134 : decode cX0_ways 134 = .ok (.goto (-116), 3) := dk_167 255 140 (dk_at dksX0_ways_5 17 rfl rfl)
theorem dX0_ways_137 : decode cX0_ways 137 = .ok (.iload 7, 2) := dk_21 7 (dk_at dksX0_ways_5 20 rfl rfl)
theorem dX0_ways_139 : decode cX0_ways 139 = .ok (.ireturn, 1) := dk_172 (dk_at dksX0_ways_5 22 rfl rfl)
abbrev cX0_grownOf : ByteArray := prog_1_method_31_code
def yX0_grownOf : MethodName := ⟨RX0, "grownOf", "(LBranchNames$Tree;)I"⟩
def dkwX0_grownOf_5 : List UInt8 := [167, 255, 144, 28, 172]
abbrev dktX0_grownOf_5 : List UInt8 := dkwX0_grownOf_5 ++ []
def dkwX0_grownOf_4 : List UInt8 := [180, 0, 168, 28, 22, 5, 80, 28, 21, 7, 153, 0, 7, 4, 167, 0, 4, 3, 96, 61, 132, 3, 1]
abbrev dktX0_grownOf_4 : List UInt8 := dkwX0_grownOf_4 ++ dktX0_grownOf_5
def dkwX0_grownOf_3 : List UInt8 := [21, 8, 47, 22, 5, 148, 153, 0, 7, 4, 167, 0, 4, 3, 126, 54, 7, 132, 8, 1, 167, 255, 224, 42]
abbrev dktX0_grownOf_3 : List UInt8 := dkwX0_grownOf_3 ++ dktX0_grownOf_4
def dkwX0_grownOf_2 : List UInt8 := [182, 0, 128, 55, 5, 4, 54, 7, 3, 54, 8, 21, 8, 28, 162, 0, 32, 21, 7, 42, 180, 0, 168]
abbrev dktX0_grownOf_2 : List UInt8 := dkwX0_grownOf_2 ++ dktX0_grownOf_3
def dkwX0_grownOf_1 : List UInt8 := [180, 0, 122, 43, 182, 0, 125, 42, 180, 0, 122, 29, 182, 0, 81, 54, 4, 42, 42, 180, 0, 122]
abbrev dktX0_grownOf_1 : List UInt8 := dkwX0_grownOf_1 ++ dktX0_grownOf_2
def dkwX0_grownOf_0 : List UInt8 := [3, 61, 3, 62, 29, 43, 180, 0, 44, 162, 0, 110, 43, 29, 182, 0, 118, 153, 0, 6, 167, 0, 93, 42]
abbrev dktX0_grownOf_0 : List UInt8 := dkwX0_grownOf_0 ++ dktX0_grownOf_1
theorem dksX0_grownOf_0 : cX0_grownOf.data.toList.drop 0 = dktX0_grownOf_0 := by decide +kernel
theorem dksX0_grownOf_1 : cX0_grownOf.data.toList.drop 24 = dktX0_grownOf_1 := dk_seg dksX0_grownOf_0 24 rfl rfl
theorem dksX0_grownOf_2 : cX0_grownOf.data.toList.drop 46 = dktX0_grownOf_2 := dk_seg dksX0_grownOf_1 22 rfl rfl
theorem dksX0_grownOf_3 : cX0_grownOf.data.toList.drop 69 = dktX0_grownOf_3 := dk_seg dksX0_grownOf_2 23 rfl rfl
theorem dksX0_grownOf_4 : cX0_grownOf.data.toList.drop 93 = dktX0_grownOf_4 := dk_seg dksX0_grownOf_3 24 rfl rfl
theorem dksX0_grownOf_5 : cX0_grownOf.data.toList.drop 116 = dktX0_grownOf_5 := dk_seg dksX0_grownOf_4 23 rfl rfl
theorem dX0_grownOf_0 : decode cX0_grownOf 0 = .ok (.iconst 0, 1) := dk_3 (dk_at dksX0_grownOf_0 0 rfl rfl)
theorem dX0_grownOf_1 : decode cX0_grownOf 1 = .ok (.istore_n 2, 1) := dk_61 (dk_at dksX0_grownOf_0 1 rfl rfl)
theorem dX0_grownOf_2 : decode cX0_grownOf 2 = .ok (.iconst 0, 1) := dk_3 (dk_at dksX0_grownOf_0 2 rfl rfl)
theorem dX0_grownOf_3 : decode cX0_grownOf 3 = .ok (.istore_n 3, 1) := dk_62 (dk_at dksX0_grownOf_0 3 rfl rfl)
theorem dX0_grownOf_4 : decode cX0_grownOf 4 = .ok (.iload_n 3, 1) := dk_29 (dk_at dksX0_grownOf_0 4 rfl rfl)
theorem dX0_grownOf_5 : decode cX0_grownOf 5 = .ok (.aload_n 1, 1) := dk_43 (dk_at dksX0_grownOf_0 5 rfl rfl)
theorem dX0_grownOf_6 : decode cX0_grownOf 6 = .ok (.getfield 44, 3) := dk_180 0 44 (dk_at dksX0_grownOf_0 6 rfl rfl)
theorem dX0_grownOf_9 : decode cX0_grownOf 9 = .ok (.if_icmp .ge 110, 3) := dk_162 0 110 (dk_at dksX0_grownOf_0 9 rfl rfl)
theorem dX0_grownOf_12 : decode cX0_grownOf 12 = .ok (.aload_n 1, 1) := dk_43 (dk_at dksX0_grownOf_0 12 rfl rfl)
theorem dX0_grownOf_13 : decode cX0_grownOf 13 = .ok (.iload_n 3, 1) := dk_29 (dk_at dksX0_grownOf_0 13 rfl rfl)
theorem dX0_grownOf_14 : decode cX0_grownOf 14 = .ok (.invokevirtual 118, 3) := dk_182 0 118 (dk_at dksX0_grownOf_0 14 rfl rfl)
theorem dX0_grownOf_17 : decode cX0_grownOf 17 = .ok (.ifCond .eq 6, 3) := dk_153 0 6 (dk_at dksX0_grownOf_0 17 rfl rfl)
theorem dX0_grownOf_20 : decode cX0_grownOf 20 = .ok (.goto 93, 3) := dk_167 0 93 (dk_at dksX0_grownOf_0 20 rfl rfl)
theorem dX0_grownOf_23 : decode cX0_grownOf 23 = .ok (.aload_n 0, 1) := dk_42 (dk_at dksX0_grownOf_0 23 rfl rfl)
theorem dX0_grownOf_24 : decode cX0_grownOf 24 = .ok (.getfield 122, 3) := dk_180 0 122 (dk_at dksX0_grownOf_1 0 rfl rfl)
theorem dX0_grownOf_27 : decode cX0_grownOf 27 = .ok (.aload_n 1, 1) := dk_43 (dk_at dksX0_grownOf_1 3 rfl rfl)
theorem dX0_grownOf_28 : decode cX0_grownOf 28 = .ok (.invokevirtual 125, 3) := dk_182 0 125 (dk_at dksX0_grownOf_1 4 rfl rfl)
theorem dX0_grownOf_31 : decode cX0_grownOf 31 = .ok (.aload_n 0, 1) := dk_42 (dk_at dksX0_grownOf_1 7 rfl rfl)
theorem dX0_grownOf_32 : decode cX0_grownOf 32 = .ok (.getfield 122, 3) := dk_180 0 122 (dk_at dksX0_grownOf_1 8 rfl rfl)
theorem dX0_grownOf_35 : decode cX0_grownOf 35 = .ok (.iload_n 3, 1) := dk_29 (dk_at dksX0_grownOf_1 11 rfl rfl)
theorem dX0_grownOf_36 : decode cX0_grownOf 36 = .ok (.invokevirtual 81, 3) := dk_182 0 81 (dk_at dksX0_grownOf_1 12 rfl rfl)
theorem dX0_grownOf_39 : decode cX0_grownOf 39 = .ok (.istore 4, 2) := dk_54 4 (dk_at dksX0_grownOf_1 15 rfl rfl)
theorem dX0_grownOf_41 : decode cX0_grownOf 41 = .ok (.aload_n 0, 1) := dk_42 (dk_at dksX0_grownOf_1 17 rfl rfl)
theorem dX0_grownOf_42 : decode cX0_grownOf 42 = .ok (.aload_n 0, 1) := dk_42 (dk_at dksX0_grownOf_1 18 rfl rfl)
theorem dX0_grownOf_43 : decode cX0_grownOf 43 = .ok (.getfield 122, 3) := dk_180 0 122 (dk_at dksX0_grownOf_1 19 rfl rfl)
theorem dX0_grownOf_46 : decode cX0_grownOf 46 = .ok (.invokevirtual 128, 3) := dk_182 0 128 (dk_at dksX0_grownOf_2 0 rfl rfl)
theorem dX0_grownOf_49 : decode cX0_grownOf 49 = .ok (.lstore 5, 2) := dk_55 5 (dk_at dksX0_grownOf_2 3 rfl rfl)
theorem dX0_grownOf_51 : decode cX0_grownOf 51 = .ok (.iconst 1, 1) := dk_4 (dk_at dksX0_grownOf_2 5 rfl rfl)
theorem dX0_grownOf_52 : decode cX0_grownOf 52 = .ok (.istore 7, 2) := dk_54 7 (dk_at dksX0_grownOf_2 6 rfl rfl)
theorem dX0_grownOf_54 : decode cX0_grownOf 54 = .ok (.iconst 0, 1) := dk_3 (dk_at dksX0_grownOf_2 8 rfl rfl)
theorem dX0_grownOf_55 : decode cX0_grownOf 55 = .ok (.istore 8, 2) := dk_54 8 (dk_at dksX0_grownOf_2 9 rfl rfl)
theorem dX0_grownOf_57 : decode cX0_grownOf 57 = .ok (.iload 8, 2) := dk_21 8 (dk_at dksX0_grownOf_2 11 rfl rfl)
theorem dX0_grownOf_59 : decode cX0_grownOf 59 = .ok (.iload_n 2, 1) := dk_28 (dk_at dksX0_grownOf_2 13 rfl rfl)
theorem dX0_grownOf_60 : decode cX0_grownOf 60 = .ok (.if_icmp .ge 32, 3) := dk_162 0 32 (dk_at dksX0_grownOf_2 14 rfl rfl)
theorem dX0_grownOf_63 : decode cX0_grownOf 63 = .ok (.iload 7, 2) := dk_21 7 (dk_at dksX0_grownOf_2 17 rfl rfl)
theorem dX0_grownOf_65 : decode cX0_grownOf 65 = .ok (.aload_n 0, 1) := dk_42 (dk_at dksX0_grownOf_2 19 rfl rfl)
theorem dX0_grownOf_66 : decode cX0_grownOf 66 = .ok (.getfield 168, 3) := dk_180 0 168 (dk_at dksX0_grownOf_2 20 rfl rfl)
theorem dX0_grownOf_69 : decode cX0_grownOf 69 = .ok (.iload 8, 2) := dk_21 8 (dk_at dksX0_grownOf_3 0 rfl rfl)
theorem dX0_grownOf_71 : decode cX0_grownOf 71 = .ok (.laload, 1) := dk_47 (dk_at dksX0_grownOf_3 2 rfl rfl)
theorem dX0_grownOf_72 : decode cX0_grownOf 72 = .ok (.lload 5, 2) := dk_22 5 (dk_at dksX0_grownOf_3 3 rfl rfl)
theorem dX0_grownOf_74 : decode cX0_grownOf 74 = .ok (.lcmp, 1) := dk_148 (dk_at dksX0_grownOf_3 5 rfl rfl)
theorem dX0_grownOf_75 : decode cX0_grownOf 75 = .ok (.ifCond .eq 7, 3) := dk_153 0 7 (dk_at dksX0_grownOf_3 6 rfl rfl)
theorem dX0_grownOf_78 : decode cX0_grownOf 78 = .ok (.iconst 1, 1) := dk_4 (dk_at dksX0_grownOf_3 9 rfl rfl)
theorem dX0_grownOf_79 : decode cX0_grownOf 79 = .ok (.goto 4, 3) := dk_167 0 4 (dk_at dksX0_grownOf_3 10 rfl rfl)
theorem dX0_grownOf_82 : decode cX0_grownOf 82 = .ok (.iconst 0, 1) := dk_3 (dk_at dksX0_grownOf_3 13 rfl rfl)
theorem dX0_grownOf_83 : decode cX0_grownOf 83 = .ok (.iand, 1) := dk_126 (dk_at dksX0_grownOf_3 14 rfl rfl)
theorem dX0_grownOf_84 : decode cX0_grownOf 84 = .ok (.istore 7, 2) := dk_54 7 (dk_at dksX0_grownOf_3 15 rfl rfl)
theorem dX0_grownOf_86 : decode cX0_grownOf 86 = .ok (.iinc 8 1, 3) := dk_132 8 1 (dk_at dksX0_grownOf_3 17 rfl rfl)
theorem dX0_grownOf_89 : decode cX0_grownOf 89 = .ok (.goto (-32), 3) := dk_167 255 224 (dk_at dksX0_grownOf_3 20 rfl rfl)
theorem dX0_grownOf_92 : decode cX0_grownOf 92 = .ok (.aload_n 0, 1) := dk_42 (dk_at dksX0_grownOf_3 23 rfl rfl)
theorem dX0_grownOf_93 : decode cX0_grownOf 93 = .ok (.getfield 168, 3) := dk_180 0 168 (dk_at dksX0_grownOf_4 0 rfl rfl)
theorem dX0_grownOf_96 : decode cX0_grownOf 96 = .ok (.iload_n 2, 1) := dk_28 (dk_at dksX0_grownOf_4 3 rfl rfl)
theorem dX0_grownOf_97 : decode cX0_grownOf 97 = .ok (.lload 5, 2) := dk_22 5 (dk_at dksX0_grownOf_4 4 rfl rfl)
theorem dX0_grownOf_99 : decode cX0_grownOf 99 = .ok (.lastore, 1) := dk_80 (dk_at dksX0_grownOf_4 6 rfl rfl)
theorem dX0_grownOf_100 : decode cX0_grownOf 100 = .ok (.iload_n 2, 1) := dk_28 (dk_at dksX0_grownOf_4 7 rfl rfl)
theorem dX0_grownOf_101 : decode cX0_grownOf 101 = .ok (.iload 7, 2) := dk_21 7 (dk_at dksX0_grownOf_4 8 rfl rfl)
theorem dX0_grownOf_103 : decode cX0_grownOf 103 = .ok (.ifCond .eq 7, 3) := dk_153 0 7 (dk_at dksX0_grownOf_4 10 rfl rfl)
theorem dX0_grownOf_106 : decode cX0_grownOf 106 = .ok (.iconst 1, 1) := dk_4 (dk_at dksX0_grownOf_4 13 rfl rfl)
theorem dX0_grownOf_107 : decode cX0_grownOf 107 = .ok (.goto 4, 3) := dk_167 0 4 (dk_at dksX0_grownOf_4 14 rfl rfl)
theorem dX0_grownOf_110 : decode cX0_grownOf 110 = .ok (.iconst 0, 1) := dk_3 (dk_at dksX0_grownOf_4 17 rfl rfl)
theorem dX0_grownOf_111 : decode cX0_grownOf 111 = .ok (.iadd, 1) := dk_96 (dk_at dksX0_grownOf_4 18 rfl rfl)
theorem dX0_grownOf_112 : decode cX0_grownOf 112 = .ok (.istore_n 2, 1) := dk_61 (dk_at dksX0_grownOf_4 19 rfl rfl)
theorem dX0_grownOf_113 : decode cX0_grownOf 113 = .ok (.iinc 3 1, 3) := dk_132 3 1 (dk_at dksX0_grownOf_4 20 rfl rfl)
theorem dX0_grownOf_116 : decode cX0_grownOf 116 = .ok (.goto (-112), 3) := dk_167 255 144 (dk_at dksX0_grownOf_5 0 rfl rfl)
theorem dX0_grownOf_119 : decode cX0_grownOf 119 = .ok (.iload_n 2, 1) := dk_28 (dk_at dksX0_grownOf_5 3 rfl rfl)
theorem dX0_grownOf_120 : decode cX0_grownOf 120 = .ok (.ireturn, 1) := dk_172 (dk_at dksX0_grownOf_5 4 rfl rfl)
abbrev cX0_keyOf : ByteArray := prog_1_method_10_code
def yX0_keyOf : MethodName := ⟨RX0, "keyOf", "(LBranchNames$Tree;)J"⟩
def dkwX0_keyOf_1 : List UInt8 := [167, 0, 13, 33, 42, 43, 28, 182, 0, 68, 184, 0, 72, 173]
abbrev dktX0_keyOf_1 : List UInt8 := dkwX0_keyOf_1 ++ []
def dkwX0_keyOf_0 : List UInt8 := [42, 43, 4, 182, 0, 65, 61, 42, 43, 42, 43, 3, 182, 0, 65, 182, 0, 68, 66, 28, 156, 0, 7, 33]
abbrev dktX0_keyOf_0 : List UInt8 := dkwX0_keyOf_0 ++ dktX0_keyOf_1
theorem dksX0_keyOf_0 : cX0_keyOf.data.toList.drop 0 = dktX0_keyOf_0 := by decide +kernel
theorem dksX0_keyOf_1 : cX0_keyOf.data.toList.drop 24 = dktX0_keyOf_1 := dk_seg dksX0_keyOf_0 24 rfl rfl
theorem dX0_keyOf_0 : decode cX0_keyOf 0 = .ok (.aload_n 0, 1) := dk_42 (dk_at dksX0_keyOf_0 0 rfl rfl)
theorem dX0_keyOf_1 : decode cX0_keyOf 1 = .ok (.aload_n 1, 1) := dk_43 (dk_at dksX0_keyOf_0 1 rfl rfl)
theorem dX0_keyOf_2 : decode cX0_keyOf 2 = .ok (.iconst 1, 1) := dk_4 (dk_at dksX0_keyOf_0 2 rfl rfl)
theorem dX0_keyOf_3 : decode cX0_keyOf 3 = .ok (.invokevirtual 65, 3) := dk_182 0 65 (dk_at dksX0_keyOf_0 3 rfl rfl)
theorem dX0_keyOf_6 : decode cX0_keyOf 6 = .ok (.istore_n 2, 1) := dk_61 (dk_at dksX0_keyOf_0 6 rfl rfl)
theorem dX0_keyOf_7 : decode cX0_keyOf 7 = .ok (.aload_n 0, 1) := dk_42 (dk_at dksX0_keyOf_0 7 rfl rfl)
theorem dX0_keyOf_8 : decode cX0_keyOf 8 = .ok (.aload_n 1, 1) := dk_43 (dk_at dksX0_keyOf_0 8 rfl rfl)
theorem dX0_keyOf_9 : decode cX0_keyOf 9 = .ok (.aload_n 0, 1) := dk_42 (dk_at dksX0_keyOf_0 9 rfl rfl)
theorem dX0_keyOf_10 : decode cX0_keyOf 10 = .ok (.aload_n 1, 1) := dk_43 (dk_at dksX0_keyOf_0 10 rfl rfl)
theorem dX0_keyOf_11 : decode cX0_keyOf 11 = .ok (.iconst 0, 1) := dk_3 (dk_at dksX0_keyOf_0 11 rfl rfl)
theorem dX0_keyOf_12 : decode cX0_keyOf 12 = .ok (.invokevirtual 65, 3) := dk_182 0 65 (dk_at dksX0_keyOf_0 12 rfl rfl)
theorem dX0_keyOf_15 : decode cX0_keyOf 15 = .ok (.invokevirtual 68, 3) := dk_182 0 68 (dk_at dksX0_keyOf_0 15 rfl rfl)
theorem dX0_keyOf_18 : decode cX0_keyOf 18 = .ok (.lstore_n 3, 1) := dk_66 (dk_at dksX0_keyOf_0 18 rfl rfl)
theorem dX0_keyOf_19 : decode cX0_keyOf 19 = .ok (.iload_n 2, 1) := dk_28 (dk_at dksX0_keyOf_0 19 rfl rfl)
theorem dX0_keyOf_20 : decode cX0_keyOf 20 = .ok (.ifCond .ge 7, 3) := dk_156 0 7 (dk_at dksX0_keyOf_0 20 rfl rfl)
theorem dX0_keyOf_23 : decode cX0_keyOf 23 = .ok (.lload_n 3, 1) := dk_33 (dk_at dksX0_keyOf_0 23 rfl rfl)
theorem dX0_keyOf_24 : decode cX0_keyOf 24 = .ok (.goto 13, 3) := dk_167 0 13 (dk_at dksX0_keyOf_1 0 rfl rfl)
theorem dX0_keyOf_27 : decode cX0_keyOf 27 = .ok (.lload_n 3, 1) := dk_33 (dk_at dksX0_keyOf_1 3 rfl rfl)
theorem dX0_keyOf_28 : decode cX0_keyOf 28 = .ok (.aload_n 0, 1) := dk_42 (dk_at dksX0_keyOf_1 4 rfl rfl)
theorem dX0_keyOf_29 : decode cX0_keyOf 29 = .ok (.aload_n 1, 1) := dk_43 (dk_at dksX0_keyOf_1 5 rfl rfl)
theorem dX0_keyOf_30 : decode cX0_keyOf 30 = .ok (.iload_n 2, 1) := dk_28 (dk_at dksX0_keyOf_1 6 rfl rfl)
theorem dX0_keyOf_31 : decode cX0_keyOf 31 = .ok (.invokevirtual 68, 3) := dk_182 0 68 (dk_at dksX0_keyOf_1 7 rfl rfl)
theorem dX0_keyOf_34 : decode cX0_keyOf 34 = .ok (.invokestatic 72, 3) := dk_184 0 72 (dk_at dksX0_keyOf_1 10 rfl rfl)
theorem dX0_keyOf_37 : decode cX0_keyOf 37 = .ok (.lreturn, 1) := dk_173 (dk_at dksX0_keyOf_1 13 rfl rfl)
abbrev cX0_lambda_new_4 : ByteArray := prog_1_method_103_code
def yX0_lambda_new_4 : MethodName := ⟨RX0, "lambda$new$4", "(LBranchNames$Tree;)I"⟩
def dkwX0_lambda_new_4_0 : List UInt8 := [4, 42, 43, 182, 2, 177, 96, 172]
abbrev dktX0_lambda_new_4_0 : List UInt8 := dkwX0_lambda_new_4_0 ++ []
theorem dksX0_lambda_new_4_0 : cX0_lambda_new_4.data.toList.drop 0 = dktX0_lambda_new_4_0 := by decide +kernel
theorem dX0_lambda_new_4_0 : decode cX0_lambda_new_4 0 = .ok (.iconst 1, 1) := dk_4 (dk_at dksX0_lambda_new_4_0 0 rfl rfl)
theorem dX0_lambda_new_4_1 : decode cX0_lambda_new_4 1 = .ok (.aload_n 0, 1) := dk_42 (dk_at dksX0_lambda_new_4_0 1 rfl rfl)
theorem dX0_lambda_new_4_2 : decode cX0_lambda_new_4 2 = .ok (.aload_n 1, 1) := dk_43 (dk_at dksX0_lambda_new_4_0 2 rfl rfl)
theorem dX0_lambda_new_4_3 : decode cX0_lambda_new_4 3 = .ok (.invokevirtual 689, 3) := dk_182 2 177 (dk_at dksX0_lambda_new_4_0 3 rfl rfl)
theorem dX0_lambda_new_4_6 : decode cX0_lambda_new_4 6 = .ok (.iadd, 1) := dk_96 (dk_at dksX0_lambda_new_4_0 6 rfl rfl)
theorem dX0_lambda_new_4_7 : decode cX0_lambda_new_4 7 = .ok (.ireturn, 1) := dk_172 (dk_at dksX0_lambda_new_4_0 7 rfl rfl)
abbrev cX0_greatestDeep : ByteArray := prog_1_method_24_code
def yX0_greatestDeep : MethodName := ⟨RX0, "greatestDeep", "(LBranchNames$Tree;)I"⟩
def dkwX0_greatestDeep_1 : List UInt8 := [184, 0, 48, 61, 132, 3, 1, 167, 255, 234, 28, 172]
abbrev dktX0_greatestDeep_1 : List UInt8 := dkwX0_greatestDeep_1 ++ []
def dkwX0_greatestDeep_0 : List UInt8 := [42, 43, 182, 0, 54, 3, 61, 3, 62, 29, 43, 180, 0, 44, 162, 0, 20, 28, 42, 43, 29, 182, 0, 58]
abbrev dktX0_greatestDeep_0 : List UInt8 := dkwX0_greatestDeep_0 ++ dktX0_greatestDeep_1
theorem dksX0_greatestDeep_0 : cX0_greatestDeep.data.toList.drop 0 = dktX0_greatestDeep_0 := by decide +kernel
theorem dksX0_greatestDeep_1 : cX0_greatestDeep.data.toList.drop 24 = dktX0_greatestDeep_1 := dk_seg dksX0_greatestDeep_0 24 rfl rfl
theorem dX0_greatestDeep_0 : decode cX0_greatestDeep 0 = .ok (.aload_n 0, 1) := dk_42 (dk_at dksX0_greatestDeep_0 0 rfl rfl)
theorem dX0_greatestDeep_1 : decode cX0_greatestDeep 1 = .ok (.aload_n 1, 1) := dk_43 (dk_at dksX0_greatestDeep_0 1 rfl rfl)
theorem dX0_greatestDeep_2 : decode cX0_greatestDeep 2 = .ok (.invokevirtual 54, 3) := dk_182 0 54 (dk_at dksX0_greatestDeep_0 2 rfl rfl)
theorem dX0_greatestDeep_5 : decode cX0_greatestDeep 5 = .ok (.iconst 0, 1) := dk_3 (dk_at dksX0_greatestDeep_0 5 rfl rfl)
theorem dX0_greatestDeep_6 : decode cX0_greatestDeep 6 = .ok (.istore_n 2, 1) := dk_61 (dk_at dksX0_greatestDeep_0 6 rfl rfl)
theorem dX0_greatestDeep_7 : decode cX0_greatestDeep 7 = .ok (.iconst 0, 1) := dk_3 (dk_at dksX0_greatestDeep_0 7 rfl rfl)
theorem dX0_greatestDeep_8 : decode cX0_greatestDeep 8 = .ok (.istore_n 3, 1) := dk_62 (dk_at dksX0_greatestDeep_0 8 rfl rfl)
theorem dX0_greatestDeep_9 : decode cX0_greatestDeep 9 = .ok (.iload_n 3, 1) := dk_29 (dk_at dksX0_greatestDeep_0 9 rfl rfl)
theorem dX0_greatestDeep_10 : decode cX0_greatestDeep 10 = .ok (.aload_n 1, 1) := dk_43 (dk_at dksX0_greatestDeep_0 10 rfl rfl)
theorem dX0_greatestDeep_11 : decode cX0_greatestDeep 11 = .ok (.getfield 44, 3) := dk_180 0 44 (dk_at dksX0_greatestDeep_0 11 rfl rfl)
theorem dX0_greatestDeep_14 : decode cX0_greatestDeep 14 = .ok (.if_icmp .ge 20, 3) := dk_162 0 20 (dk_at dksX0_greatestDeep_0 14 rfl rfl)
theorem dX0_greatestDeep_17 : decode cX0_greatestDeep 17 = .ok (.iload_n 2, 1) := dk_28 (dk_at dksX0_greatestDeep_0 17 rfl rfl)
theorem dX0_greatestDeep_18 : decode cX0_greatestDeep 18 = .ok (.aload_n 0, 1) := dk_42 (dk_at dksX0_greatestDeep_0 18 rfl rfl)
theorem dX0_greatestDeep_19 : decode cX0_greatestDeep 19 = .ok (.aload_n 1, 1) := dk_43 (dk_at dksX0_greatestDeep_0 19 rfl rfl)
theorem dX0_greatestDeep_20 : decode cX0_greatestDeep 20 = .ok (.iload_n 3, 1) := dk_29 (dk_at dksX0_greatestDeep_0 20 rfl rfl)
theorem dX0_greatestDeep_21 : decode cX0_greatestDeep 21 = .ok (.invokevirtual 58, 3) := dk_182 0 58 (dk_at dksX0_greatestDeep_0 21 rfl rfl)
theorem dX0_greatestDeep_24 : decode cX0_greatestDeep 24 = .ok (.invokestatic 48, 3) := dk_184 0 48 (dk_at dksX0_greatestDeep_1 0 rfl rfl)
theorem dX0_greatestDeep_27 : decode cX0_greatestDeep 27 = .ok (.istore_n 2, 1) := dk_61 (dk_at dksX0_greatestDeep_1 3 rfl rfl)
theorem dX0_greatestDeep_28 : decode cX0_greatestDeep 28 = .ok (.iinc 3 1, 3) := dk_132 3 1 (dk_at dksX0_greatestDeep_1 4 rfl rfl)
theorem dX0_greatestDeep_31 : decode cX0_greatestDeep 31 = .ok (.goto (-22), 3) := dk_167 255 234 (dk_at dksX0_greatestDeep_1 7 rfl rfl)
theorem dX0_greatestDeep_34 : decode cX0_greatestDeep 34 = .ok (.iload_n 2, 1) := dk_28 (dk_at dksX0_greatestDeep_1 10 rfl rfl)
theorem dX0_greatestDeep_35 : decode cX0_greatestDeep 35 = .ok (.ireturn, 1) := dk_172 (dk_at dksX0_greatestDeep_1 11 rfl rfl)
abbrev cX0_branchesOf : ByteArray := prog_1_method_41_code
def yX0_branchesOf : MethodName := ⟨RX0, "branchesOf", "(LBranchNames$Tree;)I"⟩
def dkwX0_branchesOf_1 : List UInt8 := [42, 43, 2, 2, 44, 182, 0, 233, 44, 185, 0, 237, 1, 0, 180, 0, 182, 172]
abbrev dktX0_branchesOf_1 : List UInt8 := dkwX0_branchesOf_1 ++ []
def dkwX0_branchesOf_0 : List UInt8 := [5, 189, 0, 216, 89, 3, 186, 0, 218, 0, 0, 83, 89, 4, 186, 0, 222, 0, 0, 83, 184, 0, 229, 77]
abbrev dktX0_branchesOf_0 : List UInt8 := dkwX0_branchesOf_0 ++ dktX0_branchesOf_1
theorem dksX0_branchesOf_0 : cX0_branchesOf.data.toList.drop 0 = dktX0_branchesOf_0 := by decide +kernel
theorem dksX0_branchesOf_1 : cX0_branchesOf.data.toList.drop 24 = dktX0_branchesOf_1 := dk_seg dksX0_branchesOf_0 24 rfl rfl
theorem dX0_branchesOf_0 : decode cX0_branchesOf 0 = .ok (.iconst 2, 1) := dk_5 (dk_at dksX0_branchesOf_0 0 rfl rfl)
theorem dX0_branchesOf_1 : decode cX0_branchesOf 1 = .ok (.anewarray 216, 3) := dk_189 0 216 (dk_at dksX0_branchesOf_0 1 rfl rfl)
theorem dX0_branchesOf_4 : decode cX0_branchesOf 4 = .ok (.dup, 1) := dk_89 (dk_at dksX0_branchesOf_0 4 rfl rfl)
theorem dX0_branchesOf_5 : decode cX0_branchesOf 5 = .ok (.iconst 0, 1) := dk_3 (dk_at dksX0_branchesOf_0 5 rfl rfl)
theorem dX0_branchesOf_6 : decode cX0_branchesOf 6 = .ok (.invokedynamic 218, 5) := by decide +kernel
theorem dX0_branchesOf_11 : decode cX0_branchesOf 11 = .ok (.aastore, 1) := dk_83 (dk_at dksX0_branchesOf_0 11 rfl rfl)
theorem dX0_branchesOf_12 : decode cX0_branchesOf 12 = .ok (.dup, 1) := dk_89 (dk_at dksX0_branchesOf_0 12 rfl rfl)
theorem dX0_branchesOf_13 : decode cX0_branchesOf 13 = .ok (.iconst 1, 1) := dk_4 (dk_at dksX0_branchesOf_0 13 rfl rfl)
theorem dX0_branchesOf_14 : decode cX0_branchesOf 14 = .ok (.invokedynamic 222, 5) := by decide +kernel
theorem dX0_branchesOf_19 : decode cX0_branchesOf 19 = .ok (.aastore, 1) := dk_83 (dk_at dksX0_branchesOf_0 19 rfl rfl)
theorem dX0_branchesOf_20 : decode cX0_branchesOf 20 = .ok (.invokestatic 229, 3) := dk_184 0 229 (dk_at dksX0_branchesOf_0 20 rfl rfl)
theorem dX0_branchesOf_23 : decode cX0_branchesOf 23 = .ok (.astore_n 2, 1) := dk_77 (dk_at dksX0_branchesOf_0 23 rfl rfl)
theorem dX0_branchesOf_24 : decode cX0_branchesOf 24 = .ok (.aload_n 0, 1) := dk_42 (dk_at dksX0_branchesOf_1 0 rfl rfl)
theorem dX0_branchesOf_25 : decode cX0_branchesOf 25 = .ok (.aload_n 1, 1) := dk_43 (dk_at dksX0_branchesOf_1 1 rfl rfl)
theorem dX0_branchesOf_26 : decode cX0_branchesOf 26 = .ok (.iconst (-1), 1) := dk_2 (dk_at dksX0_branchesOf_1 2 rfl rfl)
theorem dX0_branchesOf_27 : decode cX0_branchesOf 27 = .ok (.iconst (-1), 1) := dk_2 (dk_at dksX0_branchesOf_1 3 rfl rfl)
theorem dX0_branchesOf_28 : decode cX0_branchesOf 28 = .ok (.aload_n 2, 1) := dk_44 (dk_at dksX0_branchesOf_1 4 rfl rfl)
theorem dX0_branchesOf_29 : decode cX0_branchesOf 29 = .ok (.invokevirtual 233, 3) := dk_182 0 233 (dk_at dksX0_branchesOf_1 5 rfl rfl)
theorem dX0_branchesOf_32 : decode cX0_branchesOf 32 = .ok (.aload_n 2, 1) := dk_44 (dk_at dksX0_branchesOf_1 8 rfl rfl)
theorem dX0_branchesOf_33 : decode cX0_branchesOf 33 = .ok (.invokeinterface 237 1, 5) := by decide +kernel
theorem dX0_branchesOf_38 : decode cX0_branchesOf 38 = .ok (.getfield 182, 3) := dk_180 0 182 (dk_at dksX0_branchesOf_1 14 rfl rfl)
theorem dX0_branchesOf_41 : decode cX0_branchesOf 41 = .ok (.ireturn, 1) := dk_172 (dk_at dksX0_branchesOf_1 17 rfl rfl)
abbrev cX0_prefersLong : ByteArray := prog_1_method_33_code
def yX0_prefersLong : MethodName := ⟨RX0, "prefersLong", "(LBranchNames$Way;LBranchNames$Way;)I"⟩
def dkwX0_prefersLong_0 : List UInt8 := [42, 180, 0, 177, 43, 180, 0, 177, 100, 172]
abbrev dktX0_prefersLong_0 : List UInt8 := dkwX0_prefersLong_0 ++ []
theorem dksX0_prefersLong_0 : cX0_prefersLong.data.toList.drop 0 = dktX0_prefersLong_0 := by decide +kernel
theorem dX0_prefersLong_0 : decode cX0_prefersLong 0 = .ok (.aload_n 0, 1) := dk_42 (dk_at dksX0_prefersLong_0 0 rfl rfl)
theorem dX0_prefersLong_1 : decode cX0_prefersLong 1 = .ok (.getfield 177, 3) := dk_180 0 177 (dk_at dksX0_prefersLong_0 1 rfl rfl)
theorem dX0_prefersLong_4 : decode cX0_prefersLong 4 = .ok (.aload_n 1, 1) := dk_43 (dk_at dksX0_prefersLong_0 4 rfl rfl)
theorem dX0_prefersLong_5 : decode cX0_prefersLong 5 = .ok (.getfield 177, 3) := dk_180 0 177 (dk_at dksX0_prefersLong_0 5 rfl rfl)
theorem dX0_prefersLong_8 : decode cX0_prefersLong 8 = .ok (.isub, 1) := dk_100 (dk_at dksX0_prefersLong_0 8 rfl rfl)
theorem dX0_prefersLong_9 : decode cX0_prefersLong 9 = .ok (.ireturn, 1) := dk_172 (dk_at dksX0_prefersLong_0 9 rfl rfl)
abbrev cX0_prefersBranched : ByteArray := prog_1_method_34_code
def yX0_prefersBranched : MethodName := ⟨RX0, "prefersBranched", "(LBranchNames$Way;LBranchNames$Way;)I"⟩
def dkwX0_prefersBranched_0 : List UInt8 := [42, 180, 0, 182, 43, 180, 0, 182, 100, 172]
abbrev dktX0_prefersBranched_0 : List UInt8 := dkwX0_prefersBranched_0 ++ []
theorem dksX0_prefersBranched_0 : cX0_prefersBranched.data.toList.drop 0 = dktX0_prefersBranched_0 := by decide +kernel
theorem dX0_prefersBranched_0 : decode cX0_prefersBranched 0 = .ok (.aload_n 0, 1) := dk_42 (dk_at dksX0_prefersBranched_0 0 rfl rfl)
theorem dX0_prefersBranched_1 : decode cX0_prefersBranched 1 = .ok (.getfield 182, 3) := dk_180 0 182 (dk_at dksX0_prefersBranched_0 1 rfl rfl)
theorem dX0_prefersBranched_4 : decode cX0_prefersBranched 4 = .ok (.aload_n 1, 1) := dk_43 (dk_at dksX0_prefersBranched_0 4 rfl rfl)
theorem dX0_prefersBranched_5 : decode cX0_prefersBranched 5 = .ok (.getfield 182, 3) := dk_180 0 182 (dk_at dksX0_prefersBranched_0 5 rfl rfl)
theorem dX0_prefersBranched_8 : decode cX0_prefersBranched 8 = .ok (.isub, 1) := dk_100 (dk_at dksX0_prefersBranched_0 8 rfl rfl)
theorem dX0_prefersBranched_9 : decode cX0_prefersBranched 9 = .ok (.ireturn, 1) := dk_172 (dk_at dksX0_prefersBranched_0 9 rfl rfl)
abbrev cX0_chooser : ByteArray := prog_1_method_32_code
def yX0_chooser : MethodName := ⟨RX0, "chooser", "([LBranchNames$Prefers;)LBranchNames$Chooses;"⟩
def dkwX0_chooser_0 : List UInt8 := [187, 0, 171, 89, 42, 183, 0, 173, 176]
abbrev dktX0_chooser_0 : List UInt8 := dkwX0_chooser_0 ++ []
theorem dksX0_chooser_0 : cX0_chooser.data.toList.drop 0 = dktX0_chooser_0 := by decide +kernel
theorem dX0_chooser_0 : decode cX0_chooser 0 = .ok (.new 171, 3) := dk_187 0 171 (dk_at dksX0_chooser_0 0 rfl rfl)
theorem dX0_chooser_3 : decode cX0_chooser 3 = .ok (.dup, 1) := dk_89 (dk_at dksX0_chooser_0 3 rfl rfl)
theorem dX0_chooser_4 : decode cX0_chooser 4 = .ok (.aload_n 0, 1) := dk_42 (dk_at dksX0_chooser_0 4 rfl rfl)
theorem dX0_chooser_5 : decode cX0_chooser 5 = .ok (.invokespecial 173, 3) := dk_183 0 173 (dk_at dksX0_chooser_0 5 rfl rfl)
theorem dX0_chooser_8 : decode cX0_chooser 8 = .ok (.areturn, 1) := dk_176 (dk_at dksX0_chooser_0 8 rfl rfl)
abbrev cX0_seeksAll : ByteArray := prog_1_method_38_code
def yX0_seeksAll : MethodName := ⟨RX0, "seeksAll", "(LBranchNames$Tree;IILBranchNames$Sees;)V"⟩
def dkwX0_seeksAll_2 : List UInt8 := [167, 255, 224, 177]
abbrev dktX0_seeksAll_2 : List UInt8 := dkwX0_seeksAll_2 ++ []
def dkwX0_seeksAll_1 : List UInt8 := [155, 0, 9, 21, 6, 28, 160, 0, 13, 25, 5, 21, 6, 29, 25, 4, 182, 0, 212, 132, 6, 1]
abbrev dktX0_seeksAll_1 : List UInt8 := dkwX0_seeksAll_1 ++ dktX0_seeksAll_2
def dkwX0_seeksAll_0 : List UInt8 := [187, 0, 207, 89, 43, 29, 183, 0, 209, 58, 5, 3, 54, 6, 21, 6, 43, 180, 0, 44, 162, 0, 29, 28]
abbrev dktX0_seeksAll_0 : List UInt8 := dkwX0_seeksAll_0 ++ dktX0_seeksAll_1
theorem dksX0_seeksAll_0 : cX0_seeksAll.data.toList.drop 0 = dktX0_seeksAll_0 := by decide +kernel
theorem dksX0_seeksAll_1 : cX0_seeksAll.data.toList.drop 24 = dktX0_seeksAll_1 := dk_seg dksX0_seeksAll_0 24 rfl rfl
theorem dksX0_seeksAll_2 : cX0_seeksAll.data.toList.drop 46 = dktX0_seeksAll_2 := dk_seg dksX0_seeksAll_1 22 rfl rfl
theorem dX0_seeksAll_0 : decode cX0_seeksAll 0 = .ok (.new 207, 3) := dk_187 0 207 (dk_at dksX0_seeksAll_0 0 rfl rfl)
theorem dX0_seeksAll_3 : decode cX0_seeksAll 3 = .ok (.dup, 1) := dk_89 (dk_at dksX0_seeksAll_0 3 rfl rfl)
theorem dX0_seeksAll_4 : decode cX0_seeksAll 4 = .ok (.aload_n 1, 1) := dk_43 (dk_at dksX0_seeksAll_0 4 rfl rfl)
theorem dX0_seeksAll_5 : decode cX0_seeksAll 5 = .ok (.iload_n 3, 1) := dk_29 (dk_at dksX0_seeksAll_0 5 rfl rfl)
theorem dX0_seeksAll_6 : decode cX0_seeksAll 6 = .ok (.invokespecial 209, 3) := dk_183 0 209 (dk_at dksX0_seeksAll_0 6 rfl rfl)
theorem dX0_seeksAll_9 : decode cX0_seeksAll 9 = .ok (.astore 5, 2) := dk_58 5 (dk_at dksX0_seeksAll_0 9 rfl rfl)
theorem dX0_seeksAll_11 : decode cX0_seeksAll 11 = .ok (.iconst 0, 1) := dk_3 (dk_at dksX0_seeksAll_0 11 rfl rfl)
theorem dX0_seeksAll_12 : decode cX0_seeksAll 12 = .ok (.istore 6, 2) := dk_54 6 (dk_at dksX0_seeksAll_0 12 rfl rfl)
theorem dX0_seeksAll_14 : decode cX0_seeksAll 14 = .ok (.iload 6, 2) := dk_21 6 (dk_at dksX0_seeksAll_0 14 rfl rfl)
theorem dX0_seeksAll_16 : decode cX0_seeksAll 16 = .ok (.aload_n 1, 1) := dk_43 (dk_at dksX0_seeksAll_0 16 rfl rfl)
theorem dX0_seeksAll_17 : decode cX0_seeksAll 17 = .ok (.getfield 44, 3) := dk_180 0 44 (dk_at dksX0_seeksAll_0 17 rfl rfl)
theorem dX0_seeksAll_20 : decode cX0_seeksAll 20 = .ok (.if_icmp .ge 29, 3) := dk_162 0 29 (dk_at dksX0_seeksAll_0 20 rfl rfl)
theorem dX0_seeksAll_23 : decode cX0_seeksAll 23 = .ok (.iload_n 2, 1) := dk_28 (dk_at dksX0_seeksAll_0 23 rfl rfl)
theorem dX0_seeksAll_24 : decode cX0_seeksAll 24 = .ok (.ifCond .lt 9, 3) := dk_155 0 9 (dk_at dksX0_seeksAll_1 0 rfl rfl)
theorem dX0_seeksAll_27 : decode cX0_seeksAll 27 = .ok (.iload 6, 2) := dk_21 6 (dk_at dksX0_seeksAll_1 3 rfl rfl)
theorem dX0_seeksAll_29 : decode cX0_seeksAll 29 = .ok (.iload_n 2, 1) := dk_28 (dk_at dksX0_seeksAll_1 5 rfl rfl)
theorem dX0_seeksAll_30 : decode cX0_seeksAll 30 = .ok (.if_icmp .ne 13, 3) := dk_160 0 13 (dk_at dksX0_seeksAll_1 6 rfl rfl)
theorem dX0_seeksAll_33 : decode cX0_seeksAll 33 = .ok (.aload 5, 2) := dk_25 5 (dk_at dksX0_seeksAll_1 9 rfl rfl)
theorem dX0_seeksAll_35 : decode cX0_seeksAll 35 = .ok (.iload 6, 2) := dk_21 6 (dk_at dksX0_seeksAll_1 11 rfl rfl)
theorem dX0_seeksAll_37 : decode cX0_seeksAll 37 = .ok (.iload_n 3, 1) := dk_29 (dk_at dksX0_seeksAll_1 13 rfl rfl)
theorem dX0_seeksAll_38 : decode cX0_seeksAll 38 = .ok (.aload 4, 2) := dk_25 4 (dk_at dksX0_seeksAll_1 14 rfl rfl)
theorem dX0_seeksAll_40 : decode cX0_seeksAll 40 = .ok (.invokevirtual 212, 3) := dk_182 0 212 (dk_at dksX0_seeksAll_1 16 rfl rfl)
theorem dX0_seeksAll_43 : decode cX0_seeksAll 43 = .ok (.iinc 6 1, 3) := dk_132 6 1 (dk_at dksX0_seeksAll_1 19 rfl rfl)
theorem dX0_seeksAll_46 : decode cX0_seeksAll 46 = .ok (.goto (-32), 3) := dk_167 255 224 (dk_at dksX0_seeksAll_2 0 rfl rfl)
theorem dX0_seeksAll_49 : decode cX0_seeksAll 49 = .ok (.return_, 1) := dk_177 (dk_at dksX0_seeksAll_2 3 rfl rfl)
abbrev cX0_comesIn : ByteArray := prog_1_method_14_code
def yX0_comesIn : MethodName := ⟨RX0, "comesIn", "(I)V"⟩
def dkwX0_comesIn_3 : List UInt8 := [167, 255, 234, 42, 180, 0, 99, 28, 27, 79, 42, 89, 180, 0, 96, 4, 96, 181, 0, 96, 177]
abbrev dktX0_comesIn_3 : List UInt8 := dkwX0_comesIn_3 ++ []
def dkwX0_comesIn_2 : List UInt8 := [62, 29, 28, 164, 0, 23, 42, 180, 0, 99, 29, 42, 180, 0, 99, 29, 4, 100, 46, 79, 132, 3, 255]
abbrev dktX0_comesIn_2 : List UInt8 := dkwX0_comesIn_2 ++ dktX0_comesIn_3
def dkwX0_comesIn_1 : List UInt8 := [167, 255, 237, 28, 158, 0, 16, 42, 180, 0, 99, 28, 4, 100, 46, 27, 160, 0, 4, 177, 42, 180, 0, 96]
abbrev dktX0_comesIn_1 : List UInt8 := dkwX0_comesIn_1 ++ dktX0_comesIn_2
def dkwX0_comesIn_0 : List UInt8 := [42, 180, 0, 96, 61, 28, 158, 0, 21, 42, 180, 0, 99, 28, 4, 100, 46, 27, 162, 0, 9, 132, 2, 255]
abbrev dktX0_comesIn_0 : List UInt8 := dkwX0_comesIn_0 ++ dktX0_comesIn_1
theorem dksX0_comesIn_0 : cX0_comesIn.data.toList.drop 0 = dktX0_comesIn_0 := by decide +kernel
theorem dksX0_comesIn_1 : cX0_comesIn.data.toList.drop 24 = dktX0_comesIn_1 := dk_seg dksX0_comesIn_0 24 rfl rfl
theorem dksX0_comesIn_2 : cX0_comesIn.data.toList.drop 48 = dktX0_comesIn_2 := dk_seg dksX0_comesIn_1 24 rfl rfl
theorem dksX0_comesIn_3 : cX0_comesIn.data.toList.drop 71 = dktX0_comesIn_3 := dk_seg dksX0_comesIn_2 23 rfl rfl
theorem dX0_comesIn_0 : decode cX0_comesIn 0 = .ok (.aload_n 0, 1) := dk_42 (dk_at dksX0_comesIn_0 0 rfl rfl)
theorem dX0_comesIn_1 : decode cX0_comesIn 1 = .ok (.getfield 96, 3) := dk_180 0 96 (dk_at dksX0_comesIn_0 1 rfl rfl)
theorem dX0_comesIn_4 : decode cX0_comesIn 4 = .ok (.istore_n 2, 1) := dk_61 (dk_at dksX0_comesIn_0 4 rfl rfl)
theorem dX0_comesIn_5 : decode cX0_comesIn 5 = .ok (.iload_n 2, 1) := dk_28 (dk_at dksX0_comesIn_0 5 rfl rfl)
theorem dX0_comesIn_6 : decode cX0_comesIn 6 = .ok (.ifCond .le 21, 3) := dk_158 0 21 (dk_at dksX0_comesIn_0 6 rfl rfl)
theorem dX0_comesIn_9 : decode cX0_comesIn 9 = .ok (.aload_n 0, 1) := dk_42 (dk_at dksX0_comesIn_0 9 rfl rfl)
theorem dX0_comesIn_10 : decode cX0_comesIn 10 = .ok (.getfield 99, 3) := dk_180 0 99 (dk_at dksX0_comesIn_0 10 rfl rfl)
theorem dX0_comesIn_13 : decode cX0_comesIn 13 = .ok (.iload_n 2, 1) := dk_28 (dk_at dksX0_comesIn_0 13 rfl rfl)
theorem dX0_comesIn_14 : decode cX0_comesIn 14 = .ok (.iconst 1, 1) := dk_4 (dk_at dksX0_comesIn_0 14 rfl rfl)
theorem dX0_comesIn_15 : decode cX0_comesIn 15 = .ok (.isub, 1) := dk_100 (dk_at dksX0_comesIn_0 15 rfl rfl)
theorem dX0_comesIn_16 : decode cX0_comesIn 16 = .ok (.iaload, 1) := dk_46 (dk_at dksX0_comesIn_0 16 rfl rfl)
theorem dX0_comesIn_17 : decode cX0_comesIn 17 = .ok (.iload_n 1, 1) := dk_27 (dk_at dksX0_comesIn_0 17 rfl rfl)
theorem dX0_comesIn_18 : decode cX0_comesIn 18 = .ok (.if_icmp .ge 9, 3) := dk_162 0 9 (dk_at dksX0_comesIn_0 18 rfl rfl)
theorem dX0_comesIn_21 : decode cX0_comesIn 21 = .ok (.iinc 2 (-1), 3) := dk_132 2 255 (dk_at dksX0_comesIn_0 21 rfl rfl)
theorem dX0_comesIn_24 : decode cX0_comesIn 24 = .ok (.goto (-19), 3) := dk_167 255 237 (dk_at dksX0_comesIn_1 0 rfl rfl)
theorem dX0_comesIn_27 : decode cX0_comesIn 27 = .ok (.iload_n 2, 1) := dk_28 (dk_at dksX0_comesIn_1 3 rfl rfl)
theorem dX0_comesIn_28 : decode cX0_comesIn 28 = .ok (.ifCond .le 16, 3) := dk_158 0 16 (dk_at dksX0_comesIn_1 4 rfl rfl)
theorem dX0_comesIn_31 : decode cX0_comesIn 31 = .ok (.aload_n 0, 1) := dk_42 (dk_at dksX0_comesIn_1 7 rfl rfl)
theorem dX0_comesIn_32 : decode cX0_comesIn 32 = .ok (.getfield 99, 3) := dk_180 0 99 (dk_at dksX0_comesIn_1 8 rfl rfl)
theorem dX0_comesIn_35 : decode cX0_comesIn 35 = .ok (.iload_n 2, 1) := dk_28 (dk_at dksX0_comesIn_1 11 rfl rfl)
theorem dX0_comesIn_36 : decode cX0_comesIn 36 = .ok (.iconst 1, 1) := dk_4 (dk_at dksX0_comesIn_1 12 rfl rfl)
theorem dX0_comesIn_37 : decode cX0_comesIn 37 = .ok (.isub, 1) := dk_100 (dk_at dksX0_comesIn_1 13 rfl rfl)
theorem dX0_comesIn_38 : decode cX0_comesIn 38 = .ok (.iaload, 1) := dk_46 (dk_at dksX0_comesIn_1 14 rfl rfl)
theorem dX0_comesIn_39 : decode cX0_comesIn 39 = .ok (.iload_n 1, 1) := dk_27 (dk_at dksX0_comesIn_1 15 rfl rfl)
theorem dX0_comesIn_40 : decode cX0_comesIn 40 = .ok (.if_icmp .ne 4, 3) := dk_160 0 4 (dk_at dksX0_comesIn_1 16 rfl rfl)
theorem dX0_comesIn_43 : decode cX0_comesIn 43 = .ok (.return_, 1) := dk_177 (dk_at dksX0_comesIn_1 19 rfl rfl)
theorem dX0_comesIn_44 : decode cX0_comesIn 44 = .ok (.aload_n 0, 1) := dk_42 (dk_at dksX0_comesIn_1 20 rfl rfl)
theorem dX0_comesIn_45 : decode cX0_comesIn 45 = .ok (.getfield 96, 3) := dk_180 0 96 (dk_at dksX0_comesIn_1 21 rfl rfl)
theorem dX0_comesIn_48 : decode cX0_comesIn 48 = .ok (.istore_n 3, 1) := dk_62 (dk_at dksX0_comesIn_2 0 rfl rfl)
theorem dX0_comesIn_49 : decode cX0_comesIn 49 = .ok (.iload_n 3, 1) := dk_29 (dk_at dksX0_comesIn_2 1 rfl rfl)
theorem dX0_comesIn_50 : decode cX0_comesIn 50 = .ok (.iload_n 2, 1) := dk_28 (dk_at dksX0_comesIn_2 2 rfl rfl)
theorem dX0_comesIn_51 : decode cX0_comesIn 51 = .ok (.if_icmp .le 23, 3) := dk_164 0 23 (dk_at dksX0_comesIn_2 3 rfl rfl)
theorem dX0_comesIn_54 : decode cX0_comesIn 54 = .ok (.aload_n 0, 1) := dk_42 (dk_at dksX0_comesIn_2 6 rfl rfl)
theorem dX0_comesIn_55 : decode cX0_comesIn 55 = .ok (.getfield 99, 3) := dk_180 0 99 (dk_at dksX0_comesIn_2 7 rfl rfl)
theorem dX0_comesIn_58 : decode cX0_comesIn 58 = .ok (.iload_n 3, 1) := dk_29 (dk_at dksX0_comesIn_2 10 rfl rfl)
theorem dX0_comesIn_59 : decode cX0_comesIn 59 = .ok (.aload_n 0, 1) := dk_42 (dk_at dksX0_comesIn_2 11 rfl rfl)
theorem dX0_comesIn_60 : decode cX0_comesIn 60 = .ok (.getfield 99, 3) := dk_180 0 99 (dk_at dksX0_comesIn_2 12 rfl rfl)
theorem dX0_comesIn_63 : decode cX0_comesIn 63 = .ok (.iload_n 3, 1) := dk_29 (dk_at dksX0_comesIn_2 15 rfl rfl)
theorem dX0_comesIn_64 : decode cX0_comesIn 64 = .ok (.iconst 1, 1) := dk_4 (dk_at dksX0_comesIn_2 16 rfl rfl)
theorem dX0_comesIn_65 : decode cX0_comesIn 65 = .ok (.isub, 1) := dk_100 (dk_at dksX0_comesIn_2 17 rfl rfl)
theorem dX0_comesIn_66 : decode cX0_comesIn 66 = .ok (.iaload, 1) := dk_46 (dk_at dksX0_comesIn_2 18 rfl rfl)
theorem dX0_comesIn_67 : decode cX0_comesIn 67 = .ok (.iastore, 1) := dk_79 (dk_at dksX0_comesIn_2 19 rfl rfl)
theorem dX0_comesIn_68 : decode cX0_comesIn 68 = .ok (.iinc 3 (-1), 3) := dk_132 3 255 (dk_at dksX0_comesIn_2 20 rfl rfl)
theorem dX0_comesIn_71 : decode cX0_comesIn 71 = .ok (.goto (-22), 3) := dk_167 255 234 (dk_at dksX0_comesIn_3 0 rfl rfl)
theorem dX0_comesIn_74 : decode cX0_comesIn 74 = .ok (.aload_n 0, 1) := dk_42 (dk_at dksX0_comesIn_3 3 rfl rfl)
theorem dX0_comesIn_75 : decode cX0_comesIn 75 = .ok (.getfield 99, 3) := dk_180 0 99 (dk_at dksX0_comesIn_3 4 rfl rfl)
theorem dX0_comesIn_78 : decode cX0_comesIn 78 = .ok (.iload_n 2, 1) := dk_28 (dk_at dksX0_comesIn_3 7 rfl rfl)
theorem dX0_comesIn_79 : decode cX0_comesIn 79 = .ok (.iload_n 1, 1) := dk_27 (dk_at dksX0_comesIn_3 8 rfl rfl)
theorem dX0_comesIn_80 : decode cX0_comesIn 80 = .ok (.iastore, 1) := dk_79 (dk_at dksX0_comesIn_3 9 rfl rfl)
theorem dX0_comesIn_81 : decode cX0_comesIn 81 = .ok (.aload_n 0, 1) := dk_42 (dk_at dksX0_comesIn_3 10 rfl rfl)
theorem dX0_comesIn_82 : decode cX0_comesIn 82 = .ok (.dup, 1) := dk_89 (dk_at dksX0_comesIn_3 11 rfl rfl)
theorem dX0_comesIn_83 : decode cX0_comesIn 83 = .ok (.getfield 96, 3) := dk_180 0 96 (dk_at dksX0_comesIn_3 12 rfl rfl)
theorem dX0_comesIn_86 : decode cX0_comesIn 86 = .ok (.iconst 1, 1) := dk_4 (dk_at dksX0_comesIn_3 15 rfl rfl)
theorem dX0_comesIn_87 : decode cX0_comesIn 87 = .ok (.iadd, 1) := dk_96 (dk_at dksX0_comesIn_3 16 rfl rfl)
theorem dX0_comesIn_88 : decode cX0_comesIn 88 = .ok (.putfield 96, 3) := dk_181 0 96 (dk_at dksX0_comesIn_3 17 rfl rfl)
theorem dX0_comesIn_91 : decode cX0_comesIn 91 = .ok (.return_, 1) := dk_177 (dk_at dksX0_comesIn_3 20 rfl rfl)
abbrev cX0_copied : ByteArray := prog_1_method_15_code
def yX0_copied : MethodName := ⟨RX0, "copied", "()[I"⟩
def dkwX0_copied_0 : List UInt8 := [42, 180, 0, 96, 188, 10, 76, 42, 180, 0, 99, 3, 43, 3, 42, 180, 0, 96, 184, 0, 102, 43, 176]
abbrev dktX0_copied_0 : List UInt8 := dkwX0_copied_0 ++ []
theorem dksX0_copied_0 : cX0_copied.data.toList.drop 0 = dktX0_copied_0 := by decide +kernel
theorem dX0_copied_0 : decode cX0_copied 0 = .ok (.aload_n 0, 1) := dk_42 (dk_at dksX0_copied_0 0 rfl rfl)
theorem dX0_copied_1 : decode cX0_copied 1 = .ok (.getfield 96, 3) := dk_180 0 96 (dk_at dksX0_copied_0 1 rfl rfl)
theorem dX0_copied_4 : decode cX0_copied 4 = .ok (.newarray .int, 2) := dk_188_10 (dk_at dksX0_copied_0 4 rfl rfl)
theorem dX0_copied_6 : decode cX0_copied 6 = .ok (.astore_n 1, 1) := dk_76 (dk_at dksX0_copied_0 6 rfl rfl)
theorem dX0_copied_7 : decode cX0_copied 7 = .ok (.aload_n 0, 1) := dk_42 (dk_at dksX0_copied_0 7 rfl rfl)
theorem dX0_copied_8 : decode cX0_copied 8 = .ok (.getfield 99, 3) := dk_180 0 99 (dk_at dksX0_copied_0 8 rfl rfl)
theorem dX0_copied_11 : decode cX0_copied 11 = .ok (.iconst 0, 1) := dk_3 (dk_at dksX0_copied_0 11 rfl rfl)
theorem dX0_copied_12 : decode cX0_copied 12 = .ok (.aload_n 1, 1) := dk_43 (dk_at dksX0_copied_0 12 rfl rfl)
theorem dX0_copied_13 : decode cX0_copied 13 = .ok (.iconst 0, 1) := dk_3 (dk_at dksX0_copied_0 13 rfl rfl)
theorem dX0_copied_14 : decode cX0_copied 14 = .ok (.aload_n 0, 1) := dk_42 (dk_at dksX0_copied_0 14 rfl rfl)
theorem dX0_copied_15 : decode cX0_copied 15 = .ok (.getfield 96, 3) := dk_180 0 96 (dk_at dksX0_copied_0 15 rfl rfl)
theorem dX0_copied_18 : decode cX0_copied 18 = .ok (.invokestatic 102, 3) := dk_184 0 102 (dk_at dksX0_copied_0 18 rfl rfl)
theorem dX0_copied_21 : decode cX0_copied 21 = .ok (.aload_n 1, 1) := dk_43 (dk_at dksX0_copied_0 21 rfl rfl)
theorem dX0_copied_22 : decode cX0_copied 22 = .ok (.areturn, 1) := dk_176 (dk_at dksX0_copied_0 22 rfl rfl)
abbrev cX0_lists : ByteArray := prog_1_method_16_code
def yX0_lists : MethodName := ⟨RX0, "lists", "(I)V"⟩
def dkwX0_lists_5 : List UInt8 := [132, 2, 1, 167, 255, 144, 42, 180, 0, 108, 27, 42, 182, 0, 136, 83, 177]
abbrev dktX0_lists_5 : List UInt8 := dkwX0_lists_5 ++ []
def dkwX0_lists_4 : List UInt8 := [54, 5, 42, 42, 42, 180, 0, 122, 182, 0, 128, 184, 0, 33, 136, 182, 0, 132, 132, 4, 1, 167, 255, 188]
abbrev dktX0_lists_4 : List UInt8 := dkwX0_lists_4 ++ dktX0_lists_5
def dkwX0_lists_3 : List UInt8 := [167, 0, 41, 42, 180, 0, 122, 42, 180, 0, 111, 182, 0, 125, 42, 180, 0, 122, 21, 4, 182, 0, 81]
abbrev dktX0_lists_3 : List UInt8 := dkwX0_lists_3 ++ dktX0_lists_4
def dkwX0_lists_2 : List UInt8 := [21, 4, 27, 4, 100, 162, 0, 66, 29, 153, 0, 62, 42, 180, 0, 111, 21, 4, 182, 0, 118, 153, 0, 6]
abbrev dktX0_lists_2 : List UInt8 := dkwX0_lists_2 ++ dktX0_lists_3
def dkwX0_lists_1 : List UInt8 := [180, 0, 111, 27, 4, 100, 42, 180, 0, 108, 27, 4, 100, 50, 28, 46, 182, 0, 115, 62, 3, 54, 4]
abbrev dktX0_lists_1 : List UInt8 := dkwX0_lists_1 ++ dktX0_lists_2
def dkwX0_lists_0 : List UInt8 := [42, 3, 181, 0, 96, 3, 61, 28, 42, 180, 0, 108, 27, 4, 100, 50, 190, 162, 0, 105, 42, 42]
abbrev dktX0_lists_0 : List UInt8 := dkwX0_lists_0 ++ dktX0_lists_1
theorem dksX0_lists_0 : cX0_lists.data.toList.drop 0 = dktX0_lists_0 := by decide +kernel
theorem dksX0_lists_1 : cX0_lists.data.toList.drop 22 = dktX0_lists_1 := dk_seg dksX0_lists_0 22 rfl rfl
theorem dksX0_lists_2 : cX0_lists.data.toList.drop 45 = dktX0_lists_2 := dk_seg dksX0_lists_1 23 rfl rfl
theorem dksX0_lists_3 : cX0_lists.data.toList.drop 69 = dktX0_lists_3 := dk_seg dksX0_lists_2 24 rfl rfl
theorem dksX0_lists_4 : cX0_lists.data.toList.drop 92 = dktX0_lists_4 := dk_seg dksX0_lists_3 23 rfl rfl
theorem dksX0_lists_5 : cX0_lists.data.toList.drop 116 = dktX0_lists_5 := dk_seg dksX0_lists_4 24 rfl rfl
theorem dX0_lists_0 : decode cX0_lists 0 = .ok (.aload_n 0, 1) := dk_42 (dk_at dksX0_lists_0 0 rfl rfl)
theorem dX0_lists_1 : decode cX0_lists 1 = .ok (.iconst 0, 1) := dk_3 (dk_at dksX0_lists_0 1 rfl rfl)
theorem dX0_lists_2 : decode cX0_lists 2 = .ok (.putfield 96, 3) := dk_181 0 96 (dk_at dksX0_lists_0 2 rfl rfl)
theorem dX0_lists_5 : decode cX0_lists 5 = .ok (.iconst 0, 1) := dk_3 (dk_at dksX0_lists_0 5 rfl rfl)
theorem dX0_lists_6 : decode cX0_lists 6 = .ok (.istore_n 2, 1) := dk_61 (dk_at dksX0_lists_0 6 rfl rfl)
theorem dX0_lists_7 : decode cX0_lists 7 = .ok (.iload_n 2, 1) := dk_28 (dk_at dksX0_lists_0 7 rfl rfl)
theorem dX0_lists_8 : decode cX0_lists 8 = .ok (.aload_n 0, 1) := dk_42 (dk_at dksX0_lists_0 8 rfl rfl)
theorem dX0_lists_9 : decode cX0_lists 9 = .ok (.getfield 108, 3) := dk_180 0 108 (dk_at dksX0_lists_0 9 rfl rfl)
theorem dX0_lists_12 : decode cX0_lists 12 = .ok (.iload_n 1, 1) := dk_27 (dk_at dksX0_lists_0 12 rfl rfl)
theorem dX0_lists_13 : decode cX0_lists 13 = .ok (.iconst 1, 1) := dk_4 (dk_at dksX0_lists_0 13 rfl rfl)
theorem dX0_lists_14 : decode cX0_lists 14 = .ok (.isub, 1) := dk_100 (dk_at dksX0_lists_0 14 rfl rfl)
theorem dX0_lists_15 : decode cX0_lists 15 = .ok (.aaload, 1) := dk_50 (dk_at dksX0_lists_0 15 rfl rfl)
theorem dX0_lists_16 : decode cX0_lists 16 = .ok (.arraylength, 1) := dk_190 (dk_at dksX0_lists_0 16 rfl rfl)
theorem dX0_lists_17 : decode cX0_lists 17 = .ok (.if_icmp .ge 105, 3) := dk_162 0 105 (dk_at dksX0_lists_0 17 rfl rfl)
theorem dX0_lists_20 : decode cX0_lists 20 = .ok (.aload_n 0, 1) := dk_42 (dk_at dksX0_lists_0 20 rfl rfl)
theorem dX0_lists_21 : decode cX0_lists 21 = .ok (.aload_n 0, 1) := dk_42 (dk_at dksX0_lists_0 21 rfl rfl)
theorem dX0_lists_22 : decode cX0_lists 22 = .ok (.getfield 111, 3) := dk_180 0 111 (dk_at dksX0_lists_1 0 rfl rfl)
theorem dX0_lists_25 : decode cX0_lists 25 = .ok (.iload_n 1, 1) := dk_27 (dk_at dksX0_lists_1 3 rfl rfl)
theorem dX0_lists_26 : decode cX0_lists 26 = .ok (.iconst 1, 1) := dk_4 (dk_at dksX0_lists_1 4 rfl rfl)
theorem dX0_lists_27 : decode cX0_lists 27 = .ok (.isub, 1) := dk_100 (dk_at dksX0_lists_1 5 rfl rfl)
theorem dX0_lists_28 : decode cX0_lists 28 = .ok (.aload_n 0, 1) := dk_42 (dk_at dksX0_lists_1 6 rfl rfl)
theorem dX0_lists_29 : decode cX0_lists 29 = .ok (.getfield 108, 3) := dk_180 0 108 (dk_at dksX0_lists_1 7 rfl rfl)
theorem dX0_lists_32 : decode cX0_lists 32 = .ok (.iload_n 1, 1) := dk_27 (dk_at dksX0_lists_1 10 rfl rfl)
theorem dX0_lists_33 : decode cX0_lists 33 = .ok (.iconst 1, 1) := dk_4 (dk_at dksX0_lists_1 11 rfl rfl)
theorem dX0_lists_34 : decode cX0_lists 34 = .ok (.isub, 1) := dk_100 (dk_at dksX0_lists_1 12 rfl rfl)
theorem dX0_lists_35 : decode cX0_lists 35 = .ok (.aaload, 1) := dk_50 (dk_at dksX0_lists_1 13 rfl rfl)
theorem dX0_lists_36 : decode cX0_lists 36 = .ok (.iload_n 2, 1) := dk_28 (dk_at dksX0_lists_1 14 rfl rfl)
theorem dX0_lists_37 : decode cX0_lists 37 = .ok (.iaload, 1) := dk_46 (dk_at dksX0_lists_1 15 rfl rfl)
theorem dX0_lists_38 : decode cX0_lists 38 = .ok (.invokevirtual 115, 3) := dk_182 0 115 (dk_at dksX0_lists_1 16 rfl rfl)
theorem dX0_lists_41 : decode cX0_lists 41 = .ok (.istore_n 3, 1) := dk_62 (dk_at dksX0_lists_1 19 rfl rfl)
theorem dX0_lists_42 : decode cX0_lists 42 = .ok (.iconst 0, 1) := dk_3 (dk_at dksX0_lists_1 20 rfl rfl)
theorem dX0_lists_43 : decode cX0_lists 43 = .ok (.istore 4, 2) := dk_54 4 (dk_at dksX0_lists_1 21 rfl rfl)
theorem dX0_lists_45 : decode cX0_lists 45 = .ok (.iload 4, 2) := dk_21 4 (dk_at dksX0_lists_2 0 rfl rfl)
theorem dX0_lists_47 : decode cX0_lists 47 = .ok (.iload_n 1, 1) := dk_27 (dk_at dksX0_lists_2 2 rfl rfl)
theorem dX0_lists_48 : decode cX0_lists 48 = .ok (.iconst 1, 1) := dk_4 (dk_at dksX0_lists_2 3 rfl rfl)
theorem dX0_lists_49 : decode cX0_lists 49 = .ok (.isub, 1) := dk_100 (dk_at dksX0_lists_2 4 rfl rfl)
theorem dX0_lists_50 : decode cX0_lists 50 = .ok (.if_icmp .ge 66, 3) := dk_162 0 66 (dk_at dksX0_lists_2 5 rfl rfl)
theorem dX0_lists_53 : decode cX0_lists 53 = .ok (.iload_n 3, 1) := dk_29 (dk_at dksX0_lists_2 8 rfl rfl)
theorem dX0_lists_54 : decode cX0_lists 54 = .ok (.ifCond .eq 62, 3) := dk_153 0 62 (dk_at dksX0_lists_2 9 rfl rfl)
theorem dX0_lists_57 : decode cX0_lists 57 = .ok (.aload_n 0, 1) := dk_42 (dk_at dksX0_lists_2 12 rfl rfl)
theorem dX0_lists_58 : decode cX0_lists 58 = .ok (.getfield 111, 3) := dk_180 0 111 (dk_at dksX0_lists_2 13 rfl rfl)
theorem dX0_lists_61 : decode cX0_lists 61 = .ok (.iload 4, 2) := dk_21 4 (dk_at dksX0_lists_2 16 rfl rfl)
theorem dX0_lists_63 : decode cX0_lists 63 = .ok (.invokevirtual 118, 3) := dk_182 0 118 (dk_at dksX0_lists_2 18 rfl rfl)
theorem dX0_lists_66 : decode cX0_lists 66 = .ok (.ifCond .eq 6, 3) := dk_153 0 6 (dk_at dksX0_lists_2 21 rfl rfl)
theorem dX0_lists_69 : decode cX0_lists 69 = .ok (.goto 41, 3) := dk_167 0 41 (dk_at dksX0_lists_3 0 rfl rfl)
theorem dX0_lists_72 : decode cX0_lists 72 = .ok (.aload_n 0, 1) := dk_42 (dk_at dksX0_lists_3 3 rfl rfl)
theorem dX0_lists_73 : decode cX0_lists 73 = .ok (.getfield 122, 3) := dk_180 0 122 (dk_at dksX0_lists_3 4 rfl rfl)
theorem dX0_lists_76 : decode cX0_lists 76 = .ok (.aload_n 0, 1) := dk_42 (dk_at dksX0_lists_3 7 rfl rfl)
theorem dX0_lists_77 : decode cX0_lists 77 = .ok (.getfield 111, 3) := dk_180 0 111 (dk_at dksX0_lists_3 8 rfl rfl)
theorem dX0_lists_80 : decode cX0_lists 80 = .ok (.invokevirtual 125, 3) := dk_182 0 125 (dk_at dksX0_lists_3 11 rfl rfl)
theorem dX0_lists_83 : decode cX0_lists 83 = .ok (.aload_n 0, 1) := dk_42 (dk_at dksX0_lists_3 14 rfl rfl)
theorem dX0_lists_84 : decode cX0_lists 84 = .ok (.getfield 122, 3) := dk_180 0 122 (dk_at dksX0_lists_3 15 rfl rfl)
theorem dX0_lists_87 : decode cX0_lists 87 = .ok (.iload 4, 2) := dk_21 4 (dk_at dksX0_lists_3 18 rfl rfl)
theorem dX0_lists_89 : decode cX0_lists 89 = .ok (.invokevirtual 81, 3) := dk_182 0 81 (dk_at dksX0_lists_3 20 rfl rfl)
theorem dX0_lists_92 : decode cX0_lists 92 = .ok (.istore 5, 2) := dk_54 5 (dk_at dksX0_lists_4 0 rfl rfl)
theorem dX0_lists_94 : decode cX0_lists 94 = .ok (.aload_n 0, 1) := dk_42 (dk_at dksX0_lists_4 2 rfl rfl)
theorem dX0_lists_95 : decode cX0_lists 95 = .ok (.aload_n 0, 1) := dk_42 (dk_at dksX0_lists_4 3 rfl rfl)
theorem dX0_lists_96 : decode cX0_lists 96 = .ok (.aload_n 0, 1) := dk_42 (dk_at dksX0_lists_4 4 rfl rfl)
theorem dX0_lists_97 : decode cX0_lists 97 = .ok (.getfield 122, 3) := dk_180 0 122 (dk_at dksX0_lists_4 5 rfl rfl)
theorem dX0_lists_100 : decode cX0_lists 100 = .ok (.invokevirtual 128, 3) := dk_182 0 128 (dk_at dksX0_lists_4 8 rfl rfl)
theorem dX0_lists_103 : decode cX0_lists 103 = .ok (.invokestatic 33, 3) := dk_184 0 33 (dk_at dksX0_lists_4 11 rfl rfl)
theorem dX0_lists_106 : decode cX0_lists 106 = .ok (.l2i, 1) := dk_136 (dk_at dksX0_lists_4 14 rfl rfl)
theorem dX0_lists_107 : decode cX0_lists 107 = .ok (.invokevirtual 132, 3) := dk_182 0 132 (dk_at dksX0_lists_4 15 rfl rfl)
theorem dX0_lists_110 : decode cX0_lists 110 = .ok (.iinc 4 1, 3) := dk_132 4 1 (dk_at dksX0_lists_4 18 rfl rfl)
theorem dX0_lists_113 : decode cX0_lists 113 = .ok (.goto (-68), 3) := dk_167 255 188 (dk_at dksX0_lists_4 21 rfl rfl)
theorem dX0_lists_116 : decode cX0_lists 116 = .ok (.iinc 2 1, 3) := dk_132 2 1 (dk_at dksX0_lists_5 0 rfl rfl)
theorem dX0_lists_119 : decode cX0_lists 119 = .ok (.goto (-112), 3) := dk_167 255 144 (dk_at dksX0_lists_5 3 rfl rfl)
theorem dX0_lists_122 : decode cX0_lists 122 = .ok (.aload_n 0, 1) := dk_42 (dk_at dksX0_lists_5 6 rfl rfl)
theorem dX0_lists_123 : decode cX0_lists 123 = .ok (.getfield 108, 3) := dk_180 0 108 (dk_at dksX0_lists_5 7 rfl rfl)
theorem dX0_lists_126 : decode cX0_lists 126 = .ok (.iload_n 1, 1) := dk_27 (dk_at dksX0_lists_5 10 rfl rfl)
theorem dX0_lists_127 : decode cX0_lists 127 = .ok (.aload_n 0, 1) := dk_42 (dk_at dksX0_lists_5 11 rfl rfl)
theorem dX0_lists_128 : decode cX0_lists 128 = .ok (.invokevirtual 136, 3) := dk_182 0 136 (dk_at dksX0_lists_5 12 rfl rfl)
theorem dX0_lists_131 : decode cX0_lists 131 = .ok (.aastore, 1) := dk_83 (dk_at dksX0_lists_5 15 rfl rfl)
theorem dX0_lists_132 : decode cX0_lists 132 = .ok (.return_, 1) := dk_177 (dk_at dksX0_lists_5 16 rfl rfl)
abbrev cX0_isBy : ByteArray := prog_1_method_13_code
def yX0_isBy : MethodName := ⟨RX0, "isBy", "(LBranchNames$Tree;II)Z"⟩
def dkwX0_isBy_2 : List UInt8 := [154, 0, 7, 4, 167, 0, 4, 3, 172]
abbrev dktX0_isBy_2 : List UInt8 := dkwX0_isBy_2 ++ []
def dkwX0_isBy_1 : List UInt8 := [153, 0, 30, 42, 180, 0, 78, 28, 160, 0, 22, 42, 43, 3, 182, 0, 68, 184, 0, 33, 29, 133, 148]
abbrev dktX0_isBy_1 : List UInt8 := dkwX0_isBy_1 ++ dktX0_isBy_2
def dkwX0_isBy_0 : List UInt8 := [42, 28, 29, 182, 0, 89, 42, 3, 181, 0, 78, 43, 182, 0, 92, 42, 43, 28, 3, 182, 0, 85]
abbrev dktX0_isBy_0 : List UInt8 := dkwX0_isBy_0 ++ dktX0_isBy_1
theorem dksX0_isBy_0 : cX0_isBy.data.toList.drop 0 = dktX0_isBy_0 := by decide +kernel
theorem dksX0_isBy_1 : cX0_isBy.data.toList.drop 22 = dktX0_isBy_1 := dk_seg dksX0_isBy_0 22 rfl rfl
theorem dksX0_isBy_2 : cX0_isBy.data.toList.drop 45 = dktX0_isBy_2 := dk_seg dksX0_isBy_1 23 rfl rfl
theorem dX0_isBy_0 : decode cX0_isBy 0 = .ok (.aload_n 0, 1) := dk_42 (dk_at dksX0_isBy_0 0 rfl rfl)
theorem dX0_isBy_1 : decode cX0_isBy 1 = .ok (.iload_n 2, 1) := dk_28 (dk_at dksX0_isBy_0 1 rfl rfl)
theorem dX0_isBy_2 : decode cX0_isBy 2 = .ok (.iload_n 3, 1) := dk_29 (dk_at dksX0_isBy_0 2 rfl rfl)
theorem dX0_isBy_3 : decode cX0_isBy 3 = .ok (.invokevirtual 89, 3) := dk_182 0 89 (dk_at dksX0_isBy_0 3 rfl rfl)
theorem dX0_isBy_6 : decode cX0_isBy 6 = .ok (.aload_n 0, 1) := dk_42 (dk_at dksX0_isBy_0 6 rfl rfl)
theorem dX0_isBy_7 : decode cX0_isBy 7 = .ok (.iconst 0, 1) := dk_3 (dk_at dksX0_isBy_0 7 rfl rfl)
theorem dX0_isBy_8 : decode cX0_isBy 8 = .ok (.putfield 78, 3) := dk_181 0 78 (dk_at dksX0_isBy_0 8 rfl rfl)
theorem dX0_isBy_11 : decode cX0_isBy 11 = .ok (.aload_n 1, 1) := dk_43 (dk_at dksX0_isBy_0 11 rfl rfl)
theorem dX0_isBy_12 : decode cX0_isBy 12 = .ok (.invokevirtual 92, 3) := dk_182 0 92 (dk_at dksX0_isBy_0 12 rfl rfl)
theorem dX0_isBy_15 : decode cX0_isBy 15 = .ok (.aload_n 0, 1) := dk_42 (dk_at dksX0_isBy_0 15 rfl rfl)
theorem dX0_isBy_16 : decode cX0_isBy 16 = .ok (.aload_n 1, 1) := dk_43 (dk_at dksX0_isBy_0 16 rfl rfl)
theorem dX0_isBy_17 : decode cX0_isBy 17 = .ok (.iload_n 2, 1) := dk_28 (dk_at dksX0_isBy_0 17 rfl rfl)
theorem dX0_isBy_18 : decode cX0_isBy 18 = .ok (.iconst 0, 1) := dk_3 (dk_at dksX0_isBy_0 18 rfl rfl)
theorem dX0_isBy_19 : decode cX0_isBy 19 = .ok (.invokevirtual 85, 3) := dk_182 0 85 (dk_at dksX0_isBy_0 19 rfl rfl)
theorem dX0_isBy_22 : decode cX0_isBy 22 = .ok (.ifCond .eq 30, 3) := dk_153 0 30 (dk_at dksX0_isBy_1 0 rfl rfl)
theorem dX0_isBy_25 : decode cX0_isBy 25 = .ok (.aload_n 0, 1) := dk_42 (dk_at dksX0_isBy_1 3 rfl rfl)
theorem dX0_isBy_26 : decode cX0_isBy 26 = .ok (.getfield 78, 3) := dk_180 0 78 (dk_at dksX0_isBy_1 4 rfl rfl)
theorem dX0_isBy_29 : decode cX0_isBy 29 = .ok (.iload_n 2, 1) := dk_28 (dk_at dksX0_isBy_1 7 rfl rfl)
theorem dX0_isBy_30 : decode cX0_isBy 30 = .ok (.if_icmp .ne 22, 3) := dk_160 0 22 (dk_at dksX0_isBy_1 8 rfl rfl)
theorem dX0_isBy_33 : decode cX0_isBy 33 = .ok (.aload_n 0, 1) := dk_42 (dk_at dksX0_isBy_1 11 rfl rfl)
theorem dX0_isBy_34 : decode cX0_isBy 34 = .ok (.aload_n 1, 1) := dk_43 (dk_at dksX0_isBy_1 12 rfl rfl)
theorem dX0_isBy_35 : decode cX0_isBy 35 = .ok (.iconst 0, 1) := dk_3 (dk_at dksX0_isBy_1 13 rfl rfl)
theorem dX0_isBy_36 : decode cX0_isBy 36 = .ok (.invokevirtual 68, 3) := dk_182 0 68 (dk_at dksX0_isBy_1 14 rfl rfl)
theorem dX0_isBy_39 : decode cX0_isBy 39 = .ok (.invokestatic 33, 3) := dk_184 0 33 (dk_at dksX0_isBy_1 17 rfl rfl)
theorem dX0_isBy_42 : decode cX0_isBy 42 = .ok (.iload_n 3, 1) := dk_29 (dk_at dksX0_isBy_1 20 rfl rfl)
theorem dX0_isBy_43 : decode cX0_isBy 43 = .ok (.i2l, 1) := dk_133 (dk_at dksX0_isBy_1 21 rfl rfl)
theorem dX0_isBy_44 : decode cX0_isBy 44 = .ok (.lcmp, 1) := dk_148 (dk_at dksX0_isBy_1 22 rfl rfl)
theorem dX0_isBy_45 : decode cX0_isBy 45 = .ok (.ifCond .ne 7, 3) := dk_154 0 7 (dk_at dksX0_isBy_2 0 rfl rfl)
theorem dX0_isBy_48 : decode cX0_isBy 48 = .ok (.iconst 1, 1) := dk_4 (dk_at dksX0_isBy_2 3 rfl rfl)
theorem dX0_isBy_49 : decode cX0_isBy 49 = .ok (.goto 4, 3) := dk_167 0 4 (dk_at dksX0_isBy_2 4 rfl rfl)
theorem dX0_isBy_52 : decode cX0_isBy 52 = .ok (.iconst 0, 1) := dk_3 (dk_at dksX0_isBy_2 7 rfl rfl)
theorem dX0_isBy_53 : decode cX0_isBy 53 = .ok (.ireturn, 1) := dk_172 (dk_at dksX0_isBy_2 8 rfl rfl)
abbrev cX0_digitsOf_2 : ByteArray := prog_1_method_11_code
def yX0_digitsOf_2 : MethodName := ⟨RX0, "digitsOf", "(II)V"⟩
def dkwX0_digitsOf_2_1 : List UInt8 := [108, 62, 132, 4, 255, 167, 255, 234, 177]
abbrev dktX0_digitsOf_2_1 : List UInt8 := dkwX0_digitsOf_2_1 ++ []
def dkwX0_digitsOf_2_0 : List UInt8 := [28, 62, 27, 4, 100, 54, 4, 21, 4, 155, 0, 23, 42, 180, 0, 75, 21, 4, 29, 8, 112, 79, 29, 8]
abbrev dktX0_digitsOf_2_0 : List UInt8 := dkwX0_digitsOf_2_0 ++ dktX0_digitsOf_2_1
theorem dksX0_digitsOf_2_0 : cX0_digitsOf_2.data.toList.drop 0 = dktX0_digitsOf_2_0 := by decide +kernel
theorem dksX0_digitsOf_2_1 : cX0_digitsOf_2.data.toList.drop 24 = dktX0_digitsOf_2_1 := dk_seg dksX0_digitsOf_2_0 24 rfl rfl
theorem dX0_digitsOf_2_0 : decode cX0_digitsOf_2 0 = .ok (.iload_n 2, 1) := dk_28 (dk_at dksX0_digitsOf_2_0 0 rfl rfl)
theorem dX0_digitsOf_2_1 : decode cX0_digitsOf_2 1 = .ok (.istore_n 3, 1) := dk_62 (dk_at dksX0_digitsOf_2_0 1 rfl rfl)
theorem dX0_digitsOf_2_2 : decode cX0_digitsOf_2 2 = .ok (.iload_n 1, 1) := dk_27 (dk_at dksX0_digitsOf_2_0 2 rfl rfl)
theorem dX0_digitsOf_2_3 : decode cX0_digitsOf_2 3 = .ok (.iconst 1, 1) := dk_4 (dk_at dksX0_digitsOf_2_0 3 rfl rfl)
theorem dX0_digitsOf_2_4 : decode cX0_digitsOf_2 4 = .ok (.isub, 1) := dk_100 (dk_at dksX0_digitsOf_2_0 4 rfl rfl)
theorem dX0_digitsOf_2_5 : decode cX0_digitsOf_2 5 = .ok (.istore 4, 2) := dk_54 4 (dk_at dksX0_digitsOf_2_0 5 rfl rfl)
theorem dX0_digitsOf_2_7 : decode cX0_digitsOf_2 7 = .ok (.iload 4, 2) := dk_21 4 (dk_at dksX0_digitsOf_2_0 7 rfl rfl)
theorem dX0_digitsOf_2_9 : decode cX0_digitsOf_2 9 = .ok (.ifCond .lt 23, 3) := dk_155 0 23 (dk_at dksX0_digitsOf_2_0 9 rfl rfl)
theorem dX0_digitsOf_2_12 : decode cX0_digitsOf_2 12 = .ok (.aload_n 0, 1) := dk_42 (dk_at dksX0_digitsOf_2_0 12 rfl rfl)
theorem dX0_digitsOf_2_13 : decode cX0_digitsOf_2 13 = .ok (.getfield 75, 3) := dk_180 0 75 (dk_at dksX0_digitsOf_2_0 13 rfl rfl)
theorem dX0_digitsOf_2_16 : decode cX0_digitsOf_2 16 = .ok (.iload 4, 2) := dk_21 4 (dk_at dksX0_digitsOf_2_0 16 rfl rfl)
theorem dX0_digitsOf_2_18 : decode cX0_digitsOf_2 18 = .ok (.iload_n 3, 1) := dk_29 (dk_at dksX0_digitsOf_2_0 18 rfl rfl)
theorem dX0_digitsOf_2_19 : decode cX0_digitsOf_2 19 = .ok (.iconst 5, 1) := dk_8 (dk_at dksX0_digitsOf_2_0 19 rfl rfl)
theorem dX0_digitsOf_2_20 : decode cX0_digitsOf_2 20 = .ok (.irem, 1) := dk_112 (dk_at dksX0_digitsOf_2_0 20 rfl rfl)
theorem dX0_digitsOf_2_21 : decode cX0_digitsOf_2 21 = .ok (.iastore, 1) := dk_79 (dk_at dksX0_digitsOf_2_0 21 rfl rfl)
theorem dX0_digitsOf_2_22 : decode cX0_digitsOf_2 22 = .ok (.iload_n 3, 1) := dk_29 (dk_at dksX0_digitsOf_2_0 22 rfl rfl)
theorem dX0_digitsOf_2_23 : decode cX0_digitsOf_2 23 = .ok (.iconst 5, 1) := dk_8 (dk_at dksX0_digitsOf_2_0 23 rfl rfl)
theorem dX0_digitsOf_2_24 : decode cX0_digitsOf_2 24 = .ok (.idiv, 1) := dk_108 (dk_at dksX0_digitsOf_2_1 0 rfl rfl)
theorem dX0_digitsOf_2_25 : decode cX0_digitsOf_2 25 = .ok (.istore_n 3, 1) := dk_62 (dk_at dksX0_digitsOf_2_1 1 rfl rfl)
theorem dX0_digitsOf_2_26 : decode cX0_digitsOf_2 26 = .ok (.iinc 4 (-1), 3) := dk_132 4 255 (dk_at dksX0_digitsOf_2_1 2 rfl rfl)
theorem dX0_digitsOf_2_29 : decode cX0_digitsOf_2 29 = .ok (.goto (-22), 3) := dk_167 255 234 (dk_at dksX0_digitsOf_2_1 5 rfl rfl)
theorem dX0_digitsOf_2_32 : decode cX0_digitsOf_2 32 = .ok (.return_, 1) := dk_177 (dk_at dksX0_digitsOf_2_1 8 rfl rfl)
abbrev cX0_isTwig : ByteArray := prog_1_method_12_code
def yX0_isTwig : MethodName := ⟨RX0, "isTwig", "(LBranchNames$Tree;II)Z"⟩
def dkwX0_isTwig_3 : List UInt8 := [182, 0, 85, 154, 0, 5, 3, 172, 132, 5, 1, 167, 255, 214, 4, 172]
abbrev dktX0_isTwig_3 : List UInt8 := dkwX0_isTwig_3 ++ []
def dkwX0_isTwig_2 : List UInt8 := [180, 0, 78, 28, 162, 0, 25, 43, 180, 0, 44, 28, 162, 0, 17, 42, 43, 28, 43, 29, 182, 0, 81]
abbrev dktX0_isTwig_2 : List UInt8 := dkwX0_isTwig_2 ++ dktX0_isTwig_3
def dkwX0_isTwig_1 : List UInt8 := [180, 0, 11, 29, 46, 96, 7, 164, 0, 5, 3, 172, 3, 54, 5, 21, 5, 21, 4, 162, 0, 41, 42]
abbrev dktX0_isTwig_1 : List UInt8 := dkwX0_isTwig_1 ++ dktX0_isTwig_2
def dkwX0_isTwig_0 : List UInt8 := [42, 180, 0, 75, 42, 180, 0, 78, 46, 54, 4, 42, 89, 180, 0, 78, 4, 96, 181, 0, 78, 21, 4, 43]
abbrev dktX0_isTwig_0 : List UInt8 := dkwX0_isTwig_0 ++ dktX0_isTwig_1
theorem dksX0_isTwig_0 : cX0_isTwig.data.toList.drop 0 = dktX0_isTwig_0 := by decide +kernel
theorem dksX0_isTwig_1 : cX0_isTwig.data.toList.drop 24 = dktX0_isTwig_1 := dk_seg dksX0_isTwig_0 24 rfl rfl
theorem dksX0_isTwig_2 : cX0_isTwig.data.toList.drop 47 = dktX0_isTwig_2 := dk_seg dksX0_isTwig_1 23 rfl rfl
theorem dksX0_isTwig_3 : cX0_isTwig.data.toList.drop 70 = dktX0_isTwig_3 := dk_seg dksX0_isTwig_2 23 rfl rfl
theorem dX0_isTwig_0 : decode cX0_isTwig 0 = .ok (.aload_n 0, 1) := dk_42 (dk_at dksX0_isTwig_0 0 rfl rfl)
theorem dX0_isTwig_1 : decode cX0_isTwig 1 = .ok (.getfield 75, 3) := dk_180 0 75 (dk_at dksX0_isTwig_0 1 rfl rfl)
theorem dX0_isTwig_4 : decode cX0_isTwig 4 = .ok (.aload_n 0, 1) := dk_42 (dk_at dksX0_isTwig_0 4 rfl rfl)
theorem dX0_isTwig_5 : decode cX0_isTwig 5 = .ok (.getfield 78, 3) := dk_180 0 78 (dk_at dksX0_isTwig_0 5 rfl rfl)
theorem dX0_isTwig_8 : decode cX0_isTwig 8 = .ok (.iaload, 1) := dk_46 (dk_at dksX0_isTwig_0 8 rfl rfl)
theorem dX0_isTwig_9 : decode cX0_isTwig 9 = .ok (.istore 4, 2) := dk_54 4 (dk_at dksX0_isTwig_0 9 rfl rfl)
theorem dX0_isTwig_11 : decode cX0_isTwig 11 = .ok (.aload_n 0, 1) := dk_42 (dk_at dksX0_isTwig_0 11 rfl rfl)
theorem dX0_isTwig_12 : decode cX0_isTwig 12 = .ok (.dup, 1) := dk_89 (dk_at dksX0_isTwig_0 12 rfl rfl)
theorem dX0_isTwig_13 : decode cX0_isTwig 13 = .ok (.getfield 78, 3) := dk_180 0 78 (dk_at dksX0_isTwig_0 13 rfl rfl)
theorem dX0_isTwig_16 : decode cX0_isTwig 16 = .ok (.iconst 1, 1) := dk_4 (dk_at dksX0_isTwig_0 16 rfl rfl)
theorem dX0_isTwig_17 : decode cX0_isTwig 17 = .ok (.iadd, 1) := dk_96 (dk_at dksX0_isTwig_0 17 rfl rfl)
theorem dX0_isTwig_18 : decode cX0_isTwig 18 = .ok (.putfield 78, 3) := dk_181 0 78 (dk_at dksX0_isTwig_0 18 rfl rfl)
theorem dX0_isTwig_21 : decode cX0_isTwig 21 = .ok (.iload 4, 2) := dk_21 4 (dk_at dksX0_isTwig_0 21 rfl rfl)
theorem dX0_isTwig_23 : decode cX0_isTwig 23 = .ok (.aload_n 1, 1) := dk_43 (dk_at dksX0_isTwig_0 23 rfl rfl)
theorem dX0_isTwig_24 : decode cX0_isTwig 24 = .ok (.getfield 11, 3) := dk_180 0 11 (dk_at dksX0_isTwig_1 0 rfl rfl)
theorem dX0_isTwig_27 : decode cX0_isTwig 27 = .ok (.iload_n 3, 1) := dk_29 (dk_at dksX0_isTwig_1 3 rfl rfl)
theorem dX0_isTwig_28 : decode cX0_isTwig 28 = .ok (.iaload, 1) := dk_46 (dk_at dksX0_isTwig_1 4 rfl rfl)
theorem dX0_isTwig_29 : decode cX0_isTwig 29 = .ok (.iadd, 1) := dk_96 (dk_at dksX0_isTwig_1 5 rfl rfl)
theorem dX0_isTwig_30 : decode cX0_isTwig 30 = .ok (.iconst 4, 1) := dk_7 (dk_at dksX0_isTwig_1 6 rfl rfl)
theorem dX0_isTwig_31 : decode cX0_isTwig 31 = .ok (.if_icmp .le 5, 3) := dk_164 0 5 (dk_at dksX0_isTwig_1 7 rfl rfl)
theorem dX0_isTwig_34 : decode cX0_isTwig 34 = .ok (.iconst 0, 1) := dk_3 (dk_at dksX0_isTwig_1 10 rfl rfl)
theorem dX0_isTwig_35 : decode cX0_isTwig 35 = .ok (.ireturn, 1) := dk_172 (dk_at dksX0_isTwig_1 11 rfl rfl)
theorem dX0_isTwig_36 : decode cX0_isTwig 36 = .ok (.iconst 0, 1) := dk_3 (dk_at dksX0_isTwig_1 12 rfl rfl)
theorem dX0_isTwig_37 : decode cX0_isTwig 37 = .ok (.istore 5, 2) := dk_54 5 (dk_at dksX0_isTwig_1 13 rfl rfl)
theorem dX0_isTwig_39 : decode cX0_isTwig 39 = .ok (.iload 5, 2) := dk_21 5 (dk_at dksX0_isTwig_1 15 rfl rfl)
theorem dX0_isTwig_41 : decode cX0_isTwig 41 = .ok (.iload 4, 2) := dk_21 4 (dk_at dksX0_isTwig_1 17 rfl rfl)
theorem dX0_isTwig_43 : decode cX0_isTwig 43 = .ok (.if_icmp .ge 41, 3) := dk_162 0 41 (dk_at dksX0_isTwig_1 19 rfl rfl)
theorem dX0_isTwig_46 : decode cX0_isTwig 46 = .ok (.aload_n 0, 1) := dk_42 (dk_at dksX0_isTwig_1 22 rfl rfl)
theorem dX0_isTwig_47 : decode cX0_isTwig 47 = .ok (.getfield 78, 3) := dk_180 0 78 (dk_at dksX0_isTwig_2 0 rfl rfl)
theorem dX0_isTwig_50 : decode cX0_isTwig 50 = .ok (.iload_n 2, 1) := dk_28 (dk_at dksX0_isTwig_2 3 rfl rfl)
theorem dX0_isTwig_51 : decode cX0_isTwig 51 = .ok (.if_icmp .ge 25, 3) := dk_162 0 25 (dk_at dksX0_isTwig_2 4 rfl rfl)
theorem dX0_isTwig_54 : decode cX0_isTwig 54 = .ok (.aload_n 1, 1) := dk_43 (dk_at dksX0_isTwig_2 7 rfl rfl)
theorem dX0_isTwig_55 : decode cX0_isTwig 55 = .ok (.getfield 44, 3) := dk_180 0 44 (dk_at dksX0_isTwig_2 8 rfl rfl)
theorem dX0_isTwig_58 : decode cX0_isTwig 58 = .ok (.iload_n 2, 1) := dk_28 (dk_at dksX0_isTwig_2 11 rfl rfl)
theorem dX0_isTwig_59 : decode cX0_isTwig 59 = .ok (.if_icmp .ge 17, 3) := dk_162 0 17 (dk_at dksX0_isTwig_2 12 rfl rfl)
theorem dX0_isTwig_62 : decode cX0_isTwig 62 = .ok (.aload_n 0, 1) := dk_42 (dk_at dksX0_isTwig_2 15 rfl rfl)
theorem dX0_isTwig_63 : decode cX0_isTwig 63 = .ok (.aload_n 1, 1) := dk_43 (dk_at dksX0_isTwig_2 16 rfl rfl)
theorem dX0_isTwig_64 : decode cX0_isTwig 64 = .ok (.iload_n 2, 1) := dk_28 (dk_at dksX0_isTwig_2 17 rfl rfl)
theorem dX0_isTwig_65 : decode cX0_isTwig 65 = .ok (.aload_n 1, 1) := dk_43 (dk_at dksX0_isTwig_2 18 rfl rfl)
theorem dX0_isTwig_66 : decode cX0_isTwig 66 = .ok (.iload_n 3, 1) := dk_29 (dk_at dksX0_isTwig_2 19 rfl rfl)
theorem dX0_isTwig_67 : decode cX0_isTwig 67 = .ok (.invokevirtual 81, 3) := dk_182 0 81 (dk_at dksX0_isTwig_2 20 rfl rfl)
theorem dX0_isTwig_70 : decode cX0_isTwig 70 = .ok (.invokevirtual 85, 3) := dk_182 0 85 (dk_at dksX0_isTwig_3 0 rfl rfl)
theorem dX0_isTwig_73 : decode cX0_isTwig 73 = .ok (.ifCond .ne 5, 3) := dk_154 0 5 (dk_at dksX0_isTwig_3 3 rfl rfl)
theorem dX0_isTwig_76 : decode cX0_isTwig 76 = .ok (.iconst 0, 1) := dk_3 (dk_at dksX0_isTwig_3 6 rfl rfl)
theorem dX0_isTwig_77 : decode cX0_isTwig 77 = .ok (.ireturn, 1) := dk_172 (dk_at dksX0_isTwig_3 7 rfl rfl)
theorem dX0_isTwig_78 : decode cX0_isTwig 78 = .ok (.iinc 5 1, 3) := dk_132 5 1 (dk_at dksX0_isTwig_3 8 rfl rfl)
theorem dX0_isTwig_81 : decode cX0_isTwig 81 = .ok (.goto (-42), 3) := dk_167 255 214 (dk_at dksX0_isTwig_3 11 rfl rfl)
theorem dX0_isTwig_84 : decode cX0_isTwig 84 = .ok (.iconst 1, 1) := dk_4 (dk_at dksX0_isTwig_3 14 rfl rfl)
theorem dX0_isTwig_85 : decode cX0_isTwig 85 = .ok (.ireturn, 1) := dk_172 (dk_at dksX0_isTwig_3 15 rfl rfl)
abbrev cX0_counts : ByteArray := prog_1_method_53_code
def yX0_counts : MethodName := ⟨RX0, "counts", "()V"⟩
def dkwX0_counts_5 : List UInt8 := [132, 1, 1, 167, 255, 145, 177]
abbrev dktX0_counts_5 : List UInt8 := dkwX0_counts_5 ++ []
def dkwX0_counts_4 : List UInt8 := [100, 47, 105, 97, 80, 132, 4, 1, 167, 255, 200, 132, 3, 255, 167, 255, 186, 132, 2, 255, 167, 255, 173]
abbrev dktX0_counts_4 : List UInt8 := dkwX0_counts_4 ++ dktX0_counts_5
def dkwX0_counts_3 : List UInt8 := [180, 1, 159, 27, 47, 21, 4, 184, 1, 223, 42, 180, 1, 162, 28, 21, 4, 100, 50, 29, 21, 4, 27, 104]
abbrev dktX0_counts_3 : List UInt8 := dkwX0_counts_3 ++ dktX0_counts_4
def dkwX0_counts_2 : List UInt8 := [21, 4, 28, 163, 0, 56, 21, 4, 27, 104, 29, 163, 0, 48, 42, 180, 1, 162, 28, 50, 29, 92, 47, 42]
abbrev dktX0_counts_2 : List UInt8 := dkwX0_counts_2 ++ dktX0_counts_3
def dkwX0_counts_1 : List UInt8 := [27, 4, 100, 182, 1, 219, 80, 7, 61, 28, 158, 0, 85, 16, 20, 62, 29, 27, 161, 0, 71, 4, 54, 4]
abbrev dktX0_counts_1 : List UInt8 := dkwX0_counts_1 ++ dktX0_counts_2
def dkwX0_counts_0 : List UInt8 := [42, 180, 1, 162, 3, 50, 3, 10, 80, 4, 60, 27, 16, 20, 163, 0, 111, 42, 180, 1, 159, 27, 42, 6]
abbrev dktX0_counts_0 : List UInt8 := dkwX0_counts_0 ++ dktX0_counts_1
theorem dksX0_counts_0 : cX0_counts.data.toList.drop 0 = dktX0_counts_0 := by decide +kernel
theorem dksX0_counts_1 : cX0_counts.data.toList.drop 24 = dktX0_counts_1 := dk_seg dksX0_counts_0 24 rfl rfl
theorem dksX0_counts_2 : cX0_counts.data.toList.drop 48 = dktX0_counts_2 := dk_seg dksX0_counts_1 24 rfl rfl
theorem dksX0_counts_3 : cX0_counts.data.toList.drop 72 = dktX0_counts_3 := dk_seg dksX0_counts_2 24 rfl rfl
theorem dksX0_counts_4 : cX0_counts.data.toList.drop 96 = dktX0_counts_4 := dk_seg dksX0_counts_3 24 rfl rfl
theorem dksX0_counts_5 : cX0_counts.data.toList.drop 119 = dktX0_counts_5 := dk_seg dksX0_counts_4 23 rfl rfl
theorem dX0_counts_0 : decode cX0_counts 0 = .ok (.aload_n 0, 1) := dk_42 (dk_at dksX0_counts_0 0 rfl rfl)
theorem dX0_counts_1 : decode cX0_counts 1 = .ok (.getfield 418, 3) := dk_180 1 162 (dk_at dksX0_counts_0 1 rfl rfl)
theorem dX0_counts_4 : decode cX0_counts 4 = .ok (.iconst 0, 1) := dk_3 (dk_at dksX0_counts_0 4 rfl rfl)
theorem dX0_counts_5 : decode cX0_counts 5 = .ok (.aaload, 1) := dk_50 (dk_at dksX0_counts_0 5 rfl rfl)
theorem dX0_counts_6 : decode cX0_counts 6 = .ok (.iconst 0, 1) := dk_3 (dk_at dksX0_counts_0 6 rfl rfl)
theorem dX0_counts_7 : decode cX0_counts 7 = .ok (.lconst 1, 1) := dk_10 (dk_at dksX0_counts_0 7 rfl rfl)
theorem dX0_counts_8 : decode cX0_counts 8 = .ok (.lastore, 1) := dk_80 (dk_at dksX0_counts_0 8 rfl rfl)
theorem dX0_counts_9 : decode cX0_counts 9 = .ok (.iconst 1, 1) := dk_4 (dk_at dksX0_counts_0 9 rfl rfl)
theorem dX0_counts_10 : decode cX0_counts 10 = .ok (.istore_n 1, 1) := dk_60 (dk_at dksX0_counts_0 10 rfl rfl)
theorem dX0_counts_11 : decode cX0_counts 11 = .ok (.iload_n 1, 1) := dk_27 (dk_at dksX0_counts_0 11 rfl rfl)
theorem dX0_counts_12 : decode cX0_counts 12 = .ok (.bipush 20, 2) := dk_16 20 (dk_at dksX0_counts_0 12 rfl rfl)
theorem dX0_counts_14 : decode cX0_counts 14 = .ok (.if_icmp .gt 111, 3) := dk_163 0 111 (dk_at dksX0_counts_0 14 rfl rfl)
theorem dX0_counts_17 : decode cX0_counts 17 = .ok (.aload_n 0, 1) := dk_42 (dk_at dksX0_counts_0 17 rfl rfl)
theorem dX0_counts_18 : decode cX0_counts 18 = .ok (.getfield 415, 3) := dk_180 1 159 (dk_at dksX0_counts_0 18 rfl rfl)
theorem dX0_counts_21 : decode cX0_counts 21 = .ok (.iload_n 1, 1) := dk_27 (dk_at dksX0_counts_0 21 rfl rfl)
theorem dX0_counts_22 : decode cX0_counts 22 = .ok (.aload_n 0, 1) := dk_42 (dk_at dksX0_counts_0 22 rfl rfl)
theorem dX0_counts_23 : decode cX0_counts 23 = .ok (.iconst 3, 1) := dk_6 (dk_at dksX0_counts_0 23 rfl rfl)
theorem dX0_counts_24 : decode cX0_counts 24 = .ok (.iload_n 1, 1) := dk_27 (dk_at dksX0_counts_1 0 rfl rfl)
theorem dX0_counts_25 : decode cX0_counts 25 = .ok (.iconst 1, 1) := dk_4 (dk_at dksX0_counts_1 1 rfl rfl)
theorem dX0_counts_26 : decode cX0_counts 26 = .ok (.isub, 1) := dk_100 (dk_at dksX0_counts_1 2 rfl rfl)
theorem dX0_counts_27 : decode cX0_counts 27 = .ok (.invokevirtual 475, 3) := dk_182 1 219 (dk_at dksX0_counts_1 3 rfl rfl)
theorem dX0_counts_30 : decode cX0_counts 30 = .ok (.lastore, 1) := dk_80 (dk_at dksX0_counts_1 6 rfl rfl)
theorem dX0_counts_31 : decode cX0_counts 31 = .ok (.iconst 4, 1) := dk_7 (dk_at dksX0_counts_1 7 rfl rfl)
theorem dX0_counts_32 : decode cX0_counts 32 = .ok (.istore_n 2, 1) := dk_61 (dk_at dksX0_counts_1 8 rfl rfl)
theorem dX0_counts_33 : decode cX0_counts 33 = .ok (.iload_n 2, 1) := dk_28 (dk_at dksX0_counts_1 9 rfl rfl)
theorem dX0_counts_34 : decode cX0_counts 34 = .ok (.ifCond .le 85, 3) := dk_158 0 85 (dk_at dksX0_counts_1 10 rfl rfl)
theorem dX0_counts_37 : decode cX0_counts 37 = .ok (.bipush 20, 2) := dk_16 20 (dk_at dksX0_counts_1 13 rfl rfl)
theorem dX0_counts_39 : decode cX0_counts 39 = .ok (.istore_n 3, 1) := dk_62 (dk_at dksX0_counts_1 15 rfl rfl)
theorem dX0_counts_40 : decode cX0_counts 40 = .ok (.iload_n 3, 1) := dk_29 (dk_at dksX0_counts_1 16 rfl rfl)
theorem dX0_counts_41 : decode cX0_counts 41 = .ok (.iload_n 1, 1) := dk_27 (dk_at dksX0_counts_1 17 rfl rfl)
theorem dX0_counts_42 : decode cX0_counts 42 = .ok (.if_icmp .lt 71, 3) := dk_161 0 71 (dk_at dksX0_counts_1 18 rfl rfl)
theorem dX0_counts_45 : decode cX0_counts 45 = .ok (.iconst 1, 1) := dk_4 (dk_at dksX0_counts_1 21 rfl rfl)
theorem dX0_counts_46 : decode cX0_counts 46 = .ok (.istore 4, 2) := dk_54 4 (dk_at dksX0_counts_1 22 rfl rfl)
theorem dX0_counts_48 : decode cX0_counts 48 = .ok (.iload 4, 2) := dk_21 4 (dk_at dksX0_counts_2 0 rfl rfl)
theorem dX0_counts_50 : decode cX0_counts 50 = .ok (.iload_n 2, 1) := dk_28 (dk_at dksX0_counts_2 2 rfl rfl)
theorem dX0_counts_51 : decode cX0_counts 51 = .ok (.if_icmp .gt 56, 3) := dk_163 0 56 (dk_at dksX0_counts_2 3 rfl rfl)
theorem dX0_counts_54 : decode cX0_counts 54 = .ok (.iload 4, 2) := dk_21 4 (dk_at dksX0_counts_2 6 rfl rfl)
theorem dX0_counts_56 : decode cX0_counts 56 = .ok (.iload_n 1, 1) := dk_27 (dk_at dksX0_counts_2 8 rfl rfl)
theorem dX0_counts_57 : decode cX0_counts 57 = .ok (.imul, 1) := dk_104 (dk_at dksX0_counts_2 9 rfl rfl)
theorem dX0_counts_58 : decode cX0_counts 58 = .ok (.iload_n 3, 1) := dk_29 (dk_at dksX0_counts_2 10 rfl rfl)
theorem dX0_counts_59 : decode cX0_counts 59 = .ok (.if_icmp .gt 48, 3) := dk_163 0 48 (dk_at dksX0_counts_2 11 rfl rfl)
theorem dX0_counts_62 : decode cX0_counts 62 = .ok (.aload_n 0, 1) := dk_42 (dk_at dksX0_counts_2 14 rfl rfl)
theorem dX0_counts_63 : decode cX0_counts 63 = .ok (.getfield 418, 3) := dk_180 1 162 (dk_at dksX0_counts_2 15 rfl rfl)
theorem dX0_counts_66 : decode cX0_counts 66 = .ok (.iload_n 2, 1) := dk_28 (dk_at dksX0_counts_2 18 rfl rfl)
theorem dX0_counts_67 : decode cX0_counts 67 = .ok (.aaload, 1) := dk_50 (dk_at dksX0_counts_2 19 rfl rfl)
theorem dX0_counts_68 : decode cX0_counts 68 = .ok (.iload_n 3, 1) := dk_29 (dk_at dksX0_counts_2 20 rfl rfl)
theorem dX0_counts_69 : decode cX0_counts 69 = .ok (.dup2, 1) := dk_92 (dk_at dksX0_counts_2 21 rfl rfl)
theorem dX0_counts_70 : decode cX0_counts 70 = .ok (.laload, 1) := dk_47 (dk_at dksX0_counts_2 22 rfl rfl)
theorem dX0_counts_71 : decode cX0_counts 71 = .ok (.aload_n 0, 1) := dk_42 (dk_at dksX0_counts_2 23 rfl rfl)
theorem dX0_counts_72 : decode cX0_counts 72 = .ok (.getfield 415, 3) := dk_180 1 159 (dk_at dksX0_counts_3 0 rfl rfl)
theorem dX0_counts_75 : decode cX0_counts 75 = .ok (.iload_n 1, 1) := dk_27 (dk_at dksX0_counts_3 3 rfl rfl)
theorem dX0_counts_76 : decode cX0_counts 76 = .ok (.laload, 1) := dk_47 (dk_at dksX0_counts_3 4 rfl rfl)
theorem dX0_counts_77 : decode cX0_counts 77 = .ok (.iload 4, 2) := dk_21 4 (dk_at dksX0_counts_3 5 rfl rfl)
theorem dX0_counts_79 : decode cX0_counts 79 = .ok (.invokestatic 479, 3) := dk_184 1 223 (dk_at dksX0_counts_3 7 rfl rfl)
theorem dX0_counts_82 : decode cX0_counts 82 = .ok (.aload_n 0, 1) := dk_42 (dk_at dksX0_counts_3 10 rfl rfl)
theorem dX0_counts_83 : decode cX0_counts 83 = .ok (.getfield 418, 3) := dk_180 1 162 (dk_at dksX0_counts_3 11 rfl rfl)
theorem dX0_counts_86 : decode cX0_counts 86 = .ok (.iload_n 2, 1) := dk_28 (dk_at dksX0_counts_3 14 rfl rfl)
theorem dX0_counts_87 : decode cX0_counts 87 = .ok (.iload 4, 2) := dk_21 4 (dk_at dksX0_counts_3 15 rfl rfl)
theorem dX0_counts_89 : decode cX0_counts 89 = .ok (.isub, 1) := dk_100 (dk_at dksX0_counts_3 17 rfl rfl)
theorem dX0_counts_90 : decode cX0_counts 90 = .ok (.aaload, 1) := dk_50 (dk_at dksX0_counts_3 18 rfl rfl)
theorem dX0_counts_91 : decode cX0_counts 91 = .ok (.iload_n 3, 1) := dk_29 (dk_at dksX0_counts_3 19 rfl rfl)
theorem dX0_counts_92 : decode cX0_counts 92 = .ok (.iload 4, 2) := dk_21 4 (dk_at dksX0_counts_3 20 rfl rfl)
theorem dX0_counts_94 : decode cX0_counts 94 = .ok (.iload_n 1, 1) := dk_27 (dk_at dksX0_counts_3 22 rfl rfl)
theorem dX0_counts_95 : decode cX0_counts 95 = .ok (.imul, 1) := dk_104 (dk_at dksX0_counts_3 23 rfl rfl)
theorem dX0_counts_96 : decode cX0_counts 96 = .ok (.isub, 1) := dk_100 (dk_at dksX0_counts_4 0 rfl rfl)
theorem dX0_counts_97 : decode cX0_counts 97 = .ok (.laload, 1) := dk_47 (dk_at dksX0_counts_4 1 rfl rfl)
theorem dX0_counts_98 : decode cX0_counts 98 = .ok (.lmul, 1) := dk_105 (dk_at dksX0_counts_4 2 rfl rfl)
theorem dX0_counts_99 : decode cX0_counts 99 = .ok (.ladd, 1) := dk_97 (dk_at dksX0_counts_4 3 rfl rfl)
theorem dX0_counts_100 : decode cX0_counts 100 = .ok (.lastore, 1) := dk_80 (dk_at dksX0_counts_4 4 rfl rfl)
theorem dX0_counts_101 : decode cX0_counts 101 = .ok (.iinc 4 1, 3) := dk_132 4 1 (dk_at dksX0_counts_4 5 rfl rfl)
theorem dX0_counts_104 : decode cX0_counts 104 = .ok (.goto (-56), 3) := dk_167 255 200 (dk_at dksX0_counts_4 8 rfl rfl)
theorem dX0_counts_107 : decode cX0_counts 107 = .ok (.iinc 3 (-1), 3) := dk_132 3 255 (dk_at dksX0_counts_4 11 rfl rfl)
theorem dX0_counts_110 : decode cX0_counts 110 = .ok (.goto (-70), 3) := dk_167 255 186 (dk_at dksX0_counts_4 14 rfl rfl)
theorem dX0_counts_113 : decode cX0_counts 113 = .ok (.iinc 2 (-1), 3) := dk_132 2 255 (dk_at dksX0_counts_4 17 rfl rfl)
theorem dX0_counts_116 : decode cX0_counts 116 = .ok (.goto (-83), 3) := dk_167 255 173 (dk_at dksX0_counts_4 20 rfl rfl)
theorem dX0_counts_119 : decode cX0_counts 119 = .ok (.iinc 1 1, 3) := dk_132 1 1 (dk_at dksX0_counts_5 0 rfl rfl)
theorem dX0_counts_122 : decode cX0_counts 122 = .ok (.goto (-111), 3) := dk_167 255 145 (dk_at dksX0_counts_5 3 rfl rfl)
theorem dX0_counts_125 : decode cX0_counts 125 = .ok (.return_, 1) := dk_177 (dk_at dksX0_counts_5 6 rfl rfl)
abbrev cX0_setsOf : ByteArray := prog_1_method_52_code
def yX0_setsOf : MethodName := ⟨RX0, "setsOf", "(II)J"⟩
def dkwX0_setsOf_1 : List UInt8 := [132, 5, 1, 167, 255, 235, 33, 173]
abbrev dktX0_setsOf_1 : List UInt8 := dkwX0_setsOf_1 ++ []
def dkwX0_setsOf_0 : List UInt8 := [9, 66, 3, 54, 5, 21, 5, 27, 163, 0, 21, 33, 42, 180, 1, 162, 21, 5, 50, 28, 47, 97, 66]
abbrev dktX0_setsOf_0 : List UInt8 := dkwX0_setsOf_0 ++ dktX0_setsOf_1
theorem dksX0_setsOf_0 : cX0_setsOf.data.toList.drop 0 = dktX0_setsOf_0 := by decide +kernel
theorem dksX0_setsOf_1 : cX0_setsOf.data.toList.drop 23 = dktX0_setsOf_1 := dk_seg dksX0_setsOf_0 23 rfl rfl
theorem dX0_setsOf_0 : decode cX0_setsOf 0 = .ok (.lconst 0, 1) := dk_9 (dk_at dksX0_setsOf_0 0 rfl rfl)
theorem dX0_setsOf_1 : decode cX0_setsOf 1 = .ok (.lstore_n 3, 1) := dk_66 (dk_at dksX0_setsOf_0 1 rfl rfl)
theorem dX0_setsOf_2 : decode cX0_setsOf 2 = .ok (.iconst 0, 1) := dk_3 (dk_at dksX0_setsOf_0 2 rfl rfl)
theorem dX0_setsOf_3 : decode cX0_setsOf 3 = .ok (.istore 5, 2) := dk_54 5 (dk_at dksX0_setsOf_0 3 rfl rfl)
theorem dX0_setsOf_5 : decode cX0_setsOf 5 = .ok (.iload 5, 2) := dk_21 5 (dk_at dksX0_setsOf_0 5 rfl rfl)
theorem dX0_setsOf_7 : decode cX0_setsOf 7 = .ok (.iload_n 1, 1) := dk_27 (dk_at dksX0_setsOf_0 7 rfl rfl)
theorem dX0_setsOf_8 : decode cX0_setsOf 8 = .ok (.if_icmp .gt 21, 3) := dk_163 0 21 (dk_at dksX0_setsOf_0 8 rfl rfl)
theorem dX0_setsOf_11 : decode cX0_setsOf 11 = .ok (.lload_n 3, 1) := dk_33 (dk_at dksX0_setsOf_0 11 rfl rfl)
theorem dX0_setsOf_12 : decode cX0_setsOf 12 = .ok (.aload_n 0, 1) := dk_42 (dk_at dksX0_setsOf_0 12 rfl rfl)
theorem dX0_setsOf_13 : decode cX0_setsOf 13 = .ok (.getfield 418, 3) := dk_180 1 162 (dk_at dksX0_setsOf_0 13 rfl rfl)
theorem dX0_setsOf_16 : decode cX0_setsOf 16 = .ok (.iload 5, 2) := dk_21 5 (dk_at dksX0_setsOf_0 16 rfl rfl)
theorem dX0_setsOf_18 : decode cX0_setsOf 18 = .ok (.aaload, 1) := dk_50 (dk_at dksX0_setsOf_0 18 rfl rfl)
theorem dX0_setsOf_19 : decode cX0_setsOf 19 = .ok (.iload_n 2, 1) := dk_28 (dk_at dksX0_setsOf_0 19 rfl rfl)
theorem dX0_setsOf_20 : decode cX0_setsOf 20 = .ok (.laload, 1) := dk_47 (dk_at dksX0_setsOf_0 20 rfl rfl)
theorem dX0_setsOf_21 : decode cX0_setsOf 21 = .ok (.ladd, 1) := dk_97 (dk_at dksX0_setsOf_0 21 rfl rfl)
theorem dX0_setsOf_22 : decode cX0_setsOf 22 = .ok (.lstore_n 3, 1) := dk_66 (dk_at dksX0_setsOf_0 22 rfl rfl)
theorem dX0_setsOf_23 : decode cX0_setsOf 23 = .ok (.iinc 5 1, 3) := dk_132 5 1 (dk_at dksX0_setsOf_1 0 rfl rfl)
theorem dX0_setsOf_26 : decode cX0_setsOf 26 = .ok (.goto (-21), 3) := dk_167 255 235 (dk_at dksX0_setsOf_1 3 rfl rfl)
theorem dX0_setsOf_29 : decode cX0_setsOf 29 = .ok (.lload_n 3, 1) := dk_33 (dk_at dksX0_setsOf_1 6 rfl rfl)
theorem dX0_setsOf_30 : decode cX0_setsOf 30 = .ok (.lreturn, 1) := dk_173 (dk_at dksX0_setsOf_1 7 rfl rfl)
abbrev cX0_chosen : ByteArray := prog_1_method_51_code
def yX0_chosen : MethodName := ⟨RX0, "chosen", "(JI)J"⟩
def dkwX0_chosen_1 : List UInt8 := [66, 132, 5, 1, 167, 255, 233, 33, 173]
abbrev dktX0_chosen_1 : List UInt8 := dkwX0_chosen_1 ++ []
def dkwX0_chosen_0 : List UInt8 := [10, 66, 3, 54, 5, 21, 5, 28, 162, 0, 23, 33, 30, 21, 5, 133, 97, 105, 21, 5, 4, 96, 133, 109]
abbrev dktX0_chosen_0 : List UInt8 := dkwX0_chosen_0 ++ dktX0_chosen_1
theorem dksX0_chosen_0 : cX0_chosen.data.toList.drop 0 = dktX0_chosen_0 := by decide +kernel
theorem dksX0_chosen_1 : cX0_chosen.data.toList.drop 24 = dktX0_chosen_1 := dk_seg dksX0_chosen_0 24 rfl rfl
theorem dX0_chosen_0 : decode cX0_chosen 0 = .ok (.lconst 1, 1) := dk_10 (dk_at dksX0_chosen_0 0 rfl rfl)
theorem dX0_chosen_1 : decode cX0_chosen 1 = .ok (.lstore_n 3, 1) := dk_66 (dk_at dksX0_chosen_0 1 rfl rfl)
theorem dX0_chosen_2 : decode cX0_chosen 2 = .ok (.iconst 0, 1) := dk_3 (dk_at dksX0_chosen_0 2 rfl rfl)
theorem dX0_chosen_3 : decode cX0_chosen 3 = .ok (.istore 5, 2) := dk_54 5 (dk_at dksX0_chosen_0 3 rfl rfl)
theorem dX0_chosen_5 : decode cX0_chosen 5 = .ok (.iload 5, 2) := dk_21 5 (dk_at dksX0_chosen_0 5 rfl rfl)
theorem dX0_chosen_7 : decode cX0_chosen 7 = .ok (.iload_n 2, 1) := dk_28 (dk_at dksX0_chosen_0 7 rfl rfl)
theorem dX0_chosen_8 : decode cX0_chosen 8 = .ok (.if_icmp .ge 23, 3) := dk_162 0 23 (dk_at dksX0_chosen_0 8 rfl rfl)
theorem dX0_chosen_11 : decode cX0_chosen 11 = .ok (.lload_n 3, 1) := dk_33 (dk_at dksX0_chosen_0 11 rfl rfl)
theorem dX0_chosen_12 : decode cX0_chosen 12 = .ok (.lload_n 0, 1) := dk_30 (dk_at dksX0_chosen_0 12 rfl rfl)
theorem dX0_chosen_13 : decode cX0_chosen 13 = .ok (.iload 5, 2) := dk_21 5 (dk_at dksX0_chosen_0 13 rfl rfl)
theorem dX0_chosen_15 : decode cX0_chosen 15 = .ok (.i2l, 1) := dk_133 (dk_at dksX0_chosen_0 15 rfl rfl)
theorem dX0_chosen_16 : decode cX0_chosen 16 = .ok (.ladd, 1) := dk_97 (dk_at dksX0_chosen_0 16 rfl rfl)
theorem dX0_chosen_17 : decode cX0_chosen 17 = .ok (.lmul, 1) := dk_105 (dk_at dksX0_chosen_0 17 rfl rfl)
theorem dX0_chosen_18 : decode cX0_chosen 18 = .ok (.iload 5, 2) := dk_21 5 (dk_at dksX0_chosen_0 18 rfl rfl)
theorem dX0_chosen_20 : decode cX0_chosen 20 = .ok (.iconst 1, 1) := dk_4 (dk_at dksX0_chosen_0 20 rfl rfl)
theorem dX0_chosen_21 : decode cX0_chosen 21 = .ok (.iadd, 1) := dk_96 (dk_at dksX0_chosen_0 21 rfl rfl)
theorem dX0_chosen_22 : decode cX0_chosen 22 = .ok (.i2l, 1) := dk_133 (dk_at dksX0_chosen_0 22 rfl rfl)
theorem dX0_chosen_23 : decode cX0_chosen 23 = .ok (.ldiv, 1) := dk_109 (dk_at dksX0_chosen_0 23 rfl rfl)
theorem dX0_chosen_24 : decode cX0_chosen 24 = .ok (.lstore_n 3, 1) := dk_66 (dk_at dksX0_chosen_1 0 rfl rfl)
theorem dX0_chosen_25 : decode cX0_chosen 25 = .ok (.iinc 5 1, 3) := dk_132 5 1 (dk_at dksX0_chosen_1 1 rfl rfl)
theorem dX0_chosen_28 : decode cX0_chosen 28 = .ok (.goto (-23), 3) := dk_167 255 233 (dk_at dksX0_chosen_1 4 rfl rfl)
theorem dX0_chosen_31 : decode cX0_chosen 31 = .ok (.lload_n 3, 1) := dk_33 (dk_at dksX0_chosen_1 7 rfl rfl)
theorem dX0_chosen_32 : decode cX0_chosen 32 = .ok (.lreturn, 1) := dk_173 (dk_at dksX0_chosen_1 8 rfl rfl)
abbrev cX0_counted : ByteArray := prog_1_method_57_code
def yX0_counted : MethodName := ⟨RX0, "counted", "(II)J"⟩
def dkwX0_counted_3 : List UInt8 := [173, 42, 28, 182, 1, 230, 42, 28, 182, 1, 234, 101, 42, 28, 182, 1, 237, 97, 173, 20, 1, 228, 173]
abbrev dktX0_counted_3 : List UInt8 := dkwX0_counted_3 ++ []
def dkwX0_counted_2 : List UInt8 := [42, 180, 1, 159, 28, 47, 173, 42, 28, 182, 1, 230, 173, 42, 28, 182, 1, 234, 173, 42, 28, 182, 1, 237]
abbrev dktX0_counted_2 : List UInt8 := dkwX0_counted_2 ++ dktX0_counted_3
def dkwX0_counted_1 : List UInt8 := [170, 0, 0, 0, 0, 0, 78, 0, 0, 0, 0, 0, 0, 0, 4, 0, 0, 0, 35, 0, 0, 0, 42, 0, 0, 0, 48, 0, 0, 0, 54, 0, 0, 0, 60]
abbrev dktX0_counted_1 : List UInt8 := dkwX0_counted_1 ++ dktX0_counted_2
def dkwX0_counted_0 : List UInt8 := [28, 133, 10, 20, 1, 226, 184, 0, 142, 154, 0, 7, 20, 1, 228, 173, 27]
abbrev dktX0_counted_0 : List UInt8 := dkwX0_counted_0 ++ dktX0_counted_1
theorem dksX0_counted_0 : cX0_counted.data.toList.drop 0 = dktX0_counted_0 := by decide +kernel
theorem dksX0_counted_1 : cX0_counted.data.toList.drop 17 = dktX0_counted_1 := dk_seg dksX0_counted_0 17 rfl rfl
theorem dksX0_counted_2 : cX0_counted.data.toList.drop 52 = dktX0_counted_2 := dk_seg dksX0_counted_1 35 rfl rfl
theorem dksX0_counted_3 : cX0_counted.data.toList.drop 76 = dktX0_counted_3 := dk_seg dksX0_counted_2 24 rfl rfl
theorem dX0_counted_0 : decode cX0_counted 0 = .ok (.iload_n 2, 1) := dk_28 (dk_at dksX0_counted_0 0 rfl rfl)
theorem dX0_counted_1 : decode cX0_counted 1 = .ok (.i2l, 1) := dk_133 (dk_at dksX0_counted_0 1 rfl rfl)
theorem dX0_counted_2 : decode cX0_counted 2 = .ok (.lconst 1, 1) := dk_10 (dk_at dksX0_counted_0 2 rfl rfl)
theorem dX0_counted_3 : decode cX0_counted 3 = .ok (.ldc2_w 482, 3) := dk_20 1 226 (dk_at dksX0_counted_0 3 rfl rfl)
theorem dX0_counted_6 : decode cX0_counted 6 = .ok (.invokestatic 142, 3) := dk_184 0 142 (dk_at dksX0_counted_0 6 rfl rfl)
theorem dX0_counted_9 : decode cX0_counted 9 = .ok (.ifCond .ne 7, 3) := dk_154 0 7 (dk_at dksX0_counted_0 9 rfl rfl)
theorem dX0_counted_12 : decode cX0_counted 12 = .ok (.ldc2_w 484, 3) := dk_20 1 228 (dk_at dksX0_counted_0 12 rfl rfl)
theorem dX0_counted_15 : decode cX0_counted 15 = .ok (.lreturn, 1) := dk_173 (dk_at dksX0_counted_0 15 rfl rfl)
theorem dX0_counted_16 : decode cX0_counted 16 = .ok (.iload_n 1, 1) := dk_27 (dk_at dksX0_counted_0 16 rfl rfl)
theorem dX0_counted_17 : decode cX0_counted 17 = .ok (.tableswitch 78 0 4 #[35, 42, 48, 54, 60], 35) := by decide +kernel
theorem dX0_counted_52 : decode cX0_counted 52 = .ok (.aload_n 0, 1) := dk_42 (dk_at dksX0_counted_2 0 rfl rfl)
theorem dX0_counted_53 : decode cX0_counted 53 = .ok (.getfield 415, 3) := dk_180 1 159 (dk_at dksX0_counted_2 1 rfl rfl)
theorem dX0_counted_56 : decode cX0_counted 56 = .ok (.iload_n 2, 1) := dk_28 (dk_at dksX0_counted_2 4 rfl rfl)
theorem dX0_counted_57 : decode cX0_counted 57 = .ok (.laload, 1) := dk_47 (dk_at dksX0_counted_2 5 rfl rfl)
theorem dX0_counted_58 : decode cX0_counted 58 = .ok (.lreturn, 1) := dk_173 (dk_at dksX0_counted_2 6 rfl rfl)
theorem dX0_counted_59 : decode cX0_counted 59 = .ok (.aload_n 0, 1) := dk_42 (dk_at dksX0_counted_2 7 rfl rfl)
theorem dX0_counted_60 : decode cX0_counted 60 = .ok (.iload_n 2, 1) := dk_28 (dk_at dksX0_counted_2 8 rfl rfl)
theorem dX0_counted_61 : decode cX0_counted 61 = .ok (.invokevirtual 486, 3) := dk_182 1 230 (dk_at dksX0_counted_2 9 rfl rfl)
theorem dX0_counted_64 : decode cX0_counted 64 = .ok (.lreturn, 1) := dk_173 (dk_at dksX0_counted_2 12 rfl rfl)
theorem dX0_counted_65 : decode cX0_counted 65 = .ok (.aload_n 0, 1) := dk_42 (dk_at dksX0_counted_2 13 rfl rfl)
theorem dX0_counted_66 : decode cX0_counted 66 = .ok (.iload_n 2, 1) := dk_28 (dk_at dksX0_counted_2 14 rfl rfl)
theorem dX0_counted_67 : decode cX0_counted 67 = .ok (.invokevirtual 490, 3) := dk_182 1 234 (dk_at dksX0_counted_2 15 rfl rfl)
theorem dX0_counted_70 : decode cX0_counted 70 = .ok (.lreturn, 1) := dk_173 (dk_at dksX0_counted_2 18 rfl rfl)
theorem dX0_counted_71 : decode cX0_counted 71 = .ok (.aload_n 0, 1) := dk_42 (dk_at dksX0_counted_2 19 rfl rfl)
theorem dX0_counted_72 : decode cX0_counted 72 = .ok (.iload_n 2, 1) := dk_28 (dk_at dksX0_counted_2 20 rfl rfl)
theorem dX0_counted_73 : decode cX0_counted 73 = .ok (.invokevirtual 493, 3) := dk_182 1 237 (dk_at dksX0_counted_2 21 rfl rfl)
theorem dX0_counted_76 : decode cX0_counted 76 = .ok (.lreturn, 1) := dk_173 (dk_at dksX0_counted_3 0 rfl rfl)
theorem dX0_counted_77 : decode cX0_counted 77 = .ok (.aload_n 0, 1) := dk_42 (dk_at dksX0_counted_3 1 rfl rfl)
theorem dX0_counted_78 : decode cX0_counted 78 = .ok (.iload_n 2, 1) := dk_28 (dk_at dksX0_counted_3 2 rfl rfl)
theorem dX0_counted_79 : decode cX0_counted 79 = .ok (.invokevirtual 486, 3) := dk_182 1 230 (dk_at dksX0_counted_3 3 rfl rfl)
theorem dX0_counted_82 : decode cX0_counted 82 = .ok (.aload_n 0, 1) := dk_42 (dk_at dksX0_counted_3 6 rfl rfl)
theorem dX0_counted_83 : decode cX0_counted 83 = .ok (.iload_n 2, 1) := dk_28 (dk_at dksX0_counted_3 7 rfl rfl)
theorem dX0_counted_84 : decode cX0_counted 84 = .ok (.invokevirtual 490, 3) := dk_182 1 234 (dk_at dksX0_counted_3 8 rfl rfl)
theorem dX0_counted_87 : decode cX0_counted 87 = .ok (.lsub, 1) := dk_101 (dk_at dksX0_counted_3 11 rfl rfl)
theorem dX0_counted_88 : decode cX0_counted 88 = .ok (.aload_n 0, 1) := dk_42 (dk_at dksX0_counted_3 12 rfl rfl)
theorem dX0_counted_89 : decode cX0_counted 89 = .ok (.iload_n 2, 1) := dk_28 (dk_at dksX0_counted_3 13 rfl rfl)
theorem dX0_counted_90 : decode cX0_counted 90 = .ok (.invokevirtual 493, 3) := dk_182 1 237 (dk_at dksX0_counted_3 14 rfl rfl)
theorem dX0_counted_93 : decode cX0_counted 93 = .ok (.ladd, 1) := dk_97 (dk_at dksX0_counted_3 17 rfl rfl)
theorem dX0_counted_94 : decode cX0_counted 94 = .ok (.lreturn, 1) := dk_173 (dk_at dksX0_counted_3 18 rfl rfl)
theorem dX0_counted_95 : decode cX0_counted 95 = .ok (.ldc2_w 484, 3) := dk_20 1 228 (dk_at dksX0_counted_3 19 rfl rfl)
theorem dX0_counted_98 : decode cX0_counted 98 = .ok (.lreturn, 1) := dk_173 (dk_at dksX0_counted_3 22 rfl rfl)
abbrev cX0_isIn : ByteArray := prog_1_method_1_code
def yX0_isIn : MethodName := ⟨RX0, "isIn", "(JJJ)Z"⟩
def dkwX0_isIn_0 : List UInt8 := [30, 32, 148, 155, 0, 14, 30, 22, 4, 148, 157, 0, 7, 4, 167, 0, 4, 3, 172]
abbrev dktX0_isIn_0 : List UInt8 := dkwX0_isIn_0 ++ []
theorem dksX0_isIn_0 : cX0_isIn.data.toList.drop 0 = dktX0_isIn_0 := by decide +kernel
theorem dX0_isIn_0 : decode cX0_isIn 0 = .ok (.lload_n 0, 1) := dk_30 (dk_at dksX0_isIn_0 0 rfl rfl)
theorem dX0_isIn_1 : decode cX0_isIn 1 = .ok (.lload_n 2, 1) := dk_32 (dk_at dksX0_isIn_0 1 rfl rfl)
theorem dX0_isIn_2 : decode cX0_isIn 2 = .ok (.lcmp, 1) := dk_148 (dk_at dksX0_isIn_0 2 rfl rfl)
theorem dX0_isIn_3 : decode cX0_isIn 3 = .ok (.ifCond .lt 14, 3) := dk_155 0 14 (dk_at dksX0_isIn_0 3 rfl rfl)
theorem dX0_isIn_6 : decode cX0_isIn 6 = .ok (.lload_n 0, 1) := dk_30 (dk_at dksX0_isIn_0 6 rfl rfl)
theorem dX0_isIn_7 : decode cX0_isIn 7 = .ok (.lload 4, 2) := dk_22 4 (dk_at dksX0_isIn_0 7 rfl rfl)
theorem dX0_isIn_9 : decode cX0_isIn 9 = .ok (.lcmp, 1) := dk_148 (dk_at dksX0_isIn_0 9 rfl rfl)
theorem dX0_isIn_10 : decode cX0_isIn 10 = .ok (.ifCond .gt 7, 3) := dk_157 0 7 (dk_at dksX0_isIn_0 10 rfl rfl)
theorem dX0_isIn_13 : decode cX0_isIn 13 = .ok (.iconst 1, 1) := dk_4 (dk_at dksX0_isIn_0 13 rfl rfl)
theorem dX0_isIn_14 : decode cX0_isIn 14 = .ok (.goto 4, 3) := dk_167 0 4 (dk_at dksX0_isIn_0 14 rfl rfl)
theorem dX0_isIn_17 : decode cX0_isIn 17 = .ok (.iconst 0, 1) := dk_3 (dk_at dksX0_isIn_0 17 rfl rfl)
theorem dX0_isIn_18 : decode cX0_isIn 18 = .ok (.ireturn, 1) := dk_172 (dk_at dksX0_isIn_0 18 rfl rfl)
abbrev cX0_rooted : ByteArray := prog_1_method_54_code
def yX0_rooted : MethodName := ⟨RX0, "rooted", "(I)J"⟩
def dkwX0_rooted_0 : List UInt8 := [42, 7, 27, 4, 100, 182, 1, 219, 173]
abbrev dktX0_rooted_0 : List UInt8 := dkwX0_rooted_0 ++ []
theorem dksX0_rooted_0 : cX0_rooted.data.toList.drop 0 = dktX0_rooted_0 := by decide +kernel
theorem dX0_rooted_0 : decode cX0_rooted 0 = .ok (.aload_n 0, 1) := dk_42 (dk_at dksX0_rooted_0 0 rfl rfl)
theorem dX0_rooted_1 : decode cX0_rooted 1 = .ok (.iconst 4, 1) := dk_7 (dk_at dksX0_rooted_0 1 rfl rfl)
theorem dX0_rooted_2 : decode cX0_rooted 2 = .ok (.iload_n 1, 1) := dk_27 (dk_at dksX0_rooted_0 2 rfl rfl)
theorem dX0_rooted_3 : decode cX0_rooted 3 = .ok (.iconst 1, 1) := dk_4 (dk_at dksX0_rooted_0 3 rfl rfl)
theorem dX0_rooted_4 : decode cX0_rooted 4 = .ok (.isub, 1) := dk_100 (dk_at dksX0_rooted_0 4 rfl rfl)
theorem dX0_rooted_5 : decode cX0_rooted 5 = .ok (.invokevirtual 475, 3) := dk_182 1 219 (dk_at dksX0_rooted_0 5 rfl rfl)
theorem dX0_rooted_8 : decode cX0_rooted 8 = .ok (.lreturn, 1) := dk_173 (dk_at dksX0_rooted_0 8 rfl rfl)
abbrev cX0_bonded : ByteArray := prog_1_method_56_code
def yX0_bonded : MethodName := ⟨RX0, "bonded", "(I)J"⟩
def dkwX0_bonded_2 : List UInt8 := [21, 4, 100, 47, 105, 97, 65, 132, 4, 1, 167, 255, 225, 32, 173]
abbrev dktX0_bonded_2 : List UInt8 := dkwX0_bonded_2 ++ []
def dkwX0_bonded_1 : List UInt8 := [54, 4, 5, 21, 4, 104, 27, 162, 0, 29, 32, 42, 180, 1, 159, 21, 4, 47, 42, 180, 1, 159, 27]
abbrev dktX0_bonded_1 : List UInt8 := dkwX0_bonded_1 ++ dktX0_bonded_2
def dkwX0_bonded_0 : List UInt8 := [27, 5, 112, 154, 0, 18, 42, 180, 1, 159, 27, 5, 108, 47, 5, 184, 1, 223, 167, 0, 4, 9, 65, 4]
abbrev dktX0_bonded_0 : List UInt8 := dkwX0_bonded_0 ++ dktX0_bonded_1
theorem dksX0_bonded_0 : cX0_bonded.data.toList.drop 0 = dktX0_bonded_0 := by decide +kernel
theorem dksX0_bonded_1 : cX0_bonded.data.toList.drop 24 = dktX0_bonded_1 := dk_seg dksX0_bonded_0 24 rfl rfl
theorem dksX0_bonded_2 : cX0_bonded.data.toList.drop 47 = dktX0_bonded_2 := dk_seg dksX0_bonded_1 23 rfl rfl
theorem dX0_bonded_0 : decode cX0_bonded 0 = .ok (.iload_n 1, 1) := dk_27 (dk_at dksX0_bonded_0 0 rfl rfl)
theorem dX0_bonded_1 : decode cX0_bonded 1 = .ok (.iconst 2, 1) := dk_5 (dk_at dksX0_bonded_0 1 rfl rfl)
theorem dX0_bonded_2 : decode cX0_bonded 2 = .ok (.irem, 1) := dk_112 (dk_at dksX0_bonded_0 2 rfl rfl)
theorem dX0_bonded_3 : decode cX0_bonded 3 = .ok (.ifCond .ne 18, 3) := dk_154 0 18 (dk_at dksX0_bonded_0 3 rfl rfl)
theorem dX0_bonded_6 : decode cX0_bonded 6 = .ok (.aload_n 0, 1) := dk_42 (dk_at dksX0_bonded_0 6 rfl rfl)
theorem dX0_bonded_7 : decode cX0_bonded 7 = .ok (.getfield 415, 3) := dk_180 1 159 (dk_at dksX0_bonded_0 7 rfl rfl)
theorem dX0_bonded_10 : decode cX0_bonded 10 = .ok (.iload_n 1, 1) := dk_27 (dk_at dksX0_bonded_0 10 rfl rfl)
theorem dX0_bonded_11 : decode cX0_bonded 11 = .ok (.iconst 2, 1) := dk_5 (dk_at dksX0_bonded_0 11 rfl rfl)
theorem dX0_bonded_12 : decode cX0_bonded 12 = .ok (.idiv, 1) := dk_108 (dk_at dksX0_bonded_0 12 rfl rfl)
theorem dX0_bonded_13 : decode cX0_bonded 13 = .ok (.laload, 1) := dk_47 (dk_at dksX0_bonded_0 13 rfl rfl)
theorem dX0_bonded_14 : decode cX0_bonded 14 = .ok (.iconst 2, 1) := dk_5 (dk_at dksX0_bonded_0 14 rfl rfl)
theorem dX0_bonded_15 : decode cX0_bonded 15 = .ok (.invokestatic 479, 3) := dk_184 1 223 (dk_at dksX0_bonded_0 15 rfl rfl)
theorem dX0_bonded_18 : decode cX0_bonded 18 = .ok (.goto 4, 3) := dk_167 0 4 (dk_at dksX0_bonded_0 18 rfl rfl)
theorem dX0_bonded_21 : decode cX0_bonded 21 = .ok (.lconst 0, 1) := dk_9 (dk_at dksX0_bonded_0 21 rfl rfl)
theorem dX0_bonded_22 : decode cX0_bonded 22 = .ok (.lstore_n 2, 1) := dk_65 (dk_at dksX0_bonded_0 22 rfl rfl)
theorem dX0_bonded_23 : decode cX0_bonded 23 = .ok (.iconst 1, 1) := dk_4 (dk_at dksX0_bonded_0 23 rfl rfl)
theorem dX0_bonded_24 : decode cX0_bonded 24 = .ok (.istore 4, 2) := dk_54 4 (dk_at dksX0_bonded_1 0 rfl rfl)
theorem dX0_bonded_26 : decode cX0_bonded 26 = .ok (.iconst 2, 1) := dk_5 (dk_at dksX0_bonded_1 2 rfl rfl)
theorem dX0_bonded_27 : decode cX0_bonded 27 = .ok (.iload 4, 2) := dk_21 4 (dk_at dksX0_bonded_1 3 rfl rfl)
theorem dX0_bonded_29 : decode cX0_bonded 29 = .ok (.imul, 1) := dk_104 (dk_at dksX0_bonded_1 5 rfl rfl)
theorem dX0_bonded_30 : decode cX0_bonded 30 = .ok (.iload_n 1, 1) := dk_27 (dk_at dksX0_bonded_1 6 rfl rfl)
theorem dX0_bonded_31 : decode cX0_bonded 31 = .ok (.if_icmp .ge 29, 3) := dk_162 0 29 (dk_at dksX0_bonded_1 7 rfl rfl)
theorem dX0_bonded_34 : decode cX0_bonded 34 = .ok (.lload_n 2, 1) := dk_32 (dk_at dksX0_bonded_1 10 rfl rfl)
theorem dX0_bonded_35 : decode cX0_bonded 35 = .ok (.aload_n 0, 1) := dk_42 (dk_at dksX0_bonded_1 11 rfl rfl)
theorem dX0_bonded_36 : decode cX0_bonded 36 = .ok (.getfield 415, 3) := dk_180 1 159 (dk_at dksX0_bonded_1 12 rfl rfl)
theorem dX0_bonded_39 : decode cX0_bonded 39 = .ok (.iload 4, 2) := dk_21 4 (dk_at dksX0_bonded_1 15 rfl rfl)
theorem dX0_bonded_41 : decode cX0_bonded 41 = .ok (.laload, 1) := dk_47 (dk_at dksX0_bonded_1 17 rfl rfl)
theorem dX0_bonded_42 : decode cX0_bonded 42 = .ok (.aload_n 0, 1) := dk_42 (dk_at dksX0_bonded_1 18 rfl rfl)
theorem dX0_bonded_43 : decode cX0_bonded 43 = .ok (.getfield 415, 3) := dk_180 1 159 (dk_at dksX0_bonded_1 19 rfl rfl)
theorem dX0_bonded_46 : decode cX0_bonded 46 = .ok (.iload_n 1, 1) := dk_27 (dk_at dksX0_bonded_1 22 rfl rfl)
theorem dX0_bonded_47 : decode cX0_bonded 47 = .ok (.iload 4, 2) := dk_21 4 (dk_at dksX0_bonded_2 0 rfl rfl)
theorem dX0_bonded_49 : decode cX0_bonded 49 = .ok (.isub, 1) := dk_100 (dk_at dksX0_bonded_2 2 rfl rfl)
theorem dX0_bonded_50 : decode cX0_bonded 50 = .ok (.laload, 1) := dk_47 (dk_at dksX0_bonded_2 3 rfl rfl)
theorem dX0_bonded_51 : decode cX0_bonded 51 = .ok (.lmul, 1) := dk_105 (dk_at dksX0_bonded_2 4 rfl rfl)
theorem dX0_bonded_52 : decode cX0_bonded 52 = .ok (.ladd, 1) := dk_97 (dk_at dksX0_bonded_2 5 rfl rfl)
theorem dX0_bonded_53 : decode cX0_bonded 53 = .ok (.lstore_n 2, 1) := dk_65 (dk_at dksX0_bonded_2 6 rfl rfl)
theorem dX0_bonded_54 : decode cX0_bonded 54 = .ok (.iinc 4 1, 3) := dk_132 4 1 (dk_at dksX0_bonded_2 7 rfl rfl)
theorem dX0_bonded_57 : decode cX0_bonded 57 = .ok (.goto (-31), 3) := dk_167 255 225 (dk_at dksX0_bonded_2 10 rfl rfl)
theorem dX0_bonded_60 : decode cX0_bonded 60 = .ok (.lload_n 2, 1) := dk_32 (dk_at dksX0_bonded_2 13 rfl rfl)
theorem dX0_bonded_61 : decode cX0_bonded 61 = .ok (.lreturn, 1) := dk_173 (dk_at dksX0_bonded_2 14 rfl rfl)
abbrev cX0_halved : ByteArray := prog_1_method_55_code
def yX0_halved : MethodName := ⟨RX0, "halved", "(I)J"⟩
def dkwX0_halved_0 : List UInt8 := [27, 5, 112, 154, 0, 14, 42, 180, 1, 159, 27, 5, 108, 47, 167, 0, 4, 9, 173]
abbrev dktX0_halved_0 : List UInt8 := dkwX0_halved_0 ++ []
theorem dksX0_halved_0 : cX0_halved.data.toList.drop 0 = dktX0_halved_0 := by decide +kernel
theorem dX0_halved_0 : decode cX0_halved 0 = .ok (.iload_n 1, 1) := dk_27 (dk_at dksX0_halved_0 0 rfl rfl)
theorem dX0_halved_1 : decode cX0_halved 1 = .ok (.iconst 2, 1) := dk_5 (dk_at dksX0_halved_0 1 rfl rfl)
theorem dX0_halved_2 : decode cX0_halved 2 = .ok (.irem, 1) := dk_112 (dk_at dksX0_halved_0 2 rfl rfl)
theorem dX0_halved_3 : decode cX0_halved 3 = .ok (.ifCond .ne 14, 3) := dk_154 0 14 (dk_at dksX0_halved_0 3 rfl rfl)
theorem dX0_halved_6 : decode cX0_halved 6 = .ok (.aload_n 0, 1) := dk_42 (dk_at dksX0_halved_0 6 rfl rfl)
theorem dX0_halved_7 : decode cX0_halved 7 = .ok (.getfield 415, 3) := dk_180 1 159 (dk_at dksX0_halved_0 7 rfl rfl)
theorem dX0_halved_10 : decode cX0_halved 10 = .ok (.iload_n 1, 1) := dk_27 (dk_at dksX0_halved_0 10 rfl rfl)
theorem dX0_halved_11 : decode cX0_halved 11 = .ok (.iconst 2, 1) := dk_5 (dk_at dksX0_halved_0 11 rfl rfl)
theorem dX0_halved_12 : decode cX0_halved 12 = .ok (.idiv, 1) := dk_108 (dk_at dksX0_halved_0 12 rfl rfl)
theorem dX0_halved_13 : decode cX0_halved 13 = .ok (.laload, 1) := dk_47 (dk_at dksX0_halved_0 13 rfl rfl)
theorem dX0_halved_14 : decode cX0_halved 14 = .ok (.goto 4, 3) := dk_167 0 4 (dk_at dksX0_halved_0 14 rfl rfl)
theorem dX0_halved_17 : decode cX0_halved 17 = .ok (.lconst 0, 1) := dk_9 (dk_at dksX0_halved_0 17 rfl rfl)
theorem dX0_halved_18 : decode cX0_halved 18 = .ok (.lreturn, 1) := dk_173 (dk_at dksX0_halved_0 18 rfl rfl)
abbrev cX0_grow : ByteArray := prog_1_method_58_code
def yX0_grow : MethodName := ⟨RX0, "grow", "(I)I"⟩
def dkwX0_grow_2 : List UInt8 := [182, 0, 81, 172]
abbrev dktX0_grow_2 : List UInt8 := dkwX0_grow_2 ++ []
def dkwX0_grow_1 : List UInt8 := [42, 180, 1, 109, 180, 0, 44, 16, 12, 160, 0, 8, 16, 252, 167, 0, 11, 42, 180, 1, 109, 27]
abbrev dktX0_grow_1 : List UInt8 := dkwX0_grow_1 ++ dktX0_grow_2
def dkwX0_grow_0 : List UInt8 := [42, 180, 1, 109, 27, 182, 1, 240, 154, 0, 5, 2, 172, 42, 180, 1, 109, 27, 182, 0, 118, 154, 0, 15]
abbrev dktX0_grow_0 : List UInt8 := dkwX0_grow_0 ++ dktX0_grow_1
theorem dksX0_grow_0 : cX0_grow.data.toList.drop 0 = dktX0_grow_0 := by decide +kernel
theorem dksX0_grow_1 : cX0_grow.data.toList.drop 24 = dktX0_grow_1 := dk_seg dksX0_grow_0 24 rfl rfl
theorem dksX0_grow_2 : cX0_grow.data.toList.drop 46 = dktX0_grow_2 := dk_seg dksX0_grow_1 22 rfl rfl
theorem dX0_grow_0 : decode cX0_grow 0 = .ok (.aload_n 0, 1) := dk_42 (dk_at dksX0_grow_0 0 rfl rfl)
theorem dX0_grow_1 : decode cX0_grow 1 = .ok (.getfield 365, 3) := dk_180 1 109 (dk_at dksX0_grow_0 1 rfl rfl)
theorem dX0_grow_4 : decode cX0_grow 4 = .ok (.iload_n 1, 1) := dk_27 (dk_at dksX0_grow_0 4 rfl rfl)
theorem dX0_grow_5 : decode cX0_grow 5 = .ok (.invokevirtual 496, 3) := dk_182 1 240 (dk_at dksX0_grow_0 5 rfl rfl)
theorem dX0_grow_8 : decode cX0_grow 8 = .ok (.ifCond .ne 5, 3) := dk_154 0 5 (dk_at dksX0_grow_0 8 rfl rfl)
theorem dX0_grow_11 : decode cX0_grow 11 = .ok (.iconst (-1), 1) := dk_2 (dk_at dksX0_grow_0 11 rfl rfl)
theorem dX0_grow_12 : decode cX0_grow 12 = .ok (.ireturn, 1) := dk_172 (dk_at dksX0_grow_0 12 rfl rfl)
theorem dX0_grow_13 : decode cX0_grow 13 = .ok (.aload_n 0, 1) := dk_42 (dk_at dksX0_grow_0 13 rfl rfl)
theorem dX0_grow_14 : decode cX0_grow 14 = .ok (.getfield 365, 3) := dk_180 1 109 (dk_at dksX0_grow_0 14 rfl rfl)
theorem dX0_grow_17 : decode cX0_grow 17 = .ok (.iload_n 1, 1) := dk_27 (dk_at dksX0_grow_0 17 rfl rfl)
theorem dX0_grow_18 : decode cX0_grow 18 = .ok (.invokevirtual 118, 3) := dk_182 0 118 (dk_at dksX0_grow_0 18 rfl rfl)
theorem dX0_grow_21 : decode cX0_grow 21 = .ok (.ifCond .ne 15, 3) := dk_154 0 15 (dk_at dksX0_grow_0 21 rfl rfl)
theorem dX0_grow_24 : decode cX0_grow 24 = .ok (.aload_n 0, 1) := dk_42 (dk_at dksX0_grow_1 0 rfl rfl)
theorem dX0_grow_25 : decode cX0_grow 25 = .ok (.getfield 365, 3) := dk_180 1 109 (dk_at dksX0_grow_1 1 rfl rfl)
theorem dX0_grow_28 : decode cX0_grow 28 = .ok (.getfield 44, 3) := dk_180 0 44 (dk_at dksX0_grow_1 4 rfl rfl)
theorem dX0_grow_31 : decode cX0_grow 31 = .ok (.bipush 12, 2) := dk_16 12 (dk_at dksX0_grow_1 7 rfl rfl)
theorem dX0_grow_33 : decode cX0_grow 33 = .ok (.if_icmp .ne 8, 3) := dk_160 0 8 (dk_at dksX0_grow_1 9 rfl rfl)
theorem dX0_grow_36 : decode cX0_grow 36 = .ok (.bipush (-4), 2) := dk_16 252 (dk_at dksX0_grow_1 12 rfl rfl)
theorem dX0_grow_38 : decode cX0_grow 38 = .ok (.goto 11, 3) := dk_167 0 11 (dk_at dksX0_grow_1 14 rfl rfl)
theorem dX0_grow_41 : decode cX0_grow 41 = .ok (.aload_n 0, 1) := dk_42 (dk_at dksX0_grow_1 17 rfl rfl)
theorem dX0_grow_42 : decode cX0_grow 42 = .ok (.getfield 365, 3) := dk_180 1 109 (dk_at dksX0_grow_1 18 rfl rfl)
theorem dX0_grow_45 : decode cX0_grow 45 = .ok (.iload_n 1, 1) := dk_27 (dk_at dksX0_grow_1 21 rfl rfl)
theorem dX0_grow_46 : decode cX0_grow 46 = .ok (.invokevirtual 81, 3) := dk_182 0 81 (dk_at dksX0_grow_2 0 rfl rfl)
theorem dX0_grow_49 : decode cX0_grow 49 = .ok (.ireturn, 1) := dk_172 (dk_at dksX0_grow_2 3 rfl rfl)
abbrev cX0_cut : ByteArray := prog_1_method_59_code
def yX0_cut : MethodName := ⟨RX0, "cut", "(I)I"⟩
def dkwX0_cut_1 : List UInt8 := [159, 0, 6, 16, 253, 172, 42, 180, 1, 109, 27, 182, 1, 243, 42, 180, 1, 109, 180, 0, 44, 172]
abbrev dktX0_cut_1 : List UInt8 := dkwX0_cut_1 ++ []
def dkwX0_cut_0 : List UInt8 := [42, 180, 1, 109, 27, 182, 1, 240, 154, 0, 5, 2, 172, 42, 180, 1, 109, 180, 0, 11, 27, 46, 4]
abbrev dktX0_cut_0 : List UInt8 := dkwX0_cut_0 ++ dktX0_cut_1
theorem dksX0_cut_0 : cX0_cut.data.toList.drop 0 = dktX0_cut_0 := by decide +kernel
theorem dksX0_cut_1 : cX0_cut.data.toList.drop 23 = dktX0_cut_1 := dk_seg dksX0_cut_0 23 rfl rfl
theorem dX0_cut_0 : decode cX0_cut 0 = .ok (.aload_n 0, 1) := dk_42 (dk_at dksX0_cut_0 0 rfl rfl)
theorem dX0_cut_1 : decode cX0_cut 1 = .ok (.getfield 365, 3) := dk_180 1 109 (dk_at dksX0_cut_0 1 rfl rfl)
theorem dX0_cut_4 : decode cX0_cut 4 = .ok (.iload_n 1, 1) := dk_27 (dk_at dksX0_cut_0 4 rfl rfl)
theorem dX0_cut_5 : decode cX0_cut 5 = .ok (.invokevirtual 496, 3) := dk_182 1 240 (dk_at dksX0_cut_0 5 rfl rfl)
theorem dX0_cut_8 : decode cX0_cut 8 = .ok (.ifCond .ne 5, 3) := dk_154 0 5 (dk_at dksX0_cut_0 8 rfl rfl)
theorem dX0_cut_11 : decode cX0_cut 11 = .ok (.iconst (-1), 1) := dk_2 (dk_at dksX0_cut_0 11 rfl rfl)
theorem dX0_cut_12 : decode cX0_cut 12 = .ok (.ireturn, 1) := dk_172 (dk_at dksX0_cut_0 12 rfl rfl)
theorem dX0_cut_13 : decode cX0_cut 13 = .ok (.aload_n 0, 1) := dk_42 (dk_at dksX0_cut_0 13 rfl rfl)
theorem dX0_cut_14 : decode cX0_cut 14 = .ok (.getfield 365, 3) := dk_180 1 109 (dk_at dksX0_cut_0 14 rfl rfl)
theorem dX0_cut_17 : decode cX0_cut 17 = .ok (.getfield 11, 3) := dk_180 0 11 (dk_at dksX0_cut_0 17 rfl rfl)
theorem dX0_cut_20 : decode cX0_cut 20 = .ok (.iload_n 1, 1) := dk_27 (dk_at dksX0_cut_0 20 rfl rfl)
theorem dX0_cut_21 : decode cX0_cut 21 = .ok (.iaload, 1) := dk_46 (dk_at dksX0_cut_0 21 rfl rfl)
theorem dX0_cut_22 : decode cX0_cut 22 = .ok (.iconst 1, 1) := dk_4 (dk_at dksX0_cut_0 22 rfl rfl)
theorem dX0_cut_23 : decode cX0_cut 23 = .ok (.if_icmp .eq 6, 3) := dk_159 0 6 (dk_at dksX0_cut_1 0 rfl rfl)
theorem dX0_cut_26 : decode cX0_cut 26 = .ok (.bipush (-3), 2) := dk_16 253 (dk_at dksX0_cut_1 3 rfl rfl)
theorem dX0_cut_28 : decode cX0_cut 28 = .ok (.ireturn, 1) := dk_172 (dk_at dksX0_cut_1 5 rfl rfl)
theorem dX0_cut_29 : decode cX0_cut 29 = .ok (.aload_n 0, 1) := dk_42 (dk_at dksX0_cut_1 6 rfl rfl)
theorem dX0_cut_30 : decode cX0_cut 30 = .ok (.getfield 365, 3) := dk_180 1 109 (dk_at dksX0_cut_1 7 rfl rfl)
theorem dX0_cut_33 : decode cX0_cut 33 = .ok (.iload_n 1, 1) := dk_27 (dk_at dksX0_cut_1 10 rfl rfl)
theorem dX0_cut_34 : decode cX0_cut 34 = .ok (.invokevirtual 499, 3) := dk_182 1 243 (dk_at dksX0_cut_1 11 rfl rfl)
theorem dX0_cut_37 : decode cX0_cut 37 = .ok (.aload_n 0, 1) := dk_42 (dk_at dksX0_cut_1 14 rfl rfl)
theorem dX0_cut_38 : decode cX0_cut 38 = .ok (.getfield 365, 3) := dk_180 1 109 (dk_at dksX0_cut_1 15 rfl rfl)
theorem dX0_cut_41 : decode cX0_cut 41 = .ok (.getfield 44, 3) := dk_180 0 44 (dk_at dksX0_cut_1 18 rfl rfl)
theorem dX0_cut_44 : decode cX0_cut 44 = .ok (.ireturn, 1) := dk_172 (dk_at dksX0_cut_1 21 rfl rfl)
abbrev cX0_take : ByteArray := prog_1_method_60_code
def yX0_take : MethodName := ⟨RX0, "take", "(II)I"⟩
def dkwX0_take_1 : List UInt8 := [46, 182, 0, 115, 62, 42, 180, 0, 108, 27, 50, 28, 46, 172]
abbrev dktX0_take_1 : List UInt8 := dkwX0_take_1 ++ []
def dkwX0_take_0 : List UInt8 := [42, 27, 28, 182, 1, 246, 154, 0, 5, 2, 172, 42, 42, 180, 1, 109, 27, 42, 180, 0, 108, 27, 50, 28]
abbrev dktX0_take_0 : List UInt8 := dkwX0_take_0 ++ dktX0_take_1
theorem dksX0_take_0 : cX0_take.data.toList.drop 0 = dktX0_take_0 := by decide +kernel
theorem dksX0_take_1 : cX0_take.data.toList.drop 24 = dktX0_take_1 := dk_seg dksX0_take_0 24 rfl rfl
theorem dX0_take_0 : decode cX0_take 0 = .ok (.aload_n 0, 1) := dk_42 (dk_at dksX0_take_0 0 rfl rfl)
theorem dX0_take_1 : decode cX0_take 1 = .ok (.iload_n 1, 1) := dk_27 (dk_at dksX0_take_0 1 rfl rfl)
theorem dX0_take_2 : decode cX0_take 2 = .ok (.iload_n 2, 1) := dk_28 (dk_at dksX0_take_0 2 rfl rfl)
theorem dX0_take_3 : decode cX0_take 3 = .ok (.invokevirtual 502, 3) := dk_182 1 246 (dk_at dksX0_take_0 3 rfl rfl)
theorem dX0_take_6 : decode cX0_take 6 = .ok (.ifCond .ne 5, 3) := dk_154 0 5 (dk_at dksX0_take_0 6 rfl rfl)
theorem dX0_take_9 : decode cX0_take 9 = .ok (.iconst (-1), 1) := dk_2 (dk_at dksX0_take_0 9 rfl rfl)
theorem dX0_take_10 : decode cX0_take 10 = .ok (.ireturn, 1) := dk_172 (dk_at dksX0_take_0 10 rfl rfl)
theorem dX0_take_11 : decode cX0_take 11 = .ok (.aload_n 0, 1) := dk_42 (dk_at dksX0_take_0 11 rfl rfl)
theorem dX0_take_12 : decode cX0_take 12 = .ok (.aload_n 0, 1) := dk_42 (dk_at dksX0_take_0 12 rfl rfl)
theorem dX0_take_13 : decode cX0_take 13 = .ok (.getfield 365, 3) := dk_180 1 109 (dk_at dksX0_take_0 13 rfl rfl)
theorem dX0_take_16 : decode cX0_take 16 = .ok (.iload_n 1, 1) := dk_27 (dk_at dksX0_take_0 16 rfl rfl)
theorem dX0_take_17 : decode cX0_take 17 = .ok (.aload_n 0, 1) := dk_42 (dk_at dksX0_take_0 17 rfl rfl)
theorem dX0_take_18 : decode cX0_take 18 = .ok (.getfield 108, 3) := dk_180 0 108 (dk_at dksX0_take_0 18 rfl rfl)
theorem dX0_take_21 : decode cX0_take 21 = .ok (.iload_n 1, 1) := dk_27 (dk_at dksX0_take_0 21 rfl rfl)
theorem dX0_take_22 : decode cX0_take 22 = .ok (.aaload, 1) := dk_50 (dk_at dksX0_take_0 22 rfl rfl)
theorem dX0_take_23 : decode cX0_take 23 = .ok (.iload_n 2, 1) := dk_28 (dk_at dksX0_take_0 23 rfl rfl)
theorem dX0_take_24 : decode cX0_take 24 = .ok (.iaload, 1) := dk_46 (dk_at dksX0_take_1 0 rfl rfl)
theorem dX0_take_25 : decode cX0_take 25 = .ok (.invokevirtual 115, 3) := dk_182 0 115 (dk_at dksX0_take_1 1 rfl rfl)
theorem dX0_take_28 : decode cX0_take 28 = .ok (.istore_n 3, 1) := dk_62 (dk_at dksX0_take_1 4 rfl rfl)
theorem dX0_take_29 : decode cX0_take 29 = .ok (.aload_n 0, 1) := dk_42 (dk_at dksX0_take_1 5 rfl rfl)
theorem dX0_take_30 : decode cX0_take 30 = .ok (.getfield 108, 3) := dk_180 0 108 (dk_at dksX0_take_1 6 rfl rfl)
theorem dX0_take_33 : decode cX0_take 33 = .ok (.iload_n 1, 1) := dk_27 (dk_at dksX0_take_1 9 rfl rfl)
theorem dX0_take_34 : decode cX0_take 34 = .ok (.aaload, 1) := dk_50 (dk_at dksX0_take_1 10 rfl rfl)
theorem dX0_take_35 : decode cX0_take 35 = .ok (.iload_n 2, 1) := dk_28 (dk_at dksX0_take_1 11 rfl rfl)
theorem dX0_take_36 : decode cX0_take 36 = .ok (.iaload, 1) := dk_46 (dk_at dksX0_take_1 12 rfl rfl)
theorem dX0_take_37 : decode cX0_take 37 = .ok (.ireturn, 1) := dk_172 (dk_at dksX0_take_1 13 rfl rfl)
abbrev cX0_isListed : ByteArray := prog_1_method_18_code
def yX0_isListed : MethodName := ⟨RX0, "isListed", "(II)Z"⟩
def dkwX0_isListed_1 : List UInt8 := [153, 0, 7, 4, 167, 0, 4, 3, 172]
abbrev dktX0_isListed_1 : List UInt8 := dkwX0_isListed_1 ++ []
def dkwX0_isListed_0 : List UInt8 := [42, 27, 182, 0, 146, 153, 0, 26, 28, 133, 9, 42, 180, 0, 108, 27, 50, 190, 4, 100, 133, 184, 0, 142]
abbrev dktX0_isListed_0 : List UInt8 := dkwX0_isListed_0 ++ dktX0_isListed_1
theorem dksX0_isListed_0 : cX0_isListed.data.toList.drop 0 = dktX0_isListed_0 := by decide +kernel
theorem dksX0_isListed_1 : cX0_isListed.data.toList.drop 24 = dktX0_isListed_1 := dk_seg dksX0_isListed_0 24 rfl rfl
theorem dX0_isListed_0 : decode cX0_isListed 0 = .ok (.aload_n 0, 1) := dk_42 (dk_at dksX0_isListed_0 0 rfl rfl)
theorem dX0_isListed_1 : decode cX0_isListed 1 = .ok (.iload_n 1, 1) := dk_27 (dk_at dksX0_isListed_0 1 rfl rfl)
theorem dX0_isListed_2 : decode cX0_isListed 2 = .ok (.invokevirtual 146, 3) := dk_182 0 146 (dk_at dksX0_isListed_0 2 rfl rfl)
theorem dX0_isListed_5 : decode cX0_isListed 5 = .ok (.ifCond .eq 26, 3) := dk_153 0 26 (dk_at dksX0_isListed_0 5 rfl rfl)
theorem dX0_isListed_8 : decode cX0_isListed 8 = .ok (.iload_n 2, 1) := dk_28 (dk_at dksX0_isListed_0 8 rfl rfl)
theorem dX0_isListed_9 : decode cX0_isListed 9 = .ok (.i2l, 1) := dk_133 (dk_at dksX0_isListed_0 9 rfl rfl)
theorem dX0_isListed_10 : decode cX0_isListed 10 = .ok (.lconst 0, 1) := dk_9 (dk_at dksX0_isListed_0 10 rfl rfl)
theorem dX0_isListed_11 : decode cX0_isListed 11 = .ok (.aload_n 0, 1) := dk_42 (dk_at dksX0_isListed_0 11 rfl rfl)
theorem dX0_isListed_12 : decode cX0_isListed 12 = .ok (.getfield 108, 3) := dk_180 0 108 (dk_at dksX0_isListed_0 12 rfl rfl)
theorem dX0_isListed_15 : decode cX0_isListed 15 = .ok (.iload_n 1, 1) := dk_27 (dk_at dksX0_isListed_0 15 rfl rfl)
theorem dX0_isListed_16 : decode cX0_isListed 16 = .ok (.aaload, 1) := dk_50 (dk_at dksX0_isListed_0 16 rfl rfl)
theorem dX0_isListed_17 : decode cX0_isListed 17 = .ok (.arraylength, 1) := dk_190 (dk_at dksX0_isListed_0 17 rfl rfl)
theorem dX0_isListed_18 : decode cX0_isListed 18 = .ok (.iconst 1, 1) := dk_4 (dk_at dksX0_isListed_0 18 rfl rfl)
theorem dX0_isListed_19 : decode cX0_isListed 19 = .ok (.isub, 1) := dk_100 (dk_at dksX0_isListed_0 19 rfl rfl)
theorem dX0_isListed_20 : decode cX0_isListed 20 = .ok (.i2l, 1) := dk_133 (dk_at dksX0_isListed_0 20 rfl rfl)
theorem dX0_isListed_21 : decode cX0_isListed 21 = .ok (.invokestatic 142, 3) := dk_184 0 142 (dk_at dksX0_isListed_0 21 rfl rfl)
theorem dX0_isListed_24 : decode cX0_isListed 24 = .ok (.ifCond .eq 7, 3) := dk_153 0 7 (dk_at dksX0_isListed_1 0 rfl rfl)
theorem dX0_isListed_27 : decode cX0_isListed 27 = .ok (.iconst 1, 1) := dk_4 (dk_at dksX0_isListed_1 3 rfl rfl)
theorem dX0_isListed_28 : decode cX0_isListed 28 = .ok (.goto 4, 3) := dk_167 0 4 (dk_at dksX0_isListed_1 4 rfl rfl)
theorem dX0_isListed_31 : decode cX0_isListed 31 = .ok (.iconst 0, 1) := dk_3 (dk_at dksX0_isListed_1 7 rfl rfl)
theorem dX0_isListed_32 : decode cX0_isListed 32 = .ok (.ireturn, 1) := dk_172 (dk_at dksX0_isListed_1 8 rfl rfl)
abbrev cX0_isList : ByteArray := prog_1_method_17_code
def yX0_isList : MethodName := ⟨RX0, "isList", "(I)Z"⟩
def dkwX0_isList_0 : List UInt8 := [27, 133, 10, 20, 0, 140, 184, 0, 142, 172]
abbrev dktX0_isList_0 : List UInt8 := dkwX0_isList_0 ++ []
theorem dksX0_isList_0 : cX0_isList.data.toList.drop 0 = dktX0_isList_0 := by decide +kernel
theorem dX0_isList_0 : decode cX0_isList 0 = .ok (.iload_n 1, 1) := dk_27 (dk_at dksX0_isList_0 0 rfl rfl)
theorem dX0_isList_1 : decode cX0_isList 1 = .ok (.i2l, 1) := dk_133 (dk_at dksX0_isList_0 1 rfl rfl)
theorem dX0_isList_2 : decode cX0_isList 2 = .ok (.lconst 1, 1) := dk_10 (dk_at dksX0_isList_0 2 rfl rfl)
theorem dX0_isList_3 : decode cX0_isList 3 = .ok (.ldc2_w 140, 3) := dk_20 0 140 (dk_at dksX0_isList_0 3 rfl rfl)
theorem dX0_isList_6 : decode cX0_isList 6 = .ok (.invokestatic 142, 3) := dk_184 0 142 (dk_at dksX0_isList_0 6 rfl rfl)
theorem dX0_isList_9 : decode cX0_isList 9 = .ok (.ireturn, 1) := dk_172 (dk_at dksX0_isList_0 9 rfl rfl)
abbrev cX0_code : ByteArray := prog_1_method_61_code
def yX0_code : MethodName := ⟨RX0, "code", "(II)I"⟩
def dkwX0_code_3 : List UInt8 := [154, 0, 7, 4, 167, 0, 4, 3, 172]
abbrev dktX0_code_3 : List UInt8 := dkwX0_code_3 ++ []
def dkwX0_code_2 : List UInt8 := [180, 1, 109, 42, 180, 0, 122, 182, 0, 125, 42, 42, 180, 1, 109, 182, 0, 128, 184, 0, 33, 28, 133, 148]
abbrev dktX0_code_2 : List UInt8 := dkwX0_code_2 ++ dktX0_code_3
def dkwX0_code_1 : List UInt8 := [184, 0, 142, 153, 0, 16, 42, 42, 180, 0, 122, 27, 28, 182, 0, 115, 154, 0, 6, 16, 254, 172, 42]
abbrev dktX0_code_1 : List UInt8 := dkwX0_code_1 ++ dktX0_code_2
def dkwX0_code_0 : List UInt8 := [27, 133, 10, 20, 1, 249, 184, 0, 142, 153, 0, 33, 28, 133, 9, 42, 180, 0, 29, 27, 47, 10, 101]
abbrev dktX0_code_0 : List UInt8 := dkwX0_code_0 ++ dktX0_code_1
theorem dksX0_code_0 : cX0_code.data.toList.drop 0 = dktX0_code_0 := by decide +kernel
theorem dksX0_code_1 : cX0_code.data.toList.drop 23 = dktX0_code_1 := dk_seg dksX0_code_0 23 rfl rfl
theorem dksX0_code_2 : cX0_code.data.toList.drop 46 = dktX0_code_2 := dk_seg dksX0_code_1 23 rfl rfl
theorem dksX0_code_3 : cX0_code.data.toList.drop 70 = dktX0_code_3 := dk_seg dksX0_code_2 24 rfl rfl
theorem dX0_code_0 : decode cX0_code 0 = .ok (.iload_n 1, 1) := dk_27 (dk_at dksX0_code_0 0 rfl rfl)
theorem dX0_code_1 : decode cX0_code 1 = .ok (.i2l, 1) := dk_133 (dk_at dksX0_code_0 1 rfl rfl)
theorem dX0_code_2 : decode cX0_code 2 = .ok (.lconst 1, 1) := dk_10 (dk_at dksX0_code_0 2 rfl rfl)
theorem dX0_code_3 : decode cX0_code 3 = .ok (.ldc2_w 505, 3) := dk_20 1 249 (dk_at dksX0_code_0 3 rfl rfl)
theorem dX0_code_6 : decode cX0_code 6 = .ok (.invokestatic 142, 3) := dk_184 0 142 (dk_at dksX0_code_0 6 rfl rfl)
theorem dX0_code_9 : decode cX0_code 9 = .ok (.ifCond .eq 33, 3) := dk_153 0 33 (dk_at dksX0_code_0 9 rfl rfl)
theorem dX0_code_12 : decode cX0_code 12 = .ok (.iload_n 2, 1) := dk_28 (dk_at dksX0_code_0 12 rfl rfl)
theorem dX0_code_13 : decode cX0_code 13 = .ok (.i2l, 1) := dk_133 (dk_at dksX0_code_0 13 rfl rfl)
theorem dX0_code_14 : decode cX0_code 14 = .ok (.lconst 0, 1) := dk_9 (dk_at dksX0_code_0 14 rfl rfl)
theorem dX0_code_15 : decode cX0_code 15 = .ok (.aload_n 0, 1) := dk_42 (dk_at dksX0_code_0 15 rfl rfl)
theorem dX0_code_16 : decode cX0_code 16 = .ok (.getfield 29, 3) := dk_180 0 29 (dk_at dksX0_code_0 16 rfl rfl)
theorem dX0_code_19 : decode cX0_code 19 = .ok (.iload_n 1, 1) := dk_27 (dk_at dksX0_code_0 19 rfl rfl)
theorem dX0_code_20 : decode cX0_code 20 = .ok (.laload, 1) := dk_47 (dk_at dksX0_code_0 20 rfl rfl)
theorem dX0_code_21 : decode cX0_code 21 = .ok (.lconst 1, 1) := dk_10 (dk_at dksX0_code_0 21 rfl rfl)
theorem dX0_code_22 : decode cX0_code 22 = .ok (.lsub, 1) := dk_101 (dk_at dksX0_code_0 22 rfl rfl)
theorem dX0_code_23 : decode cX0_code 23 = .ok (.invokestatic 142, 3) := dk_184 0 142 (dk_at dksX0_code_1 0 rfl rfl)
theorem dX0_code_26 : decode cX0_code 26 = .ok (.ifCond .eq 16, 3) := dk_153 0 16 (dk_at dksX0_code_1 3 rfl rfl)
theorem dX0_code_29 : decode cX0_code 29 = .ok (.aload_n 0, 1) := dk_42 (dk_at dksX0_code_1 6 rfl rfl)
theorem dX0_code_30 : decode cX0_code 30 = .ok (.aload_n 0, 1) := dk_42 (dk_at dksX0_code_1 7 rfl rfl)
theorem dX0_code_31 : decode cX0_code 31 = .ok (.getfield 122, 3) := dk_180 0 122 (dk_at dksX0_code_1 8 rfl rfl)
theorem dX0_code_34 : decode cX0_code 34 = .ok (.iload_n 1, 1) := dk_27 (dk_at dksX0_code_1 11 rfl rfl)
theorem dX0_code_35 : decode cX0_code 35 = .ok (.iload_n 2, 1) := dk_28 (dk_at dksX0_code_1 12 rfl rfl)
theorem dX0_code_36 : decode cX0_code 36 = .ok (.invokevirtual 115, 3) := dk_182 0 115 (dk_at dksX0_code_1 13 rfl rfl)
theorem dX0_code_39 : decode cX0_code 39 = .ok (.ifCond .ne 6, 3) := dk_154 0 6 (dk_at dksX0_code_1 16 rfl rfl)
theorem dX0_code_42 : decode cX0_code 42 = .ok (.bipush (-2), 2) := dk_16 254 (dk_at dksX0_code_1 19 rfl rfl)
theorem dX0_code_44 : decode cX0_code 44 = .ok (.ireturn, 1) := dk_172 (dk_at dksX0_code_1 21 rfl rfl)
theorem dX0_code_45 : decode cX0_code 45 = .ok (.aload_n 0, 1) := dk_42 (dk_at dksX0_code_1 22 rfl rfl)
theorem dX0_code_46 : decode cX0_code 46 = .ok (.getfield 365, 3) := dk_180 1 109 (dk_at dksX0_code_2 0 rfl rfl)
theorem dX0_code_49 : decode cX0_code 49 = .ok (.aload_n 0, 1) := dk_42 (dk_at dksX0_code_2 3 rfl rfl)
theorem dX0_code_50 : decode cX0_code 50 = .ok (.getfield 122, 3) := dk_180 0 122 (dk_at dksX0_code_2 4 rfl rfl)
theorem dX0_code_53 : decode cX0_code 53 = .ok (.invokevirtual 125, 3) := dk_182 0 125 (dk_at dksX0_code_2 7 rfl rfl)
theorem dX0_code_56 : decode cX0_code 56 = .ok (.aload_n 0, 1) := dk_42 (dk_at dksX0_code_2 10 rfl rfl)
theorem dX0_code_57 : decode cX0_code 57 = .ok (.aload_n 0, 1) := dk_42 (dk_at dksX0_code_2 11 rfl rfl)
theorem dX0_code_58 : decode cX0_code 58 = .ok (.getfield 365, 3) := dk_180 1 109 (dk_at dksX0_code_2 12 rfl rfl)
theorem dX0_code_61 : decode cX0_code 61 = .ok (.invokevirtual 128, 3) := dk_182 0 128 (dk_at dksX0_code_2 15 rfl rfl)
theorem dX0_code_64 : decode cX0_code 64 = .ok (.invokestatic 33, 3) := dk_184 0 33 (dk_at dksX0_code_2 18 rfl rfl)
theorem dX0_code_67 : decode cX0_code 67 = .ok (.iload_n 2, 1) := dk_28 (dk_at dksX0_code_2 21 rfl rfl)
theorem dX0_code_68 : decode cX0_code 68 = .ok (.i2l, 1) := dk_133 (dk_at dksX0_code_2 22 rfl rfl)
theorem dX0_code_69 : decode cX0_code 69 = .ok (.lcmp, 1) := dk_148 (dk_at dksX0_code_2 23 rfl rfl)
theorem dX0_code_70 : decode cX0_code 70 = .ok (.ifCond .ne 7, 3) := dk_154 0 7 (dk_at dksX0_code_3 0 rfl rfl)
theorem dX0_code_73 : decode cX0_code 73 = .ok (.iconst 1, 1) := dk_4 (dk_at dksX0_code_3 3 rfl rfl)
theorem dX0_code_74 : decode cX0_code 74 = .ok (.goto 4, 3) := dk_167 0 4 (dk_at dksX0_code_3 4 rfl rfl)
theorem dX0_code_77 : decode cX0_code 77 = .ok (.iconst 0, 1) := dk_3 (dk_at dksX0_code_3 7 rfl rfl)
theorem dX0_code_78 : decode cX0_code 78 = .ok (.ireturn, 1) := dk_172 (dk_at dksX0_code_3 8 rfl rfl)
abbrev cX0_drawn : ByteArray := prog_1_method_63_code
def yX0_drawn : MethodName := ⟨RX0, "drawn", "(I)I"⟩
def dkwX0_drawn_5 : List UInt8 := [27, 6, 100, 182, 0, 65, 172, 2, 172]
abbrev dktX0_drawn_5 : List UInt8 := dkwX0_drawn_5 ++ []
def dkwX0_drawn_4 : List UInt8 := [180, 0, 44, 50, 42, 42, 180, 1, 109, 182, 0, 128, 184, 0, 33, 182, 1, 251, 172, 42, 42, 180, 1, 109]
abbrev dktX0_drawn_4 : List UInt8 := dkwX0_drawn_4 ++ dktX0_drawn_5
def dkwX0_drawn_3 : List UInt8 := [180, 1, 109, 180, 0, 44, 16, 10, 164, 0, 7, 2, 167, 0, 30, 42, 42, 180, 0, 108, 42, 180, 1, 109]
abbrev dktX0_drawn_3 : List UInt8 := dkwX0_drawn_3 ++ dktX0_drawn_4
def dkwX0_drawn_2 : List UInt8 := [42, 180, 1, 109, 180, 0, 44, 172, 42, 42, 180, 1, 109, 182, 0, 128, 184, 0, 33, 136, 172, 42]
abbrev dktX0_drawn_2 : List UInt8 := dkwX0_drawn_2 ++ dktX0_drawn_3
def dkwX0_drawn_1 : List UInt8 := [170, 0, 0, 0, 0, 0, 112, 0, 0, 0, 0, 0, 0, 0, 4, 0, 0, 0, 35, 0, 0, 0, 43, 0, 0, 0, 56, 0, 0, 0, 100, 0, 0, 0, 100]
abbrev dktX0_drawn_1 : List UInt8 := dkwX0_drawn_1 ++ dktX0_drawn_2
def dkwX0_drawn_0 : List UInt8 := [27]
abbrev dktX0_drawn_0 : List UInt8 := dkwX0_drawn_0 ++ dktX0_drawn_1
theorem dksX0_drawn_0 : cX0_drawn.data.toList.drop 0 = dktX0_drawn_0 := by decide +kernel
theorem dksX0_drawn_1 : cX0_drawn.data.toList.drop 1 = dktX0_drawn_1 := dk_seg dksX0_drawn_0 1 rfl rfl
theorem dksX0_drawn_2 : cX0_drawn.data.toList.drop 36 = dktX0_drawn_2 := dk_seg dksX0_drawn_1 35 rfl rfl
theorem dksX0_drawn_3 : cX0_drawn.data.toList.drop 58 = dktX0_drawn_3 := dk_seg dksX0_drawn_2 22 rfl rfl
theorem dksX0_drawn_4 : cX0_drawn.data.toList.drop 82 = dktX0_drawn_4 := dk_seg dksX0_drawn_3 24 rfl rfl
theorem dksX0_drawn_5 : cX0_drawn.data.toList.drop 106 = dktX0_drawn_5 := dk_seg dksX0_drawn_4 24 rfl rfl
theorem dX0_drawn_0 : decode cX0_drawn 0 = .ok (.iload_n 1, 1) := dk_27 (dk_at dksX0_drawn_0 0 rfl rfl)
theorem dX0_drawn_1 : decode cX0_drawn 1 = .ok (.tableswitch 112 0 4 #[35, 43, 56, 100, 100], 35) := by decide +kernel
theorem dX0_drawn_36 : decode cX0_drawn 36 = .ok (.aload_n 0, 1) := dk_42 (dk_at dksX0_drawn_2 0 rfl rfl)
theorem dX0_drawn_37 : decode cX0_drawn 37 = .ok (.getfield 365, 3) := dk_180 1 109 (dk_at dksX0_drawn_2 1 rfl rfl)
theorem dX0_drawn_40 : decode cX0_drawn 40 = .ok (.getfield 44, 3) := dk_180 0 44 (dk_at dksX0_drawn_2 4 rfl rfl)
theorem dX0_drawn_43 : decode cX0_drawn 43 = .ok (.ireturn, 1) := dk_172 (dk_at dksX0_drawn_2 7 rfl rfl)
theorem dX0_drawn_44 : decode cX0_drawn 44 = .ok (.aload_n 0, 1) := dk_42 (dk_at dksX0_drawn_2 8 rfl rfl)
theorem dX0_drawn_45 : decode cX0_drawn 45 = .ok (.aload_n 0, 1) := dk_42 (dk_at dksX0_drawn_2 9 rfl rfl)
theorem dX0_drawn_46 : decode cX0_drawn 46 = .ok (.getfield 365, 3) := dk_180 1 109 (dk_at dksX0_drawn_2 10 rfl rfl)
theorem dX0_drawn_49 : decode cX0_drawn 49 = .ok (.invokevirtual 128, 3) := dk_182 0 128 (dk_at dksX0_drawn_2 13 rfl rfl)
theorem dX0_drawn_52 : decode cX0_drawn 52 = .ok (.invokestatic 33, 3) := dk_184 0 33 (dk_at dksX0_drawn_2 16 rfl rfl)
theorem dX0_drawn_55 : decode cX0_drawn 55 = .ok (.l2i, 1) := dk_136 (dk_at dksX0_drawn_2 19 rfl rfl)
theorem dX0_drawn_56 : decode cX0_drawn 56 = .ok (.ireturn, 1) := dk_172 (dk_at dksX0_drawn_2 20 rfl rfl)
theorem dX0_drawn_57 : decode cX0_drawn 57 = .ok (.aload_n 0, 1) := dk_42 (dk_at dksX0_drawn_2 21 rfl rfl)
theorem dX0_drawn_58 : decode cX0_drawn 58 = .ok (.getfield 365, 3) := dk_180 1 109 (dk_at dksX0_drawn_3 0 rfl rfl)
theorem dX0_drawn_61 : decode cX0_drawn 61 = .ok (.getfield 44, 3) := dk_180 0 44 (dk_at dksX0_drawn_3 3 rfl rfl)
theorem dX0_drawn_64 : decode cX0_drawn 64 = .ok (.bipush 10, 2) := dk_16 10 (dk_at dksX0_drawn_3 6 rfl rfl)
theorem dX0_drawn_66 : decode cX0_drawn 66 = .ok (.if_icmp .le 7, 3) := dk_164 0 7 (dk_at dksX0_drawn_3 8 rfl rfl)
theorem dX0_drawn_69 : decode cX0_drawn 69 = .ok (.iconst (-1), 1) := dk_2 (dk_at dksX0_drawn_3 11 rfl rfl)
theorem dX0_drawn_70 : decode cX0_drawn 70 = .ok (.goto 30, 3) := dk_167 0 30 (dk_at dksX0_drawn_3 12 rfl rfl)
theorem dX0_drawn_73 : decode cX0_drawn 73 = .ok (.aload_n 0, 1) := dk_42 (dk_at dksX0_drawn_3 15 rfl rfl)
theorem dX0_drawn_74 : decode cX0_drawn 74 = .ok (.aload_n 0, 1) := dk_42 (dk_at dksX0_drawn_3 16 rfl rfl)
theorem dX0_drawn_75 : decode cX0_drawn 75 = .ok (.getfield 108, 3) := dk_180 0 108 (dk_at dksX0_drawn_3 17 rfl rfl)
theorem dX0_drawn_78 : decode cX0_drawn 78 = .ok (.aload_n 0, 1) := dk_42 (dk_at dksX0_drawn_3 20 rfl rfl)
theorem dX0_drawn_79 : decode cX0_drawn 79 = .ok (.getfield 365, 3) := dk_180 1 109 (dk_at dksX0_drawn_3 21 rfl rfl)
theorem dX0_drawn_82 : decode cX0_drawn 82 = .ok (.getfield 44, 3) := dk_180 0 44 (dk_at dksX0_drawn_4 0 rfl rfl)
theorem dX0_drawn_85 : decode cX0_drawn 85 = .ok (.aaload, 1) := dk_50 (dk_at dksX0_drawn_4 3 rfl rfl)
theorem dX0_drawn_86 : decode cX0_drawn 86 = .ok (.aload_n 0, 1) := dk_42 (dk_at dksX0_drawn_4 4 rfl rfl)
theorem dX0_drawn_87 : decode cX0_drawn 87 = .ok (.aload_n 0, 1) := dk_42 (dk_at dksX0_drawn_4 5 rfl rfl)
theorem dX0_drawn_88 : decode cX0_drawn 88 = .ok (.getfield 365, 3) := dk_180 1 109 (dk_at dksX0_drawn_4 6 rfl rfl)
theorem dX0_drawn_91 : decode cX0_drawn 91 = .ok (.invokevirtual 128, 3) := dk_182 0 128 (dk_at dksX0_drawn_4 9 rfl rfl)
theorem dX0_drawn_94 : decode cX0_drawn 94 = .ok (.invokestatic 33, 3) := dk_184 0 33 (dk_at dksX0_drawn_4 12 rfl rfl)
theorem dX0_drawn_97 : decode cX0_drawn 97 = .ok (.invokevirtual 507, 3) := dk_182 1 251 (dk_at dksX0_drawn_4 15 rfl rfl)
theorem dX0_drawn_100 : decode cX0_drawn 100 = .ok (.ireturn, 1) := dk_172 (dk_at dksX0_drawn_4 18 rfl rfl)
theorem dX0_drawn_101 : decode cX0_drawn 101 = .ok (.aload_n 0, 1) := dk_42 (dk_at dksX0_drawn_4 19 rfl rfl)
theorem dX0_drawn_102 : decode cX0_drawn 102 = .ok (.aload_n 0, 1) := dk_42 (dk_at dksX0_drawn_4 20 rfl rfl)
theorem dX0_drawn_103 : decode cX0_drawn 103 = .ok (.getfield 365, 3) := dk_180 1 109 (dk_at dksX0_drawn_4 21 rfl rfl)
theorem dX0_drawn_106 : decode cX0_drawn 106 = .ok (.iload_n 1, 1) := dk_27 (dk_at dksX0_drawn_5 0 rfl rfl)
theorem dX0_drawn_107 : decode cX0_drawn 107 = .ok (.iconst 3, 1) := dk_6 (dk_at dksX0_drawn_5 1 rfl rfl)
theorem dX0_drawn_108 : decode cX0_drawn 108 = .ok (.isub, 1) := dk_100 (dk_at dksX0_drawn_5 2 rfl rfl)
theorem dX0_drawn_109 : decode cX0_drawn 109 = .ok (.invokevirtual 65, 3) := dk_182 0 65 (dk_at dksX0_drawn_5 3 rfl rfl)
theorem dX0_drawn_112 : decode cX0_drawn 112 = .ok (.ireturn, 1) := dk_172 (dk_at dksX0_drawn_5 6 rfl rfl)
theorem dX0_drawn_113 : decode cX0_drawn 113 = .ok (.iconst (-1), 1) := dk_2 (dk_at dksX0_drawn_5 7 rfl rfl)
theorem dX0_drawn_114 : decode cX0_drawn 114 = .ok (.ireturn, 1) := dk_172 (dk_at dksX0_drawn_5 8 rfl rfl)
abbrev cX0_placeIn : ByteArray := prog_1_method_62_code
def yX0_placeIn : MethodName := ⟨RX0, "placeIn", "([IJ)I"⟩
def dkwX0_placeIn_0 : List UInt8 := [3, 54, 4, 43, 21, 4, 46, 133, 32, 148, 153, 0, 9, 132, 4, 1, 167, 255, 243, 21, 4, 172]
abbrev dktX0_placeIn_0 : List UInt8 := dkwX0_placeIn_0 ++ []
theorem dksX0_placeIn_0 : cX0_placeIn.data.toList.drop 0 = dktX0_placeIn_0 := by decide +kernel
theorem dX0_placeIn_0 : decode cX0_placeIn 0 = .ok (.iconst 0, 1) := dk_3 (dk_at dksX0_placeIn_0 0 rfl rfl)
theorem dX0_placeIn_1 : decode cX0_placeIn 1 = .ok (.istore 4, 2) := dk_54 4 (dk_at dksX0_placeIn_0 1 rfl rfl)
theorem dX0_placeIn_3 : decode cX0_placeIn 3 = .ok (.aload_n 1, 1) := dk_43 (dk_at dksX0_placeIn_0 3 rfl rfl)
theorem dX0_placeIn_4 : decode cX0_placeIn 4 = .ok (.iload 4, 2) := dk_21 4 (dk_at dksX0_placeIn_0 4 rfl rfl)
theorem dX0_placeIn_6 : decode cX0_placeIn 6 = .ok (.iaload, 1) := dk_46 (dk_at dksX0_placeIn_0 6 rfl rfl)
theorem dX0_placeIn_7 : decode cX0_placeIn 7 = .ok (.i2l, 1) := dk_133 (dk_at dksX0_placeIn_0 7 rfl rfl)
theorem dX0_placeIn_8 : decode cX0_placeIn 8 = .ok (.lload_n 2, 1) := dk_32 (dk_at dksX0_placeIn_0 8 rfl rfl)
theorem dX0_placeIn_9 : decode cX0_placeIn 9 = .ok (.lcmp, 1) := dk_148 (dk_at dksX0_placeIn_0 9 rfl rfl)
theorem dX0_placeIn_10 : decode cX0_placeIn 10 = .ok (.ifCond .eq 9, 3) := dk_153 0 9 (dk_at dksX0_placeIn_0 10 rfl rfl)
theorem dX0_placeIn_13 : decode cX0_placeIn 13 = .ok (.iinc 4 1, 3) := dk_132 4 1 (dk_at dksX0_placeIn_0 13 rfl rfl)
theorem dX0_placeIn_16 : decode cX0_placeIn 16 = .ok (.goto (-13), 3) := dk_167 255 243 (dk_at dksX0_placeIn_0 16 rfl rfl)
theorem dX0_placeIn_19 : decode cX0_placeIn 19 = .ok (.iload 4, 2) := dk_21 4 (dk_at dksX0_placeIn_0 19 rfl rfl)
theorem dX0_placeIn_21 : decode cX0_placeIn 21 = .ok (.ireturn, 1) := dk_172 (dk_at dksX0_placeIn_0 21 rfl rfl)
abbrev cX0_atom : ByteArray := prog_1_method_64_code
def yX0_atom : MethodName := ⟨RX0, "atom", "(II)I"⟩
def dkwX0_atom_4 : List UInt8 := [27, 47, 184, 0, 33, 136, 172, 42, 27, 182, 0, 155, 172, 42, 42, 180, 1, 109, 27, 182, 0, 165, 172]
abbrev dktX0_atom_4 : List UInt8 := dkwX0_atom_4 ++ []
def dkwX0_atom_3 : List UInt8 := [42, 180, 1, 109, 180, 0, 11, 27, 46, 172, 42, 42, 180, 1, 109, 27, 182, 0, 58, 172, 42, 180, 0, 149]
abbrev dktX0_atom_3 : List UInt8 := dkwX0_atom_3 ++ dktX0_atom_4
def dkwX0_atom_2 : List UInt8 := [170, 0, 0, 0, 0, 67, 0, 0, 0, 0, 0, 0, 0, 3, 0, 0, 0, 30, 0, 0, 0, 40, 0, 0, 0, 50, 0, 0, 0, 61]
abbrev dktX0_atom_2 : List UInt8 := dkwX0_atom_2 ++ dktX0_atom_3
def dkwX0_atom_1 : List UInt8 := [172, 42, 42, 180, 1, 109, 182, 0, 152, 42, 42, 180, 1, 109, 182, 0, 54, 28]
abbrev dktX0_atom_1 : List UInt8 := dkwX0_atom_1 ++ dktX0_atom_2
def dkwX0_atom_0 : List UInt8 := [42, 180, 1, 109, 27, 182, 1, 240, 153, 0, 15, 28, 133, 9, 20, 1, 255, 184, 0, 142, 154, 0, 5, 2]
abbrev dktX0_atom_0 : List UInt8 := dkwX0_atom_0 ++ dktX0_atom_1
theorem dksX0_atom_0 : cX0_atom.data.toList.drop 0 = dktX0_atom_0 := by decide +kernel
theorem dksX0_atom_1 : cX0_atom.data.toList.drop 24 = dktX0_atom_1 := dk_seg dksX0_atom_0 24 rfl rfl
theorem dksX0_atom_2 : cX0_atom.data.toList.drop 42 = dktX0_atom_2 := dk_seg dksX0_atom_1 18 rfl rfl
theorem dksX0_atom_3 : cX0_atom.data.toList.drop 72 = dktX0_atom_3 := dk_seg dksX0_atom_2 30 rfl rfl
theorem dksX0_atom_4 : cX0_atom.data.toList.drop 96 = dktX0_atom_4 := dk_seg dksX0_atom_3 24 rfl rfl
theorem dX0_atom_0 : decode cX0_atom 0 = .ok (.aload_n 0, 1) := dk_42 (dk_at dksX0_atom_0 0 rfl rfl)
theorem dX0_atom_1 : decode cX0_atom 1 = .ok (.getfield 365, 3) := dk_180 1 109 (dk_at dksX0_atom_0 1 rfl rfl)
theorem dX0_atom_4 : decode cX0_atom 4 = .ok (.iload_n 1, 1) := dk_27 (dk_at dksX0_atom_0 4 rfl rfl)
theorem dX0_atom_5 : decode cX0_atom 5 = .ok (.invokevirtual 496, 3) := dk_182 1 240 (dk_at dksX0_atom_0 5 rfl rfl)
theorem dX0_atom_8 : decode cX0_atom 8 = .ok (.ifCond .eq 15, 3) := dk_153 0 15 (dk_at dksX0_atom_0 8 rfl rfl)
theorem dX0_atom_11 : decode cX0_atom 11 = .ok (.iload_n 2, 1) := dk_28 (dk_at dksX0_atom_0 11 rfl rfl)
theorem dX0_atom_12 : decode cX0_atom 12 = .ok (.i2l, 1) := dk_133 (dk_at dksX0_atom_0 12 rfl rfl)
theorem dX0_atom_13 : decode cX0_atom 13 = .ok (.lconst 0, 1) := dk_9 (dk_at dksX0_atom_0 13 rfl rfl)
theorem dX0_atom_14 : decode cX0_atom 14 = .ok (.ldc2_w 511, 3) := dk_20 1 255 (dk_at dksX0_atom_0 14 rfl rfl)
theorem dX0_atom_17 : decode cX0_atom 17 = .ok (.invokestatic 142, 3) := dk_184 0 142 (dk_at dksX0_atom_0 17 rfl rfl)
theorem dX0_atom_20 : decode cX0_atom 20 = .ok (.ifCond .ne 5, 3) := dk_154 0 5 (dk_at dksX0_atom_0 20 rfl rfl)
theorem dX0_atom_23 : decode cX0_atom 23 = .ok (.iconst (-1), 1) := dk_2 (dk_at dksX0_atom_0 23 rfl rfl)
theorem dX0_atom_24 : decode cX0_atom 24 = .ok (.ireturn, 1) := dk_172 (dk_at dksX0_atom_1 0 rfl rfl)
theorem dX0_atom_25 : decode cX0_atom 25 = .ok (.aload_n 0, 1) := dk_42 (dk_at dksX0_atom_1 1 rfl rfl)
theorem dX0_atom_26 : decode cX0_atom 26 = .ok (.aload_n 0, 1) := dk_42 (dk_at dksX0_atom_1 2 rfl rfl)
theorem dX0_atom_27 : decode cX0_atom 27 = .ok (.getfield 365, 3) := dk_180 1 109 (dk_at dksX0_atom_1 3 rfl rfl)
theorem dX0_atom_30 : decode cX0_atom 30 = .ok (.invokevirtual 152, 3) := dk_182 0 152 (dk_at dksX0_atom_1 6 rfl rfl)
theorem dX0_atom_33 : decode cX0_atom 33 = .ok (.aload_n 0, 1) := dk_42 (dk_at dksX0_atom_1 9 rfl rfl)
theorem dX0_atom_34 : decode cX0_atom 34 = .ok (.aload_n 0, 1) := dk_42 (dk_at dksX0_atom_1 10 rfl rfl)
theorem dX0_atom_35 : decode cX0_atom 35 = .ok (.getfield 365, 3) := dk_180 1 109 (dk_at dksX0_atom_1 11 rfl rfl)
theorem dX0_atom_38 : decode cX0_atom 38 = .ok (.invokevirtual 54, 3) := dk_182 0 54 (dk_at dksX0_atom_1 14 rfl rfl)
theorem dX0_atom_41 : decode cX0_atom 41 = .ok (.iload_n 2, 1) := dk_28 (dk_at dksX0_atom_1 17 rfl rfl)
theorem dX0_atom_42 : decode cX0_atom 42 = .ok (.tableswitch 67 0 3 #[30, 40, 50, 61], 30) := by decide +kernel
theorem dX0_atom_72 : decode cX0_atom 72 = .ok (.aload_n 0, 1) := dk_42 (dk_at dksX0_atom_3 0 rfl rfl)
theorem dX0_atom_73 : decode cX0_atom 73 = .ok (.getfield 365, 3) := dk_180 1 109 (dk_at dksX0_atom_3 1 rfl rfl)
theorem dX0_atom_76 : decode cX0_atom 76 = .ok (.getfield 11, 3) := dk_180 0 11 (dk_at dksX0_atom_3 4 rfl rfl)
theorem dX0_atom_79 : decode cX0_atom 79 = .ok (.iload_n 1, 1) := dk_27 (dk_at dksX0_atom_3 7 rfl rfl)
theorem dX0_atom_80 : decode cX0_atom 80 = .ok (.iaload, 1) := dk_46 (dk_at dksX0_atom_3 8 rfl rfl)
theorem dX0_atom_81 : decode cX0_atom 81 = .ok (.ireturn, 1) := dk_172 (dk_at dksX0_atom_3 9 rfl rfl)
theorem dX0_atom_82 : decode cX0_atom 82 = .ok (.aload_n 0, 1) := dk_42 (dk_at dksX0_atom_3 10 rfl rfl)
theorem dX0_atom_83 : decode cX0_atom 83 = .ok (.aload_n 0, 1) := dk_42 (dk_at dksX0_atom_3 11 rfl rfl)
theorem dX0_atom_84 : decode cX0_atom 84 = .ok (.getfield 365, 3) := dk_180 1 109 (dk_at dksX0_atom_3 12 rfl rfl)
theorem dX0_atom_87 : decode cX0_atom 87 = .ok (.iload_n 1, 1) := dk_27 (dk_at dksX0_atom_3 15 rfl rfl)
theorem dX0_atom_88 : decode cX0_atom 88 = .ok (.invokevirtual 58, 3) := dk_182 0 58 (dk_at dksX0_atom_3 16 rfl rfl)
theorem dX0_atom_91 : decode cX0_atom 91 = .ok (.ireturn, 1) := dk_172 (dk_at dksX0_atom_3 19 rfl rfl)
theorem dX0_atom_92 : decode cX0_atom 92 = .ok (.aload_n 0, 1) := dk_42 (dk_at dksX0_atom_3 20 rfl rfl)
theorem dX0_atom_93 : decode cX0_atom 93 = .ok (.getfield 149, 3) := dk_180 0 149 (dk_at dksX0_atom_3 21 rfl rfl)
theorem dX0_atom_96 : decode cX0_atom 96 = .ok (.iload_n 1, 1) := dk_27 (dk_at dksX0_atom_4 0 rfl rfl)
theorem dX0_atom_97 : decode cX0_atom 97 = .ok (.laload, 1) := dk_47 (dk_at dksX0_atom_4 1 rfl rfl)
theorem dX0_atom_98 : decode cX0_atom 98 = .ok (.invokestatic 33, 3) := dk_184 0 33 (dk_at dksX0_atom_4 2 rfl rfl)
theorem dX0_atom_101 : decode cX0_atom 101 = .ok (.l2i, 1) := dk_136 (dk_at dksX0_atom_4 5 rfl rfl)
theorem dX0_atom_102 : decode cX0_atom 102 = .ok (.ireturn, 1) := dk_172 (dk_at dksX0_atom_4 6 rfl rfl)
theorem dX0_atom_103 : decode cX0_atom 103 = .ok (.aload_n 0, 1) := dk_42 (dk_at dksX0_atom_4 7 rfl rfl)
theorem dX0_atom_104 : decode cX0_atom 104 = .ok (.iload_n 1, 1) := dk_27 (dk_at dksX0_atom_4 8 rfl rfl)
theorem dX0_atom_105 : decode cX0_atom 105 = .ok (.invokevirtual 155, 3) := dk_182 0 155 (dk_at dksX0_atom_4 9 rfl rfl)
theorem dX0_atom_108 : decode cX0_atom 108 = .ok (.ireturn, 1) := dk_172 (dk_at dksX0_atom_4 12 rfl rfl)
theorem dX0_atom_109 : decode cX0_atom 109 = .ok (.aload_n 0, 1) := dk_42 (dk_at dksX0_atom_4 13 rfl rfl)
theorem dX0_atom_110 : decode cX0_atom 110 = .ok (.aload_n 0, 1) := dk_42 (dk_at dksX0_atom_4 14 rfl rfl)
theorem dX0_atom_111 : decode cX0_atom 111 = .ok (.getfield 365, 3) := dk_180 1 109 (dk_at dksX0_atom_4 15 rfl rfl)
theorem dX0_atom_114 : decode cX0_atom 114 = .ok (.iload_n 1, 1) := dk_27 (dk_at dksX0_atom_4 18 rfl rfl)
theorem dX0_atom_115 : decode cX0_atom 115 = .ok (.invokevirtual 165, 3) := dk_182 0 165 (dk_at dksX0_atom_4 19 rfl rfl)
theorem dX0_atom_118 : decode cX0_atom 118 = .ok (.ireturn, 1) := dk_172 (dk_at dksX0_atom_4 22 rfl rfl)
abbrev cX0_bond : ByteArray := prog_1_method_65_code
def yX0_bond : MethodName := ⟨RX0, "bond", "(II)I"⟩
def dkwX0_bond_1 : List UInt8 := [100, 133, 184, 0, 142, 153, 0, 15, 42, 180, 1, 109, 27, 28, 182, 2, 1, 167, 0, 4, 2, 172]
abbrev dktX0_bond_1 : List UInt8 := dkwX0_bond_1 ++ []
def dkwX0_bond_0 : List UInt8 := [42, 180, 1, 109, 27, 182, 1, 240, 153, 0, 36, 28, 133, 9, 42, 180, 1, 109, 180, 0, 11, 27, 46, 4]
abbrev dktX0_bond_0 : List UInt8 := dkwX0_bond_0 ++ dktX0_bond_1
theorem dksX0_bond_0 : cX0_bond.data.toList.drop 0 = dktX0_bond_0 := by decide +kernel
theorem dksX0_bond_1 : cX0_bond.data.toList.drop 24 = dktX0_bond_1 := dk_seg dksX0_bond_0 24 rfl rfl
theorem dX0_bond_0 : decode cX0_bond 0 = .ok (.aload_n 0, 1) := dk_42 (dk_at dksX0_bond_0 0 rfl rfl)
theorem dX0_bond_1 : decode cX0_bond 1 = .ok (.getfield 365, 3) := dk_180 1 109 (dk_at dksX0_bond_0 1 rfl rfl)
theorem dX0_bond_4 : decode cX0_bond 4 = .ok (.iload_n 1, 1) := dk_27 (dk_at dksX0_bond_0 4 rfl rfl)
theorem dX0_bond_5 : decode cX0_bond 5 = .ok (.invokevirtual 496, 3) := dk_182 1 240 (dk_at dksX0_bond_0 5 rfl rfl)
theorem dX0_bond_8 : decode cX0_bond 8 = .ok (.ifCond .eq 36, 3) := dk_153 0 36 (dk_at dksX0_bond_0 8 rfl rfl)
theorem dX0_bond_11 : decode cX0_bond 11 = .ok (.iload_n 2, 1) := dk_28 (dk_at dksX0_bond_0 11 rfl rfl)
theorem dX0_bond_12 : decode cX0_bond 12 = .ok (.i2l, 1) := dk_133 (dk_at dksX0_bond_0 12 rfl rfl)
theorem dX0_bond_13 : decode cX0_bond 13 = .ok (.lconst 0, 1) := dk_9 (dk_at dksX0_bond_0 13 rfl rfl)
theorem dX0_bond_14 : decode cX0_bond 14 = .ok (.aload_n 0, 1) := dk_42 (dk_at dksX0_bond_0 14 rfl rfl)
theorem dX0_bond_15 : decode cX0_bond 15 = .ok (.getfield 365, 3) := dk_180 1 109 (dk_at dksX0_bond_0 15 rfl rfl)
theorem dX0_bond_18 : decode cX0_bond 18 = .ok (.getfield 11, 3) := dk_180 0 11 (dk_at dksX0_bond_0 18 rfl rfl)
theorem dX0_bond_21 : decode cX0_bond 21 = .ok (.iload_n 1, 1) := dk_27 (dk_at dksX0_bond_0 21 rfl rfl)
theorem dX0_bond_22 : decode cX0_bond 22 = .ok (.iaload, 1) := dk_46 (dk_at dksX0_bond_0 22 rfl rfl)
theorem dX0_bond_23 : decode cX0_bond 23 = .ok (.iconst 1, 1) := dk_4 (dk_at dksX0_bond_0 23 rfl rfl)
theorem dX0_bond_24 : decode cX0_bond 24 = .ok (.isub, 1) := dk_100 (dk_at dksX0_bond_1 0 rfl rfl)
theorem dX0_bond_25 : decode cX0_bond 25 = .ok (.i2l, 1) := dk_133 (dk_at dksX0_bond_1 1 rfl rfl)
theorem dX0_bond_26 : decode cX0_bond 26 = .ok (.invokestatic 142, 3) := dk_184 0 142 (dk_at dksX0_bond_1 2 rfl rfl)
theorem dX0_bond_29 : decode cX0_bond 29 = .ok (.ifCond .eq 15, 3) := dk_153 0 15 (dk_at dksX0_bond_1 5 rfl rfl)
theorem dX0_bond_32 : decode cX0_bond 32 = .ok (.aload_n 0, 1) := dk_42 (dk_at dksX0_bond_1 8 rfl rfl)
theorem dX0_bond_33 : decode cX0_bond 33 = .ok (.getfield 365, 3) := dk_180 1 109 (dk_at dksX0_bond_1 9 rfl rfl)
theorem dX0_bond_36 : decode cX0_bond 36 = .ok (.iload_n 1, 1) := dk_27 (dk_at dksX0_bond_1 12 rfl rfl)
theorem dX0_bond_37 : decode cX0_bond 37 = .ok (.iload_n 2, 1) := dk_28 (dk_at dksX0_bond_1 13 rfl rfl)
theorem dX0_bond_38 : decode cX0_bond 38 = .ok (.invokevirtual 513, 3) := dk_182 2 1 (dk_at dksX0_bond_1 14 rfl rfl)
theorem dX0_bond_41 : decode cX0_bond 41 = .ok (.goto 4, 3) := dk_167 0 4 (dk_at dksX0_bond_1 17 rfl rfl)
theorem dX0_bond_44 : decode cX0_bond 44 = .ok (.iconst (-1), 1) := dk_2 (dk_at dksX0_bond_1 20 rfl rfl)
theorem dX0_bond_45 : decode cX0_bond 45 = .ok (.ireturn, 1) := dk_172 (dk_at dksX0_bond_1 21 rfl rfl)
abbrev cX0_far : ByteArray := prog_1_method_66_code
def yX0_far : MethodName := ⟨RX0, "far", "(II)I"⟩
def dkwX0_far_1 : List UInt8 := [42, 42, 180, 1, 109, 182, 0, 54, 42, 180, 0, 37, 27, 50, 28, 46, 172]
abbrev dktX0_far_1 : List UInt8 := dkwX0_far_1 ++ []
def dkwX0_far_0 : List UInt8 := [42, 180, 1, 109, 27, 182, 1, 240, 153, 0, 14, 42, 180, 1, 109, 28, 182, 1, 240, 154, 0, 5, 2, 172]
abbrev dktX0_far_0 : List UInt8 := dkwX0_far_0 ++ dktX0_far_1
theorem dksX0_far_0 : cX0_far.data.toList.drop 0 = dktX0_far_0 := by decide +kernel
theorem dksX0_far_1 : cX0_far.data.toList.drop 24 = dktX0_far_1 := dk_seg dksX0_far_0 24 rfl rfl
theorem dX0_far_0 : decode cX0_far 0 = .ok (.aload_n 0, 1) := dk_42 (dk_at dksX0_far_0 0 rfl rfl)
theorem dX0_far_1 : decode cX0_far 1 = .ok (.getfield 365, 3) := dk_180 1 109 (dk_at dksX0_far_0 1 rfl rfl)
theorem dX0_far_4 : decode cX0_far 4 = .ok (.iload_n 1, 1) := dk_27 (dk_at dksX0_far_0 4 rfl rfl)
theorem dX0_far_5 : decode cX0_far 5 = .ok (.invokevirtual 496, 3) := dk_182 1 240 (dk_at dksX0_far_0 5 rfl rfl)
theorem dX0_far_8 : decode cX0_far 8 = .ok (.ifCond .eq 14, 3) := dk_153 0 14 (dk_at dksX0_far_0 8 rfl rfl)
theorem dX0_far_11 : decode cX0_far 11 = .ok (.aload_n 0, 1) := dk_42 (dk_at dksX0_far_0 11 rfl rfl)
theorem dX0_far_12 : decode cX0_far 12 = .ok (.getfield 365, 3) := dk_180 1 109 (dk_at dksX0_far_0 12 rfl rfl)
theorem dX0_far_15 : decode cX0_far 15 = .ok (.iload_n 2, 1) := dk_28 (dk_at dksX0_far_0 15 rfl rfl)
theorem dX0_far_16 : decode cX0_far 16 = .ok (.invokevirtual 496, 3) := dk_182 1 240 (dk_at dksX0_far_0 16 rfl rfl)
theorem dX0_far_19 : decode cX0_far 19 = .ok (.ifCond .ne 5, 3) := dk_154 0 5 (dk_at dksX0_far_0 19 rfl rfl)
theorem dX0_far_22 : decode cX0_far 22 = .ok (.iconst (-1), 1) := dk_2 (dk_at dksX0_far_0 22 rfl rfl)
theorem dX0_far_23 : decode cX0_far 23 = .ok (.ireturn, 1) := dk_172 (dk_at dksX0_far_0 23 rfl rfl)
theorem dX0_far_24 : decode cX0_far 24 = .ok (.aload_n 0, 1) := dk_42 (dk_at dksX0_far_1 0 rfl rfl)
theorem dX0_far_25 : decode cX0_far 25 = .ok (.aload_n 0, 1) := dk_42 (dk_at dksX0_far_1 1 rfl rfl)
theorem dX0_far_26 : decode cX0_far 26 = .ok (.getfield 365, 3) := dk_180 1 109 (dk_at dksX0_far_1 2 rfl rfl)
theorem dX0_far_29 : decode cX0_far 29 = .ok (.invokevirtual 54, 3) := dk_182 0 54 (dk_at dksX0_far_1 5 rfl rfl)
theorem dX0_far_32 : decode cX0_far 32 = .ok (.aload_n 0, 1) := dk_42 (dk_at dksX0_far_1 8 rfl rfl)
theorem dX0_far_33 : decode cX0_far 33 = .ok (.getfield 37, 3) := dk_180 0 37 (dk_at dksX0_far_1 9 rfl rfl)
theorem dX0_far_36 : decode cX0_far 36 = .ok (.iload_n 1, 1) := dk_27 (dk_at dksX0_far_1 12 rfl rfl)
theorem dX0_far_37 : decode cX0_far 37 = .ok (.aaload, 1) := dk_50 (dk_at dksX0_far_1 13 rfl rfl)
theorem dX0_far_38 : decode cX0_far 38 = .ok (.iload_n 2, 1) := dk_28 (dk_at dksX0_far_1 14 rfl rfl)
theorem dX0_far_39 : decode cX0_far 39 = .ok (.iaload, 1) := dk_46 (dk_at dksX0_far_1 15 rfl rfl)
theorem dX0_far_40 : decode cX0_far 40 = .ok (.ireturn, 1) := dk_172 (dk_at dksX0_far_1 16 rfl rfl)
abbrev cX0_twig : ByteArray := prog_1_method_68_code
def yX0_twig : MethodName := ⟨RX0, "twig", "(III)I"⟩
def dkwX0_twig_6 : List UInt8 := [29, 16, 10, 100, 184, 2, 7, 172]
abbrev dktX0_twig_6 : List UInt8 := dkwX0_twig_6 ++ []
def dkwX0_twig_5 : List UInt8 := [182, 0, 251, 172, 29, 16, 10, 162, 0, 7, 2, 167, 0, 20, 42, 42, 180, 1, 109, 28, 27, 182, 1, 52]
abbrev dktX0_twig_5 : List UInt8 := dkwX0_twig_5 ++ dktX0_twig_6
def dkwX0_twig_4 : List UInt8 := [22, 4, 184, 0, 25, 172, 22, 4, 184, 0, 33, 136, 172, 42, 42, 180, 1, 109, 28, 27, 182, 1, 52]
abbrev dktX0_twig_4 : List UInt8 := dkwX0_twig_4 ++ dktX0_twig_5
def dkwX0_twig_3 : List UInt8 := [170, 0, 0, 0, 0, 53, 0, 0, 0, 0, 0, 0, 0, 2, 0, 0, 0, 26, 0, 0, 0, 32, 0, 0, 0, 39]
abbrev dktX0_twig_3 : List UInt8 := dkwX0_twig_3 ++ dktX0_twig_4
def dkwX0_twig_2 : List UInt8 := [55, 4, 29]
abbrev dktX0_twig_2 : List UInt8 := dkwX0_twig_2 ++ dktX0_twig_3
def dkwX0_twig_1 : List UInt8 := [180, 1, 109, 27, 28, 182, 2, 4, 154, 0, 5, 2, 172, 42, 42, 180, 1, 109, 28, 27, 3, 182, 0, 21]
abbrev dktX0_twig_1 : List UInt8 := dkwX0_twig_1 ++ dktX0_twig_2
def dkwX0_twig_0 : List UInt8 := [42, 180, 1, 109, 27, 182, 1, 240, 153, 0, 26, 42, 180, 1, 109, 28, 182, 1, 240, 153, 0, 15, 42]
abbrev dktX0_twig_0 : List UInt8 := dkwX0_twig_0 ++ dktX0_twig_1
theorem dksX0_twig_0 : cX0_twig.data.toList.drop 0 = dktX0_twig_0 := by decide +kernel
theorem dksX0_twig_1 : cX0_twig.data.toList.drop 23 = dktX0_twig_1 := dk_seg dksX0_twig_0 23 rfl rfl
theorem dksX0_twig_2 : cX0_twig.data.toList.drop 47 = dktX0_twig_2 := dk_seg dksX0_twig_1 24 rfl rfl
theorem dksX0_twig_3 : cX0_twig.data.toList.drop 50 = dktX0_twig_3 := dk_seg dksX0_twig_2 3 rfl rfl
theorem dksX0_twig_4 : cX0_twig.data.toList.drop 76 = dktX0_twig_4 := dk_seg dksX0_twig_3 26 rfl rfl
theorem dksX0_twig_5 : cX0_twig.data.toList.drop 99 = dktX0_twig_5 := dk_seg dksX0_twig_4 23 rfl rfl
theorem dksX0_twig_6 : cX0_twig.data.toList.drop 123 = dktX0_twig_6 := dk_seg dksX0_twig_5 24 rfl rfl
theorem dX0_twig_0 : decode cX0_twig 0 = .ok (.aload_n 0, 1) := dk_42 (dk_at dksX0_twig_0 0 rfl rfl)
theorem dX0_twig_1 : decode cX0_twig 1 = .ok (.getfield 365, 3) := dk_180 1 109 (dk_at dksX0_twig_0 1 rfl rfl)
theorem dX0_twig_4 : decode cX0_twig 4 = .ok (.iload_n 1, 1) := dk_27 (dk_at dksX0_twig_0 4 rfl rfl)
theorem dX0_twig_5 : decode cX0_twig 5 = .ok (.invokevirtual 496, 3) := dk_182 1 240 (dk_at dksX0_twig_0 5 rfl rfl)
theorem dX0_twig_8 : decode cX0_twig 8 = .ok (.ifCond .eq 26, 3) := dk_153 0 26 (dk_at dksX0_twig_0 8 rfl rfl)
theorem dX0_twig_11 : decode cX0_twig 11 = .ok (.aload_n 0, 1) := dk_42 (dk_at dksX0_twig_0 11 rfl rfl)
theorem dX0_twig_12 : decode cX0_twig 12 = .ok (.getfield 365, 3) := dk_180 1 109 (dk_at dksX0_twig_0 12 rfl rfl)
theorem dX0_twig_15 : decode cX0_twig 15 = .ok (.iload_n 2, 1) := dk_28 (dk_at dksX0_twig_0 15 rfl rfl)
theorem dX0_twig_16 : decode cX0_twig 16 = .ok (.invokevirtual 496, 3) := dk_182 1 240 (dk_at dksX0_twig_0 16 rfl rfl)
theorem dX0_twig_19 : decode cX0_twig 19 = .ok (.ifCond .eq 15, 3) := dk_153 0 15 (dk_at dksX0_twig_0 19 rfl rfl)
theorem dX0_twig_22 : decode cX0_twig 22 = .ok (.aload_n 0, 1) := dk_42 (dk_at dksX0_twig_0 22 rfl rfl)
theorem dX0_twig_23 : decode cX0_twig 23 = .ok (.getfield 365, 3) := dk_180 1 109 (dk_at dksX0_twig_1 0 rfl rfl)
theorem dX0_twig_26 : decode cX0_twig 26 = .ok (.iload_n 1, 1) := dk_27 (dk_at dksX0_twig_1 3 rfl rfl)
theorem dX0_twig_27 : decode cX0_twig 27 = .ok (.iload_n 2, 1) := dk_28 (dk_at dksX0_twig_1 4 rfl rfl)
theorem dX0_twig_28 : decode cX0_twig 28 = .ok (.invokevirtual 516, 3) := dk_182 2 4 (dk_at dksX0_twig_1 5 rfl rfl)
theorem dX0_twig_31 : decode cX0_twig 31 = .ok (.ifCond .ne 5, 3) := dk_154 0 5 (dk_at dksX0_twig_1 8 rfl rfl)
theorem dX0_twig_34 : decode cX0_twig 34 = .ok (.iconst (-1), 1) := dk_2 (dk_at dksX0_twig_1 11 rfl rfl)
theorem dX0_twig_35 : decode cX0_twig 35 = .ok (.ireturn, 1) := dk_172 (dk_at dksX0_twig_1 12 rfl rfl)
theorem dX0_twig_36 : decode cX0_twig 36 = .ok (.aload_n 0, 1) := dk_42 (dk_at dksX0_twig_1 13 rfl rfl)
theorem dX0_twig_37 : decode cX0_twig 37 = .ok (.aload_n 0, 1) := dk_42 (dk_at dksX0_twig_1 14 rfl rfl)
theorem dX0_twig_38 : decode cX0_twig 38 = .ok (.getfield 365, 3) := dk_180 1 109 (dk_at dksX0_twig_1 15 rfl rfl)
theorem dX0_twig_41 : decode cX0_twig 41 = .ok (.iload_n 2, 1) := dk_28 (dk_at dksX0_twig_1 18 rfl rfl)
theorem dX0_twig_42 : decode cX0_twig 42 = .ok (.iload_n 1, 1) := dk_27 (dk_at dksX0_twig_1 19 rfl rfl)
theorem dX0_twig_43 : decode cX0_twig 43 = .ok (.iconst 0, 1) := dk_3 (dk_at dksX0_twig_1 20 rfl rfl)
theorem dX0_twig_44 : decode cX0_twig 44 = .ok (.invokevirtual 21, 3) := dk_182 0 21 (dk_at dksX0_twig_1 21 rfl rfl)
theorem dX0_twig_47 : decode cX0_twig 47 = .ok (.lstore 4, 2) := dk_55 4 (dk_at dksX0_twig_2 0 rfl rfl)
theorem dX0_twig_49 : decode cX0_twig 49 = .ok (.iload_n 3, 1) := dk_29 (dk_at dksX0_twig_2 2 rfl rfl)
theorem dX0_twig_50 : decode cX0_twig 50 = .ok (.tableswitch 53 0 2 #[26, 32, 39], 26) := by decide +kernel
theorem dX0_twig_76 : decode cX0_twig 76 = .ok (.lload 4, 2) := dk_22 4 (dk_at dksX0_twig_4 0 rfl rfl)
theorem dX0_twig_78 : decode cX0_twig 78 = .ok (.invokestatic 25, 3) := dk_184 0 25 (dk_at dksX0_twig_4 2 rfl rfl)
theorem dX0_twig_81 : decode cX0_twig 81 = .ok (.ireturn, 1) := dk_172 (dk_at dksX0_twig_4 5 rfl rfl)
theorem dX0_twig_82 : decode cX0_twig 82 = .ok (.lload 4, 2) := dk_22 4 (dk_at dksX0_twig_4 6 rfl rfl)
theorem dX0_twig_84 : decode cX0_twig 84 = .ok (.invokestatic 33, 3) := dk_184 0 33 (dk_at dksX0_twig_4 8 rfl rfl)
theorem dX0_twig_87 : decode cX0_twig 87 = .ok (.l2i, 1) := dk_136 (dk_at dksX0_twig_4 11 rfl rfl)
theorem dX0_twig_88 : decode cX0_twig 88 = .ok (.ireturn, 1) := dk_172 (dk_at dksX0_twig_4 12 rfl rfl)
theorem dX0_twig_89 : decode cX0_twig 89 = .ok (.aload_n 0, 1) := dk_42 (dk_at dksX0_twig_4 13 rfl rfl)
theorem dX0_twig_90 : decode cX0_twig 90 = .ok (.aload_n 0, 1) := dk_42 (dk_at dksX0_twig_4 14 rfl rfl)
theorem dX0_twig_91 : decode cX0_twig 91 = .ok (.getfield 365, 3) := dk_180 1 109 (dk_at dksX0_twig_4 15 rfl rfl)
theorem dX0_twig_94 : decode cX0_twig 94 = .ok (.iload_n 2, 1) := dk_28 (dk_at dksX0_twig_4 18 rfl rfl)
theorem dX0_twig_95 : decode cX0_twig 95 = .ok (.iload_n 1, 1) := dk_27 (dk_at dksX0_twig_4 19 rfl rfl)
theorem dX0_twig_96 : decode cX0_twig 96 = .ok (.invokevirtual 308, 3) := dk_182 1 52 (dk_at dksX0_twig_4 20 rfl rfl)
theorem dX0_twig_99 : decode cX0_twig 99 = .ok (.invokevirtual 251, 3) := dk_182 0 251 (dk_at dksX0_twig_5 0 rfl rfl)
theorem dX0_twig_102 : decode cX0_twig 102 = .ok (.ireturn, 1) := dk_172 (dk_at dksX0_twig_5 3 rfl rfl)
theorem dX0_twig_103 : decode cX0_twig 103 = .ok (.iload_n 3, 1) := dk_29 (dk_at dksX0_twig_5 4 rfl rfl)
theorem dX0_twig_104 : decode cX0_twig 104 = .ok (.bipush 10, 2) := dk_16 10 (dk_at dksX0_twig_5 5 rfl rfl)
theorem dX0_twig_106 : decode cX0_twig 106 = .ok (.if_icmp .ge 7, 3) := dk_162 0 7 (dk_at dksX0_twig_5 7 rfl rfl)
theorem dX0_twig_109 : decode cX0_twig 109 = .ok (.iconst (-1), 1) := dk_2 (dk_at dksX0_twig_5 10 rfl rfl)
theorem dX0_twig_110 : decode cX0_twig 110 = .ok (.goto 20, 3) := dk_167 0 20 (dk_at dksX0_twig_5 11 rfl rfl)
theorem dX0_twig_113 : decode cX0_twig 113 = .ok (.aload_n 0, 1) := dk_42 (dk_at dksX0_twig_5 14 rfl rfl)
theorem dX0_twig_114 : decode cX0_twig 114 = .ok (.aload_n 0, 1) := dk_42 (dk_at dksX0_twig_5 15 rfl rfl)
theorem dX0_twig_115 : decode cX0_twig 115 = .ok (.getfield 365, 3) := dk_180 1 109 (dk_at dksX0_twig_5 16 rfl rfl)
theorem dX0_twig_118 : decode cX0_twig 118 = .ok (.iload_n 2, 1) := dk_28 (dk_at dksX0_twig_5 19 rfl rfl)
theorem dX0_twig_119 : decode cX0_twig 119 = .ok (.iload_n 1, 1) := dk_27 (dk_at dksX0_twig_5 20 rfl rfl)
theorem dX0_twig_120 : decode cX0_twig 120 = .ok (.invokevirtual 308, 3) := dk_182 1 52 (dk_at dksX0_twig_5 21 rfl rfl)
theorem dX0_twig_123 : decode cX0_twig 123 = .ok (.iload_n 3, 1) := dk_29 (dk_at dksX0_twig_6 0 rfl rfl)
theorem dX0_twig_124 : decode cX0_twig 124 = .ok (.bipush 10, 2) := dk_16 10 (dk_at dksX0_twig_6 1 rfl rfl)
theorem dX0_twig_126 : decode cX0_twig 126 = .ok (.isub, 1) := dk_100 (dk_at dksX0_twig_6 3 rfl rfl)
theorem dX0_twig_127 : decode cX0_twig 127 = .ok (.invokestatic 519, 3) := dk_184 2 7 (dk_at dksX0_twig_6 4 rfl rfl)
theorem dX0_twig_130 : decode cX0_twig 130 = .ok (.ireturn, 1) := dk_172 (dk_at dksX0_twig_6 7 rfl rfl)
abbrev cX0_nameOf : ByteArray := prog_1_method_48_code
def yX0_nameOf : MethodName := ⟨RX0, "nameOf", "(LBranchNames$Tree;II)Ljava/lang/String;"⟩
def dkwX0_nameOf_2 : List UInt8 := [50, 182, 1, 94, 43, 180, 1, 98, 28, 50, 29, 50, 176]
abbrev dktX0_nameOf_2 : List UInt8 := dkwX0_nameOf_2 ++ []
def dkwX0_nameOf_1 : List UInt8 := [156, 0, 16, 42, 43, 28, 29, 182, 0, 247, 180, 0, 195, 167, 0, 12, 42, 180, 1, 91, 21, 4, 4, 100]
abbrev dktX0_nameOf_1 : List UInt8 := dkwX0_nameOf_1 ++ dktX0_nameOf_2
def dkwX0_nameOf_0 : List UInt8 := [43, 28, 29, 182, 1, 84, 154, 0, 44, 43, 28, 29, 182, 1, 88, 54, 4, 43, 28, 29, 21, 4]
abbrev dktX0_nameOf_0 : List UInt8 := dkwX0_nameOf_0 ++ dktX0_nameOf_1
theorem dksX0_nameOf_0 : cX0_nameOf.data.toList.drop 0 = dktX0_nameOf_0 := by decide +kernel
theorem dksX0_nameOf_1 : cX0_nameOf.data.toList.drop 22 = dktX0_nameOf_1 := dk_seg dksX0_nameOf_0 22 rfl rfl
theorem dksX0_nameOf_2 : cX0_nameOf.data.toList.drop 46 = dktX0_nameOf_2 := dk_seg dksX0_nameOf_1 24 rfl rfl
theorem dX0_nameOf_0 : decode cX0_nameOf 0 = .ok (.aload_n 1, 1) := dk_43 (dk_at dksX0_nameOf_0 0 rfl rfl)
theorem dX0_nameOf_1 : decode cX0_nameOf 1 = .ok (.iload_n 2, 1) := dk_28 (dk_at dksX0_nameOf_0 1 rfl rfl)
theorem dX0_nameOf_2 : decode cX0_nameOf 2 = .ok (.iload_n 3, 1) := dk_29 (dk_at dksX0_nameOf_0 2 rfl rfl)
theorem dX0_nameOf_3 : decode cX0_nameOf 3 = .ok (.invokevirtual 340, 3) := dk_182 1 84 (dk_at dksX0_nameOf_0 3 rfl rfl)
theorem dX0_nameOf_6 : decode cX0_nameOf 6 = .ok (.ifCond .ne 44, 3) := dk_154 0 44 (dk_at dksX0_nameOf_0 6 rfl rfl)
theorem dX0_nameOf_9 : decode cX0_nameOf 9 = .ok (.aload_n 1, 1) := dk_43 (dk_at dksX0_nameOf_0 9 rfl rfl)
theorem dX0_nameOf_10 : decode cX0_nameOf 10 = .ok (.iload_n 2, 1) := dk_28 (dk_at dksX0_nameOf_0 10 rfl rfl)
theorem dX0_nameOf_11 : decode cX0_nameOf 11 = .ok (.iload_n 3, 1) := dk_29 (dk_at dksX0_nameOf_0 11 rfl rfl)
theorem dX0_nameOf_12 : decode cX0_nameOf 12 = .ok (.invokevirtual 344, 3) := dk_182 1 88 (dk_at dksX0_nameOf_0 12 rfl rfl)
theorem dX0_nameOf_15 : decode cX0_nameOf 15 = .ok (.istore 4, 2) := dk_54 4 (dk_at dksX0_nameOf_0 15 rfl rfl)
theorem dX0_nameOf_17 : decode cX0_nameOf 17 = .ok (.aload_n 1, 1) := dk_43 (dk_at dksX0_nameOf_0 17 rfl rfl)
theorem dX0_nameOf_18 : decode cX0_nameOf 18 = .ok (.iload_n 2, 1) := dk_28 (dk_at dksX0_nameOf_0 18 rfl rfl)
theorem dX0_nameOf_19 : decode cX0_nameOf 19 = .ok (.iload_n 3, 1) := dk_29 (dk_at dksX0_nameOf_0 19 rfl rfl)
theorem dX0_nameOf_20 : decode cX0_nameOf 20 = .ok (.iload 4, 2) := dk_21 4 (dk_at dksX0_nameOf_0 20 rfl rfl)
theorem dX0_nameOf_22 : decode cX0_nameOf 22 = .ok (.ifCond .ge 16, 3) := dk_156 0 16 (dk_at dksX0_nameOf_1 0 rfl rfl)
theorem dX0_nameOf_25 : decode cX0_nameOf 25 = .ok (.aload_n 0, 1) := dk_42 (dk_at dksX0_nameOf_1 3 rfl rfl)
theorem dX0_nameOf_26 : decode cX0_nameOf 26 = .ok (.aload_n 1, 1) := dk_43 (dk_at dksX0_nameOf_1 4 rfl rfl)
theorem dX0_nameOf_27 : decode cX0_nameOf 27 = .ok (.iload_n 2, 1) := dk_28 (dk_at dksX0_nameOf_1 5 rfl rfl)
theorem dX0_nameOf_28 : decode cX0_nameOf 28 = .ok (.iload_n 3, 1) := dk_29 (dk_at dksX0_nameOf_1 6 rfl rfl)
theorem dX0_nameOf_29 : decode cX0_nameOf 29 = .ok (.invokevirtual 247, 3) := dk_182 0 247 (dk_at dksX0_nameOf_1 7 rfl rfl)
theorem dX0_nameOf_32 : decode cX0_nameOf 32 = .ok (.getfield 195, 3) := dk_180 0 195 (dk_at dksX0_nameOf_1 10 rfl rfl)
theorem dX0_nameOf_35 : decode cX0_nameOf 35 = .ok (.goto 12, 3) := dk_167 0 12 (dk_at dksX0_nameOf_1 13 rfl rfl)
theorem dX0_nameOf_38 : decode cX0_nameOf 38 = .ok (.aload_n 0, 1) := dk_42 (dk_at dksX0_nameOf_1 16 rfl rfl)
theorem dX0_nameOf_39 : decode cX0_nameOf 39 = .ok (.getfield 347, 3) := dk_180 1 91 (dk_at dksX0_nameOf_1 17 rfl rfl)
theorem dX0_nameOf_42 : decode cX0_nameOf 42 = .ok (.iload 4, 2) := dk_21 4 (dk_at dksX0_nameOf_1 20 rfl rfl)
theorem dX0_nameOf_44 : decode cX0_nameOf 44 = .ok (.iconst 1, 1) := dk_4 (dk_at dksX0_nameOf_1 22 rfl rfl)
theorem dX0_nameOf_45 : decode cX0_nameOf 45 = .ok (.isub, 1) := dk_100 (dk_at dksX0_nameOf_1 23 rfl rfl)
theorem dX0_nameOf_46 : decode cX0_nameOf 46 = .ok (.aaload, 1) := dk_50 (dk_at dksX0_nameOf_2 0 rfl rfl)
theorem dX0_nameOf_47 : decode cX0_nameOf 47 = .ok (.invokevirtual 350, 3) := dk_182 1 94 (dk_at dksX0_nameOf_2 1 rfl rfl)
theorem dX0_nameOf_50 : decode cX0_nameOf 50 = .ok (.aload_n 1, 1) := dk_43 (dk_at dksX0_nameOf_2 4 rfl rfl)
theorem dX0_nameOf_51 : decode cX0_nameOf 51 = .ok (.getfield 354, 3) := dk_180 1 98 (dk_at dksX0_nameOf_2 5 rfl rfl)
theorem dX0_nameOf_54 : decode cX0_nameOf 54 = .ok (.iload_n 2, 1) := dk_28 (dk_at dksX0_nameOf_2 8 rfl rfl)
theorem dX0_nameOf_55 : decode cX0_nameOf 55 = .ok (.aaload, 1) := dk_50 (dk_at dksX0_nameOf_2 9 rfl rfl)
theorem dX0_nameOf_56 : decode cX0_nameOf 56 = .ok (.iload_n 3, 1) := dk_29 (dk_at dksX0_nameOf_2 10 rfl rfl)
theorem dX0_nameOf_57 : decode cX0_nameOf 57 = .ok (.aaload, 1) := dk_50 (dk_at dksX0_nameOf_2 11 rfl rfl)
theorem dX0_nameOf_58 : decode cX0_nameOf 58 = .ok (.areturn, 1) := dk_176 (dk_at dksX0_nameOf_2 12 rfl rfl)
abbrev cX0_chainOf : ByteArray := prog_1_method_39_code
def yX0_chainOf : MethodName := ⟨RX0, "chainOf", "(LBranchNames$Tree;II)LBranchNames$Way;"⟩
def dkwX0_chainOf_3 : List UInt8 := [25, 5, 42, 43, 29, 25, 5, 182, 0, 199, 181, 0, 195, 25, 5, 176]
abbrev dktX0_chainOf_3 : List UInt8 := dkwX0_chainOf_3 ++ []
def dkwX0_chainOf_2 : List UInt8 := [28, 29, 25, 4, 182, 0, 233, 25, 4, 185, 0, 237, 1, 0, 58, 5, 25, 5, 180, 0, 195, 199, 0, 16]
abbrev dktX0_chainOf_2 : List UInt8 := dkwX0_chainOf_2 ++ dktX0_chainOf_3
def dkwX0_chainOf_1 : List UInt8 := [186, 0, 223, 0, 0, 83, 89, 6, 42, 43, 29, 186, 0, 226, 0, 0, 83, 184, 0, 229, 58, 4, 42, 43]
abbrev dktX0_chainOf_1 : List UInt8 := dkwX0_chainOf_1 ++ dktX0_chainOf_2
def dkwX0_chainOf_0 : List UInt8 := [7, 189, 0, 216, 89, 3, 186, 0, 218, 0, 0, 83, 89, 4, 186, 0, 222, 0, 0, 83, 89, 5, 43, 29]
abbrev dktX0_chainOf_0 : List UInt8 := dkwX0_chainOf_0 ++ dktX0_chainOf_1
theorem dksX0_chainOf_0 : cX0_chainOf.data.toList.drop 0 = dktX0_chainOf_0 := by decide +kernel
theorem dksX0_chainOf_1 : cX0_chainOf.data.toList.drop 24 = dktX0_chainOf_1 := dk_seg dksX0_chainOf_0 24 rfl rfl
theorem dksX0_chainOf_2 : cX0_chainOf.data.toList.drop 48 = dktX0_chainOf_2 := dk_seg dksX0_chainOf_1 24 rfl rfl
theorem dksX0_chainOf_3 : cX0_chainOf.data.toList.drop 72 = dktX0_chainOf_3 := dk_seg dksX0_chainOf_2 24 rfl rfl
theorem dX0_chainOf_0 : decode cX0_chainOf 0 = .ok (.iconst 4, 1) := dk_7 (dk_at dksX0_chainOf_0 0 rfl rfl)
theorem dX0_chainOf_1 : decode cX0_chainOf 1 = .ok (.anewarray 216, 3) := dk_189 0 216 (dk_at dksX0_chainOf_0 1 rfl rfl)
theorem dX0_chainOf_4 : decode cX0_chainOf 4 = .ok (.dup, 1) := dk_89 (dk_at dksX0_chainOf_0 4 rfl rfl)
theorem dX0_chainOf_5 : decode cX0_chainOf 5 = .ok (.iconst 0, 1) := dk_3 (dk_at dksX0_chainOf_0 5 rfl rfl)
theorem dX0_chainOf_6 : decode cX0_chainOf 6 = .ok (.invokedynamic 218, 5) := by decide +kernel
theorem dX0_chainOf_11 : decode cX0_chainOf 11 = .ok (.aastore, 1) := dk_83 (dk_at dksX0_chainOf_0 11 rfl rfl)
theorem dX0_chainOf_12 : decode cX0_chainOf 12 = .ok (.dup, 1) := dk_89 (dk_at dksX0_chainOf_0 12 rfl rfl)
theorem dX0_chainOf_13 : decode cX0_chainOf 13 = .ok (.iconst 1, 1) := dk_4 (dk_at dksX0_chainOf_0 13 rfl rfl)
theorem dX0_chainOf_14 : decode cX0_chainOf 14 = .ok (.invokedynamic 222, 5) := by decide +kernel
theorem dX0_chainOf_19 : decode cX0_chainOf 19 = .ok (.aastore, 1) := dk_83 (dk_at dksX0_chainOf_0 19 rfl rfl)
theorem dX0_chainOf_20 : decode cX0_chainOf 20 = .ok (.dup, 1) := dk_89 (dk_at dksX0_chainOf_0 20 rfl rfl)
theorem dX0_chainOf_21 : decode cX0_chainOf 21 = .ok (.iconst 2, 1) := dk_5 (dk_at dksX0_chainOf_0 21 rfl rfl)
theorem dX0_chainOf_22 : decode cX0_chainOf 22 = .ok (.aload_n 1, 1) := dk_43 (dk_at dksX0_chainOf_0 22 rfl rfl)
theorem dX0_chainOf_23 : decode cX0_chainOf 23 = .ok (.iload_n 3, 1) := dk_29 (dk_at dksX0_chainOf_0 23 rfl rfl)
theorem dX0_chainOf_24 : decode cX0_chainOf 24 = .ok (.invokedynamic 223, 5) := by decide +kernel
theorem dX0_chainOf_29 : decode cX0_chainOf 29 = .ok (.aastore, 1) := dk_83 (dk_at dksX0_chainOf_1 5 rfl rfl)
theorem dX0_chainOf_30 : decode cX0_chainOf 30 = .ok (.dup, 1) := dk_89 (dk_at dksX0_chainOf_1 6 rfl rfl)
theorem dX0_chainOf_31 : decode cX0_chainOf 31 = .ok (.iconst 3, 1) := dk_6 (dk_at dksX0_chainOf_1 7 rfl rfl)
theorem dX0_chainOf_32 : decode cX0_chainOf 32 = .ok (.aload_n 0, 1) := dk_42 (dk_at dksX0_chainOf_1 8 rfl rfl)
theorem dX0_chainOf_33 : decode cX0_chainOf 33 = .ok (.aload_n 1, 1) := dk_43 (dk_at dksX0_chainOf_1 9 rfl rfl)
theorem dX0_chainOf_34 : decode cX0_chainOf 34 = .ok (.iload_n 3, 1) := dk_29 (dk_at dksX0_chainOf_1 10 rfl rfl)
theorem dX0_chainOf_35 : decode cX0_chainOf 35 = .ok (.invokedynamic 226, 5) := by decide +kernel
theorem dX0_chainOf_40 : decode cX0_chainOf 40 = .ok (.aastore, 1) := dk_83 (dk_at dksX0_chainOf_1 16 rfl rfl)
theorem dX0_chainOf_41 : decode cX0_chainOf 41 = .ok (.invokestatic 229, 3) := dk_184 0 229 (dk_at dksX0_chainOf_1 17 rfl rfl)
theorem dX0_chainOf_44 : decode cX0_chainOf 44 = .ok (.astore 4, 2) := dk_58 4 (dk_at dksX0_chainOf_1 20 rfl rfl)
theorem dX0_chainOf_46 : decode cX0_chainOf 46 = .ok (.aload_n 0, 1) := dk_42 (dk_at dksX0_chainOf_1 22 rfl rfl)
theorem dX0_chainOf_47 : decode cX0_chainOf 47 = .ok (.aload_n 1, 1) := dk_43 (dk_at dksX0_chainOf_1 23 rfl rfl)
theorem dX0_chainOf_48 : decode cX0_chainOf 48 = .ok (.iload_n 2, 1) := dk_28 (dk_at dksX0_chainOf_2 0 rfl rfl)
theorem dX0_chainOf_49 : decode cX0_chainOf 49 = .ok (.iload_n 3, 1) := dk_29 (dk_at dksX0_chainOf_2 1 rfl rfl)
theorem dX0_chainOf_50 : decode cX0_chainOf 50 = .ok (.aload 4, 2) := dk_25 4 (dk_at dksX0_chainOf_2 2 rfl rfl)
theorem dX0_chainOf_52 : decode cX0_chainOf 52 = .ok (.invokevirtual 233, 3) := dk_182 0 233 (dk_at dksX0_chainOf_2 4 rfl rfl)
theorem dX0_chainOf_55 : decode cX0_chainOf 55 = .ok (.aload 4, 2) := dk_25 4 (dk_at dksX0_chainOf_2 7 rfl rfl)
theorem dX0_chainOf_57 : decode cX0_chainOf 57 = .ok (.invokeinterface 237 1, 5) := by decide +kernel
theorem dX0_chainOf_62 : decode cX0_chainOf 62 = .ok (.astore 5, 2) := dk_58 5 (dk_at dksX0_chainOf_2 14 rfl rfl)
theorem dX0_chainOf_64 : decode cX0_chainOf 64 = .ok (.aload 5, 2) := dk_25 5 (dk_at dksX0_chainOf_2 16 rfl rfl)
theorem dX0_chainOf_66 : decode cX0_chainOf 66 = .ok (.getfield 195, 3) := dk_180 0 195 (dk_at dksX0_chainOf_2 18 rfl rfl)
theorem dX0_chainOf_69 : decode cX0_chainOf 69 = .ok (.ifnonnull 16, 3) := dk_199 0 16 (dk_at dksX0_chainOf_2 21 rfl rfl)
theorem dX0_chainOf_72 : decode cX0_chainOf 72 = .ok (.aload 5, 2) := dk_25 5 (dk_at dksX0_chainOf_3 0 rfl rfl)
theorem dX0_chainOf_74 : decode cX0_chainOf 74 = .ok (.aload_n 0, 1) := dk_42 (dk_at dksX0_chainOf_3 2 rfl rfl)
theorem dX0_chainOf_75 : decode cX0_chainOf 75 = .ok (.aload_n 1, 1) := dk_43 (dk_at dksX0_chainOf_3 3 rfl rfl)
theorem dX0_chainOf_76 : decode cX0_chainOf 76 = .ok (.iload_n 3, 1) := dk_29 (dk_at dksX0_chainOf_3 4 rfl rfl)
theorem dX0_chainOf_77 : decode cX0_chainOf 77 = .ok (.aload 5, 2) := dk_25 5 (dk_at dksX0_chainOf_3 5 rfl rfl)
theorem dX0_chainOf_79 : decode cX0_chainOf 79 = .ok (.invokevirtual 199, 3) := dk_182 0 199 (dk_at dksX0_chainOf_3 7 rfl rfl)
theorem dX0_chainOf_82 : decode cX0_chainOf 82 = .ok (.putfield 195, 3) := dk_181 0 195 (dk_at dksX0_chainOf_3 10 rfl rfl)
theorem dX0_chainOf_85 : decode cX0_chainOf 85 = .ok (.aload 5, 2) := dk_25 5 (dk_at dksX0_chainOf_3 13 rfl rfl)
theorem dX0_chainOf_87 : decode cX0_chainOf 87 = .ok (.areturn, 1) := dk_176 (dk_at dksX0_chainOf_3 15 rfl rfl)
abbrev cX0_lambda_chainOf_0 : ByteArray := prog_1_method_107_code
def yX0_lambda_chainOf_0 : MethodName := ⟨RX0, "lambda$chainOf$0", "(LBranchNames$Tree;ILBranchNames$Way;LBranchNames$Way;)I"⟩
def dkwX0_lambda_chainOf_0_0 : List UInt8 := [42, 27, 44, 45, 184, 2, 187, 172]
abbrev dktX0_lambda_chainOf_0_0 : List UInt8 := dkwX0_lambda_chainOf_0_0 ++ []
theorem dksX0_lambda_chainOf_0_0 : cX0_lambda_chainOf_0.data.toList.drop 0 = dktX0_lambda_chainOf_0_0 := by decide +kernel
theorem dX0_lambda_chainOf_0_0 : decode cX0_lambda_chainOf_0 0 = .ok (.aload_n 0, 1) := dk_42 (dk_at dksX0_lambda_chainOf_0_0 0 rfl rfl)
theorem dX0_lambda_chainOf_0_1 : decode cX0_lambda_chainOf_0 1 = .ok (.iload_n 1, 1) := dk_27 (dk_at dksX0_lambda_chainOf_0_0 1 rfl rfl)
theorem dX0_lambda_chainOf_0_2 : decode cX0_lambda_chainOf_0 2 = .ok (.aload_n 2, 1) := dk_44 (dk_at dksX0_lambda_chainOf_0_0 2 rfl rfl)
theorem dX0_lambda_chainOf_0_3 : decode cX0_lambda_chainOf_0 3 = .ok (.aload_n 3, 1) := dk_45 (dk_at dksX0_lambda_chainOf_0_0 3 rfl rfl)
theorem dX0_lambda_chainOf_0_4 : decode cX0_lambda_chainOf_0 4 = .ok (.invokestatic 699, 3) := dk_184 2 187 (dk_at dksX0_lambda_chainOf_0_0 4 rfl rfl)
theorem dX0_lambda_chainOf_0_7 : decode cX0_lambda_chainOf_0 7 = .ok (.ireturn, 1) := dk_172 (dk_at dksX0_lambda_chainOf_0_0 7 rfl rfl)
abbrev cX0_prefersLess : ByteArray := prog_1_method_36_code
def yX0_prefersLess : MethodName := ⟨RX0, "prefersLess", "(LBranchNames$Tree;ILBranchNames$Way;LBranchNames$Way;)I"⟩
def dkwX0_prefersLess_1 : List UInt8 := [21, 4, 184, 0, 191, 100, 54, 5, 21, 5, 153, 0, 6, 21, 5, 172, 132, 4, 1, 167, 255, 217, 3, 172]
abbrev dktX0_prefersLess_1 : List UInt8 := dkwX0_prefersLess_1 ++ []
def dkwX0_prefersLess_0 : List UInt8 := [3, 54, 4, 21, 4, 44, 180, 0, 177, 162, 0, 36, 42, 27, 44, 21, 4, 184, 0, 191, 42, 27, 45]
abbrev dktX0_prefersLess_0 : List UInt8 := dkwX0_prefersLess_0 ++ dktX0_prefersLess_1
theorem dksX0_prefersLess_0 : cX0_prefersLess.data.toList.drop 0 = dktX0_prefersLess_0 := by decide +kernel
theorem dksX0_prefersLess_1 : cX0_prefersLess.data.toList.drop 23 = dktX0_prefersLess_1 := dk_seg dksX0_prefersLess_0 23 rfl rfl
theorem dX0_prefersLess_0 : decode cX0_prefersLess 0 = .ok (.iconst 0, 1) := dk_3 (dk_at dksX0_prefersLess_0 0 rfl rfl)
theorem dX0_prefersLess_1 : decode cX0_prefersLess 1 = .ok (.istore 4, 2) := dk_54 4 (dk_at dksX0_prefersLess_0 1 rfl rfl)
theorem dX0_prefersLess_3 : decode cX0_prefersLess 3 = .ok (.iload 4, 2) := dk_21 4 (dk_at dksX0_prefersLess_0 3 rfl rfl)
theorem dX0_prefersLess_5 : decode cX0_prefersLess 5 = .ok (.aload_n 2, 1) := dk_44 (dk_at dksX0_prefersLess_0 5 rfl rfl)
theorem dX0_prefersLess_6 : decode cX0_prefersLess 6 = .ok (.getfield 177, 3) := dk_180 0 177 (dk_at dksX0_prefersLess_0 6 rfl rfl)
theorem dX0_prefersLess_9 : decode cX0_prefersLess 9 = .ok (.if_icmp .ge 36, 3) := dk_162 0 36 (dk_at dksX0_prefersLess_0 9 rfl rfl)
theorem dX0_prefersLess_12 : decode cX0_prefersLess 12 = .ok (.aload_n 0, 1) := dk_42 (dk_at dksX0_prefersLess_0 12 rfl rfl)
theorem dX0_prefersLess_13 : decode cX0_prefersLess 13 = .ok (.iload_n 1, 1) := dk_27 (dk_at dksX0_prefersLess_0 13 rfl rfl)
theorem dX0_prefersLess_14 : decode cX0_prefersLess 14 = .ok (.aload_n 2, 1) := dk_44 (dk_at dksX0_prefersLess_0 14 rfl rfl)
theorem dX0_prefersLess_15 : decode cX0_prefersLess 15 = .ok (.iload 4, 2) := dk_21 4 (dk_at dksX0_prefersLess_0 15 rfl rfl)
theorem dX0_prefersLess_17 : decode cX0_prefersLess 17 = .ok (.invokestatic 191, 3) := dk_184 0 191 (dk_at dksX0_prefersLess_0 17 rfl rfl)
theorem dX0_prefersLess_20 : decode cX0_prefersLess 20 = .ok (.aload_n 0, 1) := dk_42 (dk_at dksX0_prefersLess_0 20 rfl rfl)
theorem dX0_prefersLess_21 : decode cX0_prefersLess 21 = .ok (.iload_n 1, 1) := dk_27 (dk_at dksX0_prefersLess_0 21 rfl rfl)
theorem dX0_prefersLess_22 : decode cX0_prefersLess 22 = .ok (.aload_n 3, 1) := dk_45 (dk_at dksX0_prefersLess_0 22 rfl rfl)
theorem dX0_prefersLess_23 : decode cX0_prefersLess 23 = .ok (.iload 4, 2) := dk_21 4 (dk_at dksX0_prefersLess_1 0 rfl rfl)
theorem dX0_prefersLess_25 : decode cX0_prefersLess 25 = .ok (.invokestatic 191, 3) := dk_184 0 191 (dk_at dksX0_prefersLess_1 2 rfl rfl)
theorem dX0_prefersLess_28 : decode cX0_prefersLess 28 = .ok (.isub, 1) := dk_100 (dk_at dksX0_prefersLess_1 5 rfl rfl)
theorem dX0_prefersLess_29 : decode cX0_prefersLess 29 = .ok (.istore 5, 2) := dk_54 5 (dk_at dksX0_prefersLess_1 6 rfl rfl)
theorem dX0_prefersLess_31 : decode cX0_prefersLess 31 = .ok (.iload 5, 2) := dk_21 5 (dk_at dksX0_prefersLess_1 8 rfl rfl)
theorem dX0_prefersLess_33 : decode cX0_prefersLess 33 = .ok (.ifCond .eq 6, 3) := dk_153 0 6 (dk_at dksX0_prefersLess_1 10 rfl rfl)
theorem dX0_prefersLess_36 : decode cX0_prefersLess 36 = .ok (.iload 5, 2) := dk_21 5 (dk_at dksX0_prefersLess_1 13 rfl rfl)
theorem dX0_prefersLess_38 : decode cX0_prefersLess 38 = .ok (.ireturn, 1) := dk_172 (dk_at dksX0_prefersLess_1 15 rfl rfl)
theorem dX0_prefersLess_39 : decode cX0_prefersLess 39 = .ok (.iinc 4 1, 3) := dk_132 4 1 (dk_at dksX0_prefersLess_1 16 rfl rfl)
theorem dX0_prefersLess_42 : decode cX0_prefersLess 42 = .ok (.goto (-39), 3) := dk_167 255 217 (dk_at dksX0_prefersLess_1 19 rfl rfl)
theorem dX0_prefersLess_45 : decode cX0_prefersLess 45 = .ok (.iconst 0, 1) := dk_3 (dk_at dksX0_prefersLess_1 22 rfl rfl)
theorem dX0_prefersLess_46 : decode cX0_prefersLess 46 = .ok (.ireturn, 1) := dk_172 (dk_at dksX0_prefersLess_1 23 rfl rfl)
abbrev cX0_hangsAt : ByteArray := prog_1_method_35_code
def yX0_hangsAt : MethodName := ⟨RX0, "hangsAt", "(LBranchNames$Tree;ILBranchNames$Way;I)I"⟩
def dkwX0_hangsAt_3 : List UInt8 := [172]
abbrev dktX0_hangsAt_3 : List UInt8 := dkwX0_hangsAt_3 ++ []
def dkwX0_hangsAt_2 : List UInt8 := [21, 6, 182, 0, 188, 154, 0, 7, 4, 167, 0, 4, 3, 96, 54, 4, 132, 5, 1, 167, 255, 196, 21, 4]
abbrev dktX0_hangsAt_2 : List UInt8 := dkwX0_hangsAt_2 ++ dktX0_hangsAt_3
def dkwX0_hangsAt_1 : List UInt8 := [180, 0, 17, 44, 180, 0, 185, 29, 46, 50, 21, 5, 46, 54, 6, 21, 4, 21, 6, 27, 159, 0, 16, 44]
abbrev dktX0_hangsAt_1 : List UInt8 := dkwX0_hangsAt_1 ++ dktX0_hangsAt_2
def dkwX0_hangsAt_0 : List UInt8 := [3, 54, 4, 3, 54, 5, 21, 5, 42, 180, 0, 11, 44, 180, 0, 185, 29, 46, 46, 162, 0, 50, 42]
abbrev dktX0_hangsAt_0 : List UInt8 := dkwX0_hangsAt_0 ++ dktX0_hangsAt_1
theorem dksX0_hangsAt_0 : cX0_hangsAt.data.toList.drop 0 = dktX0_hangsAt_0 := by decide +kernel
theorem dksX0_hangsAt_1 : cX0_hangsAt.data.toList.drop 23 = dktX0_hangsAt_1 := dk_seg dksX0_hangsAt_0 23 rfl rfl
theorem dksX0_hangsAt_2 : cX0_hangsAt.data.toList.drop 47 = dktX0_hangsAt_2 := dk_seg dksX0_hangsAt_1 24 rfl rfl
theorem dksX0_hangsAt_3 : cX0_hangsAt.data.toList.drop 71 = dktX0_hangsAt_3 := dk_seg dksX0_hangsAt_2 24 rfl rfl
theorem dX0_hangsAt_0 : decode cX0_hangsAt 0 = .ok (.iconst 0, 1) := dk_3 (dk_at dksX0_hangsAt_0 0 rfl rfl)
theorem dX0_hangsAt_1 : decode cX0_hangsAt 1 = .ok (.istore 4, 2) := dk_54 4 (dk_at dksX0_hangsAt_0 1 rfl rfl)
theorem dX0_hangsAt_3 : decode cX0_hangsAt 3 = .ok (.iconst 0, 1) := dk_3 (dk_at dksX0_hangsAt_0 3 rfl rfl)
theorem dX0_hangsAt_4 : decode cX0_hangsAt 4 = .ok (.istore 5, 2) := dk_54 5 (dk_at dksX0_hangsAt_0 4 rfl rfl)
theorem dX0_hangsAt_6 : decode cX0_hangsAt 6 = .ok (.iload 5, 2) := dk_21 5 (dk_at dksX0_hangsAt_0 6 rfl rfl)
theorem dX0_hangsAt_8 : decode cX0_hangsAt 8 = .ok (.aload_n 0, 1) := dk_42 (dk_at dksX0_hangsAt_0 8 rfl rfl)
theorem dX0_hangsAt_9 : decode cX0_hangsAt 9 = .ok (.getfield 11, 3) := dk_180 0 11 (dk_at dksX0_hangsAt_0 9 rfl rfl)
theorem dX0_hangsAt_12 : decode cX0_hangsAt 12 = .ok (.aload_n 2, 1) := dk_44 (dk_at dksX0_hangsAt_0 12 rfl rfl)
theorem dX0_hangsAt_13 : decode cX0_hangsAt 13 = .ok (.getfield 185, 3) := dk_180 0 185 (dk_at dksX0_hangsAt_0 13 rfl rfl)
theorem dX0_hangsAt_16 : decode cX0_hangsAt 16 = .ok (.iload_n 3, 1) := dk_29 (dk_at dksX0_hangsAt_0 16 rfl rfl)
theorem dX0_hangsAt_17 : decode cX0_hangsAt 17 = .ok (.iaload, 1) := dk_46 (dk_at dksX0_hangsAt_0 17 rfl rfl)
theorem dX0_hangsAt_18 : decode cX0_hangsAt 18 = .ok (.iaload, 1) := dk_46 (dk_at dksX0_hangsAt_0 18 rfl rfl)
theorem dX0_hangsAt_19 : decode cX0_hangsAt 19 = .ok (.if_icmp .ge 50, 3) := dk_162 0 50 (dk_at dksX0_hangsAt_0 19 rfl rfl)
theorem dX0_hangsAt_22 : decode cX0_hangsAt 22 = .ok (.aload_n 0, 1) := dk_42 (dk_at dksX0_hangsAt_0 22 rfl rfl)
theorem dX0_hangsAt_23 : decode cX0_hangsAt 23 = .ok (.getfield 17, 3) := dk_180 0 17 (dk_at dksX0_hangsAt_1 0 rfl rfl)
theorem dX0_hangsAt_26 : decode cX0_hangsAt 26 = .ok (.aload_n 2, 1) := dk_44 (dk_at dksX0_hangsAt_1 3 rfl rfl)
theorem dX0_hangsAt_27 : decode cX0_hangsAt 27 = .ok (.getfield 185, 3) := dk_180 0 185 (dk_at dksX0_hangsAt_1 4 rfl rfl)
theorem dX0_hangsAt_30 : decode cX0_hangsAt 30 = .ok (.iload_n 3, 1) := dk_29 (dk_at dksX0_hangsAt_1 7 rfl rfl)
theorem dX0_hangsAt_31 : decode cX0_hangsAt 31 = .ok (.iaload, 1) := dk_46 (dk_at dksX0_hangsAt_1 8 rfl rfl)
theorem dX0_hangsAt_32 : decode cX0_hangsAt 32 = .ok (.aaload, 1) := dk_50 (dk_at dksX0_hangsAt_1 9 rfl rfl)
theorem dX0_hangsAt_33 : decode cX0_hangsAt 33 = .ok (.iload 5, 2) := dk_21 5 (dk_at dksX0_hangsAt_1 10 rfl rfl)
theorem dX0_hangsAt_35 : decode cX0_hangsAt 35 = .ok (.iaload, 1) := dk_46 (dk_at dksX0_hangsAt_1 12 rfl rfl)
theorem dX0_hangsAt_36 : decode cX0_hangsAt 36 = .ok (.istore 6, 2) := dk_54 6 (dk_at dksX0_hangsAt_1 13 rfl rfl)
theorem dX0_hangsAt_38 : decode cX0_hangsAt 38 = .ok (.iload 4, 2) := dk_21 4 (dk_at dksX0_hangsAt_1 15 rfl rfl)
theorem dX0_hangsAt_40 : decode cX0_hangsAt 40 = .ok (.iload 6, 2) := dk_21 6 (dk_at dksX0_hangsAt_1 17 rfl rfl)
theorem dX0_hangsAt_42 : decode cX0_hangsAt 42 = .ok (.iload_n 1, 1) := dk_27 (dk_at dksX0_hangsAt_1 19 rfl rfl)
theorem dX0_hangsAt_43 : decode cX0_hangsAt 43 = .ok (.if_icmp .eq 16, 3) := dk_159 0 16 (dk_at dksX0_hangsAt_1 20 rfl rfl)
theorem dX0_hangsAt_46 : decode cX0_hangsAt 46 = .ok (.aload_n 2, 1) := dk_44 (dk_at dksX0_hangsAt_1 23 rfl rfl)
theorem dX0_hangsAt_47 : decode cX0_hangsAt 47 = .ok (.iload 6, 2) := dk_21 6 (dk_at dksX0_hangsAt_2 0 rfl rfl)
theorem dX0_hangsAt_49 : decode cX0_hangsAt 49 = .ok (.invokevirtual 188, 3) := dk_182 0 188 (dk_at dksX0_hangsAt_2 2 rfl rfl)
theorem dX0_hangsAt_52 : decode cX0_hangsAt 52 = .ok (.ifCond .ne 7, 3) := dk_154 0 7 (dk_at dksX0_hangsAt_2 5 rfl rfl)
theorem dX0_hangsAt_55 : decode cX0_hangsAt 55 = .ok (.iconst 1, 1) := dk_4 (dk_at dksX0_hangsAt_2 8 rfl rfl)
theorem dX0_hangsAt_56 : decode cX0_hangsAt 56 = .ok (.goto 4, 3) := dk_167 0 4 (dk_at dksX0_hangsAt_2 9 rfl rfl)
theorem dX0_hangsAt_59 : decode cX0_hangsAt 59 = .ok (.iconst 0, 1) := dk_3 (dk_at dksX0_hangsAt_2 12 rfl rfl)
theorem dX0_hangsAt_60 : decode cX0_hangsAt 60 = .ok (.iadd, 1) := dk_96 (dk_at dksX0_hangsAt_2 13 rfl rfl)
theorem dX0_hangsAt_61 : decode cX0_hangsAt 61 = .ok (.istore 4, 2) := dk_54 4 (dk_at dksX0_hangsAt_2 14 rfl rfl)
theorem dX0_hangsAt_63 : decode cX0_hangsAt 63 = .ok (.iinc 5 1, 3) := dk_132 5 1 (dk_at dksX0_hangsAt_2 16 rfl rfl)
theorem dX0_hangsAt_66 : decode cX0_hangsAt 66 = .ok (.goto (-60), 3) := dk_167 255 196 (dk_at dksX0_hangsAt_2 19 rfl rfl)
theorem dX0_hangsAt_69 : decode cX0_hangsAt 69 = .ok (.iload 4, 2) := dk_21 4 (dk_at dksX0_hangsAt_2 22 rfl rfl)
theorem dX0_hangsAt_71 : decode cX0_hangsAt 71 = .ok (.ireturn, 1) := dk_172 (dk_at dksX0_hangsAt_3 0 rfl rfl)
abbrev cX0_lambda_chainOf_1 : ByteArray := prog_1_method_106_code
def yX0_lambda_chainOf_1 : MethodName := ⟨RX0, "lambda$chainOf$1", "(LBranchNames$Tree;ILBranchNames$Way;LBranchNames$Way;)I"⟩
def dkwX0_lambda_chainOf_1_0 : List UInt8 := [42, 43, 28, 45, 25, 4, 182, 2, 183, 172]
abbrev dktX0_lambda_chainOf_1_0 : List UInt8 := dkwX0_lambda_chainOf_1_0 ++ []
theorem dksX0_lambda_chainOf_1_0 : cX0_lambda_chainOf_1.data.toList.drop 0 = dktX0_lambda_chainOf_1_0 := by decide +kernel
theorem dX0_lambda_chainOf_1_0 : decode cX0_lambda_chainOf_1 0 = .ok (.aload_n 0, 1) := dk_42 (dk_at dksX0_lambda_chainOf_1_0 0 rfl rfl)
theorem dX0_lambda_chainOf_1_1 : decode cX0_lambda_chainOf_1 1 = .ok (.aload_n 1, 1) := dk_43 (dk_at dksX0_lambda_chainOf_1_0 1 rfl rfl)
theorem dX0_lambda_chainOf_1_2 : decode cX0_lambda_chainOf_1 2 = .ok (.iload_n 2, 1) := dk_28 (dk_at dksX0_lambda_chainOf_1_0 2 rfl rfl)
theorem dX0_lambda_chainOf_1_3 : decode cX0_lambda_chainOf_1 3 = .ok (.aload_n 3, 1) := dk_45 (dk_at dksX0_lambda_chainOf_1_0 3 rfl rfl)
theorem dX0_lambda_chainOf_1_4 : decode cX0_lambda_chainOf_1 4 = .ok (.aload 4, 2) := dk_25 4 (dk_at dksX0_lambda_chainOf_1_0 4 rfl rfl)
theorem dX0_lambda_chainOf_1_6 : decode cX0_lambda_chainOf_1 6 = .ok (.invokevirtual 695, 3) := dk_182 2 183 (dk_at dksX0_lambda_chainOf_1_0 6 rfl rfl)
theorem dX0_lambda_chainOf_1_9 : decode cX0_lambda_chainOf_1 9 = .ok (.ireturn, 1) := dk_172 (dk_at dksX0_lambda_chainOf_1_0 9 rfl rfl)
abbrev cX0_prefersName : ByteArray := prog_1_method_37_code
def yX0_prefersName : MethodName := ⟨RX0, "prefersName", "(LBranchNames$Tree;ILBranchNames$Way;LBranchNames$Way;)I"⟩
def dkwX0_prefersName_2 : List UInt8 := [180, 0, 195, 184, 0, 203, 172]
abbrev dktX0_prefersName_2 : List UInt8 := dkwX0_prefersName_2 ++ []
def dkwX0_prefersName_1 : List UInt8 := [199, 0, 16, 25, 4, 42, 43, 28, 25, 4, 182, 0, 199, 181, 0, 195, 25, 4, 180, 0, 195, 45]
abbrev dktX0_prefersName_1 : List UInt8 := dkwX0_prefersName_1 ++ dktX0_prefersName_2
def dkwX0_prefersName_0 : List UInt8 := [45, 180, 0, 195, 199, 0, 14, 45, 42, 43, 28, 45, 182, 0, 199, 181, 0, 195, 25, 4, 180, 0, 195]
abbrev dktX0_prefersName_0 : List UInt8 := dkwX0_prefersName_0 ++ dktX0_prefersName_1
theorem dksX0_prefersName_0 : cX0_prefersName.data.toList.drop 0 = dktX0_prefersName_0 := by decide +kernel
theorem dksX0_prefersName_1 : cX0_prefersName.data.toList.drop 23 = dktX0_prefersName_1 := dk_seg dksX0_prefersName_0 23 rfl rfl
theorem dksX0_prefersName_2 : cX0_prefersName.data.toList.drop 45 = dktX0_prefersName_2 := dk_seg dksX0_prefersName_1 22 rfl rfl
theorem dX0_prefersName_0 : decode cX0_prefersName 0 = .ok (.aload_n 3, 1) := dk_45 (dk_at dksX0_prefersName_0 0 rfl rfl)
theorem dX0_prefersName_1 : decode cX0_prefersName 1 = .ok (.getfield 195, 3) := dk_180 0 195 (dk_at dksX0_prefersName_0 1 rfl rfl)
theorem dX0_prefersName_4 : decode cX0_prefersName 4 = .ok (.ifnonnull 14, 3) := dk_199 0 14 (dk_at dksX0_prefersName_0 4 rfl rfl)
theorem dX0_prefersName_7 : decode cX0_prefersName 7 = .ok (.aload_n 3, 1) := dk_45 (dk_at dksX0_prefersName_0 7 rfl rfl)
theorem dX0_prefersName_8 : decode cX0_prefersName 8 = .ok (.aload_n 0, 1) := dk_42 (dk_at dksX0_prefersName_0 8 rfl rfl)
theorem dX0_prefersName_9 : decode cX0_prefersName 9 = .ok (.aload_n 1, 1) := dk_43 (dk_at dksX0_prefersName_0 9 rfl rfl)
theorem dX0_prefersName_10 : decode cX0_prefersName 10 = .ok (.iload_n 2, 1) := dk_28 (dk_at dksX0_prefersName_0 10 rfl rfl)
theorem dX0_prefersName_11 : decode cX0_prefersName 11 = .ok (.aload_n 3, 1) := dk_45 (dk_at dksX0_prefersName_0 11 rfl rfl)
theorem dX0_prefersName_12 : decode cX0_prefersName 12 = .ok (.invokevirtual 199, 3) := dk_182 0 199 (dk_at dksX0_prefersName_0 12 rfl rfl)
theorem dX0_prefersName_15 : decode cX0_prefersName 15 = .ok (.putfield 195, 3) := dk_181 0 195 (dk_at dksX0_prefersName_0 15 rfl rfl)
theorem dX0_prefersName_18 : decode cX0_prefersName 18 = .ok (.aload 4, 2) := dk_25 4 (dk_at dksX0_prefersName_0 18 rfl rfl)
theorem dX0_prefersName_20 : decode cX0_prefersName 20 = .ok (.getfield 195, 3) := dk_180 0 195 (dk_at dksX0_prefersName_0 20 rfl rfl)
theorem dX0_prefersName_23 : decode cX0_prefersName 23 = .ok (.ifnonnull 16, 3) := dk_199 0 16 (dk_at dksX0_prefersName_1 0 rfl rfl)
theorem dX0_prefersName_26 : decode cX0_prefersName 26 = .ok (.aload 4, 2) := dk_25 4 (dk_at dksX0_prefersName_1 3 rfl rfl)
theorem dX0_prefersName_28 : decode cX0_prefersName 28 = .ok (.aload_n 0, 1) := dk_42 (dk_at dksX0_prefersName_1 5 rfl rfl)
theorem dX0_prefersName_29 : decode cX0_prefersName 29 = .ok (.aload_n 1, 1) := dk_43 (dk_at dksX0_prefersName_1 6 rfl rfl)
theorem dX0_prefersName_30 : decode cX0_prefersName 30 = .ok (.iload_n 2, 1) := dk_28 (dk_at dksX0_prefersName_1 7 rfl rfl)
theorem dX0_prefersName_31 : decode cX0_prefersName 31 = .ok (.aload 4, 2) := dk_25 4 (dk_at dksX0_prefersName_1 8 rfl rfl)
theorem dX0_prefersName_33 : decode cX0_prefersName 33 = .ok (.invokevirtual 199, 3) := dk_182 0 199 (dk_at dksX0_prefersName_1 10 rfl rfl)
theorem dX0_prefersName_36 : decode cX0_prefersName 36 = .ok (.putfield 195, 3) := dk_181 0 195 (dk_at dksX0_prefersName_1 13 rfl rfl)
theorem dX0_prefersName_39 : decode cX0_prefersName 39 = .ok (.aload 4, 2) := dk_25 4 (dk_at dksX0_prefersName_1 16 rfl rfl)
theorem dX0_prefersName_41 : decode cX0_prefersName 41 = .ok (.getfield 195, 3) := dk_180 0 195 (dk_at dksX0_prefersName_1 18 rfl rfl)
theorem dX0_prefersName_44 : decode cX0_prefersName 44 = .ok (.aload_n 3, 1) := dk_45 (dk_at dksX0_prefersName_1 21 rfl rfl)
theorem dX0_prefersName_45 : decode cX0_prefersName 45 = .ok (.getfield 195, 3) := dk_180 0 195 (dk_at dksX0_prefersName_2 0 rfl rfl)
theorem dX0_prefersName_48 : decode cX0_prefersName 48 = .ok (.invokestatic 203, 3) := dk_184 0 203 (dk_at dksX0_prefersName_2 3 rfl rfl)
theorem dX0_prefersName_51 : decode cX0_prefersName 51 = .ok (.ireturn, 1) := dk_172 (dk_at dksX0_prefersName_2 6 rfl rfl)
