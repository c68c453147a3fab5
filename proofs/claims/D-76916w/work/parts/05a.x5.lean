/-! BranchNamesModel -/
set_option maxRecDepth 100000
def RX5 : String := "BranchNamesModel"
def TX5 : u_T := fun k => match k with
  | 0 => ("BranchNamesModel", "bonds", "[I", true)
  | 1 => ("BranchNamesModel", "many", "I", false)
  | 2 => ("BranchNamesModel", "drawing", "[I", true)
  | 3 => ("BranchNamesModel", "drawnMany", "I", false)
  | 4 => ("BranchNamesModel", "kept", "[I", true)
  | 5 => ("BranchNamesModel", "keptMany", "I", false)
  | 6 => ("BranchNamesModel", "place", "I", false)
  | 7 => ("BranchNamesModel", "digits", "I", false)
  | 8 => ("BranchNamesModel", "told", "I", false)
  | 9 => ("BranchNamesModel", "isListed", "Z", false)
  | 10 => ("BranchNamesModel", "keys", "[I", true)
  | 11 => ("BranchNamesModel", "listMany", "[I", true)
  | 12 => ("BranchNamesModel", "seen", "[I", true)
  | 13 => ("BranchNamesModel", "measures", "[I", true)
  | 14 => ("BranchNamesModel", "twigs", "[J", true)
  | 15 => ("BranchNamesModel", "chain", "[I", true)
  | 16 => ("BranchNamesModel", "length", "I", false)
  | 17 => ("BranchNamesModel", "numbers", "[I", true)
  | 18 => ("BranchNamesModel", "text", "[I", true)
  | 19 => ("BranchNamesModel", "top", "I", false)
  | 20 => ("BranchNamesModel", "stems", "Ljava/lang/String;", true)
  | 21 => ("BranchNamesModel", "manys", "Ljava/lang/String;", true)
  | 22 => ("BranchNamesModel", "at", "[I", true)
  | 23 => ("BranchNamesModel", "starts", "[I", true)
  | 24 => ("BranchNamesModel", "sizes", "[I", true)
  | 25 => ("BranchNamesModel", "chains", "[I", true)
  | 26 => ("BranchNamesModel", "level", "I", false)
  | 27 => ("BranchNamesModel", "bestLength", "[I", true)
  | 28 => ("BranchNamesModel", "bestBranches", "[I", true)
  | 29 => ("BranchNamesModel", "bestNumbers", "[I", true)
  | 30 => ("BranchNamesModel", "tape", "[I", true)
  | 31 => ("BranchNamesModel", "taped", "I", false)
  | 32 => ("BranchNamesModel", "reads", "I", false)
  | 33 => ("BranchNamesModel", "readsWell", "I", false)
  | 34 => ("BranchNamesModel", "here", "I", false)
  | 35 => ("BranchNamesModel", "reach", "I", false)
  | 36 => ("BranchNamesModel", "partMany", "I", false)
  | 37 => ("BranchNamesModel", "partGroup", "[I", true)
  | 38 => ("BranchNamesModel", "partPlace", "[I", true)
  | 39 => ("BranchNamesModel", "partMost", "[I", true)
  | 40 => ("BranchNamesModel", "partStem", "[I", true)
  | 41 => ("BranchNamesModel", "partInner", "[I", true)
  | 42 => ("BranchNamesModel", "partFrom", "[I", true)
  | 43 => ("BranchNamesModel", "partTold", "[I", true)
  | 44 => ("BranchNamesModel", "toldNumbers", "[I", true)
  | 45 => ("BranchNamesModel", "toldMany", "I", false)
  | 46 => ("BranchNamesModel", "groups", "I", false)
  | 47 => ("BranchNamesModel", "groupStem", "[I", true)
  | 48 => ("BranchNamesModel", "madeMany", "[I", true)
  | 49 => ("BranchNamesModel", "madeOn", "[I", true)
  | 50 => ("BranchNamesModel", "madeBonds", "[I", true)
  | 51 => ("BranchNamesModel", "troubles", "[I", true)
  | 52 => ("BranchNamesModel", "places", "[I", true)
  | 53 => ("BranchNamesModel", "whys", "[I", true)
  | 54 => ("BranchNamesModel", "whyPlaces", "[I", true)
  | 55 => ("BranchNamesModel", "troubled", "I", false)
  | 56 => ("BranchNamesModel", "whyMany", "I", false)
  | 57 => ("BranchNamesModel", "sorts", "[I", true)
  | 58 => ("BranchNamesModel", "rowMany", "[I", true)
  | 59 => ("BranchNamesModel", "items", "[J", true)
  | _ => ("BranchNamesModel", "moved", "[J", true)
def tyX5 : Nat → FieldType := fun k => match k with
  | 0 => .array .int
  | 1 => .int
  | 2 => .array .int
  | 3 => .int
  | 4 => .array .int
  | 5 => .int
  | 6 => .int
  | 7 => .int
  | 8 => .int
  | 9 => .boolean
  | 10 => .array .int
  | 11 => .array .int
  | 12 => .array .int
  | 13 => .array .int
  | 14 => .array .long
  | 15 => .array .int
  | 16 => .int
  | 17 => .array .int
  | 18 => .array .int
  | 19 => .int
  | 20 => .object "java/lang/String"
  | 21 => .object "java/lang/String"
  | 22 => .array .int
  | 23 => .array .int
  | 24 => .array .int
  | 25 => .array .int
  | 26 => .int
  | 27 => .array .int
  | 28 => .array .int
  | 29 => .array .int
  | 30 => .array .int
  | 31 => .int
  | 32 => .int
  | 33 => .int
  | 34 => .int
  | 35 => .int
  | 36 => .int
  | 37 => .array .int
  | 38 => .array .int
  | 39 => .array .int
  | 40 => .array .int
  | 41 => .array .int
  | 42 => .array .int
  | 43 => .array .int
  | 44 => .array .int
  | 45 => .int
  | 46 => .int
  | 47 => .array .int
  | 48 => .array .int
  | 49 => .array .int
  | 50 => .array .int
  | 51 => .array .int
  | 52 => .array .int
  | 53 => .array .int
  | 54 => .array .int
  | 55 => .int
  | 56 => .int
  | 57 => .array .int
  | 58 => .array .int
  | 59 => .array .long
  | _ => .array .long
abbrev wsX50 : List Cond := u_ws RX5 TX5 61
set_option maxRecDepth 100000 in
theorem nmX5 : ∀ a, a < 61 → ∀ b, b < 61 → a ≠ b → (TX5 a).2.1 ≠ (TX5 b).2.1 := by decide +kernel
set_option maxRecDepth 100000 in
theorem tyX5_ok : ∀ k, k < 61 → parseFieldDescriptor (TX5 k).2.2.1 = some (tyX5 k) := by decide +kernel
abbrev cX5_init : ByteArray := prog_22_method_1_code
def yX5_init : MethodName := ⟨RX5, "<init>", "()V"⟩
def dkwX5_init_15 : List UInt8 := [188, 11, 181, 0, 142, 177]
abbrev dktX5_init_15 : List UInt8 := dkwX5_init_15 ++ []
def dkwX5_init_14 : List UInt8 := [79, 181, 0, 133, 42, 7, 188, 10, 181, 0, 136, 42, 17, 0, 160, 188, 11, 181, 0, 139, 42, 16, 40]
abbrev dktX5_init_14 : List UInt8 := dkwX5_init_14 ++ dktX5_init_15
def dkwX5_init_13 : List UInt8 := [188, 10, 181, 0, 130, 42, 7, 188, 10, 89, 3, 2, 79, 89, 4, 2, 79, 89, 5, 2, 79, 89, 6, 2]
abbrev dktX5_init_13 : List UInt8 := dkwX5_init_13 ++ dktX5_init_14
def dkwX5_init_12 : List UInt8 := [188, 10, 181, 0, 121, 42, 16, 32, 188, 10, 181, 0, 124, 42, 16, 32, 188, 10, 181, 0, 127, 42, 16, 32]
abbrev dktX5_init_12 : List UInt8 := dkwX5_init_12 ++ dktX5_init_13
def dkwX5_init_11 : List UInt8 := [181, 0, 112, 42, 17, 1, 140, 188, 10, 181, 0, 115, 42, 17, 1, 140, 188, 10, 181, 0, 118, 42, 16, 32]
abbrev dktX5_init_11 : List UInt8 := dkwX5_init_11 ++ dktX5_init_12
def dkwX5_init_10 : List UInt8 := [181, 0, 103, 42, 16, 80, 188, 10, 181, 0, 106, 42, 16, 32, 188, 10, 181, 0, 109, 42, 16, 33, 188, 10]
abbrev dktX5_init_10 : List UInt8 := dkwX5_init_10 ++ dktX5_init_11
def dkwX5_init_9 : List UInt8 := [181, 0, 94, 42, 16, 32, 188, 10, 181, 0, 97, 42, 16, 32, 188, 10, 181, 0, 100, 42, 16, 32, 188, 10]
abbrev dktX5_init_9 : List UInt8 := dkwX5_init_9 ++ dktX5_init_10
def dkwX5_init_8 : List UInt8 := [181, 0, 85, 42, 16, 32, 188, 10, 181, 0, 88, 42, 16, 32, 188, 10, 181, 0, 91, 42, 16, 32, 188, 10]
abbrev dktX5_init_8 : List UInt8 := dkwX5_init_8 ++ dktX5_init_9
def dkwX5_init_7 : List UInt8 := [42, 17, 0, 169, 188, 10, 181, 0, 79, 42, 16, 80, 188, 10, 181, 0, 82, 42, 16, 32, 188, 10]
abbrev dktX5_init_7 : List UInt8 := dkwX5_init_7 ++ dktX5_init_8
def dkwX5_init_6 : List UInt8 := [17, 0, 169, 188, 10, 181, 0, 70, 42, 16, 13, 188, 10, 181, 0, 73, 42, 16, 13, 188, 10, 181, 0, 76]
abbrev dktX5_init_6 : List UInt8 := dkwX5_init_6 ++ dktX5_init_7
def dkwX5_init_5 : List UInt8 := [188, 10, 181, 0, 61, 42, 17, 0, 156, 188, 10, 181, 0, 64, 42, 17, 0, 156, 188, 10, 181, 0, 67, 42]
abbrev dktX5_init_5 : List UInt8 := dkwX5_init_5 ++ dktX5_init_6
def dkwX5_init_4 : List UInt8 := [17, 64, 0, 188, 10, 181, 0, 47, 42, 18, 50, 181, 0, 52, 42, 18, 56, 181, 0, 58, 42, 17, 0, 156]
abbrev dktX5_init_4 : List UInt8 := dkwX5_init_4 ++ dktX5_init_5
def dkwX5_init_3 : List UInt8 := [188, 11, 181, 0, 37, 42, 16, 13, 188, 10, 181, 0, 41, 42, 16, 13, 188, 10, 181, 0, 44, 42]
abbrev dktX5_init_3 : List UInt8 := dkwX5_init_3 ++ dktX5_init_4
def dkwX5_init_2 : List UInt8 := [188, 10, 181, 0, 28, 42, 16, 13, 188, 10, 181, 0, 31, 42, 16, 80, 188, 10, 181, 0, 34, 42, 16, 21]
abbrev dktX5_init_2 : List UInt8 := dkwX5_init_2 ++ dktX5_init_3
def dkwX5_init_1 : List UInt8 := [181, 0, 18, 42, 16, 13, 188, 10, 181, 0, 22, 42, 17, 3, 112, 188, 10, 181, 0, 25, 42, 16, 11]
abbrev dktX5_init_1 : List UInt8 := dkwX5_init_1 ++ dktX5_init_2
def dkwX5_init_0 : List UInt8 := [42, 183, 0, 3, 42, 16, 13, 188, 10, 181, 0, 11, 42, 16, 13, 188, 10, 181, 0, 15, 42, 4]
abbrev dktX5_init_0 : List UInt8 := dkwX5_init_0 ++ dktX5_init_1
theorem dksX5_init_0 : cX5_init.data.toList.drop 0 = dktX5_init_0 := by decide +kernel
theorem dksX5_init_1 : cX5_init.data.toList.drop 22 = dktX5_init_1 := dk_seg dksX5_init_0 22 rfl rfl
theorem dksX5_init_2 : cX5_init.data.toList.drop 45 = dktX5_init_2 := dk_seg dksX5_init_1 23 rfl rfl
theorem dksX5_init_3 : cX5_init.data.toList.drop 69 = dktX5_init_3 := dk_seg dksX5_init_2 24 rfl rfl
theorem dksX5_init_4 : cX5_init.data.toList.drop 91 = dktX5_init_4 := dk_seg dksX5_init_3 22 rfl rfl
theorem dksX5_init_5 : cX5_init.data.toList.drop 115 = dktX5_init_5 := dk_seg dksX5_init_4 24 rfl rfl
theorem dksX5_init_6 : cX5_init.data.toList.drop 139 = dktX5_init_6 := dk_seg dksX5_init_5 24 rfl rfl
theorem dksX5_init_7 : cX5_init.data.toList.drop 163 = dktX5_init_7 := dk_seg dksX5_init_6 24 rfl rfl
theorem dksX5_init_8 : cX5_init.data.toList.drop 185 = dktX5_init_8 := dk_seg dksX5_init_7 22 rfl rfl
theorem dksX5_init_9 : cX5_init.data.toList.drop 209 = dktX5_init_9 := dk_seg dksX5_init_8 24 rfl rfl
theorem dksX5_init_10 : cX5_init.data.toList.drop 233 = dktX5_init_10 := dk_seg dksX5_init_9 24 rfl rfl
theorem dksX5_init_11 : cX5_init.data.toList.drop 257 = dktX5_init_11 := dk_seg dksX5_init_10 24 rfl rfl
theorem dksX5_init_12 : cX5_init.data.toList.drop 281 = dktX5_init_12 := dk_seg dksX5_init_11 24 rfl rfl
theorem dksX5_init_13 : cX5_init.data.toList.drop 305 = dktX5_init_13 := dk_seg dksX5_init_12 24 rfl rfl
theorem dksX5_init_14 : cX5_init.data.toList.drop 329 = dktX5_init_14 := dk_seg dksX5_init_13 24 rfl rfl
theorem dksX5_init_15 : cX5_init.data.toList.drop 352 = dktX5_init_15 := dk_seg dksX5_init_14 23 rfl rfl
theorem dX5_init_0 : decode cX5_init 0 = .ok (.aload_n 0, 1) := dk_42 (dk_at dksX5_init_0 0 rfl rfl)
theorem dX5_init_1 : decode cX5_init 1 = .ok (.invokespecial 3, 3) := dk_183 0 3 (dk_at dksX5_init_0 1 rfl rfl)
theorem dX5_init_4 : decode cX5_init 4 = .ok (.aload_n 0, 1) := dk_42 (dk_at dksX5_init_0 4 rfl rfl)
theorem dX5_init_5 : decode cX5_init 5 = .ok (.bipush 13, 2) := dk_16 13 (dk_at dksX5_init_0 5 rfl rfl)
theorem dX5_init_7 : decode cX5_init 7 = .ok (.newarray .int, 2) := dk_188_10 (dk_at dksX5_init_0 7 rfl rfl)
theorem dX5_init_9 : decode cX5_init 9 = .ok (.putfield 11, 3) := dk_181 0 11 (dk_at dksX5_init_0 9 rfl rfl)
theorem dX5_init_12 : decode cX5_init 12 = .ok (.aload_n 0, 1) := dk_42 (dk_at dksX5_init_0 12 rfl rfl)
theorem dX5_init_13 : decode cX5_init 13 = .ok (.bipush 13, 2) := dk_16 13 (dk_at dksX5_init_0 13 rfl rfl)
theorem dX5_init_15 : decode cX5_init 15 = .ok (.newarray .int, 2) := dk_188_10 (dk_at dksX5_init_0 15 rfl rfl)
theorem dX5_init_17 : decode cX5_init 17 = .ok (.putfield 15, 3) := dk_181 0 15 (dk_at dksX5_init_0 17 rfl rfl)
theorem dX5_init_20 : decode cX5_init 20 = .ok (.aload_n 0, 1) := dk_42 (dk_at dksX5_init_0 20 rfl rfl)
theorem dX5_init_21 : decode cX5_init 21 = .ok (.iconst 1, 1) := dk_4 (dk_at dksX5_init_0 21 rfl rfl)
theorem dX5_init_22 : decode cX5_init 22 = .ok (.putfield 18, 3) := dk_181 0 18 (dk_at dksX5_init_1 0 rfl rfl)
theorem dX5_init_25 : decode cX5_init 25 = .ok (.aload_n 0, 1) := dk_42 (dk_at dksX5_init_1 3 rfl rfl)
theorem dX5_init_26 : decode cX5_init 26 = .ok (.bipush 13, 2) := dk_16 13 (dk_at dksX5_init_1 4 rfl rfl)
theorem dX5_init_28 : decode cX5_init 28 = .ok (.newarray .int, 2) := dk_188_10 (dk_at dksX5_init_1 6 rfl rfl)
theorem dX5_init_30 : decode cX5_init 30 = .ok (.putfield 22, 3) := dk_181 0 22 (dk_at dksX5_init_1 8 rfl rfl)
theorem dX5_init_33 : decode cX5_init 33 = .ok (.aload_n 0, 1) := dk_42 (dk_at dksX5_init_1 11 rfl rfl)
theorem dX5_init_34 : decode cX5_init 34 = .ok (.sipush 880, 3) := dk_17 3 112 (dk_at dksX5_init_1 12 rfl rfl)
theorem dX5_init_37 : decode cX5_init 37 = .ok (.newarray .int, 2) := dk_188_10 (dk_at dksX5_init_1 15 rfl rfl)
theorem dX5_init_39 : decode cX5_init 39 = .ok (.putfield 25, 3) := dk_181 0 25 (dk_at dksX5_init_1 17 rfl rfl)
theorem dX5_init_42 : decode cX5_init 42 = .ok (.aload_n 0, 1) := dk_42 (dk_at dksX5_init_1 20 rfl rfl)
theorem dX5_init_43 : decode cX5_init 43 = .ok (.bipush 11, 2) := dk_16 11 (dk_at dksX5_init_1 21 rfl rfl)
theorem dX5_init_45 : decode cX5_init 45 = .ok (.newarray .int, 2) := dk_188_10 (dk_at dksX5_init_2 0 rfl rfl)
theorem dX5_init_47 : decode cX5_init 47 = .ok (.putfield 28, 3) := dk_181 0 28 (dk_at dksX5_init_2 2 rfl rfl)
theorem dX5_init_50 : decode cX5_init 50 = .ok (.aload_n 0, 1) := dk_42 (dk_at dksX5_init_2 5 rfl rfl)
theorem dX5_init_51 : decode cX5_init 51 = .ok (.bipush 13, 2) := dk_16 13 (dk_at dksX5_init_2 6 rfl rfl)
theorem dX5_init_53 : decode cX5_init 53 = .ok (.newarray .int, 2) := dk_188_10 (dk_at dksX5_init_2 8 rfl rfl)
theorem dX5_init_55 : decode cX5_init 55 = .ok (.putfield 31, 3) := dk_181 0 31 (dk_at dksX5_init_2 10 rfl rfl)
theorem dX5_init_58 : decode cX5_init 58 = .ok (.aload_n 0, 1) := dk_42 (dk_at dksX5_init_2 13 rfl rfl)
theorem dX5_init_59 : decode cX5_init 59 = .ok (.bipush 80, 2) := dk_16 80 (dk_at dksX5_init_2 14 rfl rfl)
theorem dX5_init_61 : decode cX5_init 61 = .ok (.newarray .int, 2) := dk_188_10 (dk_at dksX5_init_2 16 rfl rfl)
theorem dX5_init_63 : decode cX5_init 63 = .ok (.putfield 34, 3) := dk_181 0 34 (dk_at dksX5_init_2 18 rfl rfl)
theorem dX5_init_66 : decode cX5_init 66 = .ok (.aload_n 0, 1) := dk_42 (dk_at dksX5_init_2 21 rfl rfl)
theorem dX5_init_67 : decode cX5_init 67 = .ok (.bipush 21, 2) := dk_16 21 (dk_at dksX5_init_2 22 rfl rfl)
theorem dX5_init_69 : decode cX5_init 69 = .ok (.newarray .long, 2) := dk_188_11 (dk_at dksX5_init_3 0 rfl rfl)
theorem dX5_init_71 : decode cX5_init 71 = .ok (.putfield 37, 3) := dk_181 0 37 (dk_at dksX5_init_3 2 rfl rfl)
theorem dX5_init_74 : decode cX5_init 74 = .ok (.aload_n 0, 1) := dk_42 (dk_at dksX5_init_3 5 rfl rfl)
theorem dX5_init_75 : decode cX5_init 75 = .ok (.bipush 13, 2) := dk_16 13 (dk_at dksX5_init_3 6 rfl rfl)
theorem dX5_init_77 : decode cX5_init 77 = .ok (.newarray .int, 2) := dk_188_10 (dk_at dksX5_init_3 8 rfl rfl)
theorem dX5_init_79 : decode cX5_init 79 = .ok (.putfield 41, 3) := dk_181 0 41 (dk_at dksX5_init_3 10 rfl rfl)
theorem dX5_init_82 : decode cX5_init 82 = .ok (.aload_n 0, 1) := dk_42 (dk_at dksX5_init_3 13 rfl rfl)
theorem dX5_init_83 : decode cX5_init 83 = .ok (.bipush 13, 2) := dk_16 13 (dk_at dksX5_init_3 14 rfl rfl)
theorem dX5_init_85 : decode cX5_init 85 = .ok (.newarray .int, 2) := dk_188_10 (dk_at dksX5_init_3 16 rfl rfl)
theorem dX5_init_87 : decode cX5_init 87 = .ok (.putfield 44, 3) := dk_181 0 44 (dk_at dksX5_init_3 18 rfl rfl)
theorem dX5_init_90 : decode cX5_init 90 = .ok (.aload_n 0, 1) := dk_42 (dk_at dksX5_init_3 21 rfl rfl)
theorem dX5_init_91 : decode cX5_init 91 = .ok (.sipush 16384, 3) := dk_17 64 0 (dk_at dksX5_init_4 0 rfl rfl)
theorem dX5_init_94 : decode cX5_init 94 = .ok (.newarray .int, 2) := dk_188_10 (dk_at dksX5_init_4 3 rfl rfl)
theorem dX5_init_96 : decode cX5_init 96 = .ok (.putfield 47, 3) := dk_181 0 47 (dk_at dksX5_init_4 5 rfl rfl)
theorem dX5_init_99 : decode cX5_init 99 = .ok (.aload_n 0, 1) := dk_42 (dk_at dksX5_init_4 8 rfl rfl)
theorem dX5_init_100 : decode cX5_init 100 = .ok (.ldc 50, 2) := dk_18 50 (dk_at dksX5_init_4 9 rfl rfl)
theorem dX5_init_102 : decode cX5_init 102 = .ok (.putfield 52, 3) := dk_181 0 52 (dk_at dksX5_init_4 11 rfl rfl)
theorem dX5_init_105 : decode cX5_init 105 = .ok (.aload_n 0, 1) := dk_42 (dk_at dksX5_init_4 14 rfl rfl)
theorem dX5_init_106 : decode cX5_init 106 = .ok (.ldc 56, 2) := dk_18 56 (dk_at dksX5_init_4 15 rfl rfl)
theorem dX5_init_108 : decode cX5_init 108 = .ok (.putfield 58, 3) := dk_181 0 58 (dk_at dksX5_init_4 17 rfl rfl)
theorem dX5_init_111 : decode cX5_init 111 = .ok (.aload_n 0, 1) := dk_42 (dk_at dksX5_init_4 20 rfl rfl)
theorem dX5_init_112 : decode cX5_init 112 = .ok (.sipush 156, 3) := dk_17 0 156 (dk_at dksX5_init_4 21 rfl rfl)
theorem dX5_init_115 : decode cX5_init 115 = .ok (.newarray .int, 2) := dk_188_10 (dk_at dksX5_init_5 0 rfl rfl)
theorem dX5_init_117 : decode cX5_init 117 = .ok (.putfield 61, 3) := dk_181 0 61 (dk_at dksX5_init_5 2 rfl rfl)
theorem dX5_init_120 : decode cX5_init 120 = .ok (.aload_n 0, 1) := dk_42 (dk_at dksX5_init_5 5 rfl rfl)
theorem dX5_init_121 : decode cX5_init 121 = .ok (.sipush 156, 3) := dk_17 0 156 (dk_at dksX5_init_5 6 rfl rfl)
theorem dX5_init_124 : decode cX5_init 124 = .ok (.newarray .int, 2) := dk_188_10 (dk_at dksX5_init_5 9 rfl rfl)
theorem dX5_init_126 : decode cX5_init 126 = .ok (.putfield 64, 3) := dk_181 0 64 (dk_at dksX5_init_5 11 rfl rfl)
theorem dX5_init_129 : decode cX5_init 129 = .ok (.aload_n 0, 1) := dk_42 (dk_at dksX5_init_5 14 rfl rfl)
theorem dX5_init_130 : decode cX5_init 130 = .ok (.sipush 156, 3) := dk_17 0 156 (dk_at dksX5_init_5 15 rfl rfl)
theorem dX5_init_133 : decode cX5_init 133 = .ok (.newarray .int, 2) := dk_188_10 (dk_at dksX5_init_5 18 rfl rfl)
theorem dX5_init_135 : decode cX5_init 135 = .ok (.putfield 67, 3) := dk_181 0 67 (dk_at dksX5_init_5 20 rfl rfl)
theorem dX5_init_138 : decode cX5_init 138 = .ok (.aload_n 0, 1) := dk_42 (dk_at dksX5_init_5 23 rfl rfl)
theorem dX5_init_139 : decode cX5_init 139 = .ok (.sipush 169, 3) := dk_17 0 169 (dk_at dksX5_init_6 0 rfl rfl)
theorem dX5_init_142 : decode cX5_init 142 = .ok (.newarray .int, 2) := dk_188_10 (dk_at dksX5_init_6 3 rfl rfl)
theorem dX5_init_144 : decode cX5_init 144 = .ok (.putfield 70, 3) := dk_181 0 70 (dk_at dksX5_init_6 5 rfl rfl)
theorem dX5_init_147 : decode cX5_init 147 = .ok (.aload_n 0, 1) := dk_42 (dk_at dksX5_init_6 8 rfl rfl)
theorem dX5_init_148 : decode cX5_init 148 = .ok (.bipush 13, 2) := dk_16 13 (dk_at dksX5_init_6 9 rfl rfl)
theorem dX5_init_150 : decode cX5_init 150 = .ok (.newarray .int, 2) := dk_188_10 (dk_at dksX5_init_6 11 rfl rfl)
theorem dX5_init_152 : decode cX5_init 152 = .ok (.putfield 73, 3) := dk_181 0 73 (dk_at dksX5_init_6 13 rfl rfl)
theorem dX5_init_155 : decode cX5_init 155 = .ok (.aload_n 0, 1) := dk_42 (dk_at dksX5_init_6 16 rfl rfl)
theorem dX5_init_156 : decode cX5_init 156 = .ok (.bipush 13, 2) := dk_16 13 (dk_at dksX5_init_6 17 rfl rfl)
theorem dX5_init_158 : decode cX5_init 158 = .ok (.newarray .int, 2) := dk_188_10 (dk_at dksX5_init_6 19 rfl rfl)
theorem dX5_init_160 : decode cX5_init 160 = .ok (.putfield 76, 3) := dk_181 0 76 (dk_at dksX5_init_6 21 rfl rfl)
theorem dX5_init_163 : decode cX5_init 163 = .ok (.aload_n 0, 1) := dk_42 (dk_at dksX5_init_7 0 rfl rfl)
theorem dX5_init_164 : decode cX5_init 164 = .ok (.sipush 169, 3) := dk_17 0 169 (dk_at dksX5_init_7 1 rfl rfl)
theorem dX5_init_167 : decode cX5_init 167 = .ok (.newarray .int, 2) := dk_188_10 (dk_at dksX5_init_7 4 rfl rfl)
theorem dX5_init_169 : decode cX5_init 169 = .ok (.putfield 79, 3) := dk_181 0 79 (dk_at dksX5_init_7 6 rfl rfl)
theorem dX5_init_172 : decode cX5_init 172 = .ok (.aload_n 0, 1) := dk_42 (dk_at dksX5_init_7 9 rfl rfl)
theorem dX5_init_173 : decode cX5_init 173 = .ok (.bipush 80, 2) := dk_16 80 (dk_at dksX5_init_7 10 rfl rfl)
theorem dX5_init_175 : decode cX5_init 175 = .ok (.newarray .int, 2) := dk_188_10 (dk_at dksX5_init_7 12 rfl rfl)
theorem dX5_init_177 : decode cX5_init 177 = .ok (.putfield 82, 3) := dk_181 0 82 (dk_at dksX5_init_7 14 rfl rfl)
theorem dX5_init_180 : decode cX5_init 180 = .ok (.aload_n 0, 1) := dk_42 (dk_at dksX5_init_7 17 rfl rfl)
theorem dX5_init_181 : decode cX5_init 181 = .ok (.bipush 32, 2) := dk_16 32 (dk_at dksX5_init_7 18 rfl rfl)
theorem dX5_init_183 : decode cX5_init 183 = .ok (.newarray .int, 2) := dk_188_10 (dk_at dksX5_init_7 20 rfl rfl)
theorem dX5_init_185 : decode cX5_init 185 = .ok (.putfield 85, 3) := dk_181 0 85 (dk_at dksX5_init_8 0 rfl rfl)
theorem dX5_init_188 : decode cX5_init 188 = .ok (.aload_n 0, 1) := dk_42 (dk_at dksX5_init_8 3 rfl rfl)
theorem dX5_init_189 : decode cX5_init 189 = .ok (.bipush 32, 2) := dk_16 32 (dk_at dksX5_init_8 4 rfl rfl)
theorem dX5_init_191 : decode cX5_init 191 = .ok (.newarray .int, 2) := dk_188_10 (dk_at dksX5_init_8 6 rfl rfl)
theorem dX5_init_193 : decode cX5_init 193 = .ok (.putfield 88, 3) := dk_181 0 88 (dk_at dksX5_init_8 8 rfl rfl)
theorem dX5_init_196 : decode cX5_init 196 = .ok (.aload_n 0, 1) := dk_42 (dk_at dksX5_init_8 11 rfl rfl)
theorem dX5_init_197 : decode cX5_init 197 = .ok (.bipush 32, 2) := dk_16 32 (dk_at dksX5_init_8 12 rfl rfl)
theorem dX5_init_199 : decode cX5_init 199 = .ok (.newarray .int, 2) := dk_188_10 (dk_at dksX5_init_8 14 rfl rfl)
theorem dX5_init_201 : decode cX5_init 201 = .ok (.putfield 91, 3) := dk_181 0 91 (dk_at dksX5_init_8 16 rfl rfl)
theorem dX5_init_204 : decode cX5_init 204 = .ok (.aload_n 0, 1) := dk_42 (dk_at dksX5_init_8 19 rfl rfl)
theorem dX5_init_205 : decode cX5_init 205 = .ok (.bipush 32, 2) := dk_16 32 (dk_at dksX5_init_8 20 rfl rfl)
theorem dX5_init_207 : decode cX5_init 207 = .ok (.newarray .int, 2) := dk_188_10 (dk_at dksX5_init_8 22 rfl rfl)
theorem dX5_init_209 : decode cX5_init 209 = .ok (.putfield 94, 3) := dk_181 0 94 (dk_at dksX5_init_9 0 rfl rfl)
theorem dX5_init_212 : decode cX5_init 212 = .ok (.aload_n 0, 1) := dk_42 (dk_at dksX5_init_9 3 rfl rfl)
theorem dX5_init_213 : decode cX5_init 213 = .ok (.bipush 32, 2) := dk_16 32 (dk_at dksX5_init_9 4 rfl rfl)
theorem dX5_init_215 : decode cX5_init 215 = .ok (.newarray .int, 2) := dk_188_10 (dk_at dksX5_init_9 6 rfl rfl)
theorem dX5_init_217 : decode cX5_init 217 = .ok (.putfield 97, 3) := dk_181 0 97 (dk_at dksX5_init_9 8 rfl rfl)
theorem dX5_init_220 : decode cX5_init 220 = .ok (.aload_n 0, 1) := dk_42 (dk_at dksX5_init_9 11 rfl rfl)
theorem dX5_init_221 : decode cX5_init 221 = .ok (.bipush 32, 2) := dk_16 32 (dk_at dksX5_init_9 12 rfl rfl)
theorem dX5_init_223 : decode cX5_init 223 = .ok (.newarray .int, 2) := dk_188_10 (dk_at dksX5_init_9 14 rfl rfl)
theorem dX5_init_225 : decode cX5_init 225 = .ok (.putfield 100, 3) := dk_181 0 100 (dk_at dksX5_init_9 16 rfl rfl)
theorem dX5_init_228 : decode cX5_init 228 = .ok (.aload_n 0, 1) := dk_42 (dk_at dksX5_init_9 19 rfl rfl)
theorem dX5_init_229 : decode cX5_init 229 = .ok (.bipush 32, 2) := dk_16 32 (dk_at dksX5_init_9 20 rfl rfl)
theorem dX5_init_231 : decode cX5_init 231 = .ok (.newarray .int, 2) := dk_188_10 (dk_at dksX5_init_9 22 rfl rfl)
theorem dX5_init_233 : decode cX5_init 233 = .ok (.putfield 103, 3) := dk_181 0 103 (dk_at dksX5_init_10 0 rfl rfl)
theorem dX5_init_236 : decode cX5_init 236 = .ok (.aload_n 0, 1) := dk_42 (dk_at dksX5_init_10 3 rfl rfl)
theorem dX5_init_237 : decode cX5_init 237 = .ok (.bipush 80, 2) := dk_16 80 (dk_at dksX5_init_10 4 rfl rfl)
theorem dX5_init_239 : decode cX5_init 239 = .ok (.newarray .int, 2) := dk_188_10 (dk_at dksX5_init_10 6 rfl rfl)
theorem dX5_init_241 : decode cX5_init 241 = .ok (.putfield 106, 3) := dk_181 0 106 (dk_at dksX5_init_10 8 rfl rfl)
theorem dX5_init_244 : decode cX5_init 244 = .ok (.aload_n 0, 1) := dk_42 (dk_at dksX5_init_10 11 rfl rfl)
theorem dX5_init_245 : decode cX5_init 245 = .ok (.bipush 32, 2) := dk_16 32 (dk_at dksX5_init_10 12 rfl rfl)
theorem dX5_init_247 : decode cX5_init 247 = .ok (.newarray .int, 2) := dk_188_10 (dk_at dksX5_init_10 14 rfl rfl)
theorem dX5_init_249 : decode cX5_init 249 = .ok (.putfield 109, 3) := dk_181 0 109 (dk_at dksX5_init_10 16 rfl rfl)
theorem dX5_init_252 : decode cX5_init 252 = .ok (.aload_n 0, 1) := dk_42 (dk_at dksX5_init_10 19 rfl rfl)
theorem dX5_init_253 : decode cX5_init 253 = .ok (.bipush 33, 2) := dk_16 33 (dk_at dksX5_init_10 20 rfl rfl)
theorem dX5_init_255 : decode cX5_init 255 = .ok (.newarray .int, 2) := dk_188_10 (dk_at dksX5_init_10 22 rfl rfl)
theorem dX5_init_257 : decode cX5_init 257 = .ok (.putfield 112, 3) := dk_181 0 112 (dk_at dksX5_init_11 0 rfl rfl)
theorem dX5_init_260 : decode cX5_init 260 = .ok (.aload_n 0, 1) := dk_42 (dk_at dksX5_init_11 3 rfl rfl)
theorem dX5_init_261 : decode cX5_init 261 = .ok (.sipush 396, 3) := dk_17 1 140 (dk_at dksX5_init_11 4 rfl rfl)
theorem dX5_init_264 : decode cX5_init 264 = .ok (.newarray .int, 2) := dk_188_10 (dk_at dksX5_init_11 7 rfl rfl)
theorem dX5_init_266 : decode cX5_init 266 = .ok (.putfield 115, 3) := dk_181 0 115 (dk_at dksX5_init_11 9 rfl rfl)
theorem dX5_init_269 : decode cX5_init 269 = .ok (.aload_n 0, 1) := dk_42 (dk_at dksX5_init_11 12 rfl rfl)
theorem dX5_init_270 : decode cX5_init 270 = .ok (.sipush 396, 3) := dk_17 1 140 (dk_at dksX5_init_11 13 rfl rfl)
theorem dX5_init_273 : decode cX5_init 273 = .ok (.newarray .int, 2) := dk_188_10 (dk_at dksX5_init_11 16 rfl rfl)
theorem dX5_init_275 : decode cX5_init 275 = .ok (.putfield 118, 3) := dk_181 0 118 (dk_at dksX5_init_11 18 rfl rfl)
theorem dX5_init_278 : decode cX5_init 278 = .ok (.aload_n 0, 1) := dk_42 (dk_at dksX5_init_11 21 rfl rfl)
theorem dX5_init_279 : decode cX5_init 279 = .ok (.bipush 32, 2) := dk_16 32 (dk_at dksX5_init_11 22 rfl rfl)
theorem dX5_init_281 : decode cX5_init 281 = .ok (.newarray .int, 2) := dk_188_10 (dk_at dksX5_init_12 0 rfl rfl)
theorem dX5_init_283 : decode cX5_init 283 = .ok (.putfield 121, 3) := dk_181 0 121 (dk_at dksX5_init_12 2 rfl rfl)
theorem dX5_init_286 : decode cX5_init 286 = .ok (.aload_n 0, 1) := dk_42 (dk_at dksX5_init_12 5 rfl rfl)
theorem dX5_init_287 : decode cX5_init 287 = .ok (.bipush 32, 2) := dk_16 32 (dk_at dksX5_init_12 6 rfl rfl)
theorem dX5_init_289 : decode cX5_init 289 = .ok (.newarray .int, 2) := dk_188_10 (dk_at dksX5_init_12 8 rfl rfl)
theorem dX5_init_291 : decode cX5_init 291 = .ok (.putfield 124, 3) := dk_181 0 124 (dk_at dksX5_init_12 10 rfl rfl)
theorem dX5_init_294 : decode cX5_init 294 = .ok (.aload_n 0, 1) := dk_42 (dk_at dksX5_init_12 13 rfl rfl)
theorem dX5_init_295 : decode cX5_init 295 = .ok (.bipush 32, 2) := dk_16 32 (dk_at dksX5_init_12 14 rfl rfl)
theorem dX5_init_297 : decode cX5_init 297 = .ok (.newarray .int, 2) := dk_188_10 (dk_at dksX5_init_12 16 rfl rfl)
theorem dX5_init_299 : decode cX5_init 299 = .ok (.putfield 127, 3) := dk_181 0 127 (dk_at dksX5_init_12 18 rfl rfl)
theorem dX5_init_302 : decode cX5_init 302 = .ok (.aload_n 0, 1) := dk_42 (dk_at dksX5_init_12 21 rfl rfl)
theorem dX5_init_303 : decode cX5_init 303 = .ok (.bipush 32, 2) := dk_16 32 (dk_at dksX5_init_12 22 rfl rfl)
theorem dX5_init_305 : decode cX5_init 305 = .ok (.newarray .int, 2) := dk_188_10 (dk_at dksX5_init_13 0 rfl rfl)
theorem dX5_init_307 : decode cX5_init 307 = .ok (.putfield 130, 3) := dk_181 0 130 (dk_at dksX5_init_13 2 rfl rfl)
theorem dX5_init_310 : decode cX5_init 310 = .ok (.aload_n 0, 1) := dk_42 (dk_at dksX5_init_13 5 rfl rfl)
theorem dX5_init_311 : decode cX5_init 311 = .ok (.iconst 4, 1) := dk_7 (dk_at dksX5_init_13 6 rfl rfl)
theorem dX5_init_312 : decode cX5_init 312 = .ok (.newarray .int, 2) := dk_188_10 (dk_at dksX5_init_13 7 rfl rfl)
theorem dX5_init_314 : decode cX5_init 314 = .ok (.dup, 1) := dk_89 (dk_at dksX5_init_13 9 rfl rfl)
theorem dX5_init_315 : decode cX5_init 315 = .ok (.iconst 0, 1) := dk_3 (dk_at dksX5_init_13 10 rfl rfl)
theorem dX5_init_316 : decode cX5_init 316 = .ok (.iconst (-1), 1) := dk_2 (dk_at dksX5_init_13 11 rfl rfl)
theorem dX5_init_317 : decode cX5_init 317 = .ok (.iastore, 1) := dk_79 (dk_at dksX5_init_13 12 rfl rfl)
theorem dX5_init_318 : decode cX5_init 318 = .ok (.dup, 1) := dk_89 (dk_at dksX5_init_13 13 rfl rfl)
theorem dX5_init_319 : decode cX5_init 319 = .ok (.iconst 1, 1) := dk_4 (dk_at dksX5_init_13 14 rfl rfl)
theorem dX5_init_320 : decode cX5_init 320 = .ok (.iconst (-1), 1) := dk_2 (dk_at dksX5_init_13 15 rfl rfl)
theorem dX5_init_321 : decode cX5_init 321 = .ok (.iastore, 1) := dk_79 (dk_at dksX5_init_13 16 rfl rfl)
theorem dX5_init_322 : decode cX5_init 322 = .ok (.dup, 1) := dk_89 (dk_at dksX5_init_13 17 rfl rfl)
theorem dX5_init_323 : decode cX5_init 323 = .ok (.iconst 2, 1) := dk_5 (dk_at dksX5_init_13 18 rfl rfl)
theorem dX5_init_324 : decode cX5_init 324 = .ok (.iconst (-1), 1) := dk_2 (dk_at dksX5_init_13 19 rfl rfl)
theorem dX5_init_325 : decode cX5_init 325 = .ok (.iastore, 1) := dk_79 (dk_at dksX5_init_13 20 rfl rfl)
theorem dX5_init_326 : decode cX5_init 326 = .ok (.dup, 1) := dk_89 (dk_at dksX5_init_13 21 rfl rfl)
theorem dX5_init_327 : decode cX5_init 327 = .ok (.iconst 3, 1) := dk_6 (dk_at dksX5_init_13 22 rfl rfl)
theorem dX5_init_328 : decode cX5_init 328 = .ok (.iconst (-1), 1) := dk_2 (dk_at dksX5_init_13 23 rfl rfl)
theorem dX5_init_329 : decode cX5_init 329 = .ok (.iastore, 1) := dk_79 (dk_at dksX5_init_14 0 rfl rfl)
theorem dX5_init_330 : decode cX5_init 330 = .ok (.putfield 133, 3) := dk_181 0 133 (dk_at dksX5_init_14 1 rfl rfl)
theorem dX5_init_333 : decode cX5_init 333 = .ok (.aload_n 0, 1) := dk_42 (dk_at dksX5_init_14 4 rfl rfl)
theorem dX5_init_334 : decode cX5_init 334 = .ok (.iconst 4, 1) := dk_7 (dk_at dksX5_init_14 5 rfl rfl)
theorem dX5_init_335 : decode cX5_init 335 = .ok (.newarray .int, 2) := dk_188_10 (dk_at dksX5_init_14 6 rfl rfl)
theorem dX5_init_337 : decode cX5_init 337 = .ok (.putfield 136, 3) := dk_181 0 136 (dk_at dksX5_init_14 8 rfl rfl)
theorem dX5_init_340 : decode cX5_init 340 = .ok (.aload_n 0, 1) := dk_42 (dk_at dksX5_init_14 11 rfl rfl)
theorem dX5_init_341 : decode cX5_init 341 = .ok (.sipush 160, 3) := dk_17 0 160 (dk_at dksX5_init_14 12 rfl rfl)
theorem dX5_init_344 : decode cX5_init 344 = .ok (.newarray .long, 2) := dk_188_11 (dk_at dksX5_init_14 15 rfl rfl)
theorem dX5_init_346 : decode cX5_init 346 = .ok (.putfield 139, 3) := dk_181 0 139 (dk_at dksX5_init_14 17 rfl rfl)
theorem dX5_init_349 : decode cX5_init 349 = .ok (.aload_n 0, 1) := dk_42 (dk_at dksX5_init_14 20 rfl rfl)
theorem dX5_init_350 : decode cX5_init 350 = .ok (.bipush 40, 2) := dk_16 40 (dk_at dksX5_init_14 21 rfl rfl)
theorem dX5_init_352 : decode cX5_init 352 = .ok (.newarray .long, 2) := dk_188_11 (dk_at dksX5_init_15 0 rfl rfl)
theorem dX5_init_354 : decode cX5_init 354 = .ok (.putfield 142, 3) := dk_181 0 142 (dk_at dksX5_init_15 2 rfl rfl)
theorem dX5_init_357 : decode cX5_init 357 = .ok (.return_, 1) := dk_177 (dk_at dksX5_init_15 5 rfl rfl)
abbrev cX5_grow : ByteArray := prog_22_method_28_code
def yX5_grow : MethodName := ⟨RX5, "grow", "(I)I"⟩
def dkwX5_grow_3 : List UInt8 := [42, 180, 0, 18, 4, 100, 172]
abbrev dktX5_grow_3 : List UInt8 := dkwX5_grow_3 ++ []
def dkwX5_grow_2 : List UInt8 := [79, 42, 27, 42, 180, 0, 145, 182, 0, 206, 42, 89, 180, 0, 145, 4, 96, 181, 0, 145, 42, 182, 0, 247]
abbrev dktX5_grow_2 : List UInt8 := dkwX5_grow_2 ++ dktX5_grow_3
def dkwX5_grow_1 : List UInt8 := [180, 0, 18, 16, 12, 160, 0, 6, 16, 252, 172, 42, 182, 0, 241, 42, 180, 0, 11, 42, 180, 0, 145, 3]
abbrev dktX5_grow_1 : List UInt8 := dkwX5_grow_1 ++ dktX5_grow_2
def dkwX5_grow_0 : List UInt8 := [42, 27, 182, 0, 244, 154, 0, 5, 2, 172, 42, 180, 0, 15, 27, 46, 184, 0, 160, 7, 159, 0, 12, 42]
abbrev dktX5_grow_0 : List UInt8 := dkwX5_grow_0 ++ dktX5_grow_1
theorem dksX5_grow_0 : cX5_grow.data.toList.drop 0 = dktX5_grow_0 := by decide +kernel
theorem dksX5_grow_1 : cX5_grow.data.toList.drop 24 = dktX5_grow_1 := dk_seg dksX5_grow_0 24 rfl rfl
theorem dksX5_grow_2 : cX5_grow.data.toList.drop 48 = dktX5_grow_2 := dk_seg dksX5_grow_1 24 rfl rfl
theorem dksX5_grow_3 : cX5_grow.data.toList.drop 72 = dktX5_grow_3 := dk_seg dksX5_grow_2 24 rfl rfl
theorem dX5_grow_0 : decode cX5_grow 0 = .ok (.aload_n 0, 1) := dk_42 (dk_at dksX5_grow_0 0 rfl rfl)
theorem dX5_grow_1 : decode cX5_grow 1 = .ok (.iload_n 1, 1) := dk_27 (dk_at dksX5_grow_0 1 rfl rfl)
theorem dX5_grow_2 : decode cX5_grow 2 = .ok (.invokevirtual 244, 3) := dk_182 0 244 (dk_at dksX5_grow_0 2 rfl rfl)
theorem dX5_grow_5 : decode cX5_grow 5 = .ok (.ifCond .ne 5, 3) := dk_154 0 5 (dk_at dksX5_grow_0 5 rfl rfl)
theorem dX5_grow_8 : decode cX5_grow 8 = .ok (.iconst (-1), 1) := dk_2 (dk_at dksX5_grow_0 8 rfl rfl)
theorem dX5_grow_9 : decode cX5_grow 9 = .ok (.ireturn, 1) := dk_172 (dk_at dksX5_grow_0 9 rfl rfl)
theorem dX5_grow_10 : decode cX5_grow 10 = .ok (.aload_n 0, 1) := dk_42 (dk_at dksX5_grow_0 10 rfl rfl)
theorem dX5_grow_11 : decode cX5_grow 11 = .ok (.getfield 15, 3) := dk_180 0 15 (dk_at dksX5_grow_0 11 rfl rfl)
theorem dX5_grow_14 : decode cX5_grow 14 = .ok (.iload_n 1, 1) := dk_27 (dk_at dksX5_grow_0 14 rfl rfl)
theorem dX5_grow_15 : decode cX5_grow 15 = .ok (.iaload, 1) := dk_46 (dk_at dksX5_grow_0 15 rfl rfl)
theorem dX5_grow_16 : decode cX5_grow 16 = .ok (.invokestatic 160, 3) := dk_184 0 160 (dk_at dksX5_grow_0 16 rfl rfl)
theorem dX5_grow_19 : decode cX5_grow 19 = .ok (.iconst 4, 1) := dk_7 (dk_at dksX5_grow_0 19 rfl rfl)
theorem dX5_grow_20 : decode cX5_grow 20 = .ok (.if_icmp .eq 12, 3) := dk_159 0 12 (dk_at dksX5_grow_0 20 rfl rfl)
theorem dX5_grow_23 : decode cX5_grow 23 = .ok (.aload_n 0, 1) := dk_42 (dk_at dksX5_grow_0 23 rfl rfl)
theorem dX5_grow_24 : decode cX5_grow 24 = .ok (.getfield 18, 3) := dk_180 0 18 (dk_at dksX5_grow_1 0 rfl rfl)
theorem dX5_grow_27 : decode cX5_grow 27 = .ok (.bipush 12, 2) := dk_16 12 (dk_at dksX5_grow_1 3 rfl rfl)
theorem dX5_grow_29 : decode cX5_grow 29 = .ok (.if_icmp .ne 6, 3) := dk_160 0 6 (dk_at dksX5_grow_1 5 rfl rfl)
theorem dX5_grow_32 : decode cX5_grow 32 = .ok (.bipush (-4), 2) := dk_16 252 (dk_at dksX5_grow_1 8 rfl rfl)
theorem dX5_grow_34 : decode cX5_grow 34 = .ok (.ireturn, 1) := dk_172 (dk_at dksX5_grow_1 10 rfl rfl)
theorem dX5_grow_35 : decode cX5_grow 35 = .ok (.aload_n 0, 1) := dk_42 (dk_at dksX5_grow_1 11 rfl rfl)
theorem dX5_grow_36 : decode cX5_grow 36 = .ok (.invokevirtual 241, 3) := dk_182 0 241 (dk_at dksX5_grow_1 12 rfl rfl)
theorem dX5_grow_39 : decode cX5_grow 39 = .ok (.aload_n 0, 1) := dk_42 (dk_at dksX5_grow_1 15 rfl rfl)
theorem dX5_grow_40 : decode cX5_grow 40 = .ok (.getfield 11, 3) := dk_180 0 11 (dk_at dksX5_grow_1 16 rfl rfl)
theorem dX5_grow_43 : decode cX5_grow 43 = .ok (.aload_n 0, 1) := dk_42 (dk_at dksX5_grow_1 19 rfl rfl)
theorem dX5_grow_44 : decode cX5_grow 44 = .ok (.getfield 145, 3) := dk_180 0 145 (dk_at dksX5_grow_1 20 rfl rfl)
theorem dX5_grow_47 : decode cX5_grow 47 = .ok (.iconst 0, 1) := dk_3 (dk_at dksX5_grow_1 23 rfl rfl)
theorem dX5_grow_48 : decode cX5_grow 48 = .ok (.iastore, 1) := dk_79 (dk_at dksX5_grow_2 0 rfl rfl)
theorem dX5_grow_49 : decode cX5_grow 49 = .ok (.aload_n 0, 1) := dk_42 (dk_at dksX5_grow_2 1 rfl rfl)
theorem dX5_grow_50 : decode cX5_grow 50 = .ok (.iload_n 1, 1) := dk_27 (dk_at dksX5_grow_2 2 rfl rfl)
theorem dX5_grow_51 : decode cX5_grow 51 = .ok (.aload_n 0, 1) := dk_42 (dk_at dksX5_grow_2 3 rfl rfl)
theorem dX5_grow_52 : decode cX5_grow 52 = .ok (.getfield 145, 3) := dk_180 0 145 (dk_at dksX5_grow_2 4 rfl rfl)
theorem dX5_grow_55 : decode cX5_grow 55 = .ok (.invokevirtual 206, 3) := dk_182 0 206 (dk_at dksX5_grow_2 7 rfl rfl)
theorem dX5_grow_58 : decode cX5_grow 58 = .ok (.aload_n 0, 1) := dk_42 (dk_at dksX5_grow_2 10 rfl rfl)
theorem dX5_grow_59 : decode cX5_grow 59 = .ok (.dup, 1) := dk_89 (dk_at dksX5_grow_2 11 rfl rfl)
theorem dX5_grow_60 : decode cX5_grow 60 = .ok (.getfield 145, 3) := dk_180 0 145 (dk_at dksX5_grow_2 12 rfl rfl)
theorem dX5_grow_63 : decode cX5_grow 63 = .ok (.iconst 1, 1) := dk_4 (dk_at dksX5_grow_2 15 rfl rfl)
theorem dX5_grow_64 : decode cX5_grow 64 = .ok (.iadd, 1) := dk_96 (dk_at dksX5_grow_2 16 rfl rfl)
theorem dX5_grow_65 : decode cX5_grow 65 = .ok (.putfield 145, 3) := dk_181 0 145 (dk_at dksX5_grow_2 17 rfl rfl)
theorem dX5_grow_68 : decode cX5_grow 68 = .ok (.aload_n 0, 1) := dk_42 (dk_at dksX5_grow_2 20 rfl rfl)
theorem dX5_grow_69 : decode cX5_grow 69 = .ok (.invokevirtual 247, 3) := dk_182 0 247 (dk_at dksX5_grow_2 21 rfl rfl)
theorem dX5_grow_72 : decode cX5_grow 72 = .ok (.aload_n 0, 1) := dk_42 (dk_at dksX5_grow_3 0 rfl rfl)
theorem dX5_grow_73 : decode cX5_grow 73 = .ok (.getfield 18, 3) := dk_180 0 18 (dk_at dksX5_grow_3 1 rfl rfl)
theorem dX5_grow_76 : decode cX5_grow 76 = .ok (.iconst 1, 1) := dk_4 (dk_at dksX5_grow_3 4 rfl rfl)
theorem dX5_grow_77 : decode cX5_grow 77 = .ok (.isub, 1) := dk_100 (dk_at dksX5_grow_3 5 rfl rfl)
theorem dX5_grow_78 : decode cX5_grow 78 = .ok (.ireturn, 1) := dk_172 (dk_at dksX5_grow_3 6 rfl rfl)
abbrev cX5_isAtom : ByteArray := prog_22_method_6_code
def yX5_isAtom : MethodName := ⟨RX5, "isAtom", "(I)Z"⟩
def dkwX5_isAtom_0 : List UInt8 := [27, 133, 9, 42, 180, 0, 18, 4, 100, 133, 184, 0, 148, 172]
abbrev dktX5_isAtom_0 : List UInt8 := dkwX5_isAtom_0 ++ []
theorem dksX5_isAtom_0 : cX5_isAtom.data.toList.drop 0 = dktX5_isAtom_0 := by decide +kernel
theorem dX5_isAtom_0 : decode cX5_isAtom 0 = .ok (.iload_n 1, 1) := dk_27 (dk_at dksX5_isAtom_0 0 rfl rfl)
theorem dX5_isAtom_1 : decode cX5_isAtom 1 = .ok (.i2l, 1) := dk_133 (dk_at dksX5_isAtom_0 1 rfl rfl)
theorem dX5_isAtom_2 : decode cX5_isAtom 2 = .ok (.lconst 0, 1) := dk_9 (dk_at dksX5_isAtom_0 2 rfl rfl)
theorem dX5_isAtom_3 : decode cX5_isAtom 3 = .ok (.aload_n 0, 1) := dk_42 (dk_at dksX5_isAtom_0 3 rfl rfl)
theorem dX5_isAtom_4 : decode cX5_isAtom 4 = .ok (.getfield 18, 3) := dk_180 0 18 (dk_at dksX5_isAtom_0 4 rfl rfl)
theorem dX5_isAtom_7 : decode cX5_isAtom 7 = .ok (.iconst 1, 1) := dk_4 (dk_at dksX5_isAtom_0 7 rfl rfl)
theorem dX5_isAtom_8 : decode cX5_isAtom 8 = .ok (.isub, 1) := dk_100 (dk_at dksX5_isAtom_0 8 rfl rfl)
theorem dX5_isAtom_9 : decode cX5_isAtom 9 = .ok (.i2l, 1) := dk_133 (dk_at dksX5_isAtom_0 9 rfl rfl)
theorem dX5_isAtom_10 : decode cX5_isAtom 10 = .ok (.invokestatic 148, 3) := dk_184 0 148 (dk_at dksX5_isAtom_0 10 rfl rfl)
theorem dX5_isAtom_13 : decode cX5_isAtom 13 = .ok (.ireturn, 1) := dk_172 (dk_at dksX5_isAtom_0 13 rfl rfl)
abbrev cX5_isIn : ByteArray := prog_22_method_2_code
def yX5_isIn : MethodName := ⟨RX5, "isIn", "(JJJ)Z"⟩
def dkwX5_isIn_0 : List UInt8 := [30, 32, 148, 155, 0, 14, 30, 22, 4, 148, 157, 0, 7, 4, 167, 0, 4, 3, 172]
abbrev dktX5_isIn_0 : List UInt8 := dkwX5_isIn_0 ++ []
theorem dksX5_isIn_0 : cX5_isIn.data.toList.drop 0 = dktX5_isIn_0 := by decide +kernel
theorem dX5_isIn_0 : decode cX5_isIn 0 = .ok (.lload_n 0, 1) := dk_30 (dk_at dksX5_isIn_0 0 rfl rfl)
theorem dX5_isIn_1 : decode cX5_isIn 1 = .ok (.lload_n 2, 1) := dk_32 (dk_at dksX5_isIn_0 1 rfl rfl)
theorem dX5_isIn_2 : decode cX5_isIn 2 = .ok (.lcmp, 1) := dk_148 (dk_at dksX5_isIn_0 2 rfl rfl)
theorem dX5_isIn_3 : decode cX5_isIn 3 = .ok (.ifCond .lt 14, 3) := dk_155 0 14 (dk_at dksX5_isIn_0 3 rfl rfl)
theorem dX5_isIn_6 : decode cX5_isIn 6 = .ok (.lload_n 0, 1) := dk_30 (dk_at dksX5_isIn_0 6 rfl rfl)
theorem dX5_isIn_7 : decode cX5_isIn 7 = .ok (.lload 4, 2) := dk_22 4 (dk_at dksX5_isIn_0 7 rfl rfl)
theorem dX5_isIn_9 : decode cX5_isIn 9 = .ok (.lcmp, 1) := dk_148 (dk_at dksX5_isIn_0 9 rfl rfl)
theorem dX5_isIn_10 : decode cX5_isIn 10 = .ok (.ifCond .gt 7, 3) := dk_157 0 7 (dk_at dksX5_isIn_0 10 rfl rfl)
theorem dX5_isIn_13 : decode cX5_isIn 13 = .ok (.iconst 1, 1) := dk_4 (dk_at dksX5_isIn_0 13 rfl rfl)
theorem dX5_isIn_14 : decode cX5_isIn 14 = .ok (.goto 4, 3) := dk_167 0 4 (dk_at dksX5_isIn_0 14 rfl rfl)
theorem dX5_isIn_17 : decode cX5_isIn 17 = .ok (.iconst 0, 1) := dk_3 (dk_at dksX5_isIn_0 17 rfl rfl)
theorem dX5_isIn_18 : decode cX5_isIn 18 = .ok (.ireturn, 1) := dk_172 (dk_at dksX5_isIn_0 18 rfl rfl)
abbrev cX5_looksAtDrawing : ByteArray := prog_22_method_3_code
def yX5_looksAtDrawing : MethodName := ⟨RX5, "looksAtDrawing", "()V"⟩
def dkwX5_looksAtDrawing_1 : List UInt8 := [180, 0, 15, 27, 46, 79, 132, 1, 1, 167, 255, 235, 177]
abbrev dktX5_looksAtDrawing_1 : List UInt8 := dkwX5_looksAtDrawing_1 ++ []
def dkwX5_looksAtDrawing_0 : List UInt8 := [42, 42, 180, 0, 18, 181, 0, 145, 3, 60, 27, 16, 13, 162, 0, 21, 42, 180, 0, 11, 27, 42]
abbrev dktX5_looksAtDrawing_0 : List UInt8 := dkwX5_looksAtDrawing_0 ++ dktX5_looksAtDrawing_1
theorem dksX5_looksAtDrawing_0 : cX5_looksAtDrawing.data.toList.drop 0 = dktX5_looksAtDrawing_0 := by decide +kernel
theorem dksX5_looksAtDrawing_1 : cX5_looksAtDrawing.data.toList.drop 22 = dktX5_looksAtDrawing_1 := dk_seg dksX5_looksAtDrawing_0 22 rfl rfl
theorem dX5_looksAtDrawing_0 : decode cX5_looksAtDrawing 0 = .ok (.aload_n 0, 1) := dk_42 (dk_at dksX5_looksAtDrawing_0 0 rfl rfl)
theorem dX5_looksAtDrawing_1 : decode cX5_looksAtDrawing 1 = .ok (.aload_n 0, 1) := dk_42 (dk_at dksX5_looksAtDrawing_0 1 rfl rfl)
theorem dX5_looksAtDrawing_2 : decode cX5_looksAtDrawing 2 = .ok (.getfield 18, 3) := dk_180 0 18 (dk_at dksX5_looksAtDrawing_0 2 rfl rfl)
theorem dX5_looksAtDrawing_5 : decode cX5_looksAtDrawing 5 = .ok (.putfield 145, 3) := dk_181 0 145 (dk_at dksX5_looksAtDrawing_0 5 rfl rfl)
theorem dX5_looksAtDrawing_8 : decode cX5_looksAtDrawing 8 = .ok (.iconst 0, 1) := dk_3 (dk_at dksX5_looksAtDrawing_0 8 rfl rfl)
theorem dX5_looksAtDrawing_9 : decode cX5_looksAtDrawing 9 = .ok (.istore_n 1, 1) := dk_60 (dk_at dksX5_looksAtDrawing_0 9 rfl rfl)
theorem dX5_looksAtDrawing_10 : decode cX5_looksAtDrawing 10 = .ok (.iload_n 1, 1) := dk_27 (dk_at dksX5_looksAtDrawing_0 10 rfl rfl)
theorem dX5_looksAtDrawing_11 : decode cX5_looksAtDrawing 11 = .ok (.bipush 13, 2) := dk_16 13 (dk_at dksX5_looksAtDrawing_0 11 rfl rfl)
theorem dX5_looksAtDrawing_13 : decode cX5_looksAtDrawing 13 = .ok (.if_icmp .ge 21, 3) := dk_162 0 21 (dk_at dksX5_looksAtDrawing_0 13 rfl rfl)
theorem dX5_looksAtDrawing_16 : decode cX5_looksAtDrawing 16 = .ok (.aload_n 0, 1) := dk_42 (dk_at dksX5_looksAtDrawing_0 16 rfl rfl)
theorem dX5_looksAtDrawing_17 : decode cX5_looksAtDrawing 17 = .ok (.getfield 11, 3) := dk_180 0 11 (dk_at dksX5_looksAtDrawing_0 17 rfl rfl)
theorem dX5_looksAtDrawing_20 : decode cX5_looksAtDrawing 20 = .ok (.iload_n 1, 1) := dk_27 (dk_at dksX5_looksAtDrawing_0 20 rfl rfl)
theorem dX5_looksAtDrawing_21 : decode cX5_looksAtDrawing 21 = .ok (.aload_n 0, 1) := dk_42 (dk_at dksX5_looksAtDrawing_0 21 rfl rfl)
theorem dX5_looksAtDrawing_22 : decode cX5_looksAtDrawing 22 = .ok (.getfield 15, 3) := dk_180 0 15 (dk_at dksX5_looksAtDrawing_1 0 rfl rfl)
theorem dX5_looksAtDrawing_25 : decode cX5_looksAtDrawing 25 = .ok (.iload_n 1, 1) := dk_27 (dk_at dksX5_looksAtDrawing_1 3 rfl rfl)
theorem dX5_looksAtDrawing_26 : decode cX5_looksAtDrawing 26 = .ok (.iaload, 1) := dk_46 (dk_at dksX5_looksAtDrawing_1 4 rfl rfl)
theorem dX5_looksAtDrawing_27 : decode cX5_looksAtDrawing 27 = .ok (.iastore, 1) := dk_79 (dk_at dksX5_looksAtDrawing_1 5 rfl rfl)
theorem dX5_looksAtDrawing_28 : decode cX5_looksAtDrawing 28 = .ok (.iinc 1 1, 3) := dk_132 1 1 (dk_at dksX5_looksAtDrawing_1 6 rfl rfl)
theorem dX5_looksAtDrawing_31 : decode cX5_looksAtDrawing 31 = .ok (.goto (-21), 3) := dk_167 255 235 (dk_at dksX5_looksAtDrawing_1 9 rfl rfl)
theorem dX5_looksAtDrawing_34 : decode cX5_looksAtDrawing 34 = .ok (.return_, 1) := dk_177 (dk_at dksX5_looksAtDrawing_1 12 rfl rfl)
abbrev cX5_binds : ByteArray := prog_22_method_7_code
def yX5_binds : MethodName := ⟨RX5, "binds", "(II)V"⟩
def dkwX5_binds_1 : List UInt8 := [177]
abbrev dktX5_binds_1 : List UInt8 := dkwX5_binds_1 ++ []
def dkwX5_binds_0 : List UInt8 := [42, 180, 0, 11, 27, 92, 46, 4, 28, 120, 128, 79, 42, 180, 0, 11, 28, 92, 46, 4, 27, 120, 128, 79]
abbrev dktX5_binds_0 : List UInt8 := dkwX5_binds_0 ++ dktX5_binds_1
theorem dksX5_binds_0 : cX5_binds.data.toList.drop 0 = dktX5_binds_0 := by decide +kernel
theorem dksX5_binds_1 : cX5_binds.data.toList.drop 24 = dktX5_binds_1 := dk_seg dksX5_binds_0 24 rfl rfl
theorem dX5_binds_0 : decode cX5_binds 0 = .ok (.aload_n 0, 1) := dk_42 (dk_at dksX5_binds_0 0 rfl rfl)
theorem dX5_binds_1 : decode cX5_binds 1 = .ok (.getfield 11, 3) := dk_180 0 11 (dk_at dksX5_binds_0 1 rfl rfl)
theorem dX5_binds_4 : decode cX5_binds 4 = .ok (.iload_n 1, 1) := dk_27 (dk_at dksX5_binds_0 4 rfl rfl)
theorem dX5_binds_5 : decode cX5_binds 5 = .ok (.dup2, 1) := dk_92 (dk_at dksX5_binds_0 5 rfl rfl)
theorem dX5_binds_6 : decode cX5_binds 6 = .ok (.iaload, 1) := dk_46 (dk_at dksX5_binds_0 6 rfl rfl)
theorem dX5_binds_7 : decode cX5_binds 7 = .ok (.iconst 1, 1) := dk_4 (dk_at dksX5_binds_0 7 rfl rfl)
theorem dX5_binds_8 : decode cX5_binds 8 = .ok (.iload_n 2, 1) := dk_28 (dk_at dksX5_binds_0 8 rfl rfl)
theorem dX5_binds_9 : decode cX5_binds 9 = .ok (.ishl, 1) := dk_120 (dk_at dksX5_binds_0 9 rfl rfl)
theorem dX5_binds_10 : decode cX5_binds 10 = .ok (.ior, 1) := dk_128 (dk_at dksX5_binds_0 10 rfl rfl)
theorem dX5_binds_11 : decode cX5_binds 11 = .ok (.iastore, 1) := dk_79 (dk_at dksX5_binds_0 11 rfl rfl)
theorem dX5_binds_12 : decode cX5_binds 12 = .ok (.aload_n 0, 1) := dk_42 (dk_at dksX5_binds_0 12 rfl rfl)
theorem dX5_binds_13 : decode cX5_binds 13 = .ok (.getfield 11, 3) := dk_180 0 11 (dk_at dksX5_binds_0 13 rfl rfl)
theorem dX5_binds_16 : decode cX5_binds 16 = .ok (.iload_n 2, 1) := dk_28 (dk_at dksX5_binds_0 16 rfl rfl)
theorem dX5_binds_17 : decode cX5_binds 17 = .ok (.dup2, 1) := dk_92 (dk_at dksX5_binds_0 17 rfl rfl)
theorem dX5_binds_18 : decode cX5_binds 18 = .ok (.iaload, 1) := dk_46 (dk_at dksX5_binds_0 18 rfl rfl)
theorem dX5_binds_19 : decode cX5_binds 19 = .ok (.iconst 1, 1) := dk_4 (dk_at dksX5_binds_0 19 rfl rfl)
theorem dX5_binds_20 : decode cX5_binds 20 = .ok (.iload_n 1, 1) := dk_27 (dk_at dksX5_binds_0 20 rfl rfl)
theorem dX5_binds_21 : decode cX5_binds 21 = .ok (.ishl, 1) := dk_120 (dk_at dksX5_binds_0 21 rfl rfl)
theorem dX5_binds_22 : decode cX5_binds 22 = .ok (.ior, 1) := dk_128 (dk_at dksX5_binds_0 22 rfl rfl)
theorem dX5_binds_23 : decode cX5_binds 23 = .ok (.iastore, 1) := dk_79 (dk_at dksX5_binds_0 23 rfl rfl)
theorem dX5_binds_24 : decode cX5_binds 24 = .ok (.return_, 1) := dk_177 (dk_at dksX5_binds_1 0 rfl rfl)
abbrev cX5_draws : ByteArray := prog_22_method_4_code
def yX5_draws : MethodName := ⟨RX5, "draws", "()V"⟩
def dkwX5_draws_1 : List UInt8 := [180, 0, 11, 27, 46, 79, 132, 1, 1, 167, 255, 235, 177]
abbrev dktX5_draws_1 : List UInt8 := dkwX5_draws_1 ++ []
def dkwX5_draws_0 : List UInt8 := [42, 42, 180, 0, 145, 181, 0, 18, 3, 60, 27, 16, 13, 162, 0, 21, 42, 180, 0, 15, 27, 42]
abbrev dktX5_draws_0 : List UInt8 := dkwX5_draws_0 ++ dktX5_draws_1
theorem dksX5_draws_0 : cX5_draws.data.toList.drop 0 = dktX5_draws_0 := by decide +kernel
theorem dksX5_draws_1 : cX5_draws.data.toList.drop 22 = dktX5_draws_1 := dk_seg dksX5_draws_0 22 rfl rfl
theorem dX5_draws_0 : decode cX5_draws 0 = .ok (.aload_n 0, 1) := dk_42 (dk_at dksX5_draws_0 0 rfl rfl)
theorem dX5_draws_1 : decode cX5_draws 1 = .ok (.aload_n 0, 1) := dk_42 (dk_at dksX5_draws_0 1 rfl rfl)
theorem dX5_draws_2 : decode cX5_draws 2 = .ok (.getfield 145, 3) := dk_180 0 145 (dk_at dksX5_draws_0 2 rfl rfl)
theorem dX5_draws_5 : decode cX5_draws 5 = .ok (.putfield 18, 3) := dk_181 0 18 (dk_at dksX5_draws_0 5 rfl rfl)
theorem dX5_draws_8 : decode cX5_draws 8 = .ok (.iconst 0, 1) := dk_3 (dk_at dksX5_draws_0 8 rfl rfl)
theorem dX5_draws_9 : decode cX5_draws 9 = .ok (.istore_n 1, 1) := dk_60 (dk_at dksX5_draws_0 9 rfl rfl)
theorem dX5_draws_10 : decode cX5_draws 10 = .ok (.iload_n 1, 1) := dk_27 (dk_at dksX5_draws_0 10 rfl rfl)
theorem dX5_draws_11 : decode cX5_draws 11 = .ok (.bipush 13, 2) := dk_16 13 (dk_at dksX5_draws_0 11 rfl rfl)
theorem dX5_draws_13 : decode cX5_draws 13 = .ok (.if_icmp .ge 21, 3) := dk_162 0 21 (dk_at dksX5_draws_0 13 rfl rfl)
theorem dX5_draws_16 : decode cX5_draws 16 = .ok (.aload_n 0, 1) := dk_42 (dk_at dksX5_draws_0 16 rfl rfl)
theorem dX5_draws_17 : decode cX5_draws 17 = .ok (.getfield 15, 3) := dk_180 0 15 (dk_at dksX5_draws_0 17 rfl rfl)
theorem dX5_draws_20 : decode cX5_draws 20 = .ok (.iload_n 1, 1) := dk_27 (dk_at dksX5_draws_0 20 rfl rfl)
theorem dX5_draws_21 : decode cX5_draws 21 = .ok (.aload_n 0, 1) := dk_42 (dk_at dksX5_draws_0 21 rfl rfl)
theorem dX5_draws_22 : decode cX5_draws 22 = .ok (.getfield 11, 3) := dk_180 0 11 (dk_at dksX5_draws_1 0 rfl rfl)
theorem dX5_draws_25 : decode cX5_draws 25 = .ok (.iload_n 1, 1) := dk_27 (dk_at dksX5_draws_1 3 rfl rfl)
theorem dX5_draws_26 : decode cX5_draws 26 = .ok (.iaload, 1) := dk_46 (dk_at dksX5_draws_1 4 rfl rfl)
theorem dX5_draws_27 : decode cX5_draws 27 = .ok (.iastore, 1) := dk_79 (dk_at dksX5_draws_1 5 rfl rfl)
theorem dX5_draws_28 : decode cX5_draws 28 = .ok (.iinc 1 1, 3) := dk_132 1 1 (dk_at dksX5_draws_1 6 rfl rfl)
theorem dX5_draws_31 : decode cX5_draws 31 = .ok (.goto (-21), 3) := dk_167 255 235 (dk_at dksX5_draws_1 9 rfl rfl)
theorem dX5_draws_34 : decode cX5_draws 34 = .ok (.return_, 1) := dk_177 (dk_at dksX5_draws_1 12 rfl rfl)
abbrev cX5_cut : ByteArray := prog_22_method_29_code
def yX5_cut : MethodName := ⟨RX5, "cut", "(I)I"⟩
def dkwX5_cut_7 : List UInt8 := [42, 180, 0, 18, 172]
abbrev dktX5_cut_7 : List UInt8 := dkwX5_cut_7 ++ []
def dkwX5_cut_6 : List UInt8 := [167, 255, 188, 42, 180, 0, 11, 29, 3, 79, 42, 89, 180, 0, 145, 4, 100, 181, 0, 145, 42, 182, 0, 247]
abbrev dktX5_cut_6 : List UInt8 := dkwX5_cut_6 ++ dktX5_cut_7
def dkwX5_cut_5 : List UInt8 := [126, 4, 27, 120, 128, 79, 42, 180, 0, 11, 27, 92, 46, 4, 21, 4, 120, 128, 79, 132, 4, 1]
abbrev dktX5_cut_5 : List UInt8 := dkwX5_cut_5 ++ dktX5_cut_6
def dkwX5_cut_4 : List UInt8 := [184, 0, 152, 153, 0, 40, 42, 180, 0, 11, 21, 4, 42, 180, 0, 11, 21, 4, 46, 4, 29, 120, 2, 130]
abbrev dktX5_cut_4 : List UInt8 := dkwX5_cut_4 ++ dktX5_cut_5
def dkwX5_cut_3 : List UInt8 := [21, 4, 42, 180, 0, 145, 162, 0, 65, 29, 27, 159, 0, 60, 42, 180, 0, 11, 29, 46, 21, 4]
abbrev dktX5_cut_3 : List UInt8 := dkwX5_cut_3 ++ dktX5_cut_4
def dkwX5_cut_2 : List UInt8 := [4, 27, 120, 2, 130, 126, 79, 42, 180, 0, 11, 27, 3, 79, 42, 180, 0, 145, 4, 100, 62, 3, 54, 4]
abbrev dktX5_cut_2 : List UInt8 := dkwX5_cut_2 ++ dktX5_cut_3
def dkwX5_cut_1 : List UInt8 := [16, 253, 172, 42, 182, 0, 241, 42, 180, 0, 11, 27, 46, 184, 0, 250, 61, 42, 180, 0, 11, 28, 92, 46]
abbrev dktX5_cut_1 : List UInt8 := dkwX5_cut_1 ++ dktX5_cut_2
def dkwX5_cut_0 : List UInt8 := [42, 27, 182, 0, 244, 154, 0, 5, 2, 172, 42, 180, 0, 15, 27, 46, 184, 0, 160, 4, 159, 0, 6]
abbrev dktX5_cut_0 : List UInt8 := dkwX5_cut_0 ++ dktX5_cut_1
theorem dksX5_cut_0 : cX5_cut.data.toList.drop 0 = dktX5_cut_0 := by decide +kernel
theorem dksX5_cut_1 : cX5_cut.data.toList.drop 23 = dktX5_cut_1 := dk_seg dksX5_cut_0 23 rfl rfl
theorem dksX5_cut_2 : cX5_cut.data.toList.drop 47 = dktX5_cut_2 := dk_seg dksX5_cut_1 24 rfl rfl
theorem dksX5_cut_3 : cX5_cut.data.toList.drop 71 = dktX5_cut_3 := dk_seg dksX5_cut_2 24 rfl rfl
theorem dksX5_cut_4 : cX5_cut.data.toList.drop 93 = dktX5_cut_4 := dk_seg dksX5_cut_3 22 rfl rfl
theorem dksX5_cut_5 : cX5_cut.data.toList.drop 117 = dktX5_cut_5 := dk_seg dksX5_cut_4 24 rfl rfl
theorem dksX5_cut_6 : cX5_cut.data.toList.drop 139 = dktX5_cut_6 := dk_seg dksX5_cut_5 22 rfl rfl
theorem dksX5_cut_7 : cX5_cut.data.toList.drop 163 = dktX5_cut_7 := dk_seg dksX5_cut_6 24 rfl rfl
theorem dX5_cut_0 : decode cX5_cut 0 = .ok (.aload_n 0, 1) := dk_42 (dk_at dksX5_cut_0 0 rfl rfl)
theorem dX5_cut_1 : decode cX5_cut 1 = .ok (.iload_n 1, 1) := dk_27 (dk_at dksX5_cut_0 1 rfl rfl)
theorem dX5_cut_2 : decode cX5_cut 2 = .ok (.invokevirtual 244, 3) := dk_182 0 244 (dk_at dksX5_cut_0 2 rfl rfl)
theorem dX5_cut_5 : decode cX5_cut 5 = .ok (.ifCond .ne 5, 3) := dk_154 0 5 (dk_at dksX5_cut_0 5 rfl rfl)
theorem dX5_cut_8 : decode cX5_cut 8 = .ok (.iconst (-1), 1) := dk_2 (dk_at dksX5_cut_0 8 rfl rfl)
theorem dX5_cut_9 : decode cX5_cut 9 = .ok (.ireturn, 1) := dk_172 (dk_at dksX5_cut_0 9 rfl rfl)
theorem dX5_cut_10 : decode cX5_cut 10 = .ok (.aload_n 0, 1) := dk_42 (dk_at dksX5_cut_0 10 rfl rfl)
theorem dX5_cut_11 : decode cX5_cut 11 = .ok (.getfield 15, 3) := dk_180 0 15 (dk_at dksX5_cut_0 11 rfl rfl)
theorem dX5_cut_14 : decode cX5_cut 14 = .ok (.iload_n 1, 1) := dk_27 (dk_at dksX5_cut_0 14 rfl rfl)
theorem dX5_cut_15 : decode cX5_cut 15 = .ok (.iaload, 1) := dk_46 (dk_at dksX5_cut_0 15 rfl rfl)
theorem dX5_cut_16 : decode cX5_cut 16 = .ok (.invokestatic 160, 3) := dk_184 0 160 (dk_at dksX5_cut_0 16 rfl rfl)
theorem dX5_cut_19 : decode cX5_cut 19 = .ok (.iconst 1, 1) := dk_4 (dk_at dksX5_cut_0 19 rfl rfl)
theorem dX5_cut_20 : decode cX5_cut 20 = .ok (.if_icmp .eq 6, 3) := dk_159 0 6 (dk_at dksX5_cut_0 20 rfl rfl)
theorem dX5_cut_23 : decode cX5_cut 23 = .ok (.bipush (-3), 2) := dk_16 253 (dk_at dksX5_cut_1 0 rfl rfl)
theorem dX5_cut_25 : decode cX5_cut 25 = .ok (.ireturn, 1) := dk_172 (dk_at dksX5_cut_1 2 rfl rfl)
theorem dX5_cut_26 : decode cX5_cut 26 = .ok (.aload_n 0, 1) := dk_42 (dk_at dksX5_cut_1 3 rfl rfl)
theorem dX5_cut_27 : decode cX5_cut 27 = .ok (.invokevirtual 241, 3) := dk_182 0 241 (dk_at dksX5_cut_1 4 rfl rfl)
theorem dX5_cut_30 : decode cX5_cut 30 = .ok (.aload_n 0, 1) := dk_42 (dk_at dksX5_cut_1 7 rfl rfl)
theorem dX5_cut_31 : decode cX5_cut 31 = .ok (.getfield 11, 3) := dk_180 0 11 (dk_at dksX5_cut_1 8 rfl rfl)
theorem dX5_cut_34 : decode cX5_cut 34 = .ok (.iload_n 1, 1) := dk_27 (dk_at dksX5_cut_1 11 rfl rfl)
theorem dX5_cut_35 : decode cX5_cut 35 = .ok (.iaload, 1) := dk_46 (dk_at dksX5_cut_1 12 rfl rfl)
theorem dX5_cut_36 : decode cX5_cut 36 = .ok (.invokestatic 250, 3) := dk_184 0 250 (dk_at dksX5_cut_1 13 rfl rfl)
theorem dX5_cut_39 : decode cX5_cut 39 = .ok (.istore_n 2, 1) := dk_61 (dk_at dksX5_cut_1 16 rfl rfl)
theorem dX5_cut_40 : decode cX5_cut 40 = .ok (.aload_n 0, 1) := dk_42 (dk_at dksX5_cut_1 17 rfl rfl)
theorem dX5_cut_41 : decode cX5_cut 41 = .ok (.getfield 11, 3) := dk_180 0 11 (dk_at dksX5_cut_1 18 rfl rfl)
theorem dX5_cut_44 : decode cX5_cut 44 = .ok (.iload_n 2, 1) := dk_28 (dk_at dksX5_cut_1 21 rfl rfl)
theorem dX5_cut_45 : decode cX5_cut 45 = .ok (.dup2, 1) := dk_92 (dk_at dksX5_cut_1 22 rfl rfl)
theorem dX5_cut_46 : decode cX5_cut 46 = .ok (.iaload, 1) := dk_46 (dk_at dksX5_cut_1 23 rfl rfl)
theorem dX5_cut_47 : decode cX5_cut 47 = .ok (.iconst 1, 1) := dk_4 (dk_at dksX5_cut_2 0 rfl rfl)
theorem dX5_cut_48 : decode cX5_cut 48 = .ok (.iload_n 1, 1) := dk_27 (dk_at dksX5_cut_2 1 rfl rfl)
theorem dX5_cut_49 : decode cX5_cut 49 = .ok (.ishl, 1) := dk_120 (dk_at dksX5_cut_2 2 rfl rfl)
theorem dX5_cut_50 : decode cX5_cut 50 = .ok (.iconst (-1), 1) := dk_2 (dk_at dksX5_cut_2 3 rfl rfl)
theorem dX5_cut_51 : decode cX5_cut 51 = .ok (.ixor, 1) := dk_130 (dk_at dksX5_cut_2 4 rfl rfl)
theorem dX5_cut_52 : decode cX5_cut 52 = .ok (.iand, 1) := dk_126 (dk_at dksX5_cut_2 5 rfl rfl)
theorem dX5_cut_53 : decode cX5_cut 53 = .ok (.iastore, 1) := dk_79 (dk_at dksX5_cut_2 6 rfl rfl)
theorem dX5_cut_54 : decode cX5_cut 54 = .ok (.aload_n 0, 1) := dk_42 (dk_at dksX5_cut_2 7 rfl rfl)
theorem dX5_cut_55 : decode cX5_cut 55 = .ok (.getfield 11, 3) := dk_180 0 11 (dk_at dksX5_cut_2 8 rfl rfl)
theorem dX5_cut_58 : decode cX5_cut 58 = .ok (.iload_n 1, 1) := dk_27 (dk_at dksX5_cut_2 11 rfl rfl)
theorem dX5_cut_59 : decode cX5_cut 59 = .ok (.iconst 0, 1) := dk_3 (dk_at dksX5_cut_2 12 rfl rfl)
theorem dX5_cut_60 : decode cX5_cut 60 = .ok (.iastore, 1) := dk_79 (dk_at dksX5_cut_2 13 rfl rfl)
theorem dX5_cut_61 : decode cX5_cut 61 = .ok (.aload_n 0, 1) := dk_42 (dk_at dksX5_cut_2 14 rfl rfl)
theorem dX5_cut_62 : decode cX5_cut 62 = .ok (.getfield 145, 3) := dk_180 0 145 (dk_at dksX5_cut_2 15 rfl rfl)
theorem dX5_cut_65 : decode cX5_cut 65 = .ok (.iconst 1, 1) := dk_4 (dk_at dksX5_cut_2 18 rfl rfl)
theorem dX5_cut_66 : decode cX5_cut 66 = .ok (.isub, 1) := dk_100 (dk_at dksX5_cut_2 19 rfl rfl)
theorem dX5_cut_67 : decode cX5_cut 67 = .ok (.istore_n 3, 1) := dk_62 (dk_at dksX5_cut_2 20 rfl rfl)
theorem dX5_cut_68 : decode cX5_cut 68 = .ok (.iconst 0, 1) := dk_3 (dk_at dksX5_cut_2 21 rfl rfl)
theorem dX5_cut_69 : decode cX5_cut 69 = .ok (.istore 4, 2) := dk_54 4 (dk_at dksX5_cut_2 22 rfl rfl)
theorem dX5_cut_71 : decode cX5_cut 71 = .ok (.iload 4, 2) := dk_21 4 (dk_at dksX5_cut_3 0 rfl rfl)
theorem dX5_cut_73 : decode cX5_cut 73 = .ok (.aload_n 0, 1) := dk_42 (dk_at dksX5_cut_3 2 rfl rfl)
theorem dX5_cut_74 : decode cX5_cut 74 = .ok (.getfield 145, 3) := dk_180 0 145 (dk_at dksX5_cut_3 3 rfl rfl)
theorem dX5_cut_77 : decode cX5_cut 77 = .ok (.if_icmp .ge 65, 3) := dk_162 0 65 (dk_at dksX5_cut_3 6 rfl rfl)
theorem dX5_cut_80 : decode cX5_cut 80 = .ok (.iload_n 3, 1) := dk_29 (dk_at dksX5_cut_3 9 rfl rfl)
theorem dX5_cut_81 : decode cX5_cut 81 = .ok (.iload_n 1, 1) := dk_27 (dk_at dksX5_cut_3 10 rfl rfl)
theorem dX5_cut_82 : decode cX5_cut 82 = .ok (.if_icmp .eq 60, 3) := dk_159 0 60 (dk_at dksX5_cut_3 11 rfl rfl)
theorem dX5_cut_85 : decode cX5_cut 85 = .ok (.aload_n 0, 1) := dk_42 (dk_at dksX5_cut_3 14 rfl rfl)
theorem dX5_cut_86 : decode cX5_cut 86 = .ok (.getfield 11, 3) := dk_180 0 11 (dk_at dksX5_cut_3 15 rfl rfl)
theorem dX5_cut_89 : decode cX5_cut 89 = .ok (.iload_n 3, 1) := dk_29 (dk_at dksX5_cut_3 18 rfl rfl)
theorem dX5_cut_90 : decode cX5_cut 90 = .ok (.iaload, 1) := dk_46 (dk_at dksX5_cut_3 19 rfl rfl)
theorem dX5_cut_91 : decode cX5_cut 91 = .ok (.iload 4, 2) := dk_21 4 (dk_at dksX5_cut_3 20 rfl rfl)
theorem dX5_cut_93 : decode cX5_cut 93 = .ok (.invokestatic 152, 3) := dk_184 0 152 (dk_at dksX5_cut_4 0 rfl rfl)
theorem dX5_cut_96 : decode cX5_cut 96 = .ok (.ifCond .eq 40, 3) := dk_153 0 40 (dk_at dksX5_cut_4 3 rfl rfl)
theorem dX5_cut_99 : decode cX5_cut 99 = .ok (.aload_n 0, 1) := dk_42 (dk_at dksX5_cut_4 6 rfl rfl)
theorem dX5_cut_100 : decode cX5_cut 100 = .ok (.getfield 11, 3) := dk_180 0 11 (dk_at dksX5_cut_4 7 rfl rfl)
theorem dX5_cut_103 : decode cX5_cut 103 = .ok (.iload 4, 2) := dk_21 4 (dk_at dksX5_cut_4 10 rfl rfl)
theorem dX5_cut_105 : decode cX5_cut 105 = .ok (.aload_n 0, 1) := dk_42 (dk_at dksX5_cut_4 12 rfl rfl)
theorem dX5_cut_106 : decode cX5_cut 106 = .ok (.getfield 11, 3) := dk_180 0 11 (dk_at dksX5_cut_4 13 rfl rfl)
theorem dX5_cut_109 : decode cX5_cut 109 = .ok (.iload 4, 2) := dk_21 4 (dk_at dksX5_cut_4 16 rfl rfl)
theorem dX5_cut_111 : decode cX5_cut 111 = .ok (.iaload, 1) := dk_46 (dk_at dksX5_cut_4 18 rfl rfl)
theorem dX5_cut_112 : decode cX5_cut 112 = .ok (.iconst 1, 1) := dk_4 (dk_at dksX5_cut_4 19 rfl rfl)
theorem dX5_cut_113 : decode cX5_cut 113 = .ok (.iload_n 3, 1) := dk_29 (dk_at dksX5_cut_4 20 rfl rfl)
theorem dX5_cut_114 : decode cX5_cut 114 = .ok (.ishl, 1) := dk_120 (dk_at dksX5_cut_4 21 rfl rfl)
theorem dX5_cut_115 : decode cX5_cut 115 = .ok (.iconst (-1), 1) := dk_2 (dk_at dksX5_cut_4 22 rfl rfl)
theorem dX5_cut_116 : decode cX5_cut 116 = .ok (.ixor, 1) := dk_130 (dk_at dksX5_cut_4 23 rfl rfl)
theorem dX5_cut_117 : decode cX5_cut 117 = .ok (.iand, 1) := dk_126 (dk_at dksX5_cut_5 0 rfl rfl)
theorem dX5_cut_118 : decode cX5_cut 118 = .ok (.iconst 1, 1) := dk_4 (dk_at dksX5_cut_5 1 rfl rfl)
theorem dX5_cut_119 : decode cX5_cut 119 = .ok (.iload_n 1, 1) := dk_27 (dk_at dksX5_cut_5 2 rfl rfl)
theorem dX5_cut_120 : decode cX5_cut 120 = .ok (.ishl, 1) := dk_120 (dk_at dksX5_cut_5 3 rfl rfl)
theorem dX5_cut_121 : decode cX5_cut 121 = .ok (.ior, 1) := dk_128 (dk_at dksX5_cut_5 4 rfl rfl)
theorem dX5_cut_122 : decode cX5_cut 122 = .ok (.iastore, 1) := dk_79 (dk_at dksX5_cut_5 5 rfl rfl)
theorem dX5_cut_123 : decode cX5_cut 123 = .ok (.aload_n 0, 1) := dk_42 (dk_at dksX5_cut_5 6 rfl rfl)
theorem dX5_cut_124 : decode cX5_cut 124 = .ok (.getfield 11, 3) := dk_180 0 11 (dk_at dksX5_cut_5 7 rfl rfl)
theorem dX5_cut_127 : decode cX5_cut 127 = .ok (.iload_n 1, 1) := dk_27 (dk_at dksX5_cut_5 10 rfl rfl)
theorem dX5_cut_128 : decode cX5_cut 128 = .ok (.dup2, 1) := dk_92 (dk_at dksX5_cut_5 11 rfl rfl)
theorem dX5_cut_129 : decode cX5_cut 129 = .ok (.iaload, 1) := dk_46 (dk_at dksX5_cut_5 12 rfl rfl)
theorem dX5_cut_130 : decode cX5_cut 130 = .ok (.iconst 1, 1) := dk_4 (dk_at dksX5_cut_5 13 rfl rfl)
theorem dX5_cut_131 : decode cX5_cut 131 = .ok (.iload 4, 2) := dk_21 4 (dk_at dksX5_cut_5 14 rfl rfl)
theorem dX5_cut_133 : decode cX5_cut 133 = .ok (.ishl, 1) := dk_120 (dk_at dksX5_cut_5 16 rfl rfl)
theorem dX5_cut_134 : decode cX5_cut 134 = .ok (.ior, 1) := dk_128 (dk_at dksX5_cut_5 17 rfl rfl)
theorem dX5_cut_135 : decode cX5_cut 135 = .ok (.iastore, 1) := dk_79 (dk_at dksX5_cut_5 18 rfl rfl)
theorem dX5_cut_136 : decode cX5_cut 136 = .ok (.iinc 4 1, 3) := dk_132 4 1 (dk_at dksX5_cut_5 19 rfl rfl)
theorem dX5_cut_139 : decode cX5_cut 139 = .ok (.goto (-68), 3) := dk_167 255 188 (dk_at dksX5_cut_6 0 rfl rfl)
theorem dX5_cut_142 : decode cX5_cut 142 = .ok (.aload_n 0, 1) := dk_42 (dk_at dksX5_cut_6 3 rfl rfl)
theorem dX5_cut_143 : decode cX5_cut 143 = .ok (.getfield 11, 3) := dk_180 0 11 (dk_at dksX5_cut_6 4 rfl rfl)
theorem dX5_cut_146 : decode cX5_cut 146 = .ok (.iload_n 3, 1) := dk_29 (dk_at dksX5_cut_6 7 rfl rfl)
theorem dX5_cut_147 : decode cX5_cut 147 = .ok (.iconst 0, 1) := dk_3 (dk_at dksX5_cut_6 8 rfl rfl)
theorem dX5_cut_148 : decode cX5_cut 148 = .ok (.iastore, 1) := dk_79 (dk_at dksX5_cut_6 9 rfl rfl)
theorem dX5_cut_149 : decode cX5_cut 149 = .ok (.aload_n 0, 1) := dk_42 (dk_at dksX5_cut_6 10 rfl rfl)
theorem dX5_cut_150 : decode cX5_cut 150 = .ok (.dup, 1) := dk_89 (dk_at dksX5_cut_6 11 rfl rfl)
theorem dX5_cut_151 : decode cX5_cut 151 = .ok (.getfield 145, 3) := dk_180 0 145 (dk_at dksX5_cut_6 12 rfl rfl)
theorem dX5_cut_154 : decode cX5_cut 154 = .ok (.iconst 1, 1) := dk_4 (dk_at dksX5_cut_6 15 rfl rfl)
theorem dX5_cut_155 : decode cX5_cut 155 = .ok (.isub, 1) := dk_100 (dk_at dksX5_cut_6 16 rfl rfl)
theorem dX5_cut_156 : decode cX5_cut 156 = .ok (.putfield 145, 3) := dk_181 0 145 (dk_at dksX5_cut_6 17 rfl rfl)
theorem dX5_cut_159 : decode cX5_cut 159 = .ok (.aload_n 0, 1) := dk_42 (dk_at dksX5_cut_6 20 rfl rfl)
theorem dX5_cut_160 : decode cX5_cut 160 = .ok (.invokevirtual 247, 3) := dk_182 0 247 (dk_at dksX5_cut_6 21 rfl rfl)
theorem dX5_cut_163 : decode cX5_cut 163 = .ok (.aload_n 0, 1) := dk_42 (dk_at dksX5_cut_7 0 rfl rfl)
theorem dX5_cut_164 : decode cX5_cut 164 = .ok (.getfield 18, 3) := dk_180 0 18 (dk_at dksX5_cut_7 1 rfl rfl)
theorem dX5_cut_167 : decode cX5_cut 167 = .ok (.ireturn, 1) := dk_172 (dk_at dksX5_cut_7 4 rfl rfl)
abbrev cX5_has : ByteArray := prog_22_method_5_code
def yX5_has : MethodName := ⟨RX5, "has", "(II)Z"⟩
def dkwX5_has_0 : List UInt8 := [26, 27, 122, 4, 126, 4, 160, 0, 7, 4, 167, 0, 4, 3, 172]
abbrev dktX5_has_0 : List UInt8 := dkwX5_has_0 ++ []
theorem dksX5_has_0 : cX5_has.data.toList.drop 0 = dktX5_has_0 := by decide +kernel
theorem dX5_has_0 : decode cX5_has 0 = .ok (.iload_n 0, 1) := dk_26 (dk_at dksX5_has_0 0 rfl rfl)
theorem dX5_has_1 : decode cX5_has 1 = .ok (.iload_n 1, 1) := dk_27 (dk_at dksX5_has_0 1 rfl rfl)
theorem dX5_has_2 : decode cX5_has 2 = .ok (.ishr, 1) := dk_122 (dk_at dksX5_has_0 2 rfl rfl)
theorem dX5_has_3 : decode cX5_has 3 = .ok (.iconst 1, 1) := dk_4 (dk_at dksX5_has_0 3 rfl rfl)
theorem dX5_has_4 : decode cX5_has 4 = .ok (.iand, 1) := dk_126 (dk_at dksX5_has_0 4 rfl rfl)
theorem dX5_has_5 : decode cX5_has 5 = .ok (.iconst 1, 1) := dk_4 (dk_at dksX5_has_0 5 rfl rfl)
theorem dX5_has_6 : decode cX5_has 6 = .ok (.if_icmp .ne 7, 3) := dk_160 0 7 (dk_at dksX5_has_0 6 rfl rfl)
theorem dX5_has_9 : decode cX5_has 9 = .ok (.iconst 1, 1) := dk_4 (dk_at dksX5_has_0 9 rfl rfl)
theorem dX5_has_10 : decode cX5_has 10 = .ok (.goto 4, 3) := dk_167 0 4 (dk_at dksX5_has_0 10 rfl rfl)
theorem dX5_has_13 : decode cX5_has 13 = .ok (.iconst 0, 1) := dk_3 (dk_at dksX5_has_0 13 rfl rfl)
theorem dX5_has_14 : decode cX5_has 14 = .ok (.ireturn, 1) := dk_172 (dk_at dksX5_has_0 14 rfl rfl)
abbrev cX5_take : ByteArray := prog_22_method_30_code
def yX5_take : MethodName := ⟨RX5, "take", "(II)I"⟩
def dkwX5_take_1 : List UInt8 := [182, 0, 235, 172]
abbrev dktX5_take_1 : List UInt8 := dkwX5_take_1 ++ []
def dkwX5_take_0 : List UInt8 := [42, 27, 28, 182, 0, 253, 154, 0, 5, 2, 172, 42, 27, 28, 182, 0, 255, 42, 182, 0, 247, 42, 27, 28]
abbrev dktX5_take_0 : List UInt8 := dkwX5_take_0 ++ dktX5_take_1
theorem dksX5_take_0 : cX5_take.data.toList.drop 0 = dktX5_take_0 := by decide +kernel
theorem dksX5_take_1 : cX5_take.data.toList.drop 24 = dktX5_take_1 := dk_seg dksX5_take_0 24 rfl rfl
theorem dX5_take_0 : decode cX5_take 0 = .ok (.aload_n 0, 1) := dk_42 (dk_at dksX5_take_0 0 rfl rfl)
theorem dX5_take_1 : decode cX5_take 1 = .ok (.iload_n 1, 1) := dk_27 (dk_at dksX5_take_0 1 rfl rfl)
theorem dX5_take_2 : decode cX5_take 2 = .ok (.iload_n 2, 1) := dk_28 (dk_at dksX5_take_0 2 rfl rfl)
theorem dX5_take_3 : decode cX5_take 3 = .ok (.invokevirtual 253, 3) := dk_182 0 253 (dk_at dksX5_take_0 3 rfl rfl)
theorem dX5_take_6 : decode cX5_take 6 = .ok (.ifCond .ne 5, 3) := dk_154 0 5 (dk_at dksX5_take_0 6 rfl rfl)
theorem dX5_take_9 : decode cX5_take 9 = .ok (.iconst (-1), 1) := dk_2 (dk_at dksX5_take_0 9 rfl rfl)
theorem dX5_take_10 : decode cX5_take 10 = .ok (.ireturn, 1) := dk_172 (dk_at dksX5_take_0 10 rfl rfl)
theorem dX5_take_11 : decode cX5_take 11 = .ok (.aload_n 0, 1) := dk_42 (dk_at dksX5_take_0 11 rfl rfl)
theorem dX5_take_12 : decode cX5_take 12 = .ok (.iload_n 1, 1) := dk_27 (dk_at dksX5_take_0 12 rfl rfl)
theorem dX5_take_13 : decode cX5_take 13 = .ok (.iload_n 2, 1) := dk_28 (dk_at dksX5_take_0 13 rfl rfl)
theorem dX5_take_14 : decode cX5_take 14 = .ok (.invokevirtual 255, 3) := dk_182 0 255 (dk_at dksX5_take_0 14 rfl rfl)
theorem dX5_take_17 : decode cX5_take 17 = .ok (.aload_n 0, 1) := dk_42 (dk_at dksX5_take_0 17 rfl rfl)
theorem dX5_take_18 : decode cX5_take 18 = .ok (.invokevirtual 247, 3) := dk_182 0 247 (dk_at dksX5_take_0 18 rfl rfl)
theorem dX5_take_21 : decode cX5_take 21 = .ok (.aload_n 0, 1) := dk_42 (dk_at dksX5_take_0 21 rfl rfl)
theorem dX5_take_22 : decode cX5_take 22 = .ok (.iload_n 1, 1) := dk_27 (dk_at dksX5_take_0 22 rfl rfl)
theorem dX5_take_23 : decode cX5_take 23 = .ok (.iload_n 2, 1) := dk_28 (dk_at dksX5_take_0 23 rfl rfl)
theorem dX5_take_24 : decode cX5_take 24 = .ok (.invokevirtual 235, 3) := dk_182 0 235 (dk_at dksX5_take_1 0 rfl rfl)
theorem dX5_take_27 : decode cX5_take 27 = .ok (.ireturn, 1) := dk_172 (dk_at dksX5_take_1 3 rfl rfl)
abbrev cX5_isListed : ByteArray := prog_22_method_23_code
def yX5_isListed : MethodName := ⟨RX5, "isListed", "(II)Z"⟩
def dkwX5_isListed_1 : List UInt8 := [153, 0, 7, 4, 167, 0, 4, 3, 172]
abbrev dktX5_isListed_1 : List UInt8 := dkwX5_isListed_1 ++ []
def dkwX5_isListed_0 : List UInt8 := [42, 27, 182, 0, 232, 153, 0, 25, 28, 133, 9, 42, 180, 0, 28, 27, 46, 4, 100, 133, 184, 0, 148]
abbrev dktX5_isListed_0 : List UInt8 := dkwX5_isListed_0 ++ dktX5_isListed_1
theorem dksX5_isListed_0 : cX5_isListed.data.toList.drop 0 = dktX5_isListed_0 := by decide +kernel
theorem dksX5_isListed_1 : cX5_isListed.data.toList.drop 23 = dktX5_isListed_1 := dk_seg dksX5_isListed_0 23 rfl rfl
theorem dX5_isListed_0 : decode cX5_isListed 0 = .ok (.aload_n 0, 1) := dk_42 (dk_at dksX5_isListed_0 0 rfl rfl)
theorem dX5_isListed_1 : decode cX5_isListed 1 = .ok (.iload_n 1, 1) := dk_27 (dk_at dksX5_isListed_0 1 rfl rfl)
theorem dX5_isListed_2 : decode cX5_isListed 2 = .ok (.invokevirtual 232, 3) := dk_182 0 232 (dk_at dksX5_isListed_0 2 rfl rfl)
theorem dX5_isListed_5 : decode cX5_isListed 5 = .ok (.ifCond .eq 25, 3) := dk_153 0 25 (dk_at dksX5_isListed_0 5 rfl rfl)
theorem dX5_isListed_8 : decode cX5_isListed 8 = .ok (.iload_n 2, 1) := dk_28 (dk_at dksX5_isListed_0 8 rfl rfl)
theorem dX5_isListed_9 : decode cX5_isListed 9 = .ok (.i2l, 1) := dk_133 (dk_at dksX5_isListed_0 9 rfl rfl)
theorem dX5_isListed_10 : decode cX5_isListed 10 = .ok (.lconst 0, 1) := dk_9 (dk_at dksX5_isListed_0 10 rfl rfl)
theorem dX5_isListed_11 : decode cX5_isListed 11 = .ok (.aload_n 0, 1) := dk_42 (dk_at dksX5_isListed_0 11 rfl rfl)
theorem dX5_isListed_12 : decode cX5_isListed 12 = .ok (.getfield 28, 3) := dk_180 0 28 (dk_at dksX5_isListed_0 12 rfl rfl)
theorem dX5_isListed_15 : decode cX5_isListed 15 = .ok (.iload_n 1, 1) := dk_27 (dk_at dksX5_isListed_0 15 rfl rfl)
theorem dX5_isListed_16 : decode cX5_isListed 16 = .ok (.iaload, 1) := dk_46 (dk_at dksX5_isListed_0 16 rfl rfl)
theorem dX5_isListed_17 : decode cX5_isListed 17 = .ok (.iconst 1, 1) := dk_4 (dk_at dksX5_isListed_0 17 rfl rfl)
theorem dX5_isListed_18 : decode cX5_isListed 18 = .ok (.isub, 1) := dk_100 (dk_at dksX5_isListed_0 18 rfl rfl)
theorem dX5_isListed_19 : decode cX5_isListed 19 = .ok (.i2l, 1) := dk_133 (dk_at dksX5_isListed_0 19 rfl rfl)
theorem dX5_isListed_20 : decode cX5_isListed 20 = .ok (.invokestatic 148, 3) := dk_184 0 148 (dk_at dksX5_isListed_0 20 rfl rfl)
theorem dX5_isListed_23 : decode cX5_isListed 23 = .ok (.ifCond .eq 7, 3) := dk_153 0 7 (dk_at dksX5_isListed_1 0 rfl rfl)
theorem dX5_isListed_26 : decode cX5_isListed 26 = .ok (.iconst 1, 1) := dk_4 (dk_at dksX5_isListed_1 3 rfl rfl)
theorem dX5_isListed_27 : decode cX5_isListed 27 = .ok (.goto 4, 3) := dk_167 0 4 (dk_at dksX5_isListed_1 4 rfl rfl)
theorem dX5_isListed_30 : decode cX5_isListed 30 = .ok (.iconst 0, 1) := dk_3 (dk_at dksX5_isListed_1 7 rfl rfl)
theorem dX5_isListed_31 : decode cX5_isListed 31 = .ok (.ireturn, 1) := dk_172 (dk_at dksX5_isListed_1 8 rfl rfl)
abbrev cX5_isListOf : ByteArray := prog_22_method_22_code
def yX5_isListOf : MethodName := ⟨RX5, "isListOf", "(I)Z"⟩
def dkwX5_isListOf_0 : List UInt8 := [42, 182, 0, 227, 27, 133, 10, 20, 0, 230, 184, 0, 148, 172]
abbrev dktX5_isListOf_0 : List UInt8 := dkwX5_isListOf_0 ++ []
theorem dksX5_isListOf_0 : cX5_isListOf.data.toList.drop 0 = dktX5_isListOf_0 := by decide +kernel
theorem dX5_isListOf_0 : decode cX5_isListOf 0 = .ok (.aload_n 0, 1) := dk_42 (dk_at dksX5_isListOf_0 0 rfl rfl)
theorem dX5_isListOf_1 : decode cX5_isListOf 1 = .ok (.invokevirtual 227, 3) := dk_182 0 227 (dk_at dksX5_isListOf_0 1 rfl rfl)
theorem dX5_isListOf_4 : decode cX5_isListOf 4 = .ok (.iload_n 1, 1) := dk_27 (dk_at dksX5_isListOf_0 4 rfl rfl)
theorem dX5_isListOf_5 : decode cX5_isListOf 5 = .ok (.i2l, 1) := dk_133 (dk_at dksX5_isListOf_0 5 rfl rfl)
theorem dX5_isListOf_6 : decode cX5_isListOf 6 = .ok (.lconst 1, 1) := dk_10 (dk_at dksX5_isListOf_0 6 rfl rfl)
theorem dX5_isListOf_7 : decode cX5_isListOf 7 = .ok (.ldc2_w 230, 3) := dk_20 0 230 (dk_at dksX5_isListOf_0 7 rfl rfl)
theorem dX5_isListOf_10 : decode cX5_isListOf 10 = .ok (.invokestatic 148, 3) := dk_184 0 148 (dk_at dksX5_isListOf_0 10 rfl rfl)
theorem dX5_isListOf_13 : decode cX5_isListOf 13 = .ok (.ireturn, 1) := dk_172 (dk_at dksX5_isListOf_0 13 rfl rfl)
abbrev cX5_lists : ByteArray := prog_22_method_21_code
def yX5_lists : MethodName := ⟨RX5, "lists", "()V"⟩
def dkwX5_lists_5 : List UInt8 := [167, 255, 169, 132, 1, 1, 167, 255, 155, 177]
abbrev dktX5_lists_5 : List UInt8 := dkwX5_lists_5 ++ []
def dkwX5_lists_4 : List UInt8 := [100, 182, 0, 206, 42, 27, 42, 182, 0, 224, 182, 0, 218, 132, 3, 1, 167, 255, 189, 132, 2, 1]
abbrev dktX5_lists_4 : List UInt8 := dkwX5_lists_4 ++ dktX5_lists_5
def dkwX5_lists_3 : List UInt8 := [54, 4, 42, 180, 0, 11, 29, 46, 184, 0, 160, 7, 162, 0, 25, 42, 27, 181, 0, 145, 42, 29, 27, 4]
abbrev dktX5_lists_3 : List UInt8 := dkwX5_lists_3 ++ dktX5_lists_4
def dkwX5_lists_2 : List UInt8 := [162, 0, 66, 42, 27, 4, 100, 42, 180, 0, 25, 16, 80, 27, 4, 100, 104, 28, 96, 46, 182, 0, 221]
abbrev dktX5_lists_2 : List UInt8 := dkwX5_lists_2 ++ dktX5_lists_3
def dkwX5_lists_1 : List UInt8 := [163, 0, 101, 3, 61, 28, 42, 180, 0, 28, 27, 4, 100, 46, 162, 0, 81, 3, 62, 29, 27, 4, 100]
abbrev dktX5_lists_1 : List UInt8 := dkwX5_lists_1 ++ dktX5_lists_2
def dkwX5_lists_0 : List UInt8 := [42, 180, 0, 214, 153, 0, 4, 177, 42, 4, 181, 0, 214, 42, 4, 3, 182, 0, 218, 5, 60, 27, 16, 10]
abbrev dktX5_lists_0 : List UInt8 := dkwX5_lists_0 ++ dktX5_lists_1
theorem dksX5_lists_0 : cX5_lists.data.toList.drop 0 = dktX5_lists_0 := by decide +kernel
theorem dksX5_lists_1 : cX5_lists.data.toList.drop 24 = dktX5_lists_1 := dk_seg dksX5_lists_0 24 rfl rfl
theorem dksX5_lists_2 : cX5_lists.data.toList.drop 47 = dktX5_lists_2 := dk_seg dksX5_lists_1 23 rfl rfl
theorem dksX5_lists_3 : cX5_lists.data.toList.drop 70 = dktX5_lists_3 := dk_seg dksX5_lists_2 23 rfl rfl
theorem dksX5_lists_4 : cX5_lists.data.toList.drop 94 = dktX5_lists_4 := dk_seg dksX5_lists_3 24 rfl rfl
theorem dksX5_lists_5 : cX5_lists.data.toList.drop 116 = dktX5_lists_5 := dk_seg dksX5_lists_4 22 rfl rfl
theorem dX5_lists_0 : decode cX5_lists 0 = .ok (.aload_n 0, 1) := dk_42 (dk_at dksX5_lists_0 0 rfl rfl)
theorem dX5_lists_1 : decode cX5_lists 1 = .ok (.getfield 214, 3) := dk_180 0 214 (dk_at dksX5_lists_0 1 rfl rfl)
theorem dX5_lists_4 : decode cX5_lists 4 = .ok (.ifCond .eq 4, 3) := dk_153 0 4 (dk_at dksX5_lists_0 4 rfl rfl)
theorem dX5_lists_7 : decode cX5_lists 7 = .ok (.return_, 1) := dk_177 (dk_at dksX5_lists_0 7 rfl rfl)
theorem dX5_lists_8 : decode cX5_lists 8 = .ok (.aload_n 0, 1) := dk_42 (dk_at dksX5_lists_0 8 rfl rfl)
theorem dX5_lists_9 : decode cX5_lists 9 = .ok (.iconst 1, 1) := dk_4 (dk_at dksX5_lists_0 9 rfl rfl)
theorem dX5_lists_10 : decode cX5_lists 10 = .ok (.putfield 214, 3) := dk_181 0 214 (dk_at dksX5_lists_0 10 rfl rfl)
theorem dX5_lists_13 : decode cX5_lists 13 = .ok (.aload_n 0, 1) := dk_42 (dk_at dksX5_lists_0 13 rfl rfl)
theorem dX5_lists_14 : decode cX5_lists 14 = .ok (.iconst 1, 1) := dk_4 (dk_at dksX5_lists_0 14 rfl rfl)
theorem dX5_lists_15 : decode cX5_lists 15 = .ok (.iconst 0, 1) := dk_3 (dk_at dksX5_lists_0 15 rfl rfl)
theorem dX5_lists_16 : decode cX5_lists 16 = .ok (.invokevirtual 218, 3) := dk_182 0 218 (dk_at dksX5_lists_0 16 rfl rfl)
theorem dX5_lists_19 : decode cX5_lists 19 = .ok (.iconst 2, 1) := dk_5 (dk_at dksX5_lists_0 19 rfl rfl)
theorem dX5_lists_20 : decode cX5_lists 20 = .ok (.istore_n 1, 1) := dk_60 (dk_at dksX5_lists_0 20 rfl rfl)
theorem dX5_lists_21 : decode cX5_lists 21 = .ok (.iload_n 1, 1) := dk_27 (dk_at dksX5_lists_0 21 rfl rfl)
theorem dX5_lists_22 : decode cX5_lists 22 = .ok (.bipush 10, 2) := dk_16 10 (dk_at dksX5_lists_0 22 rfl rfl)
theorem dX5_lists_24 : decode cX5_lists 24 = .ok (.if_icmp .gt 101, 3) := dk_163 0 101 (dk_at dksX5_lists_1 0 rfl rfl)
theorem dX5_lists_27 : decode cX5_lists 27 = .ok (.iconst 0, 1) := dk_3 (dk_at dksX5_lists_1 3 rfl rfl)
theorem dX5_lists_28 : decode cX5_lists 28 = .ok (.istore_n 2, 1) := dk_61 (dk_at dksX5_lists_1 4 rfl rfl)
theorem dX5_lists_29 : decode cX5_lists 29 = .ok (.iload_n 2, 1) := dk_28 (dk_at dksX5_lists_1 5 rfl rfl)
theorem dX5_lists_30 : decode cX5_lists 30 = .ok (.aload_n 0, 1) := dk_42 (dk_at dksX5_lists_1 6 rfl rfl)
theorem dX5_lists_31 : decode cX5_lists 31 = .ok (.getfield 28, 3) := dk_180 0 28 (dk_at dksX5_lists_1 7 rfl rfl)
theorem dX5_lists_34 : decode cX5_lists 34 = .ok (.iload_n 1, 1) := dk_27 (dk_at dksX5_lists_1 10 rfl rfl)
theorem dX5_lists_35 : decode cX5_lists 35 = .ok (.iconst 1, 1) := dk_4 (dk_at dksX5_lists_1 11 rfl rfl)
theorem dX5_lists_36 : decode cX5_lists 36 = .ok (.isub, 1) := dk_100 (dk_at dksX5_lists_1 12 rfl rfl)
theorem dX5_lists_37 : decode cX5_lists 37 = .ok (.iaload, 1) := dk_46 (dk_at dksX5_lists_1 13 rfl rfl)
theorem dX5_lists_38 : decode cX5_lists 38 = .ok (.if_icmp .ge 81, 3) := dk_162 0 81 (dk_at dksX5_lists_1 14 rfl rfl)
theorem dX5_lists_41 : decode cX5_lists 41 = .ok (.iconst 0, 1) := dk_3 (dk_at dksX5_lists_1 17 rfl rfl)
theorem dX5_lists_42 : decode cX5_lists 42 = .ok (.istore_n 3, 1) := dk_62 (dk_at dksX5_lists_1 18 rfl rfl)
theorem dX5_lists_43 : decode cX5_lists 43 = .ok (.iload_n 3, 1) := dk_29 (dk_at dksX5_lists_1 19 rfl rfl)
theorem dX5_lists_44 : decode cX5_lists 44 = .ok (.iload_n 1, 1) := dk_27 (dk_at dksX5_lists_1 20 rfl rfl)
theorem dX5_lists_45 : decode cX5_lists 45 = .ok (.iconst 1, 1) := dk_4 (dk_at dksX5_lists_1 21 rfl rfl)
theorem dX5_lists_46 : decode cX5_lists 46 = .ok (.isub, 1) := dk_100 (dk_at dksX5_lists_1 22 rfl rfl)
theorem dX5_lists_47 : decode cX5_lists 47 = .ok (.if_icmp .ge 66, 3) := dk_162 0 66 (dk_at dksX5_lists_2 0 rfl rfl)
theorem dX5_lists_50 : decode cX5_lists 50 = .ok (.aload_n 0, 1) := dk_42 (dk_at dksX5_lists_2 3 rfl rfl)
theorem dX5_lists_51 : decode cX5_lists 51 = .ok (.iload_n 1, 1) := dk_27 (dk_at dksX5_lists_2 4 rfl rfl)
theorem dX5_lists_52 : decode cX5_lists 52 = .ok (.iconst 1, 1) := dk_4 (dk_at dksX5_lists_2 5 rfl rfl)
theorem dX5_lists_53 : decode cX5_lists 53 = .ok (.isub, 1) := dk_100 (dk_at dksX5_lists_2 6 rfl rfl)
theorem dX5_lists_54 : decode cX5_lists 54 = .ok (.aload_n 0, 1) := dk_42 (dk_at dksX5_lists_2 7 rfl rfl)
theorem dX5_lists_55 : decode cX5_lists 55 = .ok (.getfield 25, 3) := dk_180 0 25 (dk_at dksX5_lists_2 8 rfl rfl)
theorem dX5_lists_58 : decode cX5_lists 58 = .ok (.bipush 80, 2) := dk_16 80 (dk_at dksX5_lists_2 11 rfl rfl)
theorem dX5_lists_60 : decode cX5_lists 60 = .ok (.iload_n 1, 1) := dk_27 (dk_at dksX5_lists_2 13 rfl rfl)
theorem dX5_lists_61 : decode cX5_lists 61 = .ok (.iconst 1, 1) := dk_4 (dk_at dksX5_lists_2 14 rfl rfl)
theorem dX5_lists_62 : decode cX5_lists 62 = .ok (.isub, 1) := dk_100 (dk_at dksX5_lists_2 15 rfl rfl)
theorem dX5_lists_63 : decode cX5_lists 63 = .ok (.imul, 1) := dk_104 (dk_at dksX5_lists_2 16 rfl rfl)
theorem dX5_lists_64 : decode cX5_lists 64 = .ok (.iload_n 2, 1) := dk_28 (dk_at dksX5_lists_2 17 rfl rfl)
theorem dX5_lists_65 : decode cX5_lists 65 = .ok (.iadd, 1) := dk_96 (dk_at dksX5_lists_2 18 rfl rfl)
theorem dX5_lists_66 : decode cX5_lists 66 = .ok (.iaload, 1) := dk_46 (dk_at dksX5_lists_2 19 rfl rfl)
theorem dX5_lists_67 : decode cX5_lists 67 = .ok (.invokevirtual 221, 3) := dk_182 0 221 (dk_at dksX5_lists_2 20 rfl rfl)
theorem dX5_lists_70 : decode cX5_lists 70 = .ok (.istore 4, 2) := dk_54 4 (dk_at dksX5_lists_3 0 rfl rfl)
theorem dX5_lists_72 : decode cX5_lists 72 = .ok (.aload_n 0, 1) := dk_42 (dk_at dksX5_lists_3 2 rfl rfl)
theorem dX5_lists_73 : decode cX5_lists 73 = .ok (.getfield 11, 3) := dk_180 0 11 (dk_at dksX5_lists_3 3 rfl rfl)
theorem dX5_lists_76 : decode cX5_lists 76 = .ok (.iload_n 3, 1) := dk_29 (dk_at dksX5_lists_3 6 rfl rfl)
theorem dX5_lists_77 : decode cX5_lists 77 = .ok (.iaload, 1) := dk_46 (dk_at dksX5_lists_3 7 rfl rfl)
theorem dX5_lists_78 : decode cX5_lists 78 = .ok (.invokestatic 160, 3) := dk_184 0 160 (dk_at dksX5_lists_3 8 rfl rfl)
theorem dX5_lists_81 : decode cX5_lists 81 = .ok (.iconst 4, 1) := dk_7 (dk_at dksX5_lists_3 11 rfl rfl)
theorem dX5_lists_82 : decode cX5_lists 82 = .ok (.if_icmp .ge 25, 3) := dk_162 0 25 (dk_at dksX5_lists_3 12 rfl rfl)
theorem dX5_lists_85 : decode cX5_lists 85 = .ok (.aload_n 0, 1) := dk_42 (dk_at dksX5_lists_3 15 rfl rfl)
theorem dX5_lists_86 : decode cX5_lists 86 = .ok (.iload_n 1, 1) := dk_27 (dk_at dksX5_lists_3 16 rfl rfl)
theorem dX5_lists_87 : decode cX5_lists 87 = .ok (.putfield 145, 3) := dk_181 0 145 (dk_at dksX5_lists_3 17 rfl rfl)
theorem dX5_lists_90 : decode cX5_lists 90 = .ok (.aload_n 0, 1) := dk_42 (dk_at dksX5_lists_3 20 rfl rfl)
theorem dX5_lists_91 : decode cX5_lists 91 = .ok (.iload_n 3, 1) := dk_29 (dk_at dksX5_lists_3 21 rfl rfl)
theorem dX5_lists_92 : decode cX5_lists 92 = .ok (.iload_n 1, 1) := dk_27 (dk_at dksX5_lists_3 22 rfl rfl)
theorem dX5_lists_93 : decode cX5_lists 93 = .ok (.iconst 1, 1) := dk_4 (dk_at dksX5_lists_3 23 rfl rfl)
theorem dX5_lists_94 : decode cX5_lists 94 = .ok (.isub, 1) := dk_100 (dk_at dksX5_lists_4 0 rfl rfl)
theorem dX5_lists_95 : decode cX5_lists 95 = .ok (.invokevirtual 206, 3) := dk_182 0 206 (dk_at dksX5_lists_4 1 rfl rfl)
theorem dX5_lists_98 : decode cX5_lists 98 = .ok (.aload_n 0, 1) := dk_42 (dk_at dksX5_lists_4 4 rfl rfl)
theorem dX5_lists_99 : decode cX5_lists 99 = .ok (.iload_n 1, 1) := dk_27 (dk_at dksX5_lists_4 5 rfl rfl)
theorem dX5_lists_100 : decode cX5_lists 100 = .ok (.aload_n 0, 1) := dk_42 (dk_at dksX5_lists_4 6 rfl rfl)
theorem dX5_lists_101 : decode cX5_lists 101 = .ok (.invokevirtual 224, 3) := dk_182 0 224 (dk_at dksX5_lists_4 7 rfl rfl)
theorem dX5_lists_104 : decode cX5_lists 104 = .ok (.invokevirtual 218, 3) := dk_182 0 218 (dk_at dksX5_lists_4 10 rfl rfl)
theorem dX5_lists_107 : decode cX5_lists 107 = .ok (.iinc 3 1, 3) := dk_132 3 1 (dk_at dksX5_lists_4 13 rfl rfl)
theorem dX5_lists_110 : decode cX5_lists 110 = .ok (.goto (-67), 3) := dk_167 255 189 (dk_at dksX5_lists_4 16 rfl rfl)
theorem dX5_lists_113 : decode cX5_lists 113 = .ok (.iinc 2 1, 3) := dk_132 2 1 (dk_at dksX5_lists_4 19 rfl rfl)
theorem dX5_lists_116 : decode cX5_lists 116 = .ok (.goto (-87), 3) := dk_167 255 169 (dk_at dksX5_lists_5 0 rfl rfl)
theorem dX5_lists_119 : decode cX5_lists 119 = .ok (.iinc 1 1, 3) := dk_132 1 1 (dk_at dksX5_lists_5 3 rfl rfl)
theorem dX5_lists_122 : decode cX5_lists 122 = .ok (.goto (-101), 3) := dk_167 255 155 (dk_at dksX5_lists_5 6 rfl rfl)
theorem dX5_lists_125 : decode cX5_lists 125 = .ok (.return_, 1) := dk_177 (dk_at dksX5_lists_5 9 rfl rfl)
abbrev cX5_keeps : ByteArray := prog_22_method_20_code
def yX5_keeps : MethodName := ⟨RX5, "keeps", "(II)V"⟩
def dkwX5_keeps_4 : List UInt8 := [96, 28, 79, 42, 180, 0, 28, 27, 92, 46, 4, 96, 79, 177]
abbrev dktX5_keeps_4 : List UInt8 := dkwX5_keeps_4 ++ []
def dkwX5_keeps_3 : List UInt8 := [180, 0, 25, 29, 21, 4, 96, 4, 100, 46, 79, 132, 4, 255, 167, 255, 213, 42, 180, 0, 25, 29, 21, 4]
abbrev dktX5_keeps_3 : List UInt8 := dkwX5_keeps_3 ++ dktX5_keeps_4
def dkwX5_keeps_2 : List UInt8 := [42, 180, 0, 25, 29, 21, 4, 96, 4, 100, 46, 28, 162, 0, 29, 42, 180, 0, 25, 29, 21, 4, 96, 42]
abbrev dktX5_keeps_2 : List UInt8 := dkwX5_keeps_2 ++ dktX5_keeps_3
def dkwX5_keeps_1 : List UInt8 := [180, 0, 25, 29, 21, 5, 96, 46, 28, 160, 0, 4, 177, 132, 5, 1, 167, 255, 232, 21, 4, 158, 0, 44]
abbrev dktX5_keeps_1 : List UInt8 := dkwX5_keeps_1 ++ dktX5_keeps_2
def dkwX5_keeps_0 : List UInt8 := [16, 80, 27, 104, 62, 42, 180, 0, 28, 27, 46, 54, 4, 3, 54, 5, 21, 5, 21, 4, 162, 0, 23, 42]
abbrev dktX5_keeps_0 : List UInt8 := dkwX5_keeps_0 ++ dktX5_keeps_1
theorem dksX5_keeps_0 : cX5_keeps.data.toList.drop 0 = dktX5_keeps_0 := by decide +kernel
theorem dksX5_keeps_1 : cX5_keeps.data.toList.drop 24 = dktX5_keeps_1 := dk_seg dksX5_keeps_0 24 rfl rfl
theorem dksX5_keeps_2 : cX5_keeps.data.toList.drop 48 = dktX5_keeps_2 := dk_seg dksX5_keeps_1 24 rfl rfl
theorem dksX5_keeps_3 : cX5_keeps.data.toList.drop 72 = dktX5_keeps_3 := dk_seg dksX5_keeps_2 24 rfl rfl
theorem dksX5_keeps_4 : cX5_keeps.data.toList.drop 96 = dktX5_keeps_4 := dk_seg dksX5_keeps_3 24 rfl rfl
theorem dX5_keeps_0 : decode cX5_keeps 0 = .ok (.bipush 80, 2) := dk_16 80 (dk_at dksX5_keeps_0 0 rfl rfl)
theorem dX5_keeps_2 : decode cX5_keeps 2 = .ok (.iload_n 1, 1) := dk_27 (dk_at dksX5_keeps_0 2 rfl rfl)
theorem dX5_keeps_3 : decode cX5_keeps 3 = .ok (.imul, 1) := dk_104 (dk_at dksX5_keeps_0 3 rfl rfl)
theorem dX5_keeps_4 : decode cX5_keeps 4 = .ok (.istore_n 3, 1) := dk_62 (dk_at dksX5_keeps_0 4 rfl rfl)
theorem dX5_keeps_5 : decode cX5_keeps 5 = .ok (.aload_n 0, 1) := dk_42 (dk_at dksX5_keeps_0 5 rfl rfl)
theorem dX5_keeps_6 : decode cX5_keeps 6 = .ok (.getfield 28, 3) := dk_180 0 28 (dk_at dksX5_keeps_0 6 rfl rfl)
theorem dX5_keeps_9 : decode cX5_keeps 9 = .ok (.iload_n 1, 1) := dk_27 (dk_at dksX5_keeps_0 9 rfl rfl)
theorem dX5_keeps_10 : decode cX5_keeps 10 = .ok (.iaload, 1) := dk_46 (dk_at dksX5_keeps_0 10 rfl rfl)
theorem dX5_keeps_11 : decode cX5_keeps 11 = .ok (.istore 4, 2) := dk_54 4 (dk_at dksX5_keeps_0 11 rfl rfl)
theorem dX5_keeps_13 : decode cX5_keeps 13 = .ok (.iconst 0, 1) := dk_3 (dk_at dksX5_keeps_0 13 rfl rfl)
theorem dX5_keeps_14 : decode cX5_keeps 14 = .ok (.istore 5, 2) := dk_54 5 (dk_at dksX5_keeps_0 14 rfl rfl)
theorem dX5_keeps_16 : decode cX5_keeps 16 = .ok (.iload 5, 2) := dk_21 5 (dk_at dksX5_keeps_0 16 rfl rfl)
theorem dX5_keeps_18 : decode cX5_keeps 18 = .ok (.iload 4, 2) := dk_21 4 (dk_at dksX5_keeps_0 18 rfl rfl)
theorem dX5_keeps_20 : decode cX5_keeps 20 = .ok (.if_icmp .ge 23, 3) := dk_162 0 23 (dk_at dksX5_keeps_0 20 rfl rfl)
theorem dX5_keeps_23 : decode cX5_keeps 23 = .ok (.aload_n 0, 1) := dk_42 (dk_at dksX5_keeps_0 23 rfl rfl)
theorem dX5_keeps_24 : decode cX5_keeps 24 = .ok (.getfield 25, 3) := dk_180 0 25 (dk_at dksX5_keeps_1 0 rfl rfl)
theorem dX5_keeps_27 : decode cX5_keeps 27 = .ok (.iload_n 3, 1) := dk_29 (dk_at dksX5_keeps_1 3 rfl rfl)
theorem dX5_keeps_28 : decode cX5_keeps 28 = .ok (.iload 5, 2) := dk_21 5 (dk_at dksX5_keeps_1 4 rfl rfl)
theorem dX5_keeps_30 : decode cX5_keeps 30 = .ok (.iadd, 1) := dk_96 (dk_at dksX5_keeps_1 6 rfl rfl)
theorem dX5_keeps_31 : decode cX5_keeps 31 = .ok (.iaload, 1) := dk_46 (dk_at dksX5_keeps_1 7 rfl rfl)
theorem dX5_keeps_32 : decode cX5_keeps 32 = .ok (.iload_n 2, 1) := dk_28 (dk_at dksX5_keeps_1 8 rfl rfl)
theorem dX5_keeps_33 : decode cX5_keeps 33 = .ok (.if_icmp .ne 4, 3) := dk_160 0 4 (dk_at dksX5_keeps_1 9 rfl rfl)
theorem dX5_keeps_36 : decode cX5_keeps 36 = .ok (.return_, 1) := dk_177 (dk_at dksX5_keeps_1 12 rfl rfl)
theorem dX5_keeps_37 : decode cX5_keeps 37 = .ok (.iinc 5 1, 3) := dk_132 5 1 (dk_at dksX5_keeps_1 13 rfl rfl)
theorem dX5_keeps_40 : decode cX5_keeps 40 = .ok (.goto (-24), 3) := dk_167 255 232 (dk_at dksX5_keeps_1 16 rfl rfl)
theorem dX5_keeps_43 : decode cX5_keeps 43 = .ok (.iload 4, 2) := dk_21 4 (dk_at dksX5_keeps_1 19 rfl rfl)
theorem dX5_keeps_45 : decode cX5_keeps 45 = .ok (.ifCond .le 44, 3) := dk_158 0 44 (dk_at dksX5_keeps_1 21 rfl rfl)
theorem dX5_keeps_48 : decode cX5_keeps 48 = .ok (.aload_n 0, 1) := dk_42 (dk_at dksX5_keeps_2 0 rfl rfl)
theorem dX5_keeps_49 : decode cX5_keeps 49 = .ok (.getfield 25, 3) := dk_180 0 25 (dk_at dksX5_keeps_2 1 rfl rfl)
theorem dX5_keeps_52 : decode cX5_keeps 52 = .ok (.iload_n 3, 1) := dk_29 (dk_at dksX5_keeps_2 4 rfl rfl)
theorem dX5_keeps_53 : decode cX5_keeps 53 = .ok (.iload 4, 2) := dk_21 4 (dk_at dksX5_keeps_2 5 rfl rfl)
theorem dX5_keeps_55 : decode cX5_keeps 55 = .ok (.iadd, 1) := dk_96 (dk_at dksX5_keeps_2 7 rfl rfl)
theorem dX5_keeps_56 : decode cX5_keeps 56 = .ok (.iconst 1, 1) := dk_4 (dk_at dksX5_keeps_2 8 rfl rfl)
theorem dX5_keeps_57 : decode cX5_keeps 57 = .ok (.isub, 1) := dk_100 (dk_at dksX5_keeps_2 9 rfl rfl)
theorem dX5_keeps_58 : decode cX5_keeps 58 = .ok (.iaload, 1) := dk_46 (dk_at dksX5_keeps_2 10 rfl rfl)
theorem dX5_keeps_59 : decode cX5_keeps 59 = .ok (.iload_n 2, 1) := dk_28 (dk_at dksX5_keeps_2 11 rfl rfl)
theorem dX5_keeps_60 : decode cX5_keeps 60 = .ok (.if_icmp .ge 29, 3) := dk_162 0 29 (dk_at dksX5_keeps_2 12 rfl rfl)
theorem dX5_keeps_63 : decode cX5_keeps 63 = .ok (.aload_n 0, 1) := dk_42 (dk_at dksX5_keeps_2 15 rfl rfl)
theorem dX5_keeps_64 : decode cX5_keeps 64 = .ok (.getfield 25, 3) := dk_180 0 25 (dk_at dksX5_keeps_2 16 rfl rfl)
theorem dX5_keeps_67 : decode cX5_keeps 67 = .ok (.iload_n 3, 1) := dk_29 (dk_at dksX5_keeps_2 19 rfl rfl)
theorem dX5_keeps_68 : decode cX5_keeps 68 = .ok (.iload 4, 2) := dk_21 4 (dk_at dksX5_keeps_2 20 rfl rfl)
theorem dX5_keeps_70 : decode cX5_keeps 70 = .ok (.iadd, 1) := dk_96 (dk_at dksX5_keeps_2 22 rfl rfl)
theorem dX5_keeps_71 : decode cX5_keeps 71 = .ok (.aload_n 0, 1) := dk_42 (dk_at dksX5_keeps_2 23 rfl rfl)
theorem dX5_keeps_72 : decode cX5_keeps 72 = .ok (.getfield 25, 3) := dk_180 0 25 (dk_at dksX5_keeps_3 0 rfl rfl)
theorem dX5_keeps_75 : decode cX5_keeps 75 = .ok (.iload_n 3, 1) := dk_29 (dk_at dksX5_keeps_3 3 rfl rfl)
theorem dX5_keeps_76 : decode cX5_keeps 76 = .ok (.iload 4, 2) := dk_21 4 (dk_at dksX5_keeps_3 4 rfl rfl)
theorem dX5_keeps_78 : decode cX5_keeps 78 = .ok (.iadd, 1) := dk_96 (dk_at dksX5_keeps_3 6 rfl rfl)
theorem dX5_keeps_79 : decode cX5_keeps 79 = .ok (.iconst 1, 1) := dk_4 (dk_at dksX5_keeps_3 7 rfl rfl)
theorem dX5_keeps_80 : decode cX5_keeps 80 = .ok (.isub, 1) := dk_100 (dk_at dksX5_keeps_3 8 rfl rfl)
theorem dX5_keeps_81 : decode cX5_keeps 81 = .ok (.iaload, 1) := dk_46 (dk_at dksX5_keeps_3 9 rfl rfl)
theorem dX5_keeps_82 : decode cX5_keeps 82 = .ok (.iastore, 1) := dk_79 (dk_at dksX5_keeps_3 10 rfl rfl)
theorem dX5_keeps_83 : decode cX5_keeps 83 = .ok (.iinc 4 (-1), 3) := dk_132 4 255 (dk_at dksX5_keeps_3 11 rfl rfl)
theorem dX5_keeps_86 : decode cX5_keeps 86 = .ok (.goto (-43), 3) := dk_167 255 213 (dk_at dksX5_keeps_3 14 rfl rfl)
theorem dX5_keeps_89 : decode cX5_keeps 89 = .ok (.aload_n 0, 1) := dk_42 (dk_at dksX5_keeps_3 17 rfl rfl)
theorem dX5_keeps_90 : decode cX5_keeps 90 = .ok (.getfield 25, 3) := dk_180 0 25 (dk_at dksX5_keeps_3 18 rfl rfl)
theorem dX5_keeps_93 : decode cX5_keeps 93 = .ok (.iload_n 3, 1) := dk_29 (dk_at dksX5_keeps_3 21 rfl rfl)
theorem dX5_keeps_94 : decode cX5_keeps 94 = .ok (.iload 4, 2) := dk_21 4 (dk_at dksX5_keeps_3 22 rfl rfl)
theorem dX5_keeps_96 : decode cX5_keeps 96 = .ok (.iadd, 1) := dk_96 (dk_at dksX5_keeps_4 0 rfl rfl)
theorem dX5_keeps_97 : decode cX5_keeps 97 = .ok (.iload_n 2, 1) := dk_28 (dk_at dksX5_keeps_4 1 rfl rfl)
theorem dX5_keeps_98 : decode cX5_keeps 98 = .ok (.iastore, 1) := dk_79 (dk_at dksX5_keeps_4 2 rfl rfl)
theorem dX5_keeps_99 : decode cX5_keeps 99 = .ok (.aload_n 0, 1) := dk_42 (dk_at dksX5_keeps_4 3 rfl rfl)
theorem dX5_keeps_100 : decode cX5_keeps 100 = .ok (.getfield 28, 3) := dk_180 0 28 (dk_at dksX5_keeps_4 4 rfl rfl)
theorem dX5_keeps_103 : decode cX5_keeps 103 = .ok (.iload_n 1, 1) := dk_27 (dk_at dksX5_keeps_4 7 rfl rfl)
theorem dX5_keeps_104 : decode cX5_keeps 104 = .ok (.dup2, 1) := dk_92 (dk_at dksX5_keeps_4 8 rfl rfl)
theorem dX5_keeps_105 : decode cX5_keeps 105 = .ok (.iaload, 1) := dk_46 (dk_at dksX5_keeps_4 9 rfl rfl)
theorem dX5_keeps_106 : decode cX5_keeps 106 = .ok (.iconst 1, 1) := dk_4 (dk_at dksX5_keeps_4 10 rfl rfl)
theorem dX5_keeps_107 : decode cX5_keeps 107 = .ok (.iadd, 1) := dk_96 (dk_at dksX5_keeps_4 11 rfl rfl)
theorem dX5_keeps_108 : decode cX5_keeps 108 = .ok (.iastore, 1) := dk_79 (dk_at dksX5_keeps_4 12 rfl rfl)
theorem dX5_keeps_109 : decode cX5_keeps 109 = .ok (.return_, 1) := dk_177 (dk_at dksX5_keeps_4 13 rfl rfl)
abbrev cX5_comesFrom : ByteArray := prog_22_method_19_code
def yX5_comesFrom : MethodName := ⟨RX5, "comesFrom", "(II)Z"⟩
def dkwX5_comesFrom_3 : List UInt8 := [42, 3, 2, 182, 0, 169, 28, 160, 0, 7, 4, 167, 0, 4, 3, 172]
abbrev dktX5_comesFrom_3 : List UInt8 := dkwX5_comesFrom_3 ++ []
def dkwX5_comesFrom_2 : List UInt8 := [181, 0, 194, 42, 3, 181, 0, 200, 42, 2, 182, 0, 210, 153, 0, 25, 42, 180, 0, 200, 27, 160, 0, 17]
abbrev dktX5_comesFrom_2 : List UInt8 := dkwX5_comesFrom_2 ++ dktX5_comesFrom_3
def dkwX5_comesFrom_1 : List UInt8 := [180, 0, 11, 29, 3, 79, 132, 3, 1, 167, 255, 240, 42, 27, 181, 0, 145, 42, 27, 181, 0, 197, 42, 28]
abbrev dktX5_comesFrom_1 : List UInt8 := dkwX5_comesFrom_1 ++ dktX5_comesFrom_2
def dkwX5_comesFrom_0 : List UInt8 := [28, 155, 0, 11, 28, 27, 184, 0, 177, 161, 0, 5, 3, 172, 3, 62, 29, 16, 13, 162, 0, 16, 42]
abbrev dktX5_comesFrom_0 : List UInt8 := dkwX5_comesFrom_0 ++ dktX5_comesFrom_1
theorem dksX5_comesFrom_0 : cX5_comesFrom.data.toList.drop 0 = dktX5_comesFrom_0 := by decide +kernel
theorem dksX5_comesFrom_1 : cX5_comesFrom.data.toList.drop 23 = dktX5_comesFrom_1 := dk_seg dksX5_comesFrom_0 23 rfl rfl
theorem dksX5_comesFrom_2 : cX5_comesFrom.data.toList.drop 47 = dktX5_comesFrom_2 := dk_seg dksX5_comesFrom_1 24 rfl rfl
theorem dksX5_comesFrom_3 : cX5_comesFrom.data.toList.drop 71 = dktX5_comesFrom_3 := dk_seg dksX5_comesFrom_2 24 rfl rfl
theorem dX5_comesFrom_0 : decode cX5_comesFrom 0 = .ok (.iload_n 2, 1) := dk_28 (dk_at dksX5_comesFrom_0 0 rfl rfl)
theorem dX5_comesFrom_1 : decode cX5_comesFrom 1 = .ok (.ifCond .lt 11, 3) := dk_155 0 11 (dk_at dksX5_comesFrom_0 1 rfl rfl)
theorem dX5_comesFrom_4 : decode cX5_comesFrom 4 = .ok (.iload_n 2, 1) := dk_28 (dk_at dksX5_comesFrom_0 4 rfl rfl)
theorem dX5_comesFrom_5 : decode cX5_comesFrom 5 = .ok (.iload_n 1, 1) := dk_27 (dk_at dksX5_comesFrom_0 5 rfl rfl)
theorem dX5_comesFrom_6 : decode cX5_comesFrom 6 = .ok (.invokestatic 177, 3) := dk_184 0 177 (dk_at dksX5_comesFrom_0 6 rfl rfl)
theorem dX5_comesFrom_9 : decode cX5_comesFrom 9 = .ok (.if_icmp .lt 5, 3) := dk_161 0 5 (dk_at dksX5_comesFrom_0 9 rfl rfl)
theorem dX5_comesFrom_12 : decode cX5_comesFrom 12 = .ok (.iconst 0, 1) := dk_3 (dk_at dksX5_comesFrom_0 12 rfl rfl)
theorem dX5_comesFrom_13 : decode cX5_comesFrom 13 = .ok (.ireturn, 1) := dk_172 (dk_at dksX5_comesFrom_0 13 rfl rfl)
theorem dX5_comesFrom_14 : decode cX5_comesFrom 14 = .ok (.iconst 0, 1) := dk_3 (dk_at dksX5_comesFrom_0 14 rfl rfl)
theorem dX5_comesFrom_15 : decode cX5_comesFrom 15 = .ok (.istore_n 3, 1) := dk_62 (dk_at dksX5_comesFrom_0 15 rfl rfl)
theorem dX5_comesFrom_16 : decode cX5_comesFrom 16 = .ok (.iload_n 3, 1) := dk_29 (dk_at dksX5_comesFrom_0 16 rfl rfl)
theorem dX5_comesFrom_17 : decode cX5_comesFrom 17 = .ok (.bipush 13, 2) := dk_16 13 (dk_at dksX5_comesFrom_0 17 rfl rfl)
theorem dX5_comesFrom_19 : decode cX5_comesFrom 19 = .ok (.if_icmp .ge 16, 3) := dk_162 0 16 (dk_at dksX5_comesFrom_0 19 rfl rfl)
theorem dX5_comesFrom_22 : decode cX5_comesFrom 22 = .ok (.aload_n 0, 1) := dk_42 (dk_at dksX5_comesFrom_0 22 rfl rfl)
theorem dX5_comesFrom_23 : decode cX5_comesFrom 23 = .ok (.getfield 11, 3) := dk_180 0 11 (dk_at dksX5_comesFrom_1 0 rfl rfl)
theorem dX5_comesFrom_26 : decode cX5_comesFrom 26 = .ok (.iload_n 3, 1) := dk_29 (dk_at dksX5_comesFrom_1 3 rfl rfl)
theorem dX5_comesFrom_27 : decode cX5_comesFrom 27 = .ok (.iconst 0, 1) := dk_3 (dk_at dksX5_comesFrom_1 4 rfl rfl)
theorem dX5_comesFrom_28 : decode cX5_comesFrom 28 = .ok (.iastore, 1) := dk_79 (dk_at dksX5_comesFrom_1 5 rfl rfl)
theorem dX5_comesFrom_29 : decode cX5_comesFrom 29 = .ok (.iinc 3 1, 3) := dk_132 3 1 (dk_at dksX5_comesFrom_1 6 rfl rfl)
theorem dX5_comesFrom_32 : decode cX5_comesFrom 32 = .ok (.goto (-16), 3) := dk_167 255 240 (dk_at dksX5_comesFrom_1 9 rfl rfl)
theorem dX5_comesFrom_35 : decode cX5_comesFrom 35 = .ok (.aload_n 0, 1) := dk_42 (dk_at dksX5_comesFrom_1 12 rfl rfl)
theorem dX5_comesFrom_36 : decode cX5_comesFrom 36 = .ok (.iload_n 1, 1) := dk_27 (dk_at dksX5_comesFrom_1 13 rfl rfl)
theorem dX5_comesFrom_37 : decode cX5_comesFrom 37 = .ok (.putfield 145, 3) := dk_181 0 145 (dk_at dksX5_comesFrom_1 14 rfl rfl)
theorem dX5_comesFrom_40 : decode cX5_comesFrom 40 = .ok (.aload_n 0, 1) := dk_42 (dk_at dksX5_comesFrom_1 17 rfl rfl)
theorem dX5_comesFrom_41 : decode cX5_comesFrom 41 = .ok (.iload_n 1, 1) := dk_27 (dk_at dksX5_comesFrom_1 18 rfl rfl)
theorem dX5_comesFrom_42 : decode cX5_comesFrom 42 = .ok (.putfield 197, 3) := dk_181 0 197 (dk_at dksX5_comesFrom_1 19 rfl rfl)
theorem dX5_comesFrom_45 : decode cX5_comesFrom 45 = .ok (.aload_n 0, 1) := dk_42 (dk_at dksX5_comesFrom_1 22 rfl rfl)
theorem dX5_comesFrom_46 : decode cX5_comesFrom 46 = .ok (.iload_n 2, 1) := dk_28 (dk_at dksX5_comesFrom_1 23 rfl rfl)
theorem dX5_comesFrom_47 : decode cX5_comesFrom 47 = .ok (.putfield 194, 3) := dk_181 0 194 (dk_at dksX5_comesFrom_2 0 rfl rfl)
theorem dX5_comesFrom_50 : decode cX5_comesFrom 50 = .ok (.aload_n 0, 1) := dk_42 (dk_at dksX5_comesFrom_2 3 rfl rfl)
theorem dX5_comesFrom_51 : decode cX5_comesFrom 51 = .ok (.iconst 0, 1) := dk_3 (dk_at dksX5_comesFrom_2 4 rfl rfl)
theorem dX5_comesFrom_52 : decode cX5_comesFrom 52 = .ok (.putfield 200, 3) := dk_181 0 200 (dk_at dksX5_comesFrom_2 5 rfl rfl)
theorem dX5_comesFrom_55 : decode cX5_comesFrom 55 = .ok (.aload_n 0, 1) := dk_42 (dk_at dksX5_comesFrom_2 8 rfl rfl)
theorem dX5_comesFrom_56 : decode cX5_comesFrom 56 = .ok (.iconst (-1), 1) := dk_2 (dk_at dksX5_comesFrom_2 9 rfl rfl)
theorem dX5_comesFrom_57 : decode cX5_comesFrom 57 = .ok (.invokevirtual 210, 3) := dk_182 0 210 (dk_at dksX5_comesFrom_2 10 rfl rfl)
theorem dX5_comesFrom_60 : decode cX5_comesFrom 60 = .ok (.ifCond .eq 25, 3) := dk_153 0 25 (dk_at dksX5_comesFrom_2 13 rfl rfl)
theorem dX5_comesFrom_63 : decode cX5_comesFrom 63 = .ok (.aload_n 0, 1) := dk_42 (dk_at dksX5_comesFrom_2 16 rfl rfl)
theorem dX5_comesFrom_64 : decode cX5_comesFrom 64 = .ok (.getfield 200, 3) := dk_180 0 200 (dk_at dksX5_comesFrom_2 17 rfl rfl)
theorem dX5_comesFrom_67 : decode cX5_comesFrom 67 = .ok (.iload_n 1, 1) := dk_27 (dk_at dksX5_comesFrom_2 20 rfl rfl)
theorem dX5_comesFrom_68 : decode cX5_comesFrom 68 = .ok (.if_icmp .ne 17, 3) := dk_160 0 17 (dk_at dksX5_comesFrom_2 21 rfl rfl)
theorem dX5_comesFrom_71 : decode cX5_comesFrom 71 = .ok (.aload_n 0, 1) := dk_42 (dk_at dksX5_comesFrom_3 0 rfl rfl)
theorem dX5_comesFrom_72 : decode cX5_comesFrom 72 = .ok (.iconst 0, 1) := dk_3 (dk_at dksX5_comesFrom_3 1 rfl rfl)
theorem dX5_comesFrom_73 : decode cX5_comesFrom 73 = .ok (.iconst (-1), 1) := dk_2 (dk_at dksX5_comesFrom_3 2 rfl rfl)
theorem dX5_comesFrom_74 : decode cX5_comesFrom 74 = .ok (.invokevirtual 169, 3) := dk_182 0 169 (dk_at dksX5_comesFrom_3 3 rfl rfl)
theorem dX5_comesFrom_77 : decode cX5_comesFrom 77 = .ok (.iload_n 2, 1) := dk_28 (dk_at dksX5_comesFrom_3 6 rfl rfl)
theorem dX5_comesFrom_78 : decode cX5_comesFrom 78 = .ok (.if_icmp .ne 7, 3) := dk_160 0 7 (dk_at dksX5_comesFrom_3 7 rfl rfl)
theorem dX5_comesFrom_81 : decode cX5_comesFrom 81 = .ok (.iconst 1, 1) := dk_4 (dk_at dksX5_comesFrom_3 10 rfl rfl)
theorem dX5_comesFrom_82 : decode cX5_comesFrom 82 = .ok (.goto 4, 3) := dk_167 0 4 (dk_at dksX5_comesFrom_3 11 rfl rfl)
theorem dX5_comesFrom_85 : decode cX5_comesFrom 85 = .ok (.iconst 0, 1) := dk_3 (dk_at dksX5_comesFrom_3 14 rfl rfl)
theorem dX5_comesFrom_86 : decode cX5_comesFrom 86 = .ok (.ireturn, 1) := dk_172 (dk_at dksX5_comesFrom_3 15 rfl rfl)
abbrev cX5_power : ByteArray := prog_22_method_8_code
def yX5_power : MethodName := ⟨RX5, "power", "(I)I"⟩
def dkwX5_power_0 : List UInt8 := [4, 60, 3, 61, 28, 26, 162, 0, 13, 27, 8, 104, 60, 132, 2, 1, 167, 255, 244, 27, 172]
abbrev dktX5_power_0 : List UInt8 := dkwX5_power_0 ++ []
theorem dksX5_power_0 : cX5_power.data.toList.drop 0 = dktX5_power_0 := by decide +kernel
theorem dX5_power_0 : decode cX5_power 0 = .ok (.iconst 1, 1) := dk_4 (dk_at dksX5_power_0 0 rfl rfl)
theorem dX5_power_1 : decode cX5_power 1 = .ok (.istore_n 1, 1) := dk_60 (dk_at dksX5_power_0 1 rfl rfl)
theorem dX5_power_2 : decode cX5_power 2 = .ok (.iconst 0, 1) := dk_3 (dk_at dksX5_power_0 2 rfl rfl)
theorem dX5_power_3 : decode cX5_power 3 = .ok (.istore_n 2, 1) := dk_61 (dk_at dksX5_power_0 3 rfl rfl)
theorem dX5_power_4 : decode cX5_power 4 = .ok (.iload_n 2, 1) := dk_28 (dk_at dksX5_power_0 4 rfl rfl)
theorem dX5_power_5 : decode cX5_power 5 = .ok (.iload_n 0, 1) := dk_26 (dk_at dksX5_power_0 5 rfl rfl)
theorem dX5_power_6 : decode cX5_power 6 = .ok (.if_icmp .ge 13, 3) := dk_162 0 13 (dk_at dksX5_power_0 6 rfl rfl)
theorem dX5_power_9 : decode cX5_power 9 = .ok (.iload_n 1, 1) := dk_27 (dk_at dksX5_power_0 9 rfl rfl)
theorem dX5_power_10 : decode cX5_power 10 = .ok (.iconst 5, 1) := dk_8 (dk_at dksX5_power_0 10 rfl rfl)
theorem dX5_power_11 : decode cX5_power 11 = .ok (.imul, 1) := dk_104 (dk_at dksX5_power_0 11 rfl rfl)
theorem dX5_power_12 : decode cX5_power 12 = .ok (.istore_n 1, 1) := dk_60 (dk_at dksX5_power_0 12 rfl rfl)
theorem dX5_power_13 : decode cX5_power 13 = .ok (.iinc 2 1, 3) := dk_132 2 1 (dk_at dksX5_power_0 13 rfl rfl)
theorem dX5_power_16 : decode cX5_power 16 = .ok (.goto (-12), 3) := dk_167 255 244 (dk_at dksX5_power_0 16 rfl rfl)
theorem dX5_power_19 : decode cX5_power 19 = .ok (.iload_n 1, 1) := dk_27 (dk_at dksX5_power_0 19 rfl rfl)
theorem dX5_power_20 : decode cX5_power 20 = .ok (.ireturn, 1) := dk_172 (dk_at dksX5_power_0 20 rfl rfl)
abbrev cX5_grows : ByteArray := prog_22_method_18_code
def yX5_grows : MethodName := ⟨RX5, "grows", "(I)Z"⟩
def dkwX5_grows_4 : List UInt8 := [132, 5, 1, 167, 255, 235, 21, 4, 172]
abbrev dktX5_grows_4 : List UInt8 := dkwX5_grows_4 ++ []
def dkwX5_grows_3 : List UInt8 := [54, 4, 3, 54, 5, 21, 5, 29, 162, 0, 21, 21, 4, 153, 0, 16, 42, 28, 182, 0, 210, 54, 4]
abbrev dktX5_grows_3 : List UInt8 := dkwX5_grows_3 ++ dktX5_grows_4
def dkwX5_grows_2 : List UInt8 := [182, 0, 206, 29, 27, 2, 160, 0, 7, 3, 167, 0, 4, 4, 96, 7, 163, 0, 7, 4, 167, 0, 4, 3]
abbrev dktX5_grows_2 : List UInt8 := dkwX5_grows_2 ++ dktX5_grows_3
def dkwX5_grows_1 : List UInt8 := [182, 0, 203, 62, 42, 89, 180, 0, 200, 4, 96, 181, 0, 200, 27, 2, 159, 0, 9, 42, 27, 28]
abbrev dktX5_grows_1 : List UInt8 := dkwX5_grows_1 ++ dktX5_grows_2
def dkwX5_grows_0 : List UInt8 := [42, 180, 0, 200, 42, 180, 0, 197, 161, 0, 5, 3, 172, 42, 180, 0, 200, 61, 42, 42, 180, 0, 200]
abbrev dktX5_grows_0 : List UInt8 := dkwX5_grows_0 ++ dktX5_grows_1
theorem dksX5_grows_0 : cX5_grows.data.toList.drop 0 = dktX5_grows_0 := by decide +kernel
theorem dksX5_grows_1 : cX5_grows.data.toList.drop 23 = dktX5_grows_1 := dk_seg dksX5_grows_0 23 rfl rfl
theorem dksX5_grows_2 : cX5_grows.data.toList.drop 45 = dktX5_grows_2 := dk_seg dksX5_grows_1 22 rfl rfl
theorem dksX5_grows_3 : cX5_grows.data.toList.drop 69 = dktX5_grows_3 := dk_seg dksX5_grows_2 24 rfl rfl
theorem dksX5_grows_4 : cX5_grows.data.toList.drop 92 = dktX5_grows_4 := dk_seg dksX5_grows_3 23 rfl rfl
theorem dX5_grows_0 : decode cX5_grows 0 = .ok (.aload_n 0, 1) := dk_42 (dk_at dksX5_grows_0 0 rfl rfl)
theorem dX5_grows_1 : decode cX5_grows 1 = .ok (.getfield 200, 3) := dk_180 0 200 (dk_at dksX5_grows_0 1 rfl rfl)
theorem dX5_grows_4 : decode cX5_grows 4 = .ok (.aload_n 0, 1) := dk_42 (dk_at dksX5_grows_0 4 rfl rfl)
theorem dX5_grows_5 : decode cX5_grows 5 = .ok (.getfield 197, 3) := dk_180 0 197 (dk_at dksX5_grows_0 5 rfl rfl)
theorem dX5_grows_8 : decode cX5_grows 8 = .ok (.if_icmp .lt 5, 3) := dk_161 0 5 (dk_at dksX5_grows_0 8 rfl rfl)
theorem dX5_grows_11 : decode cX5_grows 11 = .ok (.iconst 0, 1) := dk_3 (dk_at dksX5_grows_0 11 rfl rfl)
theorem dX5_grows_12 : decode cX5_grows 12 = .ok (.ireturn, 1) := dk_172 (dk_at dksX5_grows_0 12 rfl rfl)
theorem dX5_grows_13 : decode cX5_grows 13 = .ok (.aload_n 0, 1) := dk_42 (dk_at dksX5_grows_0 13 rfl rfl)
theorem dX5_grows_14 : decode cX5_grows 14 = .ok (.getfield 200, 3) := dk_180 0 200 (dk_at dksX5_grows_0 14 rfl rfl)
theorem dX5_grows_17 : decode cX5_grows 17 = .ok (.istore_n 2, 1) := dk_61 (dk_at dksX5_grows_0 17 rfl rfl)
theorem dX5_grows_18 : decode cX5_grows 18 = .ok (.aload_n 0, 1) := dk_42 (dk_at dksX5_grows_0 18 rfl rfl)
theorem dX5_grows_19 : decode cX5_grows 19 = .ok (.aload_n 0, 1) := dk_42 (dk_at dksX5_grows_0 19 rfl rfl)
theorem dX5_grows_20 : decode cX5_grows 20 = .ok (.getfield 200, 3) := dk_180 0 200 (dk_at dksX5_grows_0 20 rfl rfl)
theorem dX5_grows_23 : decode cX5_grows 23 = .ok (.invokevirtual 203, 3) := dk_182 0 203 (dk_at dksX5_grows_1 0 rfl rfl)
theorem dX5_grows_26 : decode cX5_grows 26 = .ok (.istore_n 3, 1) := dk_62 (dk_at dksX5_grows_1 3 rfl rfl)
theorem dX5_grows_27 : decode cX5_grows 27 = .ok (.aload_n 0, 1) := dk_42 (dk_at dksX5_grows_1 4 rfl rfl)
theorem dX5_grows_28 : decode cX5_grows 28 = .ok (.dup, 1) := dk_89 (dk_at dksX5_grows_1 5 rfl rfl)
theorem dX5_grows_29 : decode cX5_grows 29 = .ok (.getfield 200, 3) := dk_180 0 200 (dk_at dksX5_grows_1 6 rfl rfl)
theorem dX5_grows_32 : decode cX5_grows 32 = .ok (.iconst 1, 1) := dk_4 (dk_at dksX5_grows_1 9 rfl rfl)
theorem dX5_grows_33 : decode cX5_grows 33 = .ok (.iadd, 1) := dk_96 (dk_at dksX5_grows_1 10 rfl rfl)
theorem dX5_grows_34 : decode cX5_grows 34 = .ok (.putfield 200, 3) := dk_181 0 200 (dk_at dksX5_grows_1 11 rfl rfl)
theorem dX5_grows_37 : decode cX5_grows 37 = .ok (.iload_n 1, 1) := dk_27 (dk_at dksX5_grows_1 14 rfl rfl)
theorem dX5_grows_38 : decode cX5_grows 38 = .ok (.iconst (-1), 1) := dk_2 (dk_at dksX5_grows_1 15 rfl rfl)
theorem dX5_grows_39 : decode cX5_grows 39 = .ok (.if_icmp .eq 9, 3) := dk_159 0 9 (dk_at dksX5_grows_1 16 rfl rfl)
theorem dX5_grows_42 : decode cX5_grows 42 = .ok (.aload_n 0, 1) := dk_42 (dk_at dksX5_grows_1 19 rfl rfl)
theorem dX5_grows_43 : decode cX5_grows 43 = .ok (.iload_n 1, 1) := dk_27 (dk_at dksX5_grows_1 20 rfl rfl)
theorem dX5_grows_44 : decode cX5_grows 44 = .ok (.iload_n 2, 1) := dk_28 (dk_at dksX5_grows_1 21 rfl rfl)
theorem dX5_grows_45 : decode cX5_grows 45 = .ok (.invokevirtual 206, 3) := dk_182 0 206 (dk_at dksX5_grows_2 0 rfl rfl)
theorem dX5_grows_48 : decode cX5_grows 48 = .ok (.iload_n 3, 1) := dk_29 (dk_at dksX5_grows_2 3 rfl rfl)
theorem dX5_grows_49 : decode cX5_grows 49 = .ok (.iload_n 1, 1) := dk_27 (dk_at dksX5_grows_2 4 rfl rfl)
theorem dX5_grows_50 : decode cX5_grows 50 = .ok (.iconst (-1), 1) := dk_2 (dk_at dksX5_grows_2 5 rfl rfl)
theorem dX5_grows_51 : decode cX5_grows 51 = .ok (.if_icmp .ne 7, 3) := dk_160 0 7 (dk_at dksX5_grows_2 6 rfl rfl)
theorem dX5_grows_54 : decode cX5_grows 54 = .ok (.iconst 0, 1) := dk_3 (dk_at dksX5_grows_2 9 rfl rfl)
theorem dX5_grows_55 : decode cX5_grows 55 = .ok (.goto 4, 3) := dk_167 0 4 (dk_at dksX5_grows_2 10 rfl rfl)
theorem dX5_grows_58 : decode cX5_grows 58 = .ok (.iconst 1, 1) := dk_4 (dk_at dksX5_grows_2 13 rfl rfl)
theorem dX5_grows_59 : decode cX5_grows 59 = .ok (.iadd, 1) := dk_96 (dk_at dksX5_grows_2 14 rfl rfl)
theorem dX5_grows_60 : decode cX5_grows 60 = .ok (.iconst 4, 1) := dk_7 (dk_at dksX5_grows_2 15 rfl rfl)
theorem dX5_grows_61 : decode cX5_grows 61 = .ok (.if_icmp .gt 7, 3) := dk_163 0 7 (dk_at dksX5_grows_2 16 rfl rfl)
theorem dX5_grows_64 : decode cX5_grows 64 = .ok (.iconst 1, 1) := dk_4 (dk_at dksX5_grows_2 19 rfl rfl)
theorem dX5_grows_65 : decode cX5_grows 65 = .ok (.goto 4, 3) := dk_167 0 4 (dk_at dksX5_grows_2 20 rfl rfl)
theorem dX5_grows_68 : decode cX5_grows 68 = .ok (.iconst 0, 1) := dk_3 (dk_at dksX5_grows_2 23 rfl rfl)
theorem dX5_grows_69 : decode cX5_grows 69 = .ok (.istore 4, 2) := dk_54 4 (dk_at dksX5_grows_3 0 rfl rfl)
theorem dX5_grows_71 : decode cX5_grows 71 = .ok (.iconst 0, 1) := dk_3 (dk_at dksX5_grows_3 2 rfl rfl)
theorem dX5_grows_72 : decode cX5_grows 72 = .ok (.istore 5, 2) := dk_54 5 (dk_at dksX5_grows_3 3 rfl rfl)
theorem dX5_grows_74 : decode cX5_grows 74 = .ok (.iload 5, 2) := dk_21 5 (dk_at dksX5_grows_3 5 rfl rfl)
theorem dX5_grows_76 : decode cX5_grows 76 = .ok (.iload_n 3, 1) := dk_29 (dk_at dksX5_grows_3 7 rfl rfl)
theorem dX5_grows_77 : decode cX5_grows 77 = .ok (.if_icmp .ge 21, 3) := dk_162 0 21 (dk_at dksX5_grows_3 8 rfl rfl)
theorem dX5_grows_80 : decode cX5_grows 80 = .ok (.iload 4, 2) := dk_21 4 (dk_at dksX5_grows_3 11 rfl rfl)
theorem dX5_grows_82 : decode cX5_grows 82 = .ok (.ifCond .eq 16, 3) := dk_153 0 16 (dk_at dksX5_grows_3 13 rfl rfl)
theorem dX5_grows_85 : decode cX5_grows 85 = .ok (.aload_n 0, 1) := dk_42 (dk_at dksX5_grows_3 16 rfl rfl)
theorem dX5_grows_86 : decode cX5_grows 86 = .ok (.iload_n 2, 1) := dk_28 (dk_at dksX5_grows_3 17 rfl rfl)
theorem dX5_grows_87 : decode cX5_grows 87 = .ok (.invokevirtual 210, 3) := dk_182 0 210 (dk_at dksX5_grows_3 18 rfl rfl)
theorem dX5_grows_90 : decode cX5_grows 90 = .ok (.istore 4, 2) := dk_54 4 (dk_at dksX5_grows_3 21 rfl rfl)
theorem dX5_grows_92 : decode cX5_grows 92 = .ok (.iinc 5 1, 3) := dk_132 5 1 (dk_at dksX5_grows_4 0 rfl rfl)
theorem dX5_grows_95 : decode cX5_grows 95 = .ok (.goto (-21), 3) := dk_167 255 235 (dk_at dksX5_grows_4 3 rfl rfl)
theorem dX5_grows_98 : decode cX5_grows 98 = .ok (.iload 4, 2) := dk_21 4 (dk_at dksX5_grows_4 6 rfl rfl)
theorem dX5_grows_100 : decode cX5_grows 100 = .ok (.ireturn, 1) := dk_172 (dk_at dksX5_grows_4 8 rfl rfl)
abbrev cX5_digitAt : ByteArray := prog_22_method_17_code
def yX5_digitAt : MethodName := ⟨RX5, "digitAt", "(I)I"⟩
def dkwX5_digitAt_0 : List UInt8 := [42, 180, 0, 194, 42, 180, 0, 197, 4, 100, 27, 100, 184, 0, 177, 108, 8, 112, 172]
abbrev dktX5_digitAt_0 : List UInt8 := dkwX5_digitAt_0 ++ []
theorem dksX5_digitAt_0 : cX5_digitAt.data.toList.drop 0 = dktX5_digitAt_0 := by decide +kernel
theorem dX5_digitAt_0 : decode cX5_digitAt 0 = .ok (.aload_n 0, 1) := dk_42 (dk_at dksX5_digitAt_0 0 rfl rfl)
theorem dX5_digitAt_1 : decode cX5_digitAt 1 = .ok (.getfield 194, 3) := dk_180 0 194 (dk_at dksX5_digitAt_0 1 rfl rfl)
theorem dX5_digitAt_4 : decode cX5_digitAt 4 = .ok (.aload_n 0, 1) := dk_42 (dk_at dksX5_digitAt_0 4 rfl rfl)
theorem dX5_digitAt_5 : decode cX5_digitAt 5 = .ok (.getfield 197, 3) := dk_180 0 197 (dk_at dksX5_digitAt_0 5 rfl rfl)
theorem dX5_digitAt_8 : decode cX5_digitAt 8 = .ok (.iconst 1, 1) := dk_4 (dk_at dksX5_digitAt_0 8 rfl rfl)
theorem dX5_digitAt_9 : decode cX5_digitAt 9 = .ok (.isub, 1) := dk_100 (dk_at dksX5_digitAt_0 9 rfl rfl)
theorem dX5_digitAt_10 : decode cX5_digitAt 10 = .ok (.iload_n 1, 1) := dk_27 (dk_at dksX5_digitAt_0 10 rfl rfl)
theorem dX5_digitAt_11 : decode cX5_digitAt 11 = .ok (.isub, 1) := dk_100 (dk_at dksX5_digitAt_0 11 rfl rfl)
theorem dX5_digitAt_12 : decode cX5_digitAt 12 = .ok (.invokestatic 177, 3) := dk_184 0 177 (dk_at dksX5_digitAt_0 12 rfl rfl)
theorem dX5_digitAt_15 : decode cX5_digitAt 15 = .ok (.idiv, 1) := dk_108 (dk_at dksX5_digitAt_0 15 rfl rfl)
theorem dX5_digitAt_16 : decode cX5_digitAt 16 = .ok (.iconst 5, 1) := dk_8 (dk_at dksX5_digitAt_0 16 rfl rfl)
theorem dX5_digitAt_17 : decode cX5_digitAt 17 = .ok (.irem, 1) := dk_112 (dk_at dksX5_digitAt_0 17 rfl rfl)
theorem dX5_digitAt_18 : decode cX5_digitAt 18 = .ok (.ireturn, 1) := dk_172 (dk_at dksX5_digitAt_0 18 rfl rfl)
abbrev cX5_codeOf : ByteArray := prog_22_method_11_code
def yX5_codeOf : MethodName := ⟨RX5, "codeOf", "(II)I"⟩
def dkwX5_codeOf_6 : List UInt8 := [29, 172]
abbrev dktX5_codeOf_6 : List UInt8 := dkwX5_codeOf_6 ++ []
def dkwX5_codeOf_5 : List UInt8 := [54, 4, 29, 42, 21, 6, 27, 182, 0, 156, 184, 0, 177, 104, 21, 7, 96, 62, 132, 5, 255, 167, 255, 135]
abbrev dktX5_codeOf_5 : List UInt8 := dkwX5_codeOf_5 ++ dktX5_codeOf_6
def dkwX5_codeOf_4 : List UInt8 := [54, 6, 21, 7, 21, 9, 184, 0, 172, 54, 7, 132, 8, 1, 167, 255, 180, 21, 4, 4, 21, 6, 120, 128]
abbrev dktX5_codeOf_4 : List UInt8 := dkwX5_codeOf_4 ++ dktX5_codeOf_5
def dkwX5_codeOf_3 : List UInt8 := [42, 21, 8, 27, 182, 0, 169, 54, 9, 21, 9, 21, 7, 164, 0, 8, 21, 8, 167, 0, 5, 21, 6]
abbrev dktX5_codeOf_3 : List UInt8 := dkwX5_codeOf_3 ++ dktX5_codeOf_4
def dkwX5_codeOf_2 : List UInt8 := [21, 8, 184, 0, 152, 153, 0, 53, 21, 8, 28, 159, 0, 47, 21, 4, 21, 8, 184, 0, 152, 154, 0, 37]
abbrev dktX5_codeOf_2 : List UInt8 := dkwX5_codeOf_2 ++ dktX5_codeOf_3
def dkwX5_codeOf_1 : List UInt8 := [54, 6, 2, 54, 7, 3, 54, 8, 21, 8, 42, 180, 0, 145, 162, 0, 73, 42, 180, 0, 11, 27, 46]
abbrev dktX5_codeOf_1 : List UInt8 := dkwX5_codeOf_1 ++ dktX5_codeOf_2
def dkwX5_codeOf_0 : List UInt8 := [42, 27, 28, 182, 0, 166, 62, 3, 54, 4, 42, 27, 28, 182, 0, 166, 54, 5, 21, 5, 158, 0, 122, 2]
abbrev dktX5_codeOf_0 : List UInt8 := dkwX5_codeOf_0 ++ dktX5_codeOf_1
theorem dksX5_codeOf_0 : cX5_codeOf.data.toList.drop 0 = dktX5_codeOf_0 := by decide +kernel
theorem dksX5_codeOf_1 : cX5_codeOf.data.toList.drop 24 = dktX5_codeOf_1 := dk_seg dksX5_codeOf_0 24 rfl rfl
theorem dksX5_codeOf_2 : cX5_codeOf.data.toList.drop 47 = dktX5_codeOf_2 := dk_seg dksX5_codeOf_1 23 rfl rfl
theorem dksX5_codeOf_3 : cX5_codeOf.data.toList.drop 71 = dktX5_codeOf_3 := dk_seg dksX5_codeOf_2 24 rfl rfl
theorem dksX5_codeOf_4 : cX5_codeOf.data.toList.drop 94 = dktX5_codeOf_4 := dk_seg dksX5_codeOf_3 23 rfl rfl
theorem dksX5_codeOf_5 : cX5_codeOf.data.toList.drop 118 = dktX5_codeOf_5 := dk_seg dksX5_codeOf_4 24 rfl rfl
theorem dksX5_codeOf_6 : cX5_codeOf.data.toList.drop 142 = dktX5_codeOf_6 := dk_seg dksX5_codeOf_5 24 rfl rfl
theorem dX5_codeOf_0 : decode cX5_codeOf 0 = .ok (.aload_n 0, 1) := dk_42 (dk_at dksX5_codeOf_0 0 rfl rfl)
theorem dX5_codeOf_1 : decode cX5_codeOf 1 = .ok (.iload_n 1, 1) := dk_27 (dk_at dksX5_codeOf_0 1 rfl rfl)
theorem dX5_codeOf_2 : decode cX5_codeOf 2 = .ok (.iload_n 2, 1) := dk_28 (dk_at dksX5_codeOf_0 2 rfl rfl)
theorem dX5_codeOf_3 : decode cX5_codeOf 3 = .ok (.invokevirtual 166, 3) := dk_182 0 166 (dk_at dksX5_codeOf_0 3 rfl rfl)
theorem dX5_codeOf_6 : decode cX5_codeOf 6 = .ok (.istore_n 3, 1) := dk_62 (dk_at dksX5_codeOf_0 6 rfl rfl)
theorem dX5_codeOf_7 : decode cX5_codeOf 7 = .ok (.iconst 0, 1) := dk_3 (dk_at dksX5_codeOf_0 7 rfl rfl)
theorem dX5_codeOf_8 : decode cX5_codeOf 8 = .ok (.istore 4, 2) := dk_54 4 (dk_at dksX5_codeOf_0 8 rfl rfl)
theorem dX5_codeOf_10 : decode cX5_codeOf 10 = .ok (.aload_n 0, 1) := dk_42 (dk_at dksX5_codeOf_0 10 rfl rfl)
theorem dX5_codeOf_11 : decode cX5_codeOf 11 = .ok (.iload_n 1, 1) := dk_27 (dk_at dksX5_codeOf_0 11 rfl rfl)
theorem dX5_codeOf_12 : decode cX5_codeOf 12 = .ok (.iload_n 2, 1) := dk_28 (dk_at dksX5_codeOf_0 12 rfl rfl)
theorem dX5_codeOf_13 : decode cX5_codeOf 13 = .ok (.invokevirtual 166, 3) := dk_182 0 166 (dk_at dksX5_codeOf_0 13 rfl rfl)
theorem dX5_codeOf_16 : decode cX5_codeOf 16 = .ok (.istore 5, 2) := dk_54 5 (dk_at dksX5_codeOf_0 16 rfl rfl)
theorem dX5_codeOf_18 : decode cX5_codeOf 18 = .ok (.iload 5, 2) := dk_21 5 (dk_at dksX5_codeOf_0 18 rfl rfl)
theorem dX5_codeOf_20 : decode cX5_codeOf 20 = .ok (.ifCond .le 122, 3) := dk_158 0 122 (dk_at dksX5_codeOf_0 20 rfl rfl)
theorem dX5_codeOf_23 : decode cX5_codeOf 23 = .ok (.iconst (-1), 1) := dk_2 (dk_at dksX5_codeOf_0 23 rfl rfl)
theorem dX5_codeOf_24 : decode cX5_codeOf 24 = .ok (.istore 6, 2) := dk_54 6 (dk_at dksX5_codeOf_1 0 rfl rfl)
theorem dX5_codeOf_26 : decode cX5_codeOf 26 = .ok (.iconst (-1), 1) := dk_2 (dk_at dksX5_codeOf_1 2 rfl rfl)
theorem dX5_codeOf_27 : decode cX5_codeOf 27 = .ok (.istore 7, 2) := dk_54 7 (dk_at dksX5_codeOf_1 3 rfl rfl)
theorem dX5_codeOf_29 : decode cX5_codeOf 29 = .ok (.iconst 0, 1) := dk_3 (dk_at dksX5_codeOf_1 5 rfl rfl)
theorem dX5_codeOf_30 : decode cX5_codeOf 30 = .ok (.istore 8, 2) := dk_54 8 (dk_at dksX5_codeOf_1 6 rfl rfl)
theorem dX5_codeOf_32 : decode cX5_codeOf 32 = .ok (.iload 8, 2) := dk_21 8 (dk_at dksX5_codeOf_1 8 rfl rfl)
theorem dX5_codeOf_34 : decode cX5_codeOf 34 = .ok (.aload_n 0, 1) := dk_42 (dk_at dksX5_codeOf_1 10 rfl rfl)
theorem dX5_codeOf_35 : decode cX5_codeOf 35 = .ok (.getfield 145, 3) := dk_180 0 145 (dk_at dksX5_codeOf_1 11 rfl rfl)
theorem dX5_codeOf_38 : decode cX5_codeOf 38 = .ok (.if_icmp .ge 73, 3) := dk_162 0 73 (dk_at dksX5_codeOf_1 14 rfl rfl)
theorem dX5_codeOf_41 : decode cX5_codeOf 41 = .ok (.aload_n 0, 1) := dk_42 (dk_at dksX5_codeOf_1 17 rfl rfl)
theorem dX5_codeOf_42 : decode cX5_codeOf 42 = .ok (.getfield 11, 3) := dk_180 0 11 (dk_at dksX5_codeOf_1 18 rfl rfl)
theorem dX5_codeOf_45 : decode cX5_codeOf 45 = .ok (.iload_n 1, 1) := dk_27 (dk_at dksX5_codeOf_1 21 rfl rfl)
theorem dX5_codeOf_46 : decode cX5_codeOf 46 = .ok (.iaload, 1) := dk_46 (dk_at dksX5_codeOf_1 22 rfl rfl)
theorem dX5_codeOf_47 : decode cX5_codeOf 47 = .ok (.iload 8, 2) := dk_21 8 (dk_at dksX5_codeOf_2 0 rfl rfl)
theorem dX5_codeOf_49 : decode cX5_codeOf 49 = .ok (.invokestatic 152, 3) := dk_184 0 152 (dk_at dksX5_codeOf_2 2 rfl rfl)
theorem dX5_codeOf_52 : decode cX5_codeOf 52 = .ok (.ifCond .eq 53, 3) := dk_153 0 53 (dk_at dksX5_codeOf_2 5 rfl rfl)
theorem dX5_codeOf_55 : decode cX5_codeOf 55 = .ok (.iload 8, 2) := dk_21 8 (dk_at dksX5_codeOf_2 8 rfl rfl)
theorem dX5_codeOf_57 : decode cX5_codeOf 57 = .ok (.iload_n 2, 1) := dk_28 (dk_at dksX5_codeOf_2 10 rfl rfl)
theorem dX5_codeOf_58 : decode cX5_codeOf 58 = .ok (.if_icmp .eq 47, 3) := dk_159 0 47 (dk_at dksX5_codeOf_2 11 rfl rfl)
theorem dX5_codeOf_61 : decode cX5_codeOf 61 = .ok (.iload 4, 2) := dk_21 4 (dk_at dksX5_codeOf_2 14 rfl rfl)
theorem dX5_codeOf_63 : decode cX5_codeOf 63 = .ok (.iload 8, 2) := dk_21 8 (dk_at dksX5_codeOf_2 16 rfl rfl)
theorem dX5_codeOf_65 : decode cX5_codeOf 65 = .ok (.invokestatic 152, 3) := dk_184 0 152 (dk_at dksX5_codeOf_2 18 rfl rfl)
theorem dX5_codeOf_68 : decode cX5_codeOf 68 = .ok (.ifCond .ne 37, 3) := dk_154 0 37 (dk_at dksX5_codeOf_2 21 rfl rfl)
theorem dX5_codeOf_71 : decode cX5_codeOf 71 = .ok (.aload_n 0, 1) := dk_42 (dk_at dksX5_codeOf_3 0 rfl rfl)
theorem dX5_codeOf_72 : decode cX5_codeOf 72 = .ok (.iload 8, 2) := dk_21 8 (dk_at dksX5_codeOf_3 1 rfl rfl)
theorem dX5_codeOf_74 : decode cX5_codeOf 74 = .ok (.iload_n 1, 1) := dk_27 (dk_at dksX5_codeOf_3 3 rfl rfl)
theorem dX5_codeOf_75 : decode cX5_codeOf 75 = .ok (.invokevirtual 169, 3) := dk_182 0 169 (dk_at dksX5_codeOf_3 4 rfl rfl)
theorem dX5_codeOf_78 : decode cX5_codeOf 78 = .ok (.istore 9, 2) := dk_54 9 (dk_at dksX5_codeOf_3 7 rfl rfl)
theorem dX5_codeOf_80 : decode cX5_codeOf 80 = .ok (.iload 9, 2) := dk_21 9 (dk_at dksX5_codeOf_3 9 rfl rfl)
theorem dX5_codeOf_82 : decode cX5_codeOf 82 = .ok (.iload 7, 2) := dk_21 7 (dk_at dksX5_codeOf_3 11 rfl rfl)
theorem dX5_codeOf_84 : decode cX5_codeOf 84 = .ok (.if_icmp .le 8, 3) := dk_164 0 8 (dk_at dksX5_codeOf_3 13 rfl rfl)
theorem dX5_codeOf_87 : decode cX5_codeOf 87 = .ok (.iload 8, 2) := dk_21 8 (dk_at dksX5_codeOf_3 16 rfl rfl)
theorem dX5_codeOf_89 : decode cX5_codeOf 89 = .ok (.goto 5, 3) := dk_167 0 5 (dk_at dksX5_codeOf_3 18 rfl rfl)
theorem dX5_codeOf_92 : decode cX5_codeOf 92 = .ok (.iload 6, 2) := dk_21 6 (dk_at dksX5_codeOf_3 21 rfl rfl)
theorem dX5_codeOf_94 : decode cX5_codeOf 94 = .ok (.istore 6, 2) := dk_54 6 (dk_at dksX5_codeOf_4 0 rfl rfl)
theorem dX5_codeOf_96 : decode cX5_codeOf 96 = .ok (.iload 7, 2) := dk_21 7 (dk_at dksX5_codeOf_4 2 rfl rfl)
theorem dX5_codeOf_98 : decode cX5_codeOf 98 = .ok (.iload 9, 2) := dk_21 9 (dk_at dksX5_codeOf_4 4 rfl rfl)
theorem dX5_codeOf_100 : decode cX5_codeOf 100 = .ok (.invokestatic 172, 3) := dk_184 0 172 (dk_at dksX5_codeOf_4 6 rfl rfl)
theorem dX5_codeOf_103 : decode cX5_codeOf 103 = .ok (.istore 7, 2) := dk_54 7 (dk_at dksX5_codeOf_4 9 rfl rfl)
theorem dX5_codeOf_105 : decode cX5_codeOf 105 = .ok (.iinc 8 1, 3) := dk_132 8 1 (dk_at dksX5_codeOf_4 11 rfl rfl)
theorem dX5_codeOf_108 : decode cX5_codeOf 108 = .ok (.goto (-76), 3) := dk_167 255 180 (dk_at dksX5_codeOf_4 14 rfl rfl)
theorem dX5_codeOf_111 : decode cX5_codeOf 111 = .ok (.iload 4, 2) := dk_21 4 (dk_at dksX5_codeOf_4 17 rfl rfl)
theorem dX5_codeOf_113 : decode cX5_codeOf 113 = .ok (.iconst 1, 1) := dk_4 (dk_at dksX5_codeOf_4 19 rfl rfl)
theorem dX5_codeOf_114 : decode cX5_codeOf 114 = .ok (.iload 6, 2) := dk_21 6 (dk_at dksX5_codeOf_4 20 rfl rfl)
theorem dX5_codeOf_116 : decode cX5_codeOf 116 = .ok (.ishl, 1) := dk_120 (dk_at dksX5_codeOf_4 22 rfl rfl)
theorem dX5_codeOf_117 : decode cX5_codeOf 117 = .ok (.ior, 1) := dk_128 (dk_at dksX5_codeOf_4 23 rfl rfl)
theorem dX5_codeOf_118 : decode cX5_codeOf 118 = .ok (.istore 4, 2) := dk_54 4 (dk_at dksX5_codeOf_5 0 rfl rfl)
theorem dX5_codeOf_120 : decode cX5_codeOf 120 = .ok (.iload_n 3, 1) := dk_29 (dk_at dksX5_codeOf_5 2 rfl rfl)
theorem dX5_codeOf_121 : decode cX5_codeOf 121 = .ok (.aload_n 0, 1) := dk_42 (dk_at dksX5_codeOf_5 3 rfl rfl)
theorem dX5_codeOf_122 : decode cX5_codeOf 122 = .ok (.iload 6, 2) := dk_21 6 (dk_at dksX5_codeOf_5 4 rfl rfl)
theorem dX5_codeOf_124 : decode cX5_codeOf 124 = .ok (.iload_n 1, 1) := dk_27 (dk_at dksX5_codeOf_5 6 rfl rfl)
theorem dX5_codeOf_125 : decode cX5_codeOf 125 = .ok (.invokevirtual 156, 3) := dk_182 0 156 (dk_at dksX5_codeOf_5 7 rfl rfl)
theorem dX5_codeOf_128 : decode cX5_codeOf 128 = .ok (.invokestatic 177, 3) := dk_184 0 177 (dk_at dksX5_codeOf_5 10 rfl rfl)
theorem dX5_codeOf_131 : decode cX5_codeOf 131 = .ok (.imul, 1) := dk_104 (dk_at dksX5_codeOf_5 13 rfl rfl)
theorem dX5_codeOf_132 : decode cX5_codeOf 132 = .ok (.iload 7, 2) := dk_21 7 (dk_at dksX5_codeOf_5 14 rfl rfl)
theorem dX5_codeOf_134 : decode cX5_codeOf 134 = .ok (.iadd, 1) := dk_96 (dk_at dksX5_codeOf_5 16 rfl rfl)
theorem dX5_codeOf_135 : decode cX5_codeOf 135 = .ok (.istore_n 3, 1) := dk_62 (dk_at dksX5_codeOf_5 17 rfl rfl)
theorem dX5_codeOf_136 : decode cX5_codeOf 136 = .ok (.iinc 5 (-1), 3) := dk_132 5 255 (dk_at dksX5_codeOf_5 18 rfl rfl)
theorem dX5_codeOf_139 : decode cX5_codeOf 139 = .ok (.goto (-121), 3) := dk_167 255 135 (dk_at dksX5_codeOf_5 21 rfl rfl)
theorem dX5_codeOf_142 : decode cX5_codeOf 142 = .ok (.iload_n 3, 1) := dk_29 (dk_at dksX5_codeOf_6 0 rfl rfl)
theorem dX5_codeOf_143 : decode cX5_codeOf 143 = .ok (.ireturn, 1) := dk_172 (dk_at dksX5_codeOf_6 1 rfl rfl)
abbrev cX5_twigsOf : ByteArray := prog_22_method_10_code
def yX5_twigsOf : MethodName := ⟨RX5, "twigsOf", "(II)I"⟩
def dkwX5_twigsOf_0 : List UInt8 := [42, 180, 0, 11, 27, 46, 184, 0, 160, 28, 2, 160, 0, 7, 3, 167, 0, 4, 4, 100, 172]
abbrev dktX5_twigsOf_0 : List UInt8 := dkwX5_twigsOf_0 ++ []
theorem dksX5_twigsOf_0 : cX5_twigsOf.data.toList.drop 0 = dktX5_twigsOf_0 := by decide +kernel
theorem dX5_twigsOf_0 : decode cX5_twigsOf 0 = .ok (.aload_n 0, 1) := dk_42 (dk_at dksX5_twigsOf_0 0 rfl rfl)
theorem dX5_twigsOf_1 : decode cX5_twigsOf 1 = .ok (.getfield 11, 3) := dk_180 0 11 (dk_at dksX5_twigsOf_0 1 rfl rfl)
theorem dX5_twigsOf_4 : decode cX5_twigsOf 4 = .ok (.iload_n 1, 1) := dk_27 (dk_at dksX5_twigsOf_0 4 rfl rfl)
theorem dX5_twigsOf_5 : decode cX5_twigsOf 5 = .ok (.iaload, 1) := dk_46 (dk_at dksX5_twigsOf_0 5 rfl rfl)
theorem dX5_twigsOf_6 : decode cX5_twigsOf 6 = .ok (.invokestatic 160, 3) := dk_184 0 160 (dk_at dksX5_twigsOf_0 6 rfl rfl)
theorem dX5_twigsOf_9 : decode cX5_twigsOf 9 = .ok (.iload_n 2, 1) := dk_28 (dk_at dksX5_twigsOf_0 9 rfl rfl)
theorem dX5_twigsOf_10 : decode cX5_twigsOf 10 = .ok (.iconst (-1), 1) := dk_2 (dk_at dksX5_twigsOf_0 10 rfl rfl)
theorem dX5_twigsOf_11 : decode cX5_twigsOf 11 = .ok (.if_icmp .ne 7, 3) := dk_160 0 7 (dk_at dksX5_twigsOf_0 11 rfl rfl)
theorem dX5_twigsOf_14 : decode cX5_twigsOf 14 = .ok (.iconst 0, 1) := dk_3 (dk_at dksX5_twigsOf_0 14 rfl rfl)
theorem dX5_twigsOf_15 : decode cX5_twigsOf 15 = .ok (.goto 4, 3) := dk_167 0 4 (dk_at dksX5_twigsOf_0 15 rfl rfl)
theorem dX5_twigsOf_18 : decode cX5_twigsOf 18 = .ok (.iconst 1, 1) := dk_4 (dk_at dksX5_twigsOf_0 18 rfl rfl)
theorem dX5_twigsOf_19 : decode cX5_twigsOf 19 = .ok (.isub, 1) := dk_100 (dk_at dksX5_twigsOf_0 19 rfl rfl)
theorem dX5_twigsOf_20 : decode cX5_twigsOf 20 = .ok (.ireturn, 1) := dk_172 (dk_at dksX5_twigsOf_0 20 rfl rfl)
abbrev cX5_sizeOf : ByteArray := prog_22_method_9_code
def yX5_sizeOf : MethodName := ⟨RX5, "sizeOf", "(II)I"⟩
def dkwX5_sizeOf_2 : List UInt8 := [62, 132, 4, 1, 167, 255, 210, 29, 172]
abbrev dktX5_sizeOf_2 : List UInt8 := dkwX5_sizeOf_2 ++ []
def dkwX5_sizeOf_1 : List UInt8 := [184, 0, 152, 153, 0, 19, 21, 4, 28, 159, 0, 13, 42, 21, 4, 27, 182, 0, 156, 167, 0, 4, 3, 96]
abbrev dktX5_sizeOf_1 : List UInt8 := dkwX5_sizeOf_1 ++ dktX5_sizeOf_2
def dkwX5_sizeOf_0 : List UInt8 := [4, 62, 3, 54, 4, 21, 4, 42, 180, 0, 145, 162, 0, 43, 29, 42, 180, 0, 11, 27, 46, 21, 4]
abbrev dktX5_sizeOf_0 : List UInt8 := dkwX5_sizeOf_0 ++ dktX5_sizeOf_1
theorem dksX5_sizeOf_0 : cX5_sizeOf.data.toList.drop 0 = dktX5_sizeOf_0 := by decide +kernel
theorem dksX5_sizeOf_1 : cX5_sizeOf.data.toList.drop 23 = dktX5_sizeOf_1 := dk_seg dksX5_sizeOf_0 23 rfl rfl
theorem dksX5_sizeOf_2 : cX5_sizeOf.data.toList.drop 47 = dktX5_sizeOf_2 := dk_seg dksX5_sizeOf_1 24 rfl rfl
theorem dX5_sizeOf_0 : decode cX5_sizeOf 0 = .ok (.iconst 1, 1) := dk_4 (dk_at dksX5_sizeOf_0 0 rfl rfl)
theorem dX5_sizeOf_1 : decode cX5_sizeOf 1 = .ok (.istore_n 3, 1) := dk_62 (dk_at dksX5_sizeOf_0 1 rfl rfl)
theorem dX5_sizeOf_2 : decode cX5_sizeOf 2 = .ok (.iconst 0, 1) := dk_3 (dk_at dksX5_sizeOf_0 2 rfl rfl)
theorem dX5_sizeOf_3 : decode cX5_sizeOf 3 = .ok (.istore 4, 2) := dk_54 4 (dk_at dksX5_sizeOf_0 3 rfl rfl)
theorem dX5_sizeOf_5 : decode cX5_sizeOf 5 = .ok (.iload 4, 2) := dk_21 4 (dk_at dksX5_sizeOf_0 5 rfl rfl)
theorem dX5_sizeOf_7 : decode cX5_sizeOf 7 = .ok (.aload_n 0, 1) := dk_42 (dk_at dksX5_sizeOf_0 7 rfl rfl)
theorem dX5_sizeOf_8 : decode cX5_sizeOf 8 = .ok (.getfield 145, 3) := dk_180 0 145 (dk_at dksX5_sizeOf_0 8 rfl rfl)
theorem dX5_sizeOf_11 : decode cX5_sizeOf 11 = .ok (.if_icmp .ge 43, 3) := dk_162 0 43 (dk_at dksX5_sizeOf_0 11 rfl rfl)
theorem dX5_sizeOf_14 : decode cX5_sizeOf 14 = .ok (.iload_n 3, 1) := dk_29 (dk_at dksX5_sizeOf_0 14 rfl rfl)
theorem dX5_sizeOf_15 : decode cX5_sizeOf 15 = .ok (.aload_n 0, 1) := dk_42 (dk_at dksX5_sizeOf_0 15 rfl rfl)
theorem dX5_sizeOf_16 : decode cX5_sizeOf 16 = .ok (.getfield 11, 3) := dk_180 0 11 (dk_at dksX5_sizeOf_0 16 rfl rfl)
theorem dX5_sizeOf_19 : decode cX5_sizeOf 19 = .ok (.iload_n 1, 1) := dk_27 (dk_at dksX5_sizeOf_0 19 rfl rfl)
theorem dX5_sizeOf_20 : decode cX5_sizeOf 20 = .ok (.iaload, 1) := dk_46 (dk_at dksX5_sizeOf_0 20 rfl rfl)
theorem dX5_sizeOf_21 : decode cX5_sizeOf 21 = .ok (.iload 4, 2) := dk_21 4 (dk_at dksX5_sizeOf_0 21 rfl rfl)
theorem dX5_sizeOf_23 : decode cX5_sizeOf 23 = .ok (.invokestatic 152, 3) := dk_184 0 152 (dk_at dksX5_sizeOf_1 0 rfl rfl)
theorem dX5_sizeOf_26 : decode cX5_sizeOf 26 = .ok (.ifCond .eq 19, 3) := dk_153 0 19 (dk_at dksX5_sizeOf_1 3 rfl rfl)
theorem dX5_sizeOf_29 : decode cX5_sizeOf 29 = .ok (.iload 4, 2) := dk_21 4 (dk_at dksX5_sizeOf_1 6 rfl rfl)
theorem dX5_sizeOf_31 : decode cX5_sizeOf 31 = .ok (.iload_n 2, 1) := dk_28 (dk_at dksX5_sizeOf_1 8 rfl rfl)
theorem dX5_sizeOf_32 : decode cX5_sizeOf 32 = .ok (.if_icmp .eq 13, 3) := dk_159 0 13 (dk_at dksX5_sizeOf_1 9 rfl rfl)
theorem dX5_sizeOf_35 : decode cX5_sizeOf 35 = .ok (.aload_n 0, 1) := dk_42 (dk_at dksX5_sizeOf_1 12 rfl rfl)
theorem dX5_sizeOf_36 : decode cX5_sizeOf 36 = .ok (.iload 4, 2) := dk_21 4 (dk_at dksX5_sizeOf_1 13 rfl rfl)
theorem dX5_sizeOf_38 : decode cX5_sizeOf 38 = .ok (.iload_n 1, 1) := dk_27 (dk_at dksX5_sizeOf_1 15 rfl rfl)
theorem dX5_sizeOf_39 : decode cX5_sizeOf 39 = .ok (.invokevirtual 156, 3) := dk_182 0 156 (dk_at dksX5_sizeOf_1 16 rfl rfl)
theorem dX5_sizeOf_42 : decode cX5_sizeOf 42 = .ok (.goto 4, 3) := dk_167 0 4 (dk_at dksX5_sizeOf_1 19 rfl rfl)
theorem dX5_sizeOf_45 : decode cX5_sizeOf 45 = .ok (.iconst 0, 1) := dk_3 (dk_at dksX5_sizeOf_1 22 rfl rfl)
theorem dX5_sizeOf_46 : decode cX5_sizeOf 46 = .ok (.iadd, 1) := dk_96 (dk_at dksX5_sizeOf_1 23 rfl rfl)
theorem dX5_sizeOf_47 : decode cX5_sizeOf 47 = .ok (.istore_n 3, 1) := dk_62 (dk_at dksX5_sizeOf_2 0 rfl rfl)
theorem dX5_sizeOf_48 : decode cX5_sizeOf 48 = .ok (.iinc 4 1, 3) := dk_132 4 1 (dk_at dksX5_sizeOf_2 1 rfl rfl)
theorem dX5_sizeOf_51 : decode cX5_sizeOf 51 = .ok (.goto (-46), 3) := dk_167 255 210 (dk_at dksX5_sizeOf_2 4 rfl rfl)
theorem dX5_sizeOf_54 : decode cX5_sizeOf 54 = .ok (.iload_n 3, 1) := dk_29 (dk_at dksX5_sizeOf_2 7 rfl rfl)
theorem dX5_sizeOf_55 : decode cX5_sizeOf 55 = .ok (.ireturn, 1) := dk_172 (dk_at dksX5_sizeOf_2 8 rfl rfl)
abbrev cX5_keyNow : ByteArray := prog_22_method_16_code
def yX5_keyNow : MethodName := ⟨RX5, "keyNow", "()I"⟩
def dkwX5_keyNow_1 : List UInt8 := [28, 42, 27, 2, 182, 0, 169, 184, 0, 172, 172]
abbrev dktX5_keyNow_1 : List UInt8 := dkwX5_keyNow_1 ++ []
def dkwX5_keyNow_0 : List UInt8 := [42, 182, 0, 191, 60, 42, 42, 182, 0, 187, 2, 182, 0, 169, 61, 27, 2, 160, 0, 7, 28, 167, 0, 13]
abbrev dktX5_keyNow_0 : List UInt8 := dkwX5_keyNow_0 ++ dktX5_keyNow_1
theorem dksX5_keyNow_0 : cX5_keyNow.data.toList.drop 0 = dktX5_keyNow_0 := by decide +kernel
theorem dksX5_keyNow_1 : cX5_keyNow.data.toList.drop 24 = dktX5_keyNow_1 := dk_seg dksX5_keyNow_0 24 rfl rfl
theorem dX5_keyNow_0 : decode cX5_keyNow 0 = .ok (.aload_n 0, 1) := dk_42 (dk_at dksX5_keyNow_0 0 rfl rfl)
theorem dX5_keyNow_1 : decode cX5_keyNow 1 = .ok (.invokevirtual 191, 3) := dk_182 0 191 (dk_at dksX5_keyNow_0 1 rfl rfl)
theorem dX5_keyNow_4 : decode cX5_keyNow 4 = .ok (.istore_n 1, 1) := dk_60 (dk_at dksX5_keyNow_0 4 rfl rfl)
theorem dX5_keyNow_5 : decode cX5_keyNow 5 = .ok (.aload_n 0, 1) := dk_42 (dk_at dksX5_keyNow_0 5 rfl rfl)
theorem dX5_keyNow_6 : decode cX5_keyNow 6 = .ok (.aload_n 0, 1) := dk_42 (dk_at dksX5_keyNow_0 6 rfl rfl)
theorem dX5_keyNow_7 : decode cX5_keyNow 7 = .ok (.invokevirtual 187, 3) := dk_182 0 187 (dk_at dksX5_keyNow_0 7 rfl rfl)
theorem dX5_keyNow_10 : decode cX5_keyNow 10 = .ok (.iconst (-1), 1) := dk_2 (dk_at dksX5_keyNow_0 10 rfl rfl)
theorem dX5_keyNow_11 : decode cX5_keyNow 11 = .ok (.invokevirtual 169, 3) := dk_182 0 169 (dk_at dksX5_keyNow_0 11 rfl rfl)
theorem dX5_keyNow_14 : decode cX5_keyNow 14 = .ok (.istore_n 2, 1) := dk_61 (dk_at dksX5_keyNow_0 14 rfl rfl)
theorem dX5_keyNow_15 : decode cX5_keyNow 15 = .ok (.iload_n 1, 1) := dk_27 (dk_at dksX5_keyNow_0 15 rfl rfl)
theorem dX5_keyNow_16 : decode cX5_keyNow 16 = .ok (.iconst (-1), 1) := dk_2 (dk_at dksX5_keyNow_0 16 rfl rfl)
theorem dX5_keyNow_17 : decode cX5_keyNow 17 = .ok (.if_icmp .ne 7, 3) := dk_160 0 7 (dk_at dksX5_keyNow_0 17 rfl rfl)
theorem dX5_keyNow_20 : decode cX5_keyNow 20 = .ok (.iload_n 2, 1) := dk_28 (dk_at dksX5_keyNow_0 20 rfl rfl)
theorem dX5_keyNow_21 : decode cX5_keyNow 21 = .ok (.goto 13, 3) := dk_167 0 13 (dk_at dksX5_keyNow_0 21 rfl rfl)
theorem dX5_keyNow_24 : decode cX5_keyNow 24 = .ok (.iload_n 2, 1) := dk_28 (dk_at dksX5_keyNow_1 0 rfl rfl)
theorem dX5_keyNow_25 : decode cX5_keyNow 25 = .ok (.aload_n 0, 1) := dk_42 (dk_at dksX5_keyNow_1 1 rfl rfl)
theorem dX5_keyNow_26 : decode cX5_keyNow 26 = .ok (.iload_n 1, 1) := dk_27 (dk_at dksX5_keyNow_1 2 rfl rfl)
theorem dX5_keyNow_27 : decode cX5_keyNow 27 = .ok (.iconst (-1), 1) := dk_2 (dk_at dksX5_keyNow_1 3 rfl rfl)
theorem dX5_keyNow_28 : decode cX5_keyNow 28 = .ok (.invokevirtual 169, 3) := dk_182 0 169 (dk_at dksX5_keyNow_1 4 rfl rfl)
theorem dX5_keyNow_31 : decode cX5_keyNow 31 = .ok (.invokestatic 172, 3) := dk_184 0 172 (dk_at dksX5_keyNow_1 7 rfl rfl)
theorem dX5_keyNow_34 : decode cX5_keyNow 34 = .ok (.ireturn, 1) := dk_172 (dk_at dksX5_keyNow_1 10 rfl rfl)
abbrev cX5_otherCentre : ByteArray := prog_22_method_15_code
def yX5_otherCentre : MethodName := ⟨RX5, "otherCentre", "()I"⟩
def dkwX5_otherCentre_1 : List UInt8 := [27, 2, 182, 0, 184, 160, 0, 5, 28, 172, 132, 2, 1, 167, 255, 228, 2, 172]
abbrev dktX5_otherCentre_1 : List UInt8 := dkwX5_otherCentre_1 ++ []
def dkwX5_otherCentre_0 : List UInt8 := [42, 182, 0, 187, 60, 27, 4, 96, 61, 28, 42, 180, 0, 145, 162, 0, 26, 42, 28, 2, 182, 0, 184, 42]
abbrev dktX5_otherCentre_0 : List UInt8 := dkwX5_otherCentre_0 ++ dktX5_otherCentre_1
theorem dksX5_otherCentre_0 : cX5_otherCentre.data.toList.drop 0 = dktX5_otherCentre_0 := by decide +kernel
theorem dksX5_otherCentre_1 : cX5_otherCentre.data.toList.drop 24 = dktX5_otherCentre_1 := dk_seg dksX5_otherCentre_0 24 rfl rfl
theorem dX5_otherCentre_0 : decode cX5_otherCentre 0 = .ok (.aload_n 0, 1) := dk_42 (dk_at dksX5_otherCentre_0 0 rfl rfl)
theorem dX5_otherCentre_1 : decode cX5_otherCentre 1 = .ok (.invokevirtual 187, 3) := dk_182 0 187 (dk_at dksX5_otherCentre_0 1 rfl rfl)
theorem dX5_otherCentre_4 : decode cX5_otherCentre 4 = .ok (.istore_n 1, 1) := dk_60 (dk_at dksX5_otherCentre_0 4 rfl rfl)
theorem dX5_otherCentre_5 : decode cX5_otherCentre 5 = .ok (.iload_n 1, 1) := dk_27 (dk_at dksX5_otherCentre_0 5 rfl rfl)
theorem dX5_otherCentre_6 : decode cX5_otherCentre 6 = .ok (.iconst 1, 1) := dk_4 (dk_at dksX5_otherCentre_0 6 rfl rfl)
theorem dX5_otherCentre_7 : decode cX5_otherCentre 7 = .ok (.iadd, 1) := dk_96 (dk_at dksX5_otherCentre_0 7 rfl rfl)
theorem dX5_otherCentre_8 : decode cX5_otherCentre 8 = .ok (.istore_n 2, 1) := dk_61 (dk_at dksX5_otherCentre_0 8 rfl rfl)
theorem dX5_otherCentre_9 : decode cX5_otherCentre 9 = .ok (.iload_n 2, 1) := dk_28 (dk_at dksX5_otherCentre_0 9 rfl rfl)
theorem dX5_otherCentre_10 : decode cX5_otherCentre 10 = .ok (.aload_n 0, 1) := dk_42 (dk_at dksX5_otherCentre_0 10 rfl rfl)
theorem dX5_otherCentre_11 : decode cX5_otherCentre 11 = .ok (.getfield 145, 3) := dk_180 0 145 (dk_at dksX5_otherCentre_0 11 rfl rfl)
theorem dX5_otherCentre_14 : decode cX5_otherCentre 14 = .ok (.if_icmp .ge 26, 3) := dk_162 0 26 (dk_at dksX5_otherCentre_0 14 rfl rfl)
theorem dX5_otherCentre_17 : decode cX5_otherCentre 17 = .ok (.aload_n 0, 1) := dk_42 (dk_at dksX5_otherCentre_0 17 rfl rfl)
theorem dX5_otherCentre_18 : decode cX5_otherCentre 18 = .ok (.iload_n 2, 1) := dk_28 (dk_at dksX5_otherCentre_0 18 rfl rfl)
theorem dX5_otherCentre_19 : decode cX5_otherCentre 19 = .ok (.iconst (-1), 1) := dk_2 (dk_at dksX5_otherCentre_0 19 rfl rfl)
theorem dX5_otherCentre_20 : decode cX5_otherCentre 20 = .ok (.invokevirtual 184, 3) := dk_182 0 184 (dk_at dksX5_otherCentre_0 20 rfl rfl)
theorem dX5_otherCentre_23 : decode cX5_otherCentre 23 = .ok (.aload_n 0, 1) := dk_42 (dk_at dksX5_otherCentre_0 23 rfl rfl)
theorem dX5_otherCentre_24 : decode cX5_otherCentre 24 = .ok (.iload_n 1, 1) := dk_27 (dk_at dksX5_otherCentre_1 0 rfl rfl)
theorem dX5_otherCentre_25 : decode cX5_otherCentre 25 = .ok (.iconst (-1), 1) := dk_2 (dk_at dksX5_otherCentre_1 1 rfl rfl)
theorem dX5_otherCentre_26 : decode cX5_otherCentre 26 = .ok (.invokevirtual 184, 3) := dk_182 0 184 (dk_at dksX5_otherCentre_1 2 rfl rfl)
theorem dX5_otherCentre_29 : decode cX5_otherCentre 29 = .ok (.if_icmp .ne 5, 3) := dk_160 0 5 (dk_at dksX5_otherCentre_1 5 rfl rfl)
theorem dX5_otherCentre_32 : decode cX5_otherCentre 32 = .ok (.iload_n 2, 1) := dk_28 (dk_at dksX5_otherCentre_1 8 rfl rfl)
theorem dX5_otherCentre_33 : decode cX5_otherCentre 33 = .ok (.ireturn, 1) := dk_172 (dk_at dksX5_otherCentre_1 9 rfl rfl)
theorem dX5_otherCentre_34 : decode cX5_otherCentre 34 = .ok (.iinc 2 1, 3) := dk_132 2 1 (dk_at dksX5_otherCentre_1 10 rfl rfl)
theorem dX5_otherCentre_37 : decode cX5_otherCentre 37 = .ok (.goto (-28), 3) := dk_167 255 228 (dk_at dksX5_otherCentre_1 13 rfl rfl)
theorem dX5_otherCentre_40 : decode cX5_otherCentre 40 = .ok (.iconst (-1), 1) := dk_2 (dk_at dksX5_otherCentre_1 16 rfl rfl)
theorem dX5_otherCentre_41 : decode cX5_otherCentre 41 = .ok (.ireturn, 1) := dk_172 (dk_at dksX5_otherCentre_1 17 rfl rfl)
abbrev cX5_centre : ByteArray := prog_22_method_14_code
def yX5_centre : MethodName := ⟨RX5, "centre", "()I"⟩
def dkwX5_centre_1 : List UInt8 := [162, 0, 7, 28, 167, 0, 4, 27, 60, 132, 2, 1, 167, 255, 224, 27, 172]
abbrev dktX5_centre_1 : List UInt8 := dkwX5_centre_1 ++ []
def dkwX5_centre_0 : List UInt8 := [3, 60, 4, 61, 28, 42, 180, 0, 145, 162, 0, 30, 42, 28, 2, 182, 0, 184, 42, 27, 2, 182, 0, 184]
abbrev dktX5_centre_0 : List UInt8 := dkwX5_centre_0 ++ dktX5_centre_1
theorem dksX5_centre_0 : cX5_centre.data.toList.drop 0 = dktX5_centre_0 := by decide +kernel
theorem dksX5_centre_1 : cX5_centre.data.toList.drop 24 = dktX5_centre_1 := dk_seg dksX5_centre_0 24 rfl rfl
theorem dX5_centre_0 : decode cX5_centre 0 = .ok (.iconst 0, 1) := dk_3 (dk_at dksX5_centre_0 0 rfl rfl)
theorem dX5_centre_1 : decode cX5_centre 1 = .ok (.istore_n 1, 1) := dk_60 (dk_at dksX5_centre_0 1 rfl rfl)
theorem dX5_centre_2 : decode cX5_centre 2 = .ok (.iconst 1, 1) := dk_4 (dk_at dksX5_centre_0 2 rfl rfl)
theorem dX5_centre_3 : decode cX5_centre 3 = .ok (.istore_n 2, 1) := dk_61 (dk_at dksX5_centre_0 3 rfl rfl)
theorem dX5_centre_4 : decode cX5_centre 4 = .ok (.iload_n 2, 1) := dk_28 (dk_at dksX5_centre_0 4 rfl rfl)
theorem dX5_centre_5 : decode cX5_centre 5 = .ok (.aload_n 0, 1) := dk_42 (dk_at dksX5_centre_0 5 rfl rfl)
theorem dX5_centre_6 : decode cX5_centre 6 = .ok (.getfield 145, 3) := dk_180 0 145 (dk_at dksX5_centre_0 6 rfl rfl)
theorem dX5_centre_9 : decode cX5_centre 9 = .ok (.if_icmp .ge 30, 3) := dk_162 0 30 (dk_at dksX5_centre_0 9 rfl rfl)
theorem dX5_centre_12 : decode cX5_centre 12 = .ok (.aload_n 0, 1) := dk_42 (dk_at dksX5_centre_0 12 rfl rfl)
theorem dX5_centre_13 : decode cX5_centre 13 = .ok (.iload_n 2, 1) := dk_28 (dk_at dksX5_centre_0 13 rfl rfl)
theorem dX5_centre_14 : decode cX5_centre 14 = .ok (.iconst (-1), 1) := dk_2 (dk_at dksX5_centre_0 14 rfl rfl)
theorem dX5_centre_15 : decode cX5_centre 15 = .ok (.invokevirtual 184, 3) := dk_182 0 184 (dk_at dksX5_centre_0 15 rfl rfl)
theorem dX5_centre_18 : decode cX5_centre 18 = .ok (.aload_n 0, 1) := dk_42 (dk_at dksX5_centre_0 18 rfl rfl)
theorem dX5_centre_19 : decode cX5_centre 19 = .ok (.iload_n 1, 1) := dk_27 (dk_at dksX5_centre_0 19 rfl rfl)
theorem dX5_centre_20 : decode cX5_centre 20 = .ok (.iconst (-1), 1) := dk_2 (dk_at dksX5_centre_0 20 rfl rfl)
theorem dX5_centre_21 : decode cX5_centre 21 = .ok (.invokevirtual 184, 3) := dk_182 0 184 (dk_at dksX5_centre_0 21 rfl rfl)
theorem dX5_centre_24 : decode cX5_centre 24 = .ok (.if_icmp .ge 7, 3) := dk_162 0 7 (dk_at dksX5_centre_1 0 rfl rfl)
theorem dX5_centre_27 : decode cX5_centre 27 = .ok (.iload_n 2, 1) := dk_28 (dk_at dksX5_centre_1 3 rfl rfl)
theorem dX5_centre_28 : decode cX5_centre 28 = .ok (.goto 4, 3) := dk_167 0 4 (dk_at dksX5_centre_1 4 rfl rfl)
theorem dX5_centre_31 : decode cX5_centre 31 = .ok (.iload_n 1, 1) := dk_27 (dk_at dksX5_centre_1 7 rfl rfl)
theorem dX5_centre_32 : decode cX5_centre 32 = .ok (.istore_n 1, 1) := dk_60 (dk_at dksX5_centre_1 8 rfl rfl)
theorem dX5_centre_33 : decode cX5_centre 33 = .ok (.iinc 2 1, 3) := dk_132 2 1 (dk_at dksX5_centre_1 9 rfl rfl)
theorem dX5_centre_36 : decode cX5_centre 36 = .ok (.goto (-32), 3) := dk_167 255 224 (dk_at dksX5_centre_1 12 rfl rfl)
theorem dX5_centre_39 : decode cX5_centre 39 = .ok (.iload_n 1, 1) := dk_27 (dk_at dksX5_centre_1 15 rfl rfl)
theorem dX5_centre_40 : decode cX5_centre 40 = .ok (.ireturn, 1) := dk_172 (dk_at dksX5_centre_1 16 rfl rfl)
abbrev cX5_deepOf : ByteArray := prog_22_method_13_code
def yX5_deepOf : MethodName := ⟨RX5, "deepOf", "(II)I"⟩
def dkwX5_deepOf_2 : List UInt8 := [184, 0, 172, 167, 0, 4, 29, 62, 132, 4, 1, 167, 255, 206, 29, 172]
abbrev dktX5_deepOf_2 : List UInt8 := dkwX5_deepOf_2 ++ []
def dkwX5_deepOf_1 : List UInt8 := [184, 0, 152, 153, 0, 25, 21, 4, 28, 159, 0, 19, 29, 4, 42, 21, 4, 27, 182, 0, 184, 96]
abbrev dktX5_deepOf_1 : List UInt8 := dkwX5_deepOf_1 ++ dktX5_deepOf_2
def dkwX5_deepOf_0 : List UInt8 := [3, 62, 3, 54, 4, 21, 4, 42, 180, 0, 145, 162, 0, 47, 42, 180, 0, 11, 27, 46, 21, 4]
abbrev dktX5_deepOf_0 : List UInt8 := dkwX5_deepOf_0 ++ dktX5_deepOf_1
theorem dksX5_deepOf_0 : cX5_deepOf.data.toList.drop 0 = dktX5_deepOf_0 := by decide +kernel
theorem dksX5_deepOf_1 : cX5_deepOf.data.toList.drop 22 = dktX5_deepOf_1 := dk_seg dksX5_deepOf_0 22 rfl rfl
theorem dksX5_deepOf_2 : cX5_deepOf.data.toList.drop 44 = dktX5_deepOf_2 := dk_seg dksX5_deepOf_1 22 rfl rfl
theorem dX5_deepOf_0 : decode cX5_deepOf 0 = .ok (.iconst 0, 1) := dk_3 (dk_at dksX5_deepOf_0 0 rfl rfl)
theorem dX5_deepOf_1 : decode cX5_deepOf 1 = .ok (.istore_n 3, 1) := dk_62 (dk_at dksX5_deepOf_0 1 rfl rfl)
theorem dX5_deepOf_2 : decode cX5_deepOf 2 = .ok (.iconst 0, 1) := dk_3 (dk_at dksX5_deepOf_0 2 rfl rfl)
theorem dX5_deepOf_3 : decode cX5_deepOf 3 = .ok (.istore 4, 2) := dk_54 4 (dk_at dksX5_deepOf_0 3 rfl rfl)
theorem dX5_deepOf_5 : decode cX5_deepOf 5 = .ok (.iload 4, 2) := dk_21 4 (dk_at dksX5_deepOf_0 5 rfl rfl)
theorem dX5_deepOf_7 : decode cX5_deepOf 7 = .ok (.aload_n 0, 1) := dk_42 (dk_at dksX5_deepOf_0 7 rfl rfl)
theorem dX5_deepOf_8 : decode cX5_deepOf 8 = .ok (.getfield 145, 3) := dk_180 0 145 (dk_at dksX5_deepOf_0 8 rfl rfl)
theorem dX5_deepOf_11 : decode cX5_deepOf 11 = .ok (.if_icmp .ge 47, 3) := dk_162 0 47 (dk_at dksX5_deepOf_0 11 rfl rfl)
theorem dX5_deepOf_14 : decode cX5_deepOf 14 = .ok (.aload_n 0, 1) := dk_42 (dk_at dksX5_deepOf_0 14 rfl rfl)
theorem dX5_deepOf_15 : decode cX5_deepOf 15 = .ok (.getfield 11, 3) := dk_180 0 11 (dk_at dksX5_deepOf_0 15 rfl rfl)
theorem dX5_deepOf_18 : decode cX5_deepOf 18 = .ok (.iload_n 1, 1) := dk_27 (dk_at dksX5_deepOf_0 18 rfl rfl)
theorem dX5_deepOf_19 : decode cX5_deepOf 19 = .ok (.iaload, 1) := dk_46 (dk_at dksX5_deepOf_0 19 rfl rfl)
theorem dX5_deepOf_20 : decode cX5_deepOf 20 = .ok (.iload 4, 2) := dk_21 4 (dk_at dksX5_deepOf_0 20 rfl rfl)
theorem dX5_deepOf_22 : decode cX5_deepOf 22 = .ok (.invokestatic 152, 3) := dk_184 0 152 (dk_at dksX5_deepOf_1 0 rfl rfl)
theorem dX5_deepOf_25 : decode cX5_deepOf 25 = .ok (.ifCond .eq 25, 3) := dk_153 0 25 (dk_at dksX5_deepOf_1 3 rfl rfl)
theorem dX5_deepOf_28 : decode cX5_deepOf 28 = .ok (.iload 4, 2) := dk_21 4 (dk_at dksX5_deepOf_1 6 rfl rfl)
theorem dX5_deepOf_30 : decode cX5_deepOf 30 = .ok (.iload_n 2, 1) := dk_28 (dk_at dksX5_deepOf_1 8 rfl rfl)
theorem dX5_deepOf_31 : decode cX5_deepOf 31 = .ok (.if_icmp .eq 19, 3) := dk_159 0 19 (dk_at dksX5_deepOf_1 9 rfl rfl)
theorem dX5_deepOf_34 : decode cX5_deepOf 34 = .ok (.iload_n 3, 1) := dk_29 (dk_at dksX5_deepOf_1 12 rfl rfl)
theorem dX5_deepOf_35 : decode cX5_deepOf 35 = .ok (.iconst 1, 1) := dk_4 (dk_at dksX5_deepOf_1 13 rfl rfl)
theorem dX5_deepOf_36 : decode cX5_deepOf 36 = .ok (.aload_n 0, 1) := dk_42 (dk_at dksX5_deepOf_1 14 rfl rfl)
theorem dX5_deepOf_37 : decode cX5_deepOf 37 = .ok (.iload 4, 2) := dk_21 4 (dk_at dksX5_deepOf_1 15 rfl rfl)
theorem dX5_deepOf_39 : decode cX5_deepOf 39 = .ok (.iload_n 1, 1) := dk_27 (dk_at dksX5_deepOf_1 17 rfl rfl)
theorem dX5_deepOf_40 : decode cX5_deepOf 40 = .ok (.invokevirtual 184, 3) := dk_182 0 184 (dk_at dksX5_deepOf_1 18 rfl rfl)
theorem dX5_deepOf_43 : decode cX5_deepOf 43 = .ok (.iadd, 1) := dk_96 (dk_at dksX5_deepOf_1 21 rfl rfl)
theorem dX5_deepOf_44 : decode cX5_deepOf 44 = .ok (.invokestatic 172, 3) := dk_184 0 172 (dk_at dksX5_deepOf_2 0 rfl rfl)
theorem dX5_deepOf_47 : decode cX5_deepOf 47 = .ok (.goto 4, 3) := dk_167 0 4 (dk_at dksX5_deepOf_2 3 rfl rfl)
theorem dX5_deepOf_50 : decode cX5_deepOf 50 = .ok (.iload_n 3, 1) := dk_29 (dk_at dksX5_deepOf_2 6 rfl rfl)
theorem dX5_deepOf_51 : decode cX5_deepOf 51 = .ok (.istore_n 3, 1) := dk_62 (dk_at dksX5_deepOf_2 7 rfl rfl)
theorem dX5_deepOf_52 : decode cX5_deepOf 52 = .ok (.iinc 4 1, 3) := dk_132 4 1 (dk_at dksX5_deepOf_2 8 rfl rfl)
theorem dX5_deepOf_55 : decode cX5_deepOf 55 = .ok (.goto (-50), 3) := dk_167 255 206 (dk_at dksX5_deepOf_2 11 rfl rfl)
theorem dX5_deepOf_58 : decode cX5_deepOf 58 = .ok (.iload_n 3, 1) := dk_29 (dk_at dksX5_deepOf_2 14 rfl rfl)
theorem dX5_deepOf_59 : decode cX5_deepOf 59 = .ok (.ireturn, 1) := dk_172 (dk_at dksX5_deepOf_2 15 rfl rfl)
abbrev cX5_looksAt : ByteArray := prog_22_method_25_code
def yX5_looksAt : MethodName := ⟨RX5, "looksAt", "(II)V"⟩
def dkwX5_looksAt_0 : List UInt8 := [42, 27, 42, 27, 28, 182, 0, 235, 182, 0, 221, 62, 177]
abbrev dktX5_looksAt_0 : List UInt8 := dkwX5_looksAt_0 ++ []
theorem dksX5_looksAt_0 : cX5_looksAt.data.toList.drop 0 = dktX5_looksAt_0 := by decide +kernel
theorem dX5_looksAt_0 : decode cX5_looksAt 0 = .ok (.aload_n 0, 1) := dk_42 (dk_at dksX5_looksAt_0 0 rfl rfl)
theorem dX5_looksAt_1 : decode cX5_looksAt 1 = .ok (.iload_n 1, 1) := dk_27 (dk_at dksX5_looksAt_0 1 rfl rfl)
theorem dX5_looksAt_2 : decode cX5_looksAt 2 = .ok (.aload_n 0, 1) := dk_42 (dk_at dksX5_looksAt_0 2 rfl rfl)
theorem dX5_looksAt_3 : decode cX5_looksAt 3 = .ok (.iload_n 1, 1) := dk_27 (dk_at dksX5_looksAt_0 3 rfl rfl)
theorem dX5_looksAt_4 : decode cX5_looksAt 4 = .ok (.iload_n 2, 1) := dk_28 (dk_at dksX5_looksAt_0 4 rfl rfl)
theorem dX5_looksAt_5 : decode cX5_looksAt 5 = .ok (.invokevirtual 235, 3) := dk_182 0 235 (dk_at dksX5_looksAt_0 5 rfl rfl)
theorem dX5_looksAt_8 : decode cX5_looksAt 8 = .ok (.invokevirtual 221, 3) := dk_182 0 221 (dk_at dksX5_looksAt_0 8 rfl rfl)
theorem dX5_looksAt_11 : decode cX5_looksAt 11 = .ok (.istore_n 3, 1) := dk_62 (dk_at dksX5_looksAt_0 11 rfl rfl)
theorem dX5_looksAt_12 : decode cX5_looksAt 12 = .ok (.return_, 1) := dk_177 (dk_at dksX5_looksAt_0 12 rfl rfl)
abbrev cX5_keyOf : ByteArray := prog_22_method_24_code
def yX5_keyOf : MethodName := ⟨RX5, "keyOf", "(II)I"⟩
def dkwX5_keyOf_0 : List UInt8 := [42, 180, 0, 25, 16, 80, 27, 104, 28, 96, 46, 172]
abbrev dktX5_keyOf_0 : List UInt8 := dkwX5_keyOf_0 ++ []
theorem dksX5_keyOf_0 : cX5_keyOf.data.toList.drop 0 = dktX5_keyOf_0 := by decide +kernel
theorem dX5_keyOf_0 : decode cX5_keyOf 0 = .ok (.aload_n 0, 1) := dk_42 (dk_at dksX5_keyOf_0 0 rfl rfl)
theorem dX5_keyOf_1 : decode cX5_keyOf 1 = .ok (.getfield 25, 3) := dk_180 0 25 (dk_at dksX5_keyOf_0 1 rfl rfl)
theorem dX5_keyOf_4 : decode cX5_keyOf 4 = .ok (.bipush 80, 2) := dk_16 80 (dk_at dksX5_keyOf_0 4 rfl rfl)
theorem dX5_keyOf_6 : decode cX5_keyOf 6 = .ok (.iload_n 1, 1) := dk_27 (dk_at dksX5_keyOf_0 6 rfl rfl)
theorem dX5_keyOf_7 : decode cX5_keyOf 7 = .ok (.imul, 1) := dk_104 (dk_at dksX5_keyOf_0 7 rfl rfl)
theorem dX5_keyOf_8 : decode cX5_keyOf 8 = .ok (.iload_n 2, 1) := dk_28 (dk_at dksX5_keyOf_0 8 rfl rfl)
theorem dX5_keyOf_9 : decode cX5_keyOf 9 = .ok (.iadd, 1) := dk_96 (dk_at dksX5_keyOf_0 9 rfl rfl)
theorem dX5_keyOf_10 : decode cX5_keyOf 10 = .ok (.iaload, 1) := dk_46 (dk_at dksX5_keyOf_0 10 rfl rfl)
theorem dX5_keyOf_11 : decode cX5_keyOf 11 = .ok (.ireturn, 1) := dk_172 (dk_at dksX5_keyOf_0 11 rfl rfl)
abbrev cX5_code : ByteArray := prog_22_method_31_code
def yX5_code : MethodName := ⟨RX5, "code", "(II)I"⟩
def dkwX5_code_1 : List UInt8 := [42, 182, 0, 247, 42, 182, 0, 224, 28, 160, 0, 7, 4, 167, 0, 4, 3, 172]
abbrev dktX5_code_1 : List UInt8 := dkwX5_code_1 ++ []
def dkwX5_code_0 : List UInt8 := [27, 133, 10, 20, 1, 2, 184, 0, 148, 153, 0, 12, 42, 27, 28, 182, 0, 221, 154, 0, 6, 16, 254, 172]
abbrev dktX5_code_0 : List UInt8 := dkwX5_code_0 ++ dktX5_code_1
theorem dksX5_code_0 : cX5_code.data.toList.drop 0 = dktX5_code_0 := by decide +kernel
theorem dksX5_code_1 : cX5_code.data.toList.drop 24 = dktX5_code_1 := dk_seg dksX5_code_0 24 rfl rfl
theorem dX5_code_0 : decode cX5_code 0 = .ok (.iload_n 1, 1) := dk_27 (dk_at dksX5_code_0 0 rfl rfl)
theorem dX5_code_1 : decode cX5_code 1 = .ok (.i2l, 1) := dk_133 (dk_at dksX5_code_0 1 rfl rfl)
theorem dX5_code_2 : decode cX5_code 2 = .ok (.lconst 1, 1) := dk_10 (dk_at dksX5_code_0 2 rfl rfl)
theorem dX5_code_3 : decode cX5_code 3 = .ok (.ldc2_w 258, 3) := dk_20 1 2 (dk_at dksX5_code_0 3 rfl rfl)
theorem dX5_code_6 : decode cX5_code 6 = .ok (.invokestatic 148, 3) := dk_184 0 148 (dk_at dksX5_code_0 6 rfl rfl)
theorem dX5_code_9 : decode cX5_code 9 = .ok (.ifCond .eq 12, 3) := dk_153 0 12 (dk_at dksX5_code_0 9 rfl rfl)
theorem dX5_code_12 : decode cX5_code 12 = .ok (.aload_n 0, 1) := dk_42 (dk_at dksX5_code_0 12 rfl rfl)
theorem dX5_code_13 : decode cX5_code 13 = .ok (.iload_n 1, 1) := dk_27 (dk_at dksX5_code_0 13 rfl rfl)
theorem dX5_code_14 : decode cX5_code 14 = .ok (.iload_n 2, 1) := dk_28 (dk_at dksX5_code_0 14 rfl rfl)
theorem dX5_code_15 : decode cX5_code 15 = .ok (.invokevirtual 221, 3) := dk_182 0 221 (dk_at dksX5_code_0 15 rfl rfl)
theorem dX5_code_18 : decode cX5_code 18 = .ok (.ifCond .ne 6, 3) := dk_154 0 6 (dk_at dksX5_code_0 18 rfl rfl)
theorem dX5_code_21 : decode cX5_code 21 = .ok (.bipush (-2), 2) := dk_16 254 (dk_at dksX5_code_0 21 rfl rfl)
theorem dX5_code_23 : decode cX5_code 23 = .ok (.ireturn, 1) := dk_172 (dk_at dksX5_code_0 23 rfl rfl)
theorem dX5_code_24 : decode cX5_code 24 = .ok (.aload_n 0, 1) := dk_42 (dk_at dksX5_code_1 0 rfl rfl)
theorem dX5_code_25 : decode cX5_code 25 = .ok (.invokevirtual 247, 3) := dk_182 0 247 (dk_at dksX5_code_1 1 rfl rfl)
theorem dX5_code_28 : decode cX5_code 28 = .ok (.aload_n 0, 1) := dk_42 (dk_at dksX5_code_1 4 rfl rfl)
theorem dX5_code_29 : decode cX5_code 29 = .ok (.invokevirtual 224, 3) := dk_182 0 224 (dk_at dksX5_code_1 5 rfl rfl)
theorem dX5_code_32 : decode cX5_code 32 = .ok (.iload_n 2, 1) := dk_28 (dk_at dksX5_code_1 8 rfl rfl)
theorem dX5_code_33 : decode cX5_code 33 = .ok (.if_icmp .ne 7, 3) := dk_160 0 7 (dk_at dksX5_code_1 9 rfl rfl)
theorem dX5_code_36 : decode cX5_code 36 = .ok (.iconst 1, 1) := dk_4 (dk_at dksX5_code_1 12 rfl rfl)
theorem dX5_code_37 : decode cX5_code 37 = .ok (.goto 4, 3) := dk_167 0 4 (dk_at dksX5_code_1 13 rfl rfl)
theorem dX5_code_40 : decode cX5_code 40 = .ok (.iconst 0, 1) := dk_3 (dk_at dksX5_code_1 16 rfl rfl)
theorem dX5_code_41 : decode cX5_code 41 = .ok (.ireturn, 1) := dk_172 (dk_at dksX5_code_1 17 rfl rfl)
abbrev cX5_drawn : ByteArray := prog_22_method_32_code
def yX5_drawn : MethodName := ⟨RX5, "drawn", "(I)I"⟩
def dkwX5_drawn_3 : List UInt8 := [172, 2, 172]
abbrev dktX5_drawn_3 : List UInt8 := dkwX5_drawn_3 ++ []
def dkwX5_drawn_2 : List UInt8 := [42, 180, 0, 145, 172, 42, 182, 0, 224, 172, 42, 182, 1, 4, 172, 42, 182, 0, 187, 172, 42, 182, 0, 191]
abbrev dktX5_drawn_2 : List UInt8 := dkwX5_drawn_2 ++ dktX5_drawn_3
def dkwX5_drawn_1 : List UInt8 := [170, 0, 0, 0, 0, 0, 60, 0, 0, 0, 0, 0, 0, 0, 4, 0, 0, 0, 35, 0, 0, 0, 40, 0, 0, 0, 45, 0, 0, 0, 50, 0, 0, 0, 55]
abbrev dktX5_drawn_1 : List UInt8 := dkwX5_drawn_1 ++ dktX5_drawn_2
def dkwX5_drawn_0 : List UInt8 := [42, 182, 0, 241, 27]
abbrev dktX5_drawn_0 : List UInt8 := dkwX5_drawn_0 ++ dktX5_drawn_1
theorem dksX5_drawn_0 : cX5_drawn.data.toList.drop 0 = dktX5_drawn_0 := by decide +kernel
theorem dksX5_drawn_1 : cX5_drawn.data.toList.drop 5 = dktX5_drawn_1 := dk_seg dksX5_drawn_0 5 rfl rfl
theorem dksX5_drawn_2 : cX5_drawn.data.toList.drop 40 = dktX5_drawn_2 := dk_seg dksX5_drawn_1 35 rfl rfl
theorem dksX5_drawn_3 : cX5_drawn.data.toList.drop 64 = dktX5_drawn_3 := dk_seg dksX5_drawn_2 24 rfl rfl
theorem dX5_drawn_0 : decode cX5_drawn 0 = .ok (.aload_n 0, 1) := dk_42 (dk_at dksX5_drawn_0 0 rfl rfl)
theorem dX5_drawn_1 : decode cX5_drawn 1 = .ok (.invokevirtual 241, 3) := dk_182 0 241 (dk_at dksX5_drawn_0 1 rfl rfl)
theorem dX5_drawn_4 : decode cX5_drawn 4 = .ok (.iload_n 1, 1) := dk_27 (dk_at dksX5_drawn_0 4 rfl rfl)
theorem dX5_drawn_5 : decode cX5_drawn 5 = .ok (.tableswitch 60 0 4 #[35, 40, 45, 50, 55], 35) := by decide +kernel
theorem dX5_drawn_40 : decode cX5_drawn 40 = .ok (.aload_n 0, 1) := dk_42 (dk_at dksX5_drawn_2 0 rfl rfl)
theorem dX5_drawn_41 : decode cX5_drawn 41 = .ok (.getfield 145, 3) := dk_180 0 145 (dk_at dksX5_drawn_2 1 rfl rfl)
theorem dX5_drawn_44 : decode cX5_drawn 44 = .ok (.ireturn, 1) := dk_172 (dk_at dksX5_drawn_2 4 rfl rfl)
theorem dX5_drawn_45 : decode cX5_drawn 45 = .ok (.aload_n 0, 1) := dk_42 (dk_at dksX5_drawn_2 5 rfl rfl)
theorem dX5_drawn_46 : decode cX5_drawn 46 = .ok (.invokevirtual 224, 3) := dk_182 0 224 (dk_at dksX5_drawn_2 6 rfl rfl)
theorem dX5_drawn_49 : decode cX5_drawn 49 = .ok (.ireturn, 1) := dk_172 (dk_at dksX5_drawn_2 9 rfl rfl)
theorem dX5_drawn_50 : decode cX5_drawn 50 = .ok (.aload_n 0, 1) := dk_42 (dk_at dksX5_drawn_2 10 rfl rfl)
theorem dX5_drawn_51 : decode cX5_drawn 51 = .ok (.invokevirtual 260, 3) := dk_182 1 4 (dk_at dksX5_drawn_2 11 rfl rfl)
theorem dX5_drawn_54 : decode cX5_drawn 54 = .ok (.ireturn, 1) := dk_172 (dk_at dksX5_drawn_2 14 rfl rfl)
theorem dX5_drawn_55 : decode cX5_drawn 55 = .ok (.aload_n 0, 1) := dk_42 (dk_at dksX5_drawn_2 15 rfl rfl)
theorem dX5_drawn_56 : decode cX5_drawn 56 = .ok (.invokevirtual 187, 3) := dk_182 0 187 (dk_at dksX5_drawn_2 16 rfl rfl)
theorem dX5_drawn_59 : decode cX5_drawn 59 = .ok (.ireturn, 1) := dk_172 (dk_at dksX5_drawn_2 19 rfl rfl)
theorem dX5_drawn_60 : decode cX5_drawn 60 = .ok (.aload_n 0, 1) := dk_42 (dk_at dksX5_drawn_2 20 rfl rfl)
theorem dX5_drawn_61 : decode cX5_drawn 61 = .ok (.invokevirtual 191, 3) := dk_182 0 191 (dk_at dksX5_drawn_2 21 rfl rfl)
theorem dX5_drawn_64 : decode cX5_drawn 64 = .ok (.ireturn, 1) := dk_172 (dk_at dksX5_drawn_3 0 rfl rfl)
theorem dX5_drawn_65 : decode cX5_drawn 65 = .ok (.iconst (-1), 1) := dk_2 (dk_at dksX5_drawn_3 1 rfl rfl)
theorem dX5_drawn_66 : decode cX5_drawn 66 = .ok (.ireturn, 1) := dk_172 (dk_at dksX5_drawn_3 2 rfl rfl)
abbrev cX5_numberNow : ByteArray := prog_22_method_26_code
def yX5_numberNow : MethodName := ⟨RX5, "numberNow", "()I"⟩
def dkwX5_numberNow_2 : List UInt8 := [28, 172, 132, 2, 1, 167, 255, 216, 2, 172]
abbrev dktX5_numberNow_2 : List UInt8 := dkwX5_numberNow_2 ++ []
def dkwX5_numberNow_1 : List UInt8 := [180, 0, 28, 42, 180, 0, 18, 46, 162, 0, 24, 42, 42, 180, 0, 18, 28, 182, 0, 235, 27, 160, 0, 5]
abbrev dktX5_numberNow_1 : List UInt8 := dkwX5_numberNow_1 ++ dktX5_numberNow_2
def dkwX5_numberNow_0 : List UInt8 := [42, 182, 0, 227, 42, 182, 0, 238, 60, 3, 61, 42, 180, 0, 18, 16, 10, 163, 0, 37, 28, 42]
abbrev dktX5_numberNow_0 : List UInt8 := dkwX5_numberNow_0 ++ dktX5_numberNow_1
theorem dksX5_numberNow_0 : cX5_numberNow.data.toList.drop 0 = dktX5_numberNow_0 := by decide +kernel
theorem dksX5_numberNow_1 : cX5_numberNow.data.toList.drop 22 = dktX5_numberNow_1 := dk_seg dksX5_numberNow_0 22 rfl rfl
theorem dksX5_numberNow_2 : cX5_numberNow.data.toList.drop 46 = dktX5_numberNow_2 := dk_seg dksX5_numberNow_1 24 rfl rfl
theorem dX5_numberNow_0 : decode cX5_numberNow 0 = .ok (.aload_n 0, 1) := dk_42 (dk_at dksX5_numberNow_0 0 rfl rfl)
theorem dX5_numberNow_1 : decode cX5_numberNow 1 = .ok (.invokevirtual 227, 3) := dk_182 0 227 (dk_at dksX5_numberNow_0 1 rfl rfl)
theorem dX5_numberNow_4 : decode cX5_numberNow 4 = .ok (.aload_n 0, 1) := dk_42 (dk_at dksX5_numberNow_0 4 rfl rfl)
theorem dX5_numberNow_5 : decode cX5_numberNow 5 = .ok (.invokevirtual 238, 3) := dk_182 0 238 (dk_at dksX5_numberNow_0 5 rfl rfl)
theorem dX5_numberNow_8 : decode cX5_numberNow 8 = .ok (.istore_n 1, 1) := dk_60 (dk_at dksX5_numberNow_0 8 rfl rfl)
theorem dX5_numberNow_9 : decode cX5_numberNow 9 = .ok (.iconst 0, 1) := dk_3 (dk_at dksX5_numberNow_0 9 rfl rfl)
theorem dX5_numberNow_10 : decode cX5_numberNow 10 = .ok (.istore_n 2, 1) := dk_61 (dk_at dksX5_numberNow_0 10 rfl rfl)
theorem dX5_numberNow_11 : decode cX5_numberNow 11 = .ok (.aload_n 0, 1) := dk_42 (dk_at dksX5_numberNow_0 11 rfl rfl)
theorem dX5_numberNow_12 : decode cX5_numberNow 12 = .ok (.getfield 18, 3) := dk_180 0 18 (dk_at dksX5_numberNow_0 12 rfl rfl)
theorem dX5_numberNow_15 : decode cX5_numberNow 15 = .ok (.bipush 10, 2) := dk_16 10 (dk_at dksX5_numberNow_0 15 rfl rfl)
theorem dX5_numberNow_17 : decode cX5_numberNow 17 = .ok (.if_icmp .gt 37, 3) := dk_163 0 37 (dk_at dksX5_numberNow_0 17 rfl rfl)
theorem dX5_numberNow_20 : decode cX5_numberNow 20 = .ok (.iload_n 2, 1) := dk_28 (dk_at dksX5_numberNow_0 20 rfl rfl)
theorem dX5_numberNow_21 : decode cX5_numberNow 21 = .ok (.aload_n 0, 1) := dk_42 (dk_at dksX5_numberNow_0 21 rfl rfl)
theorem dX5_numberNow_22 : decode cX5_numberNow 22 = .ok (.getfield 28, 3) := dk_180 0 28 (dk_at dksX5_numberNow_1 0 rfl rfl)
theorem dX5_numberNow_25 : decode cX5_numberNow 25 = .ok (.aload_n 0, 1) := dk_42 (dk_at dksX5_numberNow_1 3 rfl rfl)
theorem dX5_numberNow_26 : decode cX5_numberNow 26 = .ok (.getfield 18, 3) := dk_180 0 18 (dk_at dksX5_numberNow_1 4 rfl rfl)
theorem dX5_numberNow_29 : decode cX5_numberNow 29 = .ok (.iaload, 1) := dk_46 (dk_at dksX5_numberNow_1 7 rfl rfl)
theorem dX5_numberNow_30 : decode cX5_numberNow 30 = .ok (.if_icmp .ge 24, 3) := dk_162 0 24 (dk_at dksX5_numberNow_1 8 rfl rfl)
theorem dX5_numberNow_33 : decode cX5_numberNow 33 = .ok (.aload_n 0, 1) := dk_42 (dk_at dksX5_numberNow_1 11 rfl rfl)
theorem dX5_numberNow_34 : decode cX5_numberNow 34 = .ok (.aload_n 0, 1) := dk_42 (dk_at dksX5_numberNow_1 12 rfl rfl)
theorem dX5_numberNow_35 : decode cX5_numberNow 35 = .ok (.getfield 18, 3) := dk_180 0 18 (dk_at dksX5_numberNow_1 13 rfl rfl)
theorem dX5_numberNow_38 : decode cX5_numberNow 38 = .ok (.iload_n 2, 1) := dk_28 (dk_at dksX5_numberNow_1 16 rfl rfl)
theorem dX5_numberNow_39 : decode cX5_numberNow 39 = .ok (.invokevirtual 235, 3) := dk_182 0 235 (dk_at dksX5_numberNow_1 17 rfl rfl)
theorem dX5_numberNow_42 : decode cX5_numberNow 42 = .ok (.iload_n 1, 1) := dk_27 (dk_at dksX5_numberNow_1 20 rfl rfl)
theorem dX5_numberNow_43 : decode cX5_numberNow 43 = .ok (.if_icmp .ne 5, 3) := dk_160 0 5 (dk_at dksX5_numberNow_1 21 rfl rfl)
theorem dX5_numberNow_46 : decode cX5_numberNow 46 = .ok (.iload_n 2, 1) := dk_28 (dk_at dksX5_numberNow_2 0 rfl rfl)
theorem dX5_numberNow_47 : decode cX5_numberNow 47 = .ok (.ireturn, 1) := dk_172 (dk_at dksX5_numberNow_2 1 rfl rfl)
theorem dX5_numberNow_48 : decode cX5_numberNow 48 = .ok (.iinc 2 1, 3) := dk_132 2 1 (dk_at dksX5_numberNow_2 2 rfl rfl)
theorem dX5_numberNow_51 : decode cX5_numberNow 51 = .ok (.goto (-40), 3) := dk_167 255 216 (dk_at dksX5_numberNow_2 5 rfl rfl)
theorem dX5_numberNow_54 : decode cX5_numberNow 54 = .ok (.iconst (-1), 1) := dk_2 (dk_at dksX5_numberNow_2 8 rfl rfl)
theorem dX5_numberNow_55 : decode cX5_numberNow 55 = .ok (.ireturn, 1) := dk_172 (dk_at dksX5_numberNow_2 9 rfl rfl)
abbrev cX5_keyOfDrawing : ByteArray := prog_22_method_27_code
def yX5_keyOfDrawing : MethodName := ⟨RX5, "keyOfDrawing", "()I"⟩
def dkwX5_keyOfDrawing_0 : List UInt8 := [42, 182, 0, 241, 42, 182, 0, 224, 172]
abbrev dktX5_keyOfDrawing_0 : List UInt8 := dkwX5_keyOfDrawing_0 ++ []
theorem dksX5_keyOfDrawing_0 : cX5_keyOfDrawing.data.toList.drop 0 = dktX5_keyOfDrawing_0 := by decide +kernel
theorem dX5_keyOfDrawing_0 : decode cX5_keyOfDrawing 0 = .ok (.aload_n 0, 1) := dk_42 (dk_at dksX5_keyOfDrawing_0 0 rfl rfl)
theorem dX5_keyOfDrawing_1 : decode cX5_keyOfDrawing 1 = .ok (.invokevirtual 241, 3) := dk_182 0 241 (dk_at dksX5_keyOfDrawing_0 1 rfl rfl)
theorem dX5_keyOfDrawing_4 : decode cX5_keyOfDrawing 4 = .ok (.aload_n 0, 1) := dk_42 (dk_at dksX5_keyOfDrawing_0 4 rfl rfl)
theorem dX5_keyOfDrawing_5 : decode cX5_keyOfDrawing 5 = .ok (.invokevirtual 224, 3) := dk_182 0 224 (dk_at dksX5_keyOfDrawing_0 5 rfl rfl)
theorem dX5_keyOfDrawing_8 : decode cX5_keyOfDrawing 8 = .ok (.ireturn, 1) := dk_172 (dk_at dksX5_keyOfDrawing_0 8 rfl rfl)
abbrev cX5_atom : ByteArray := prog_22_method_34_code
def yX5_atom : MethodName := ⟨RX5, "atom", "(II)I"⟩
def dkwX5_atom_3 : List UInt8 := [42, 27, 28, 6, 160, 0, 7, 4, 167, 0, 4, 3, 182, 1, 7, 172, 2, 172]
abbrev dktX5_atom_3 : List UInt8 := dkwX5_atom_3 ++ []
def dkwX5_atom_2 : List UInt8 := [42, 180, 0, 11, 27, 46, 184, 0, 160, 172, 42, 27, 2, 182, 0, 184, 172, 42, 27, 2, 182, 0, 169, 172]
abbrev dktX5_atom_2 : List UInt8 := dkwX5_atom_2 ++ dktX5_atom_3
def dkwX5_atom_1 : List UInt8 := [170, 0, 0, 0, 73, 0, 0, 0, 0, 0, 0, 0, 4, 0, 0, 0, 33, 0, 0, 0, 43, 0, 0, 0, 50, 0, 0, 0, 57, 0, 0, 0, 57]
abbrev dktX5_atom_1 : List UInt8 := dkwX5_atom_1 ++ dktX5_atom_2
def dkwX5_atom_0 : List UInt8 := [42, 27, 182, 0, 244, 154, 0, 5, 2, 172, 42, 182, 0, 241, 28]
abbrev dktX5_atom_0 : List UInt8 := dkwX5_atom_0 ++ dktX5_atom_1
theorem dksX5_atom_0 : cX5_atom.data.toList.drop 0 = dktX5_atom_0 := by decide +kernel
theorem dksX5_atom_1 : cX5_atom.data.toList.drop 15 = dktX5_atom_1 := dk_seg dksX5_atom_0 15 rfl rfl
theorem dksX5_atom_2 : cX5_atom.data.toList.drop 48 = dktX5_atom_2 := dk_seg dksX5_atom_1 33 rfl rfl
theorem dksX5_atom_3 : cX5_atom.data.toList.drop 72 = dktX5_atom_3 := dk_seg dksX5_atom_2 24 rfl rfl
theorem dX5_atom_0 : decode cX5_atom 0 = .ok (.aload_n 0, 1) := dk_42 (dk_at dksX5_atom_0 0 rfl rfl)
theorem dX5_atom_1 : decode cX5_atom 1 = .ok (.iload_n 1, 1) := dk_27 (dk_at dksX5_atom_0 1 rfl rfl)
theorem dX5_atom_2 : decode cX5_atom 2 = .ok (.invokevirtual 244, 3) := dk_182 0 244 (dk_at dksX5_atom_0 2 rfl rfl)
theorem dX5_atom_5 : decode cX5_atom 5 = .ok (.ifCond .ne 5, 3) := dk_154 0 5 (dk_at dksX5_atom_0 5 rfl rfl)
theorem dX5_atom_8 : decode cX5_atom 8 = .ok (.iconst (-1), 1) := dk_2 (dk_at dksX5_atom_0 8 rfl rfl)
theorem dX5_atom_9 : decode cX5_atom 9 = .ok (.ireturn, 1) := dk_172 (dk_at dksX5_atom_0 9 rfl rfl)
theorem dX5_atom_10 : decode cX5_atom 10 = .ok (.aload_n 0, 1) := dk_42 (dk_at dksX5_atom_0 10 rfl rfl)
theorem dX5_atom_11 : decode cX5_atom 11 = .ok (.invokevirtual 241, 3) := dk_182 0 241 (dk_at dksX5_atom_0 11 rfl rfl)
theorem dX5_atom_14 : decode cX5_atom 14 = .ok (.iload_n 2, 1) := dk_28 (dk_at dksX5_atom_0 14 rfl rfl)
theorem dX5_atom_15 : decode cX5_atom 15 = .ok (.tableswitch 73 0 4 #[33, 43, 50, 57, 57], 33) := by decide +kernel
theorem dX5_atom_48 : decode cX5_atom 48 = .ok (.aload_n 0, 1) := dk_42 (dk_at dksX5_atom_2 0 rfl rfl)
theorem dX5_atom_49 : decode cX5_atom 49 = .ok (.getfield 11, 3) := dk_180 0 11 (dk_at dksX5_atom_2 1 rfl rfl)
theorem dX5_atom_52 : decode cX5_atom 52 = .ok (.iload_n 1, 1) := dk_27 (dk_at dksX5_atom_2 4 rfl rfl)
theorem dX5_atom_53 : decode cX5_atom 53 = .ok (.iaload, 1) := dk_46 (dk_at dksX5_atom_2 5 rfl rfl)
theorem dX5_atom_54 : decode cX5_atom 54 = .ok (.invokestatic 160, 3) := dk_184 0 160 (dk_at dksX5_atom_2 6 rfl rfl)
theorem dX5_atom_57 : decode cX5_atom 57 = .ok (.ireturn, 1) := dk_172 (dk_at dksX5_atom_2 9 rfl rfl)
theorem dX5_atom_58 : decode cX5_atom 58 = .ok (.aload_n 0, 1) := dk_42 (dk_at dksX5_atom_2 10 rfl rfl)
theorem dX5_atom_59 : decode cX5_atom 59 = .ok (.iload_n 1, 1) := dk_27 (dk_at dksX5_atom_2 11 rfl rfl)
theorem dX5_atom_60 : decode cX5_atom 60 = .ok (.iconst (-1), 1) := dk_2 (dk_at dksX5_atom_2 12 rfl rfl)
theorem dX5_atom_61 : decode cX5_atom 61 = .ok (.invokevirtual 184, 3) := dk_182 0 184 (dk_at dksX5_atom_2 13 rfl rfl)
theorem dX5_atom_64 : decode cX5_atom 64 = .ok (.ireturn, 1) := dk_172 (dk_at dksX5_atom_2 16 rfl rfl)
theorem dX5_atom_65 : decode cX5_atom 65 = .ok (.aload_n 0, 1) := dk_42 (dk_at dksX5_atom_2 17 rfl rfl)
theorem dX5_atom_66 : decode cX5_atom 66 = .ok (.iload_n 1, 1) := dk_27 (dk_at dksX5_atom_2 18 rfl rfl)
theorem dX5_atom_67 : decode cX5_atom 67 = .ok (.iconst (-1), 1) := dk_2 (dk_at dksX5_atom_2 19 rfl rfl)
theorem dX5_atom_68 : decode cX5_atom 68 = .ok (.invokevirtual 169, 3) := dk_182 0 169 (dk_at dksX5_atom_2 20 rfl rfl)
theorem dX5_atom_71 : decode cX5_atom 71 = .ok (.ireturn, 1) := dk_172 (dk_at dksX5_atom_2 23 rfl rfl)
theorem dX5_atom_72 : decode cX5_atom 72 = .ok (.aload_n 0, 1) := dk_42 (dk_at dksX5_atom_3 0 rfl rfl)
theorem dX5_atom_73 : decode cX5_atom 73 = .ok (.iload_n 1, 1) := dk_27 (dk_at dksX5_atom_3 1 rfl rfl)
theorem dX5_atom_74 : decode cX5_atom 74 = .ok (.iload_n 2, 1) := dk_28 (dk_at dksX5_atom_3 2 rfl rfl)
theorem dX5_atom_75 : decode cX5_atom 75 = .ok (.iconst 3, 1) := dk_6 (dk_at dksX5_atom_3 3 rfl rfl)
theorem dX5_atom_76 : decode cX5_atom 76 = .ok (.if_icmp .ne 7, 3) := dk_160 0 7 (dk_at dksX5_atom_3 4 rfl rfl)
theorem dX5_atom_79 : decode cX5_atom 79 = .ok (.iconst 1, 1) := dk_4 (dk_at dksX5_atom_3 7 rfl rfl)
theorem dX5_atom_80 : decode cX5_atom 80 = .ok (.goto 4, 3) := dk_167 0 4 (dk_at dksX5_atom_3 8 rfl rfl)
theorem dX5_atom_83 : decode cX5_atom 83 = .ok (.iconst 0, 1) := dk_3 (dk_at dksX5_atom_3 11 rfl rfl)
theorem dX5_atom_84 : decode cX5_atom 84 = .ok (.invokevirtual 263, 3) := dk_182 1 7 (dk_at dksX5_atom_3 12 rfl rfl)
theorem dX5_atom_87 : decode cX5_atom 87 = .ok (.ireturn, 1) := dk_172 (dk_at dksX5_atom_3 15 rfl rfl)
theorem dX5_atom_88 : decode cX5_atom 88 = .ok (.iconst (-1), 1) := dk_2 (dk_at dksX5_atom_3 16 rfl rfl)
theorem dX5_atom_89 : decode cX5_atom 89 = .ok (.ireturn, 1) := dk_172 (dk_at dksX5_atom_3 17 rfl rfl)
abbrev cX5_alikeTo : ByteArray := prog_22_method_33_code
def yX5_alikeTo : MethodName := ⟨RX5, "alikeTo", "(IZ)I"⟩
def dkwX5_alikeTo_2 : List UInt8 := [167, 255, 230, 28, 153, 0, 8, 21, 5, 167, 0, 5, 21, 4, 172]
abbrev dktX5_alikeTo_2 : List UInt8 := dkwX5_alikeTo_2 ++ []
def dkwX5_alikeTo_1 : List UInt8 := [155, 0, 27, 42, 21, 6, 2, 182, 0, 169, 29, 160, 0, 10, 132, 4, 1, 21, 6, 54, 5, 132, 6, 255]
abbrev dktX5_alikeTo_1 : List UInt8 := dkwX5_alikeTo_1 ++ dktX5_alikeTo_2
def dkwX5_alikeTo_0 : List UInt8 := [42, 27, 2, 182, 0, 169, 62, 3, 54, 4, 2, 54, 5, 42, 180, 0, 145, 4, 100, 54, 6, 21, 6]
abbrev dktX5_alikeTo_0 : List UInt8 := dkwX5_alikeTo_0 ++ dktX5_alikeTo_1
theorem dksX5_alikeTo_0 : cX5_alikeTo.data.toList.drop 0 = dktX5_alikeTo_0 := by decide +kernel
theorem dksX5_alikeTo_1 : cX5_alikeTo.data.toList.drop 23 = dktX5_alikeTo_1 := dk_seg dksX5_alikeTo_0 23 rfl rfl
theorem dksX5_alikeTo_2 : cX5_alikeTo.data.toList.drop 47 = dktX5_alikeTo_2 := dk_seg dksX5_alikeTo_1 24 rfl rfl
theorem dX5_alikeTo_0 : decode cX5_alikeTo 0 = .ok (.aload_n 0, 1) := dk_42 (dk_at dksX5_alikeTo_0 0 rfl rfl)
theorem dX5_alikeTo_1 : decode cX5_alikeTo 1 = .ok (.iload_n 1, 1) := dk_27 (dk_at dksX5_alikeTo_0 1 rfl rfl)
theorem dX5_alikeTo_2 : decode cX5_alikeTo 2 = .ok (.iconst (-1), 1) := dk_2 (dk_at dksX5_alikeTo_0 2 rfl rfl)
theorem dX5_alikeTo_3 : decode cX5_alikeTo 3 = .ok (.invokevirtual 169, 3) := dk_182 0 169 (dk_at dksX5_alikeTo_0 3 rfl rfl)
theorem dX5_alikeTo_6 : decode cX5_alikeTo 6 = .ok (.istore_n 3, 1) := dk_62 (dk_at dksX5_alikeTo_0 6 rfl rfl)
theorem dX5_alikeTo_7 : decode cX5_alikeTo 7 = .ok (.iconst 0, 1) := dk_3 (dk_at dksX5_alikeTo_0 7 rfl rfl)
theorem dX5_alikeTo_8 : decode cX5_alikeTo 8 = .ok (.istore 4, 2) := dk_54 4 (dk_at dksX5_alikeTo_0 8 rfl rfl)
theorem dX5_alikeTo_10 : decode cX5_alikeTo 10 = .ok (.iconst (-1), 1) := dk_2 (dk_at dksX5_alikeTo_0 10 rfl rfl)
theorem dX5_alikeTo_11 : decode cX5_alikeTo 11 = .ok (.istore 5, 2) := dk_54 5 (dk_at dksX5_alikeTo_0 11 rfl rfl)
theorem dX5_alikeTo_13 : decode cX5_alikeTo 13 = .ok (.aload_n 0, 1) := dk_42 (dk_at dksX5_alikeTo_0 13 rfl rfl)
theorem dX5_alikeTo_14 : decode cX5_alikeTo 14 = .ok (.getfield 145, 3) := dk_180 0 145 (dk_at dksX5_alikeTo_0 14 rfl rfl)
theorem dX5_alikeTo_17 : decode cX5_alikeTo 17 = .ok (.iconst 1, 1) := dk_4 (dk_at dksX5_alikeTo_0 17 rfl rfl)
theorem dX5_alikeTo_18 : decode cX5_alikeTo 18 = .ok (.isub, 1) := dk_100 (dk_at dksX5_alikeTo_0 18 rfl rfl)
theorem dX5_alikeTo_19 : decode cX5_alikeTo 19 = .ok (.istore 6, 2) := dk_54 6 (dk_at dksX5_alikeTo_0 19 rfl rfl)
theorem dX5_alikeTo_21 : decode cX5_alikeTo 21 = .ok (.iload 6, 2) := dk_21 6 (dk_at dksX5_alikeTo_0 21 rfl rfl)
theorem dX5_alikeTo_23 : decode cX5_alikeTo 23 = .ok (.ifCond .lt 27, 3) := dk_155 0 27 (dk_at dksX5_alikeTo_1 0 rfl rfl)
theorem dX5_alikeTo_26 : decode cX5_alikeTo 26 = .ok (.aload_n 0, 1) := dk_42 (dk_at dksX5_alikeTo_1 3 rfl rfl)
theorem dX5_alikeTo_27 : decode cX5_alikeTo 27 = .ok (.iload 6, 2) := dk_21 6 (dk_at dksX5_alikeTo_1 4 rfl rfl)
theorem dX5_alikeTo_29 : decode cX5_alikeTo 29 = .ok (.iconst (-1), 1) := dk_2 (dk_at dksX5_alikeTo_1 6 rfl rfl)
theorem dX5_alikeTo_30 : decode cX5_alikeTo 30 = .ok (.invokevirtual 169, 3) := dk_182 0 169 (dk_at dksX5_alikeTo_1 7 rfl rfl)
theorem dX5_alikeTo_33 : decode cX5_alikeTo 33 = .ok (.iload_n 3, 1) := dk_29 (dk_at dksX5_alikeTo_1 10 rfl rfl)
theorem dX5_alikeTo_34 : decode cX5_alikeTo 34 = .ok (.if_icmp .ne 10, 3) := dk_160 0 10 (dk_at dksX5_alikeTo_1 11 rfl rfl)
theorem dX5_alikeTo_37 : decode cX5_alikeTo 37 = .ok (.iinc 4 1, 3) := dk_132 4 1 (dk_at dksX5_alikeTo_1 14 rfl rfl)
theorem dX5_alikeTo_40 : decode cX5_alikeTo 40 = .ok (.iload 6, 2) := dk_21 6 (dk_at dksX5_alikeTo_1 17 rfl rfl)
theorem dX5_alikeTo_42 : decode cX5_alikeTo 42 = .ok (.istore 5, 2) := dk_54 5 (dk_at dksX5_alikeTo_1 19 rfl rfl)
theorem dX5_alikeTo_44 : decode cX5_alikeTo 44 = .ok (.iinc 6 (-1), 3) := dk_132 6 255 (dk_at dksX5_alikeTo_1 21 rfl rfl)
theorem dX5_alikeTo_47 : decode cX5_alikeTo 47 = .ok (.goto (-26), 3) := dk_167 255 230 (dk_at dksX5_alikeTo_2 0 rfl rfl)
theorem dX5_alikeTo_50 : decode cX5_alikeTo 50 = .ok (.iload_n 2, 1) := dk_28 (dk_at dksX5_alikeTo_2 3 rfl rfl)
theorem dX5_alikeTo_51 : decode cX5_alikeTo 51 = .ok (.ifCond .eq 8, 3) := dk_153 0 8 (dk_at dksX5_alikeTo_2 4 rfl rfl)
theorem dX5_alikeTo_54 : decode cX5_alikeTo 54 = .ok (.iload 5, 2) := dk_21 5 (dk_at dksX5_alikeTo_2 7 rfl rfl)
theorem dX5_alikeTo_56 : decode cX5_alikeTo 56 = .ok (.goto 5, 3) := dk_167 0 5 (dk_at dksX5_alikeTo_2 9 rfl rfl)
theorem dX5_alikeTo_59 : decode cX5_alikeTo 59 = .ok (.iload 4, 2) := dk_21 4 (dk_at dksX5_alikeTo_2 12 rfl rfl)
theorem dX5_alikeTo_61 : decode cX5_alikeTo 61 = .ok (.ireturn, 1) := dk_172 (dk_at dksX5_alikeTo_2 14 rfl rfl)
abbrev cX5_bond : ByteArray := prog_22_method_35_code
def yX5_bond : MethodName := ⟨RX5, "bond", "(II)I"⟩
def dkwX5_bond_2 : List UInt8 := [21, 4, 172, 132, 3, 255, 132, 4, 1, 167, 255, 220, 2, 172]
abbrev dktX5_bond_2 : List UInt8 := dkwX5_bond_2 ++ []
def dkwX5_bond_1 : List UInt8 := [180, 0, 18, 162, 0, 33, 42, 180, 0, 15, 27, 46, 21, 4, 184, 0, 152, 153, 0, 13, 29, 154, 0, 6]
abbrev dktX5_bond_1 : List UInt8 := dkwX5_bond_1 ++ dktX5_bond_2
def dkwX5_bond_0 : List UInt8 := [42, 27, 182, 0, 244, 153, 0, 7, 28, 156, 0, 5, 2, 172, 28, 62, 3, 54, 4, 21, 4, 42]
abbrev dktX5_bond_0 : List UInt8 := dkwX5_bond_0 ++ dktX5_bond_1
theorem dksX5_bond_0 : cX5_bond.data.toList.drop 0 = dktX5_bond_0 := by decide +kernel
theorem dksX5_bond_1 : cX5_bond.data.toList.drop 22 = dktX5_bond_1 := dk_seg dksX5_bond_0 22 rfl rfl
theorem dksX5_bond_2 : cX5_bond.data.toList.drop 46 = dktX5_bond_2 := dk_seg dksX5_bond_1 24 rfl rfl
theorem dX5_bond_0 : decode cX5_bond 0 = .ok (.aload_n 0, 1) := dk_42 (dk_at dksX5_bond_0 0 rfl rfl)
theorem dX5_bond_1 : decode cX5_bond 1 = .ok (.iload_n 1, 1) := dk_27 (dk_at dksX5_bond_0 1 rfl rfl)
theorem dX5_bond_2 : decode cX5_bond 2 = .ok (.invokevirtual 244, 3) := dk_182 0 244 (dk_at dksX5_bond_0 2 rfl rfl)
theorem dX5_bond_5 : decode cX5_bond 5 = .ok (.ifCond .eq 7, 3) := dk_153 0 7 (dk_at dksX5_bond_0 5 rfl rfl)
theorem dX5_bond_8 : decode cX5_bond 8 = .ok (.iload_n 2, 1) := dk_28 (dk_at dksX5_bond_0 8 rfl rfl)
theorem dX5_bond_9 : decode cX5_bond 9 = .ok (.ifCond .ge 5, 3) := dk_156 0 5 (dk_at dksX5_bond_0 9 rfl rfl)
theorem dX5_bond_12 : decode cX5_bond 12 = .ok (.iconst (-1), 1) := dk_2 (dk_at dksX5_bond_0 12 rfl rfl)
theorem dX5_bond_13 : decode cX5_bond 13 = .ok (.ireturn, 1) := dk_172 (dk_at dksX5_bond_0 13 rfl rfl)
theorem dX5_bond_14 : decode cX5_bond 14 = .ok (.iload_n 2, 1) := dk_28 (dk_at dksX5_bond_0 14 rfl rfl)
theorem dX5_bond_15 : decode cX5_bond 15 = .ok (.istore_n 3, 1) := dk_62 (dk_at dksX5_bond_0 15 rfl rfl)
theorem dX5_bond_16 : decode cX5_bond 16 = .ok (.iconst 0, 1) := dk_3 (dk_at dksX5_bond_0 16 rfl rfl)
theorem dX5_bond_17 : decode cX5_bond 17 = .ok (.istore 4, 2) := dk_54 4 (dk_at dksX5_bond_0 17 rfl rfl)
theorem dX5_bond_19 : decode cX5_bond 19 = .ok (.iload 4, 2) := dk_21 4 (dk_at dksX5_bond_0 19 rfl rfl)
theorem dX5_bond_21 : decode cX5_bond 21 = .ok (.aload_n 0, 1) := dk_42 (dk_at dksX5_bond_0 21 rfl rfl)
theorem dX5_bond_22 : decode cX5_bond 22 = .ok (.getfield 18, 3) := dk_180 0 18 (dk_at dksX5_bond_1 0 rfl rfl)
theorem dX5_bond_25 : decode cX5_bond 25 = .ok (.if_icmp .ge 33, 3) := dk_162 0 33 (dk_at dksX5_bond_1 3 rfl rfl)
theorem dX5_bond_28 : decode cX5_bond 28 = .ok (.aload_n 0, 1) := dk_42 (dk_at dksX5_bond_1 6 rfl rfl)
theorem dX5_bond_29 : decode cX5_bond 29 = .ok (.getfield 15, 3) := dk_180 0 15 (dk_at dksX5_bond_1 7 rfl rfl)
theorem dX5_bond_32 : decode cX5_bond 32 = .ok (.iload_n 1, 1) := dk_27 (dk_at dksX5_bond_1 10 rfl rfl)
theorem dX5_bond_33 : decode cX5_bond 33 = .ok (.iaload, 1) := dk_46 (dk_at dksX5_bond_1 11 rfl rfl)
theorem dX5_bond_34 : decode cX5_bond 34 = .ok (.iload 4, 2) := dk_21 4 (dk_at dksX5_bond_1 12 rfl rfl)
theorem dX5_bond_36 : decode cX5_bond 36 = .ok (.invokestatic 152, 3) := dk_184 0 152 (dk_at dksX5_bond_1 14 rfl rfl)
theorem dX5_bond_39 : decode cX5_bond 39 = .ok (.ifCond .eq 13, 3) := dk_153 0 13 (dk_at dksX5_bond_1 17 rfl rfl)
theorem dX5_bond_42 : decode cX5_bond 42 = .ok (.iload_n 3, 1) := dk_29 (dk_at dksX5_bond_1 20 rfl rfl)
theorem dX5_bond_43 : decode cX5_bond 43 = .ok (.ifCond .ne 6, 3) := dk_154 0 6 (dk_at dksX5_bond_1 21 rfl rfl)
theorem dX5_bond_46 : decode cX5_bond 46 = .ok (.iload 4, 2) := dk_21 4 (dk_at dksX5_bond_2 0 rfl rfl)
theorem dX5_bond_48 : decode cX5_bond 48 = .ok (.ireturn, 1) := dk_172 (dk_at dksX5_bond_2 2 rfl rfl)
theorem dX5_bond_49 : decode cX5_bond 49 = .ok (.iinc 3 (-1), 3) := dk_132 3 255 (dk_at dksX5_bond_2 3 rfl rfl)
theorem dX5_bond_52 : decode cX5_bond 52 = .ok (.iinc 4 1, 3) := dk_132 4 1 (dk_at dksX5_bond_2 6 rfl rfl)
theorem dX5_bond_55 : decode cX5_bond 55 = .ok (.goto (-36), 3) := dk_167 255 220 (dk_at dksX5_bond_2 9 rfl rfl)
theorem dX5_bond_58 : decode cX5_bond 58 = .ok (.iconst (-1), 1) := dk_2 (dk_at dksX5_bond_2 12 rfl rfl)
theorem dX5_bond_59 : decode cX5_bond 59 = .ok (.ireturn, 1) := dk_172 (dk_at dksX5_bond_2 13 rfl rfl)
abbrev cX5_far : ByteArray := prog_22_method_36_code
def yX5_far : MethodName := ⟨RX5, "far", "(II)I"⟩
def dkwX5_far_1 : List UInt8 := [28, 2, 182, 0, 180, 172]
abbrev dktX5_far_1 : List UInt8 := dkwX5_far_1 ++ []
def dkwX5_far_0 : List UInt8 := [42, 27, 182, 0, 244, 153, 0, 11, 42, 28, 182, 0, 244, 154, 0, 5, 2, 172, 42, 182, 0, 241, 42, 27]
abbrev dktX5_far_0 : List UInt8 := dkwX5_far_0 ++ dktX5_far_1
theorem dksX5_far_0 : cX5_far.data.toList.drop 0 = dktX5_far_0 := by decide +kernel
theorem dksX5_far_1 : cX5_far.data.toList.drop 24 = dktX5_far_1 := dk_seg dksX5_far_0 24 rfl rfl
theorem dX5_far_0 : decode cX5_far 0 = .ok (.aload_n 0, 1) := dk_42 (dk_at dksX5_far_0 0 rfl rfl)
theorem dX5_far_1 : decode cX5_far 1 = .ok (.iload_n 1, 1) := dk_27 (dk_at dksX5_far_0 1 rfl rfl)
theorem dX5_far_2 : decode cX5_far 2 = .ok (.invokevirtual 244, 3) := dk_182 0 244 (dk_at dksX5_far_0 2 rfl rfl)
theorem dX5_far_5 : decode cX5_far 5 = .ok (.ifCond .eq 11, 3) := dk_153 0 11 (dk_at dksX5_far_0 5 rfl rfl)
theorem dX5_far_8 : decode cX5_far 8 = .ok (.aload_n 0, 1) := dk_42 (dk_at dksX5_far_0 8 rfl rfl)
theorem dX5_far_9 : decode cX5_far 9 = .ok (.iload_n 2, 1) := dk_28 (dk_at dksX5_far_0 9 rfl rfl)
theorem dX5_far_10 : decode cX5_far 10 = .ok (.invokevirtual 244, 3) := dk_182 0 244 (dk_at dksX5_far_0 10 rfl rfl)
theorem dX5_far_13 : decode cX5_far 13 = .ok (.ifCond .ne 5, 3) := dk_154 0 5 (dk_at dksX5_far_0 13 rfl rfl)
theorem dX5_far_16 : decode cX5_far 16 = .ok (.iconst (-1), 1) := dk_2 (dk_at dksX5_far_0 16 rfl rfl)
theorem dX5_far_17 : decode cX5_far 17 = .ok (.ireturn, 1) := dk_172 (dk_at dksX5_far_0 17 rfl rfl)
theorem dX5_far_18 : decode cX5_far 18 = .ok (.aload_n 0, 1) := dk_42 (dk_at dksX5_far_0 18 rfl rfl)
theorem dX5_far_19 : decode cX5_far 19 = .ok (.invokevirtual 241, 3) := dk_182 0 241 (dk_at dksX5_far_0 19 rfl rfl)
theorem dX5_far_22 : decode cX5_far 22 = .ok (.aload_n 0, 1) := dk_42 (dk_at dksX5_far_0 22 rfl rfl)
theorem dX5_far_23 : decode cX5_far 23 = .ok (.iload_n 1, 1) := dk_27 (dk_at dksX5_far_0 23 rfl rfl)
theorem dX5_far_24 : decode cX5_far 24 = .ok (.iload_n 2, 1) := dk_28 (dk_at dksX5_far_1 0 rfl rfl)
theorem dX5_far_25 : decode cX5_far 25 = .ok (.iconst (-1), 1) := dk_2 (dk_at dksX5_far_1 1 rfl rfl)
theorem dX5_far_26 : decode cX5_far 26 = .ok (.invokevirtual 180, 3) := dk_182 0 180 (dk_at dksX5_far_1 2 rfl rfl)
theorem dX5_far_29 : decode cX5_far 29 = .ok (.ireturn, 1) := dk_172 (dk_at dksX5_far_1 5 rfl rfl)
abbrev cX5_farOf : ByteArray := prog_22_method_12_code
def yX5_farOf : MethodName := ⟨RX5, "farOf", "(III)I"⟩
def dkwX5_farOf_2 : List UInt8 := [54, 5, 21, 5, 155, 0, 8, 21, 5, 4, 96, 172, 132, 4, 1, 167, 255, 204, 2, 172]
abbrev dktX5_farOf_2 : List UInt8 := dkwX5_farOf_2 ++ []
def dkwX5_farOf_1 : List UInt8 := [46, 21, 4, 184, 0, 152, 153, 0, 29, 21, 4, 29, 159, 0, 23, 42, 21, 4, 28, 27, 182, 0, 180]
abbrev dktX5_farOf_1 : List UInt8 := dkwX5_farOf_1 ++ dktX5_farOf_2
def dkwX5_farOf_0 : List UInt8 := [27, 28, 160, 0, 5, 3, 172, 3, 54, 4, 21, 4, 42, 180, 0, 145, 162, 0, 49, 42, 180, 0, 11, 27]
abbrev dktX5_farOf_0 : List UInt8 := dkwX5_farOf_0 ++ dktX5_farOf_1
theorem dksX5_farOf_0 : cX5_farOf.data.toList.drop 0 = dktX5_farOf_0 := by decide +kernel
theorem dksX5_farOf_1 : cX5_farOf.data.toList.drop 24 = dktX5_farOf_1 := dk_seg dksX5_farOf_0 24 rfl rfl
theorem dksX5_farOf_2 : cX5_farOf.data.toList.drop 47 = dktX5_farOf_2 := dk_seg dksX5_farOf_1 23 rfl rfl
theorem dX5_farOf_0 : decode cX5_farOf 0 = .ok (.iload_n 1, 1) := dk_27 (dk_at dksX5_farOf_0 0 rfl rfl)
theorem dX5_farOf_1 : decode cX5_farOf 1 = .ok (.iload_n 2, 1) := dk_28 (dk_at dksX5_farOf_0 1 rfl rfl)
theorem dX5_farOf_2 : decode cX5_farOf 2 = .ok (.if_icmp .ne 5, 3) := dk_160 0 5 (dk_at dksX5_farOf_0 2 rfl rfl)
theorem dX5_farOf_5 : decode cX5_farOf 5 = .ok (.iconst 0, 1) := dk_3 (dk_at dksX5_farOf_0 5 rfl rfl)
theorem dX5_farOf_6 : decode cX5_farOf 6 = .ok (.ireturn, 1) := dk_172 (dk_at dksX5_farOf_0 6 rfl rfl)
theorem dX5_farOf_7 : decode cX5_farOf 7 = .ok (.iconst 0, 1) := dk_3 (dk_at dksX5_farOf_0 7 rfl rfl)
theorem dX5_farOf_8 : decode cX5_farOf 8 = .ok (.istore 4, 2) := dk_54 4 (dk_at dksX5_farOf_0 8 rfl rfl)
theorem dX5_farOf_10 : decode cX5_farOf 10 = .ok (.iload 4, 2) := dk_21 4 (dk_at dksX5_farOf_0 10 rfl rfl)
theorem dX5_farOf_12 : decode cX5_farOf 12 = .ok (.aload_n 0, 1) := dk_42 (dk_at dksX5_farOf_0 12 rfl rfl)
theorem dX5_farOf_13 : decode cX5_farOf 13 = .ok (.getfield 145, 3) := dk_180 0 145 (dk_at dksX5_farOf_0 13 rfl rfl)
theorem dX5_farOf_16 : decode cX5_farOf 16 = .ok (.if_icmp .ge 49, 3) := dk_162 0 49 (dk_at dksX5_farOf_0 16 rfl rfl)
theorem dX5_farOf_19 : decode cX5_farOf 19 = .ok (.aload_n 0, 1) := dk_42 (dk_at dksX5_farOf_0 19 rfl rfl)
theorem dX5_farOf_20 : decode cX5_farOf 20 = .ok (.getfield 11, 3) := dk_180 0 11 (dk_at dksX5_farOf_0 20 rfl rfl)
theorem dX5_farOf_23 : decode cX5_farOf 23 = .ok (.iload_n 1, 1) := dk_27 (dk_at dksX5_farOf_0 23 rfl rfl)
theorem dX5_farOf_24 : decode cX5_farOf 24 = .ok (.iaload, 1) := dk_46 (dk_at dksX5_farOf_1 0 rfl rfl)
theorem dX5_farOf_25 : decode cX5_farOf 25 = .ok (.iload 4, 2) := dk_21 4 (dk_at dksX5_farOf_1 1 rfl rfl)
theorem dX5_farOf_27 : decode cX5_farOf 27 = .ok (.invokestatic 152, 3) := dk_184 0 152 (dk_at dksX5_farOf_1 3 rfl rfl)
theorem dX5_farOf_30 : decode cX5_farOf 30 = .ok (.ifCond .eq 29, 3) := dk_153 0 29 (dk_at dksX5_farOf_1 6 rfl rfl)
theorem dX5_farOf_33 : decode cX5_farOf 33 = .ok (.iload 4, 2) := dk_21 4 (dk_at dksX5_farOf_1 9 rfl rfl)
theorem dX5_farOf_35 : decode cX5_farOf 35 = .ok (.iload_n 3, 1) := dk_29 (dk_at dksX5_farOf_1 11 rfl rfl)
theorem dX5_farOf_36 : decode cX5_farOf 36 = .ok (.if_icmp .eq 23, 3) := dk_159 0 23 (dk_at dksX5_farOf_1 12 rfl rfl)
theorem dX5_farOf_39 : decode cX5_farOf 39 = .ok (.aload_n 0, 1) := dk_42 (dk_at dksX5_farOf_1 15 rfl rfl)
theorem dX5_farOf_40 : decode cX5_farOf 40 = .ok (.iload 4, 2) := dk_21 4 (dk_at dksX5_farOf_1 16 rfl rfl)
theorem dX5_farOf_42 : decode cX5_farOf 42 = .ok (.iload_n 2, 1) := dk_28 (dk_at dksX5_farOf_1 18 rfl rfl)
theorem dX5_farOf_43 : decode cX5_farOf 43 = .ok (.iload_n 1, 1) := dk_27 (dk_at dksX5_farOf_1 19 rfl rfl)
theorem dX5_farOf_44 : decode cX5_farOf 44 = .ok (.invokevirtual 180, 3) := dk_182 0 180 (dk_at dksX5_farOf_1 20 rfl rfl)
theorem dX5_farOf_47 : decode cX5_farOf 47 = .ok (.istore 5, 2) := dk_54 5 (dk_at dksX5_farOf_2 0 rfl rfl)
theorem dX5_farOf_49 : decode cX5_farOf 49 = .ok (.iload 5, 2) := dk_21 5 (dk_at dksX5_farOf_2 2 rfl rfl)
theorem dX5_farOf_51 : decode cX5_farOf 51 = .ok (.ifCond .lt 8, 3) := dk_155 0 8 (dk_at dksX5_farOf_2 4 rfl rfl)
theorem dX5_farOf_54 : decode cX5_farOf 54 = .ok (.iload 5, 2) := dk_21 5 (dk_at dksX5_farOf_2 7 rfl rfl)
theorem dX5_farOf_56 : decode cX5_farOf 56 = .ok (.iconst 1, 1) := dk_4 (dk_at dksX5_farOf_2 9 rfl rfl)
theorem dX5_farOf_57 : decode cX5_farOf 57 = .ok (.iadd, 1) := dk_96 (dk_at dksX5_farOf_2 10 rfl rfl)
theorem dX5_farOf_58 : decode cX5_farOf 58 = .ok (.ireturn, 1) := dk_172 (dk_at dksX5_farOf_2 11 rfl rfl)
theorem dX5_farOf_59 : decode cX5_farOf 59 = .ok (.iinc 4 1, 3) := dk_132 4 1 (dk_at dksX5_farOf_2 12 rfl rfl)
theorem dX5_farOf_62 : decode cX5_farOf 62 = .ok (.goto (-52), 3) := dk_167 255 204 (dk_at dksX5_farOf_2 15 rfl rfl)
theorem dX5_farOf_65 : decode cX5_farOf 65 = .ok (.iconst (-1), 1) := dk_2 (dk_at dksX5_farOf_2 18 rfl rfl)
theorem dX5_farOf_66 : decode cX5_farOf 66 = .ok (.ireturn, 1) := dk_172 (dk_at dksX5_farOf_2 19 rfl rfl)
abbrev cX5_twig : ByteArray := prog_22_method_37_code
def yX5_twig : MethodName := ⟨RX5, "twig", "(III)I"⟩
def dkwX5_twig_5 : List UInt8 := [180, 0, 47, 29, 16, 10, 100, 46, 167, 0, 4, 2, 172]
abbrev dktX5_twig_5 : List UInt8 := dkwX5_twig_5 ++ []
def dkwX5_twig_4 : List UInt8 := [16, 10, 100, 133, 9, 21, 4, 4, 100, 133, 184, 0, 148, 153, 0, 21, 29, 16, 10, 161, 0, 15, 42]
abbrev dktX5_twig_4 : List UInt8 := dkwX5_twig_4 ++ dktX5_twig_5
def dkwX5_twig_3 : List UInt8 := [42, 3, 181, 1, 14, 42, 28, 27, 182, 1, 17, 54, 4, 29, 5, 160, 0, 8, 21, 4, 167, 0, 39, 29]
abbrev dktX5_twig_3 : List UInt8 := dkwX5_twig_3 ++ dktX5_twig_4
def dkwX5_twig_2 : List UInt8 := [154, 0, 12, 42, 28, 27, 182, 0, 156, 167, 0, 9, 42, 28, 27, 182, 0, 169, 172, 42, 3, 181, 1, 11]
abbrev dktX5_twig_2 : List UInt8 := dkwX5_twig_2 ++ dktX5_twig_3
def dkwX5_twig_1 : List UInt8 := [184, 0, 152, 154, 0, 5, 2, 172, 42, 182, 0, 241, 29, 133, 9, 10, 184, 0, 148, 153, 0, 23, 29]
abbrev dktX5_twig_1 : List UInt8 := dkwX5_twig_1 ++ dktX5_twig_2
def dkwX5_twig_0 : List UInt8 := [42, 27, 182, 0, 244, 153, 0, 24, 42, 28, 182, 0, 244, 153, 0, 16, 42, 180, 0, 15, 27, 46, 28]
abbrev dktX5_twig_0 : List UInt8 := dkwX5_twig_0 ++ dktX5_twig_1
theorem dksX5_twig_0 : cX5_twig.data.toList.drop 0 = dktX5_twig_0 := by decide +kernel
theorem dksX5_twig_1 : cX5_twig.data.toList.drop 23 = dktX5_twig_1 := dk_seg dksX5_twig_0 23 rfl rfl
theorem dksX5_twig_2 : cX5_twig.data.toList.drop 46 = dktX5_twig_2 := dk_seg dksX5_twig_1 23 rfl rfl
theorem dksX5_twig_3 : cX5_twig.data.toList.drop 70 = dktX5_twig_3 := dk_seg dksX5_twig_2 24 rfl rfl
theorem dksX5_twig_4 : cX5_twig.data.toList.drop 94 = dktX5_twig_4 := dk_seg dksX5_twig_3 24 rfl rfl
theorem dksX5_twig_5 : cX5_twig.data.toList.drop 117 = dktX5_twig_5 := dk_seg dksX5_twig_4 23 rfl rfl
theorem dX5_twig_0 : decode cX5_twig 0 = .ok (.aload_n 0, 1) := dk_42 (dk_at dksX5_twig_0 0 rfl rfl)
theorem dX5_twig_1 : decode cX5_twig 1 = .ok (.iload_n 1, 1) := dk_27 (dk_at dksX5_twig_0 1 rfl rfl)
theorem dX5_twig_2 : decode cX5_twig 2 = .ok (.invokevirtual 244, 3) := dk_182 0 244 (dk_at dksX5_twig_0 2 rfl rfl)
theorem dX5_twig_5 : decode cX5_twig 5 = .ok (.ifCond .eq 24, 3) := dk_153 0 24 (dk_at dksX5_twig_0 5 rfl rfl)
theorem dX5_twig_8 : decode cX5_twig 8 = .ok (.aload_n 0, 1) := dk_42 (dk_at dksX5_twig_0 8 rfl rfl)
theorem dX5_twig_9 : decode cX5_twig 9 = .ok (.iload_n 2, 1) := dk_28 (dk_at dksX5_twig_0 9 rfl rfl)
theorem dX5_twig_10 : decode cX5_twig 10 = .ok (.invokevirtual 244, 3) := dk_182 0 244 (dk_at dksX5_twig_0 10 rfl rfl)
theorem dX5_twig_13 : decode cX5_twig 13 = .ok (.ifCond .eq 16, 3) := dk_153 0 16 (dk_at dksX5_twig_0 13 rfl rfl)
theorem dX5_twig_16 : decode cX5_twig 16 = .ok (.aload_n 0, 1) := dk_42 (dk_at dksX5_twig_0 16 rfl rfl)
theorem dX5_twig_17 : decode cX5_twig 17 = .ok (.getfield 15, 3) := dk_180 0 15 (dk_at dksX5_twig_0 17 rfl rfl)
theorem dX5_twig_20 : decode cX5_twig 20 = .ok (.iload_n 1, 1) := dk_27 (dk_at dksX5_twig_0 20 rfl rfl)
theorem dX5_twig_21 : decode cX5_twig 21 = .ok (.iaload, 1) := dk_46 (dk_at dksX5_twig_0 21 rfl rfl)
theorem dX5_twig_22 : decode cX5_twig 22 = .ok (.iload_n 2, 1) := dk_28 (dk_at dksX5_twig_0 22 rfl rfl)
theorem dX5_twig_23 : decode cX5_twig 23 = .ok (.invokestatic 152, 3) := dk_184 0 152 (dk_at dksX5_twig_1 0 rfl rfl)
theorem dX5_twig_26 : decode cX5_twig 26 = .ok (.ifCond .ne 5, 3) := dk_154 0 5 (dk_at dksX5_twig_1 3 rfl rfl)
theorem dX5_twig_29 : decode cX5_twig 29 = .ok (.iconst (-1), 1) := dk_2 (dk_at dksX5_twig_1 6 rfl rfl)
theorem dX5_twig_30 : decode cX5_twig 30 = .ok (.ireturn, 1) := dk_172 (dk_at dksX5_twig_1 7 rfl rfl)
theorem dX5_twig_31 : decode cX5_twig 31 = .ok (.aload_n 0, 1) := dk_42 (dk_at dksX5_twig_1 8 rfl rfl)
theorem dX5_twig_32 : decode cX5_twig 32 = .ok (.invokevirtual 241, 3) := dk_182 0 241 (dk_at dksX5_twig_1 9 rfl rfl)
theorem dX5_twig_35 : decode cX5_twig 35 = .ok (.iload_n 3, 1) := dk_29 (dk_at dksX5_twig_1 12 rfl rfl)
theorem dX5_twig_36 : decode cX5_twig 36 = .ok (.i2l, 1) := dk_133 (dk_at dksX5_twig_1 13 rfl rfl)
theorem dX5_twig_37 : decode cX5_twig 37 = .ok (.lconst 0, 1) := dk_9 (dk_at dksX5_twig_1 14 rfl rfl)
theorem dX5_twig_38 : decode cX5_twig 38 = .ok (.lconst 1, 1) := dk_10 (dk_at dksX5_twig_1 15 rfl rfl)
theorem dX5_twig_39 : decode cX5_twig 39 = .ok (.invokestatic 148, 3) := dk_184 0 148 (dk_at dksX5_twig_1 16 rfl rfl)
theorem dX5_twig_42 : decode cX5_twig 42 = .ok (.ifCond .eq 23, 3) := dk_153 0 23 (dk_at dksX5_twig_1 19 rfl rfl)
theorem dX5_twig_45 : decode cX5_twig 45 = .ok (.iload_n 3, 1) := dk_29 (dk_at dksX5_twig_1 22 rfl rfl)
theorem dX5_twig_46 : decode cX5_twig 46 = .ok (.ifCond .ne 12, 3) := dk_154 0 12 (dk_at dksX5_twig_2 0 rfl rfl)
theorem dX5_twig_49 : decode cX5_twig 49 = .ok (.aload_n 0, 1) := dk_42 (dk_at dksX5_twig_2 3 rfl rfl)
theorem dX5_twig_50 : decode cX5_twig 50 = .ok (.iload_n 2, 1) := dk_28 (dk_at dksX5_twig_2 4 rfl rfl)
theorem dX5_twig_51 : decode cX5_twig 51 = .ok (.iload_n 1, 1) := dk_27 (dk_at dksX5_twig_2 5 rfl rfl)
theorem dX5_twig_52 : decode cX5_twig 52 = .ok (.invokevirtual 156, 3) := dk_182 0 156 (dk_at dksX5_twig_2 6 rfl rfl)
theorem dX5_twig_55 : decode cX5_twig 55 = .ok (.goto 9, 3) := dk_167 0 9 (dk_at dksX5_twig_2 9 rfl rfl)
theorem dX5_twig_58 : decode cX5_twig 58 = .ok (.aload_n 0, 1) := dk_42 (dk_at dksX5_twig_2 12 rfl rfl)
theorem dX5_twig_59 : decode cX5_twig 59 = .ok (.iload_n 2, 1) := dk_28 (dk_at dksX5_twig_2 13 rfl rfl)
theorem dX5_twig_60 : decode cX5_twig 60 = .ok (.iload_n 1, 1) := dk_27 (dk_at dksX5_twig_2 14 rfl rfl)
theorem dX5_twig_61 : decode cX5_twig 61 = .ok (.invokevirtual 169, 3) := dk_182 0 169 (dk_at dksX5_twig_2 15 rfl rfl)
theorem dX5_twig_64 : decode cX5_twig 64 = .ok (.ireturn, 1) := dk_172 (dk_at dksX5_twig_2 18 rfl rfl)
theorem dX5_twig_65 : decode cX5_twig 65 = .ok (.aload_n 0, 1) := dk_42 (dk_at dksX5_twig_2 19 rfl rfl)
theorem dX5_twig_66 : decode cX5_twig 66 = .ok (.iconst 0, 1) := dk_3 (dk_at dksX5_twig_2 20 rfl rfl)
theorem dX5_twig_67 : decode cX5_twig 67 = .ok (.putfield 267, 3) := dk_181 1 11 (dk_at dksX5_twig_2 21 rfl rfl)
theorem dX5_twig_70 : decode cX5_twig 70 = .ok (.aload_n 0, 1) := dk_42 (dk_at dksX5_twig_3 0 rfl rfl)
theorem dX5_twig_71 : decode cX5_twig 71 = .ok (.iconst 0, 1) := dk_3 (dk_at dksX5_twig_3 1 rfl rfl)
theorem dX5_twig_72 : decode cX5_twig 72 = .ok (.putfield 270, 3) := dk_181 1 14 (dk_at dksX5_twig_3 2 rfl rfl)
theorem dX5_twig_75 : decode cX5_twig 75 = .ok (.aload_n 0, 1) := dk_42 (dk_at dksX5_twig_3 5 rfl rfl)
theorem dX5_twig_76 : decode cX5_twig 76 = .ok (.iload_n 2, 1) := dk_28 (dk_at dksX5_twig_3 6 rfl rfl)
theorem dX5_twig_77 : decode cX5_twig 77 = .ok (.iload_n 1, 1) := dk_27 (dk_at dksX5_twig_3 7 rfl rfl)
theorem dX5_twig_78 : decode cX5_twig 78 = .ok (.invokevirtual 273, 3) := dk_182 1 17 (dk_at dksX5_twig_3 8 rfl rfl)
theorem dX5_twig_81 : decode cX5_twig 81 = .ok (.istore 4, 2) := dk_54 4 (dk_at dksX5_twig_3 11 rfl rfl)
theorem dX5_twig_83 : decode cX5_twig 83 = .ok (.iload_n 3, 1) := dk_29 (dk_at dksX5_twig_3 13 rfl rfl)
theorem dX5_twig_84 : decode cX5_twig 84 = .ok (.iconst 2, 1) := dk_5 (dk_at dksX5_twig_3 14 rfl rfl)
theorem dX5_twig_85 : decode cX5_twig 85 = .ok (.if_icmp .ne 8, 3) := dk_160 0 8 (dk_at dksX5_twig_3 15 rfl rfl)
theorem dX5_twig_88 : decode cX5_twig 88 = .ok (.iload 4, 2) := dk_21 4 (dk_at dksX5_twig_3 18 rfl rfl)
theorem dX5_twig_90 : decode cX5_twig 90 = .ok (.goto 39, 3) := dk_167 0 39 (dk_at dksX5_twig_3 20 rfl rfl)
theorem dX5_twig_93 : decode cX5_twig 93 = .ok (.iload_n 3, 1) := dk_29 (dk_at dksX5_twig_3 23 rfl rfl)
theorem dX5_twig_94 : decode cX5_twig 94 = .ok (.bipush 10, 2) := dk_16 10 (dk_at dksX5_twig_4 0 rfl rfl)
theorem dX5_twig_96 : decode cX5_twig 96 = .ok (.isub, 1) := dk_100 (dk_at dksX5_twig_4 2 rfl rfl)
theorem dX5_twig_97 : decode cX5_twig 97 = .ok (.i2l, 1) := dk_133 (dk_at dksX5_twig_4 3 rfl rfl)
theorem dX5_twig_98 : decode cX5_twig 98 = .ok (.lconst 0, 1) := dk_9 (dk_at dksX5_twig_4 4 rfl rfl)
theorem dX5_twig_99 : decode cX5_twig 99 = .ok (.iload 4, 2) := dk_21 4 (dk_at dksX5_twig_4 5 rfl rfl)
theorem dX5_twig_101 : decode cX5_twig 101 = .ok (.iconst 1, 1) := dk_4 (dk_at dksX5_twig_4 7 rfl rfl)
theorem dX5_twig_102 : decode cX5_twig 102 = .ok (.isub, 1) := dk_100 (dk_at dksX5_twig_4 8 rfl rfl)
theorem dX5_twig_103 : decode cX5_twig 103 = .ok (.i2l, 1) := dk_133 (dk_at dksX5_twig_4 9 rfl rfl)
theorem dX5_twig_104 : decode cX5_twig 104 = .ok (.invokestatic 148, 3) := dk_184 0 148 (dk_at dksX5_twig_4 10 rfl rfl)
theorem dX5_twig_107 : decode cX5_twig 107 = .ok (.ifCond .eq 21, 3) := dk_153 0 21 (dk_at dksX5_twig_4 13 rfl rfl)
theorem dX5_twig_110 : decode cX5_twig 110 = .ok (.iload_n 3, 1) := dk_29 (dk_at dksX5_twig_4 16 rfl rfl)
theorem dX5_twig_111 : decode cX5_twig 111 = .ok (.bipush 10, 2) := dk_16 10 (dk_at dksX5_twig_4 17 rfl rfl)
theorem dX5_twig_113 : decode cX5_twig 113 = .ok (.if_icmp .lt 15, 3) := dk_161 0 15 (dk_at dksX5_twig_4 19 rfl rfl)
theorem dX5_twig_116 : decode cX5_twig 116 = .ok (.aload_n 0, 1) := dk_42 (dk_at dksX5_twig_4 22 rfl rfl)
theorem dX5_twig_117 : decode cX5_twig 117 = .ok (.getfield 47, 3) := dk_180 0 47 (dk_at dksX5_twig_5 0 rfl rfl)
theorem dX5_twig_120 : decode cX5_twig 120 = .ok (.iload_n 3, 1) := dk_29 (dk_at dksX5_twig_5 3 rfl rfl)
theorem dX5_twig_121 : decode cX5_twig 121 = .ok (.bipush 10, 2) := dk_16 10 (dk_at dksX5_twig_5 4 rfl rfl)
theorem dX5_twig_123 : decode cX5_twig 123 = .ok (.isub, 1) := dk_100 (dk_at dksX5_twig_5 6 rfl rfl)
theorem dX5_twig_124 : decode cX5_twig 124 = .ok (.iaload, 1) := dk_46 (dk_at dksX5_twig_5 7 rfl rfl)
theorem dX5_twig_125 : decode cX5_twig 125 = .ok (.goto 4, 3) := dk_167 0 4 (dk_at dksX5_twig_5 8 rfl rfl)
theorem dX5_twig_128 : decode cX5_twig 128 = .ok (.iconst (-1), 1) := dk_2 (dk_at dksX5_twig_5 11 rfl rfl)
theorem dX5_twig_129 : decode cX5_twig 129 = .ok (.ireturn, 1) := dk_172 (dk_at dksX5_twig_5 12 rfl rfl)
abbrev cX5_names : ByteArray := prog_22_method_78_code
def yX5_names : MethodName := ⟨RX5, "names", "(II)I"⟩
def dkwX5_names_8 : List UInt8 := [21, 4, 172]
abbrev dktX5_names_8 : List UInt8 := dkwX5_names_8 ++ []
def dkwX5_names_7 : List UInt8 := [21, 7, 54, 4, 132, 6, 1, 167, 255, 115, 132, 5, 1, 167, 255, 97, 42, 29, 21, 4, 96, 181, 1, 11]
abbrev dktX5_names_7 : List UInt8 := dkwX5_names_7 ++ dktX5_names_8
def dkwX5_names_6 : List UInt8 := [180, 0, 47, 29, 21, 9, 96, 42, 180, 0, 47, 21, 8, 21, 9, 96, 46, 79, 132, 9, 1, 167, 255, 227]
abbrev dktX5_names_6 : List UInt8 := dkwX5_names_6 ++ dktX5_names_7
def dkwX5_names_5 : List UInt8 := [21, 7, 29, 21, 4, 182, 1, 109, 156, 0, 42, 3, 54, 9, 21, 9, 21, 7, 162, 0, 28, 42]
abbrev dktX5_names_5 : List UInt8 := dkwX5_names_5 ++ dktX5_names_6
def dkwX5_names_4 : List UInt8 := [182, 1, 153, 54, 7, 29, 3, 21, 4, 184, 0, 172, 96, 54, 8, 21, 4, 2, 159, 0, 17, 42, 21, 8]
abbrev dktX5_names_4 : List UInt8 := dkwX5_names_4 ++ dktX5_names_5
def dkwX5_names_3 : List UInt8 := [29, 3, 21, 4, 184, 0, 172, 96, 181, 1, 11, 42, 28, 28, 2, 160, 0, 7, 4, 167, 0, 4, 3]
abbrev dktX5_names_3 : List UInt8 := dkwX5_names_3 ++ dktX5_names_4
def dkwX5_names_2 : List UInt8 := [153, 0, 127, 42, 21, 5, 21, 6, 28, 182, 1, 26, 153, 0, 109, 42, 28, 182, 1, 144, 154, 0, 101, 42]
abbrev dktX5_names_2 : List UInt8 := dkwX5_names_2 ++ dktX5_names_3
def dkwX5_names_1 : List UInt8 := [162, 0, 156, 3, 54, 6, 21, 6, 42, 180, 0, 145, 162, 0, 138, 42, 21, 5, 27, 28, 182, 1, 141]
abbrev dktX5_names_1 : List UInt8 := dkwX5_names_1 ++ dktX5_names_2
def dkwX5_names_0 : List UInt8 := [42, 180, 1, 11, 62, 2, 54, 4, 42, 27, 28, 182, 1, 150, 3, 54, 5, 21, 5, 42, 180, 0, 145]
abbrev dktX5_names_0 : List UInt8 := dkwX5_names_0 ++ dktX5_names_1
theorem dksX5_names_0 : cX5_names.data.toList.drop 0 = dktX5_names_0 := by decide +kernel
theorem dksX5_names_1 : cX5_names.data.toList.drop 23 = dktX5_names_1 := dk_seg dksX5_names_0 23 rfl rfl
theorem dksX5_names_2 : cX5_names.data.toList.drop 46 = dktX5_names_2 := dk_seg dksX5_names_1 23 rfl rfl
theorem dksX5_names_3 : cX5_names.data.toList.drop 70 = dktX5_names_3 := dk_seg dksX5_names_2 24 rfl rfl
theorem dksX5_names_4 : cX5_names.data.toList.drop 93 = dktX5_names_4 := dk_seg dksX5_names_3 23 rfl rfl
theorem dksX5_names_5 : cX5_names.data.toList.drop 117 = dktX5_names_5 := dk_seg dksX5_names_4 24 rfl rfl
theorem dksX5_names_6 : cX5_names.data.toList.drop 139 = dktX5_names_6 := dk_seg dksX5_names_5 22 rfl rfl
theorem dksX5_names_7 : cX5_names.data.toList.drop 163 = dktX5_names_7 := dk_seg dksX5_names_6 24 rfl rfl
theorem dksX5_names_8 : cX5_names.data.toList.drop 187 = dktX5_names_8 := dk_seg dksX5_names_7 24 rfl rfl
theorem dX5_names_0 : decode cX5_names 0 = .ok (.aload_n 0, 1) := dk_42 (dk_at dksX5_names_0 0 rfl rfl)
theorem dX5_names_1 : decode cX5_names 1 = .ok (.getfield 267, 3) := dk_180 1 11 (dk_at dksX5_names_0 1 rfl rfl)
theorem dX5_names_4 : decode cX5_names 4 = .ok (.istore_n 3, 1) := dk_62 (dk_at dksX5_names_0 4 rfl rfl)
theorem dX5_names_5 : decode cX5_names 5 = .ok (.iconst (-1), 1) := dk_2 (dk_at dksX5_names_0 5 rfl rfl)
theorem dX5_names_6 : decode cX5_names 6 = .ok (.istore 4, 2) := dk_54 4 (dk_at dksX5_names_0 6 rfl rfl)
theorem dX5_names_8 : decode cX5_names 8 = .ok (.aload_n 0, 1) := dk_42 (dk_at dksX5_names_0 8 rfl rfl)
theorem dX5_names_9 : decode cX5_names 9 = .ok (.iload_n 1, 1) := dk_27 (dk_at dksX5_names_0 9 rfl rfl)
theorem dX5_names_10 : decode cX5_names 10 = .ok (.iload_n 2, 1) := dk_28 (dk_at dksX5_names_0 10 rfl rfl)
theorem dX5_names_11 : decode cX5_names 11 = .ok (.invokevirtual 406, 3) := dk_182 1 150 (dk_at dksX5_names_0 11 rfl rfl)
theorem dX5_names_14 : decode cX5_names 14 = .ok (.iconst 0, 1) := dk_3 (dk_at dksX5_names_0 14 rfl rfl)
theorem dX5_names_15 : decode cX5_names 15 = .ok (.istore 5, 2) := dk_54 5 (dk_at dksX5_names_0 15 rfl rfl)
theorem dX5_names_17 : decode cX5_names 17 = .ok (.iload 5, 2) := dk_21 5 (dk_at dksX5_names_0 17 rfl rfl)
theorem dX5_names_19 : decode cX5_names 19 = .ok (.aload_n 0, 1) := dk_42 (dk_at dksX5_names_0 19 rfl rfl)
theorem dX5_names_20 : decode cX5_names 20 = .ok (.getfield 145, 3) := dk_180 0 145 (dk_at dksX5_names_0 20 rfl rfl)
theorem dX5_names_23 : decode cX5_names 23 = .ok (.if_icmp .ge 156, 3) := dk_162 0 156 (dk_at dksX5_names_1 0 rfl rfl)
theorem dX5_names_26 : decode cX5_names 26 = .ok (.iconst 0, 1) := dk_3 (dk_at dksX5_names_1 3 rfl rfl)
theorem dX5_names_27 : decode cX5_names 27 = .ok (.istore 6, 2) := dk_54 6 (dk_at dksX5_names_1 4 rfl rfl)
theorem dX5_names_29 : decode cX5_names 29 = .ok (.iload 6, 2) := dk_21 6 (dk_at dksX5_names_1 6 rfl rfl)
theorem dX5_names_31 : decode cX5_names 31 = .ok (.aload_n 0, 1) := dk_42 (dk_at dksX5_names_1 8 rfl rfl)
theorem dX5_names_32 : decode cX5_names 32 = .ok (.getfield 145, 3) := dk_180 0 145 (dk_at dksX5_names_1 9 rfl rfl)
theorem dX5_names_35 : decode cX5_names 35 = .ok (.if_icmp .ge 138, 3) := dk_162 0 138 (dk_at dksX5_names_1 12 rfl rfl)
theorem dX5_names_38 : decode cX5_names 38 = .ok (.aload_n 0, 1) := dk_42 (dk_at dksX5_names_1 15 rfl rfl)
theorem dX5_names_39 : decode cX5_names 39 = .ok (.iload 5, 2) := dk_21 5 (dk_at dksX5_names_1 16 rfl rfl)
theorem dX5_names_41 : decode cX5_names 41 = .ok (.iload_n 1, 1) := dk_27 (dk_at dksX5_names_1 18 rfl rfl)
theorem dX5_names_42 : decode cX5_names 42 = .ok (.iload_n 2, 1) := dk_28 (dk_at dksX5_names_1 19 rfl rfl)
theorem dX5_names_43 : decode cX5_names 43 = .ok (.invokevirtual 397, 3) := dk_182 1 141 (dk_at dksX5_names_1 20 rfl rfl)
theorem dX5_names_46 : decode cX5_names 46 = .ok (.ifCond .eq 127, 3) := dk_153 0 127 (dk_at dksX5_names_2 0 rfl rfl)
theorem dX5_names_49 : decode cX5_names 49 = .ok (.aload_n 0, 1) := dk_42 (dk_at dksX5_names_2 3 rfl rfl)
theorem dX5_names_50 : decode cX5_names 50 = .ok (.iload 5, 2) := dk_21 5 (dk_at dksX5_names_2 4 rfl rfl)
theorem dX5_names_52 : decode cX5_names 52 = .ok (.iload 6, 2) := dk_21 6 (dk_at dksX5_names_2 6 rfl rfl)
theorem dX5_names_54 : decode cX5_names 54 = .ok (.iload_n 2, 1) := dk_28 (dk_at dksX5_names_2 8 rfl rfl)
theorem dX5_names_55 : decode cX5_names 55 = .ok (.invokevirtual 282, 3) := dk_182 1 26 (dk_at dksX5_names_2 9 rfl rfl)
theorem dX5_names_58 : decode cX5_names 58 = .ok (.ifCond .eq 109, 3) := dk_153 0 109 (dk_at dksX5_names_2 12 rfl rfl)
theorem dX5_names_61 : decode cX5_names 61 = .ok (.aload_n 0, 1) := dk_42 (dk_at dksX5_names_2 15 rfl rfl)
theorem dX5_names_62 : decode cX5_names 62 = .ok (.iload_n 2, 1) := dk_28 (dk_at dksX5_names_2 16 rfl rfl)
theorem dX5_names_63 : decode cX5_names 63 = .ok (.invokevirtual 400, 3) := dk_182 1 144 (dk_at dksX5_names_2 17 rfl rfl)
theorem dX5_names_66 : decode cX5_names 66 = .ok (.ifCond .ne 101, 3) := dk_154 0 101 (dk_at dksX5_names_2 20 rfl rfl)
theorem dX5_names_69 : decode cX5_names 69 = .ok (.aload_n 0, 1) := dk_42 (dk_at dksX5_names_2 23 rfl rfl)
theorem dX5_names_70 : decode cX5_names 70 = .ok (.iload_n 3, 1) := dk_29 (dk_at dksX5_names_3 0 rfl rfl)
theorem dX5_names_71 : decode cX5_names 71 = .ok (.iconst 0, 1) := dk_3 (dk_at dksX5_names_3 1 rfl rfl)
theorem dX5_names_72 : decode cX5_names 72 = .ok (.iload 4, 2) := dk_21 4 (dk_at dksX5_names_3 2 rfl rfl)
theorem dX5_names_74 : decode cX5_names 74 = .ok (.invokestatic 172, 3) := dk_184 0 172 (dk_at dksX5_names_3 4 rfl rfl)
theorem dX5_names_77 : decode cX5_names 77 = .ok (.iadd, 1) := dk_96 (dk_at dksX5_names_3 7 rfl rfl)
theorem dX5_names_78 : decode cX5_names 78 = .ok (.putfield 267, 3) := dk_181 1 11 (dk_at dksX5_names_3 8 rfl rfl)
theorem dX5_names_81 : decode cX5_names 81 = .ok (.aload_n 0, 1) := dk_42 (dk_at dksX5_names_3 11 rfl rfl)
theorem dX5_names_82 : decode cX5_names 82 = .ok (.iload_n 2, 1) := dk_28 (dk_at dksX5_names_3 12 rfl rfl)
theorem dX5_names_83 : decode cX5_names 83 = .ok (.iload_n 2, 1) := dk_28 (dk_at dksX5_names_3 13 rfl rfl)
theorem dX5_names_84 : decode cX5_names 84 = .ok (.iconst (-1), 1) := dk_2 (dk_at dksX5_names_3 14 rfl rfl)
theorem dX5_names_85 : decode cX5_names 85 = .ok (.if_icmp .ne 7, 3) := dk_160 0 7 (dk_at dksX5_names_3 15 rfl rfl)
theorem dX5_names_88 : decode cX5_names 88 = .ok (.iconst 1, 1) := dk_4 (dk_at dksX5_names_3 18 rfl rfl)
theorem dX5_names_89 : decode cX5_names 89 = .ok (.goto 4, 3) := dk_167 0 4 (dk_at dksX5_names_3 19 rfl rfl)
theorem dX5_names_92 : decode cX5_names 92 = .ok (.iconst 0, 1) := dk_3 (dk_at dksX5_names_3 22 rfl rfl)
theorem dX5_names_93 : decode cX5_names 93 = .ok (.invokevirtual 409, 3) := dk_182 1 153 (dk_at dksX5_names_4 0 rfl rfl)
theorem dX5_names_96 : decode cX5_names 96 = .ok (.istore 7, 2) := dk_54 7 (dk_at dksX5_names_4 3 rfl rfl)
theorem dX5_names_98 : decode cX5_names 98 = .ok (.iload_n 3, 1) := dk_29 (dk_at dksX5_names_4 5 rfl rfl)
theorem dX5_names_99 : decode cX5_names 99 = .ok (.iconst 0, 1) := dk_3 (dk_at dksX5_names_4 6 rfl rfl)
theorem dX5_names_100 : decode cX5_names 100 = .ok (.iload 4, 2) := dk_21 4 (dk_at dksX5_names_4 7 rfl rfl)
theorem dX5_names_102 : decode cX5_names 102 = .ok (.invokestatic 172, 3) := dk_184 0 172 (dk_at dksX5_names_4 9 rfl rfl)
theorem dX5_names_105 : decode cX5_names 105 = .ok (.iadd, 1) := dk_96 (dk_at dksX5_names_4 12 rfl rfl)
theorem dX5_names_106 : decode cX5_names 106 = .ok (.istore 8, 2) := dk_54 8 (dk_at dksX5_names_4 13 rfl rfl)
theorem dX5_names_108 : decode cX5_names 108 = .ok (.iload 4, 2) := dk_21 4 (dk_at dksX5_names_4 15 rfl rfl)
theorem dX5_names_110 : decode cX5_names 110 = .ok (.iconst (-1), 1) := dk_2 (dk_at dksX5_names_4 17 rfl rfl)
theorem dX5_names_111 : decode cX5_names 111 = .ok (.if_icmp .eq 17, 3) := dk_159 0 17 (dk_at dksX5_names_4 18 rfl rfl)
theorem dX5_names_114 : decode cX5_names 114 = .ok (.aload_n 0, 1) := dk_42 (dk_at dksX5_names_4 21 rfl rfl)
theorem dX5_names_115 : decode cX5_names 115 = .ok (.iload 8, 2) := dk_21 8 (dk_at dksX5_names_4 22 rfl rfl)
theorem dX5_names_117 : decode cX5_names 117 = .ok (.iload 7, 2) := dk_21 7 (dk_at dksX5_names_5 0 rfl rfl)
theorem dX5_names_119 : decode cX5_names 119 = .ok (.iload_n 3, 1) := dk_29 (dk_at dksX5_names_5 2 rfl rfl)
theorem dX5_names_120 : decode cX5_names 120 = .ok (.iload 4, 2) := dk_21 4 (dk_at dksX5_names_5 3 rfl rfl)
theorem dX5_names_122 : decode cX5_names 122 = .ok (.invokevirtual 365, 3) := dk_182 1 109 (dk_at dksX5_names_5 5 rfl rfl)
theorem dX5_names_125 : decode cX5_names 125 = .ok (.ifCond .ge 42, 3) := dk_156 0 42 (dk_at dksX5_names_5 8 rfl rfl)
theorem dX5_names_128 : decode cX5_names 128 = .ok (.iconst 0, 1) := dk_3 (dk_at dksX5_names_5 11 rfl rfl)
theorem dX5_names_129 : decode cX5_names 129 = .ok (.istore 9, 2) := dk_54 9 (dk_at dksX5_names_5 12 rfl rfl)
theorem dX5_names_131 : decode cX5_names 131 = .ok (.iload 9, 2) := dk_21 9 (dk_at dksX5_names_5 14 rfl rfl)
theorem dX5_names_133 : decode cX5_names 133 = .ok (.iload 7, 2) := dk_21 7 (dk_at dksX5_names_5 16 rfl rfl)
theorem dX5_names_135 : decode cX5_names 135 = .ok (.if_icmp .ge 28, 3) := dk_162 0 28 (dk_at dksX5_names_5 18 rfl rfl)
theorem dX5_names_138 : decode cX5_names 138 = .ok (.aload_n 0, 1) := dk_42 (dk_at dksX5_names_5 21 rfl rfl)
theorem dX5_names_139 : decode cX5_names 139 = .ok (.getfield 47, 3) := dk_180 0 47 (dk_at dksX5_names_6 0 rfl rfl)
theorem dX5_names_142 : decode cX5_names 142 = .ok (.iload_n 3, 1) := dk_29 (dk_at dksX5_names_6 3 rfl rfl)
theorem dX5_names_143 : decode cX5_names 143 = .ok (.iload 9, 2) := dk_21 9 (dk_at dksX5_names_6 4 rfl rfl)
theorem dX5_names_145 : decode cX5_names 145 = .ok (.iadd, 1) := dk_96 (dk_at dksX5_names_6 6 rfl rfl)
theorem dX5_names_146 : decode cX5_names 146 = .ok (.aload_n 0, 1) := dk_42 (dk_at dksX5_names_6 7 rfl rfl)
theorem dX5_names_147 : decode cX5_names 147 = .ok (.getfield 47, 3) := dk_180 0 47 (dk_at dksX5_names_6 8 rfl rfl)
theorem dX5_names_150 : decode cX5_names 150 = .ok (.iload 8, 2) := dk_21 8 (dk_at dksX5_names_6 11 rfl rfl)
theorem dX5_names_152 : decode cX5_names 152 = .ok (.iload 9, 2) := dk_21 9 (dk_at dksX5_names_6 13 rfl rfl)
theorem dX5_names_154 : decode cX5_names 154 = .ok (.iadd, 1) := dk_96 (dk_at dksX5_names_6 15 rfl rfl)
theorem dX5_names_155 : decode cX5_names 155 = .ok (.iaload, 1) := dk_46 (dk_at dksX5_names_6 16 rfl rfl)
theorem dX5_names_156 : decode cX5_names 156 = .ok (.iastore, 1) := dk_79 (dk_at dksX5_names_6 17 rfl rfl)
theorem dX5_names_157 : decode cX5_names 157 = .ok (.iinc 9 1, 3) := dk_132 9 1 (dk_at dksX5_names_6 18 rfl rfl)
theorem dX5_names_160 : decode cX5_names 160 = .ok (.goto (-29), 3) := dk_167 255 227 (dk_at dksX5_names_6 21 rfl rfl)
theorem dX5_names_163 : decode cX5_names 163 = .ok (.iload 7, 2) := dk_21 7 (dk_at dksX5_names_7 0 rfl rfl)
theorem dX5_names_165 : decode cX5_names 165 = .ok (.istore 4, 2) := dk_54 4 (dk_at dksX5_names_7 2 rfl rfl)
theorem dX5_names_167 : decode cX5_names 167 = .ok (.iinc 6 1, 3) := dk_132 6 1 (dk_at dksX5_names_7 4 rfl rfl)
theorem dX5_names_170 : decode cX5_names 170 = .ok (.goto (-141), 3) := dk_167 255 115 (dk_at dksX5_names_7 7 rfl rfl)
theorem dX5_names_173 : decode cX5_names 173 = .ok (.iinc 5 1, 3) := dk_132 5 1 (dk_at dksX5_names_7 10 rfl rfl)
theorem dX5_names_176 : decode cX5_names 176 = .ok (.goto (-159), 3) := dk_167 255 97 (dk_at dksX5_names_7 13 rfl rfl)
theorem dX5_names_179 : decode cX5_names 179 = .ok (.aload_n 0, 1) := dk_42 (dk_at dksX5_names_7 16 rfl rfl)
theorem dX5_names_180 : decode cX5_names 180 = .ok (.iload_n 3, 1) := dk_29 (dk_at dksX5_names_7 17 rfl rfl)
theorem dX5_names_181 : decode cX5_names 181 = .ok (.iload 4, 2) := dk_21 4 (dk_at dksX5_names_7 18 rfl rfl)
theorem dX5_names_183 : decode cX5_names 183 = .ok (.iadd, 1) := dk_96 (dk_at dksX5_names_7 20 rfl rfl)
theorem dX5_names_184 : decode cX5_names 184 = .ok (.putfield 267, 3) := dk_181 1 11 (dk_at dksX5_names_7 21 rfl rfl)
theorem dX5_names_187 : decode cX5_names 187 = .ok (.iload 4, 2) := dk_21 4 (dk_at dksX5_names_8 0 rfl rfl)
theorem dX5_names_189 : decode cX5_names 189 = .ok (.ireturn, 1) := dk_172 (dk_at dksX5_names_8 2 rfl rfl)
abbrev cX5_findsBest : ByteArray := prog_22_method_77_code
def yX5_findsBest : MethodName := ⟨RX5, "findsBest", "(II)V"⟩
def dkwX5_findsBest_3 : List UInt8 := [167, 255, 210, 132, 3, 1, 167, 255, 193, 177]
abbrev dktX5_findsBest_3 : List UInt8 := dkwX5_findsBest_3 ++ []
def dkwX5_findsBest_2 : List UInt8 := [182, 1, 26, 153, 0, 16, 42, 28, 182, 1, 144, 158, 0, 8, 42, 28, 182, 1, 147, 132, 4, 1]
abbrev dktX5_findsBest_2 : List UInt8 := dkwX5_findsBest_2 ++ dktX5_findsBest_3
def dkwX5_findsBest_1 : List UInt8 := [21, 4, 42, 180, 0, 145, 162, 0, 43, 42, 29, 27, 28, 182, 1, 141, 153, 0, 33, 42, 29, 21, 4, 28]
abbrev dktX5_findsBest_1 : List UInt8 := dkwX5_findsBest_1 ++ dktX5_findsBest_2
def dkwX5_findsBest_0 : List UInt8 := [42, 180, 0, 73, 42, 180, 1, 14, 3, 79, 3, 62, 29, 42, 180, 0, 145, 162, 0, 61, 3, 54, 4]
abbrev dktX5_findsBest_0 : List UInt8 := dkwX5_findsBest_0 ++ dktX5_findsBest_1
theorem dksX5_findsBest_0 : cX5_findsBest.data.toList.drop 0 = dktX5_findsBest_0 := by decide +kernel
theorem dksX5_findsBest_1 : cX5_findsBest.data.toList.drop 23 = dktX5_findsBest_1 := dk_seg dksX5_findsBest_0 23 rfl rfl
theorem dksX5_findsBest_2 : cX5_findsBest.data.toList.drop 47 = dktX5_findsBest_2 := dk_seg dksX5_findsBest_1 24 rfl rfl
theorem dksX5_findsBest_3 : cX5_findsBest.data.toList.drop 69 = dktX5_findsBest_3 := dk_seg dksX5_findsBest_2 22 rfl rfl
theorem dX5_findsBest_0 : decode cX5_findsBest 0 = .ok (.aload_n 0, 1) := dk_42 (dk_at dksX5_findsBest_0 0 rfl rfl)
theorem dX5_findsBest_1 : decode cX5_findsBest 1 = .ok (.getfield 73, 3) := dk_180 0 73 (dk_at dksX5_findsBest_0 1 rfl rfl)
theorem dX5_findsBest_4 : decode cX5_findsBest 4 = .ok (.aload_n 0, 1) := dk_42 (dk_at dksX5_findsBest_0 4 rfl rfl)
theorem dX5_findsBest_5 : decode cX5_findsBest 5 = .ok (.getfield 270, 3) := dk_180 1 14 (dk_at dksX5_findsBest_0 5 rfl rfl)
theorem dX5_findsBest_8 : decode cX5_findsBest 8 = .ok (.iconst 0, 1) := dk_3 (dk_at dksX5_findsBest_0 8 rfl rfl)
theorem dX5_findsBest_9 : decode cX5_findsBest 9 = .ok (.iastore, 1) := dk_79 (dk_at dksX5_findsBest_0 9 rfl rfl)
theorem dX5_findsBest_10 : decode cX5_findsBest 10 = .ok (.iconst 0, 1) := dk_3 (dk_at dksX5_findsBest_0 10 rfl rfl)
theorem dX5_findsBest_11 : decode cX5_findsBest 11 = .ok (.istore_n 3, 1) := dk_62 (dk_at dksX5_findsBest_0 11 rfl rfl)
theorem dX5_findsBest_12 : decode cX5_findsBest 12 = .ok (.iload_n 3, 1) := dk_29 (dk_at dksX5_findsBest_0 12 rfl rfl)
theorem dX5_findsBest_13 : decode cX5_findsBest 13 = .ok (.aload_n 0, 1) := dk_42 (dk_at dksX5_findsBest_0 13 rfl rfl)
theorem dX5_findsBest_14 : decode cX5_findsBest 14 = .ok (.getfield 145, 3) := dk_180 0 145 (dk_at dksX5_findsBest_0 14 rfl rfl)
theorem dX5_findsBest_17 : decode cX5_findsBest 17 = .ok (.if_icmp .ge 61, 3) := dk_162 0 61 (dk_at dksX5_findsBest_0 17 rfl rfl)
theorem dX5_findsBest_20 : decode cX5_findsBest 20 = .ok (.iconst 0, 1) := dk_3 (dk_at dksX5_findsBest_0 20 rfl rfl)
theorem dX5_findsBest_21 : decode cX5_findsBest 21 = .ok (.istore 4, 2) := dk_54 4 (dk_at dksX5_findsBest_0 21 rfl rfl)
theorem dX5_findsBest_23 : decode cX5_findsBest 23 = .ok (.iload 4, 2) := dk_21 4 (dk_at dksX5_findsBest_1 0 rfl rfl)
theorem dX5_findsBest_25 : decode cX5_findsBest 25 = .ok (.aload_n 0, 1) := dk_42 (dk_at dksX5_findsBest_1 2 rfl rfl)
theorem dX5_findsBest_26 : decode cX5_findsBest 26 = .ok (.getfield 145, 3) := dk_180 0 145 (dk_at dksX5_findsBest_1 3 rfl rfl)
theorem dX5_findsBest_29 : decode cX5_findsBest 29 = .ok (.if_icmp .ge 43, 3) := dk_162 0 43 (dk_at dksX5_findsBest_1 6 rfl rfl)
theorem dX5_findsBest_32 : decode cX5_findsBest 32 = .ok (.aload_n 0, 1) := dk_42 (dk_at dksX5_findsBest_1 9 rfl rfl)
theorem dX5_findsBest_33 : decode cX5_findsBest 33 = .ok (.iload_n 3, 1) := dk_29 (dk_at dksX5_findsBest_1 10 rfl rfl)
theorem dX5_findsBest_34 : decode cX5_findsBest 34 = .ok (.iload_n 1, 1) := dk_27 (dk_at dksX5_findsBest_1 11 rfl rfl)
theorem dX5_findsBest_35 : decode cX5_findsBest 35 = .ok (.iload_n 2, 1) := dk_28 (dk_at dksX5_findsBest_1 12 rfl rfl)
theorem dX5_findsBest_36 : decode cX5_findsBest 36 = .ok (.invokevirtual 397, 3) := dk_182 1 141 (dk_at dksX5_findsBest_1 13 rfl rfl)
theorem dX5_findsBest_39 : decode cX5_findsBest 39 = .ok (.ifCond .eq 33, 3) := dk_153 0 33 (dk_at dksX5_findsBest_1 16 rfl rfl)
theorem dX5_findsBest_42 : decode cX5_findsBest 42 = .ok (.aload_n 0, 1) := dk_42 (dk_at dksX5_findsBest_1 19 rfl rfl)
theorem dX5_findsBest_43 : decode cX5_findsBest 43 = .ok (.iload_n 3, 1) := dk_29 (dk_at dksX5_findsBest_1 20 rfl rfl)
theorem dX5_findsBest_44 : decode cX5_findsBest 44 = .ok (.iload 4, 2) := dk_21 4 (dk_at dksX5_findsBest_1 21 rfl rfl)
theorem dX5_findsBest_46 : decode cX5_findsBest 46 = .ok (.iload_n 2, 1) := dk_28 (dk_at dksX5_findsBest_1 23 rfl rfl)
theorem dX5_findsBest_47 : decode cX5_findsBest 47 = .ok (.invokevirtual 282, 3) := dk_182 1 26 (dk_at dksX5_findsBest_2 0 rfl rfl)
theorem dX5_findsBest_50 : decode cX5_findsBest 50 = .ok (.ifCond .eq 16, 3) := dk_153 0 16 (dk_at dksX5_findsBest_2 3 rfl rfl)
theorem dX5_findsBest_53 : decode cX5_findsBest 53 = .ok (.aload_n 0, 1) := dk_42 (dk_at dksX5_findsBest_2 6 rfl rfl)
theorem dX5_findsBest_54 : decode cX5_findsBest 54 = .ok (.iload_n 2, 1) := dk_28 (dk_at dksX5_findsBest_2 7 rfl rfl)
theorem dX5_findsBest_55 : decode cX5_findsBest 55 = .ok (.invokevirtual 400, 3) := dk_182 1 144 (dk_at dksX5_findsBest_2 8 rfl rfl)
theorem dX5_findsBest_58 : decode cX5_findsBest 58 = .ok (.ifCond .le 8, 3) := dk_158 0 8 (dk_at dksX5_findsBest_2 11 rfl rfl)
theorem dX5_findsBest_61 : decode cX5_findsBest 61 = .ok (.aload_n 0, 1) := dk_42 (dk_at dksX5_findsBest_2 14 rfl rfl)
theorem dX5_findsBest_62 : decode cX5_findsBest 62 = .ok (.iload_n 2, 1) := dk_28 (dk_at dksX5_findsBest_2 15 rfl rfl)
theorem dX5_findsBest_63 : decode cX5_findsBest 63 = .ok (.invokevirtual 403, 3) := dk_182 1 147 (dk_at dksX5_findsBest_2 16 rfl rfl)
theorem dX5_findsBest_66 : decode cX5_findsBest 66 = .ok (.iinc 4 1, 3) := dk_132 4 1 (dk_at dksX5_findsBest_2 19 rfl rfl)
theorem dX5_findsBest_69 : decode cX5_findsBest 69 = .ok (.goto (-46), 3) := dk_167 255 210 (dk_at dksX5_findsBest_3 0 rfl rfl)
theorem dX5_findsBest_72 : decode cX5_findsBest 72 = .ok (.iinc 3 1, 3) := dk_132 3 1 (dk_at dksX5_findsBest_3 3 rfl rfl)
theorem dX5_findsBest_75 : decode cX5_findsBest 75 = .ok (.goto (-63), 3) := dk_167 255 193 (dk_at dksX5_findsBest_3 6 rfl rfl)
theorem dX5_findsBest_78 : decode cX5_findsBest 78 = .ok (.return_, 1) := dk_177 (dk_at dksX5_findsBest_3 9 rfl rfl)
abbrev cX5_isStart : ByteArray := prog_22_method_76_code
def yX5_isStart : MethodName := ⟨RX5, "isStart", "(III)Z"⟩
def dkwX5_isStart_0 : List UInt8 := [29, 2, 159, 0, 8, 27, 28, 160, 0, 7, 4, 167, 0, 4, 3, 172]
abbrev dktX5_isStart_0 : List UInt8 := dkwX5_isStart_0 ++ []
theorem dksX5_isStart_0 : cX5_isStart.data.toList.drop 0 = dktX5_isStart_0 := by decide +kernel
theorem dX5_isStart_0 : decode cX5_isStart 0 = .ok (.iload_n 3, 1) := dk_29 (dk_at dksX5_isStart_0 0 rfl rfl)
theorem dX5_isStart_1 : decode cX5_isStart 1 = .ok (.iconst (-1), 1) := dk_2 (dk_at dksX5_isStart_0 1 rfl rfl)
theorem dX5_isStart_2 : decode cX5_isStart 2 = .ok (.if_icmp .eq 8, 3) := dk_159 0 8 (dk_at dksX5_isStart_0 2 rfl rfl)
theorem dX5_isStart_5 : decode cX5_isStart 5 = .ok (.iload_n 1, 1) := dk_27 (dk_at dksX5_isStart_0 5 rfl rfl)
theorem dX5_isStart_6 : decode cX5_isStart 6 = .ok (.iload_n 2, 1) := dk_28 (dk_at dksX5_isStart_0 6 rfl rfl)
theorem dX5_isStart_7 : decode cX5_isStart 7 = .ok (.if_icmp .ne 7, 3) := dk_160 0 7 (dk_at dksX5_isStart_0 7 rfl rfl)
theorem dX5_isStart_10 : decode cX5_isStart 10 = .ok (.iconst 1, 1) := dk_4 (dk_at dksX5_isStart_0 10 rfl rfl)
theorem dX5_isStart_11 : decode cX5_isStart 11 = .ok (.goto 4, 3) := dk_167 0 4 (dk_at dksX5_isStart_0 11 rfl rfl)
theorem dX5_isStart_14 : decode cX5_isStart 14 = .ok (.iconst 0, 1) := dk_3 (dk_at dksX5_isStart_0 14 rfl rfl)
theorem dX5_isStart_15 : decode cX5_isStart 15 = .ok (.ireturn, 1) := dk_172 (dk_at dksX5_isStart_0 15 rfl rfl)
abbrev cX5_lays : ByteArray := prog_22_method_56_code
def yX5_lays : MethodName := ⟨RX5, "lays", "(III)Z"⟩
def dkwX5_lays_0 : List UInt8 := [42, 27, 28, 29, 3, 182, 1, 76, 172]
abbrev dktX5_lays_0 : List UInt8 := dkwX5_lays_0 ++ []
theorem dksX5_lays_0 : cX5_lays.data.toList.drop 0 = dktX5_lays_0 := by decide +kernel
theorem dX5_lays_0 : decode cX5_lays 0 = .ok (.aload_n 0, 1) := dk_42 (dk_at dksX5_lays_0 0 rfl rfl)
theorem dX5_lays_1 : decode cX5_lays 1 = .ok (.iload_n 1, 1) := dk_27 (dk_at dksX5_lays_0 1 rfl rfl)
theorem dX5_lays_2 : decode cX5_lays 2 = .ok (.iload_n 2, 1) := dk_28 (dk_at dksX5_lays_0 2 rfl rfl)
theorem dX5_lays_3 : decode cX5_lays 3 = .ok (.iload_n 3, 1) := dk_29 (dk_at dksX5_lays_0 3 rfl rfl)
theorem dX5_lays_4 : decode cX5_lays 4 = .ok (.iconst 0, 1) := dk_3 (dk_at dksX5_lays_0 4 rfl rfl)
theorem dX5_lays_5 : decode cX5_lays 5 = .ok (.invokevirtual 332, 3) := dk_182 1 76 (dk_at dksX5_lays_0 5 rfl rfl)
theorem dX5_lays_8 : decode cX5_lays 8 = .ok (.ireturn, 1) := dk_172 (dk_at dksX5_lays_0 8 rfl rfl)
abbrev cX5_walks : ByteArray := prog_22_method_55_code
def yX5_walks : MethodName := ⟨RX5, "walks", "(IIII)Z"⟩
def dkwX5_walks_3 : List UInt8 := [4, 172, 132, 5, 1, 167, 255, 207, 3, 172]
abbrev dktX5_walks_3 : List UInt8 := dkwX5_walks_3 ++ []
def dkwX5_walks_2 : List UInt8 := [153, 0, 26, 21, 5, 29, 159, 0, 20, 42, 21, 5, 28, 27, 21, 4, 4, 96, 182, 1, 76, 153, 0, 5]
abbrev dktX5_walks_2 : List UInt8 := dkwX5_walks_2 ++ dktX5_walks_3
def dkwX5_walks_1 : List UInt8 := [54, 5, 21, 5, 42, 180, 0, 145, 162, 0, 46, 42, 180, 0, 11, 27, 46, 21, 5, 184, 0, 152]
abbrev dktX5_walks_1 : List UInt8 := dkwX5_walks_1 ++ dktX5_walks_2
def dkwX5_walks_0 : List UInt8 := [42, 180, 0, 41, 21, 4, 27, 79, 27, 28, 160, 0, 13, 42, 21, 4, 4, 96, 181, 1, 73, 4, 172, 3]
abbrev dktX5_walks_0 : List UInt8 := dkwX5_walks_0 ++ dktX5_walks_1
theorem dksX5_walks_0 : cX5_walks.data.toList.drop 0 = dktX5_walks_0 := by decide +kernel
theorem dksX5_walks_1 : cX5_walks.data.toList.drop 24 = dktX5_walks_1 := dk_seg dksX5_walks_0 24 rfl rfl
theorem dksX5_walks_2 : cX5_walks.data.toList.drop 46 = dktX5_walks_2 := dk_seg dksX5_walks_1 22 rfl rfl
theorem dksX5_walks_3 : cX5_walks.data.toList.drop 70 = dktX5_walks_3 := dk_seg dksX5_walks_2 24 rfl rfl
theorem dX5_walks_0 : decode cX5_walks 0 = .ok (.aload_n 0, 1) := dk_42 (dk_at dksX5_walks_0 0 rfl rfl)
theorem dX5_walks_1 : decode cX5_walks 1 = .ok (.getfield 41, 3) := dk_180 0 41 (dk_at dksX5_walks_0 1 rfl rfl)
theorem dX5_walks_4 : decode cX5_walks 4 = .ok (.iload 4, 2) := dk_21 4 (dk_at dksX5_walks_0 4 rfl rfl)
theorem dX5_walks_6 : decode cX5_walks 6 = .ok (.iload_n 1, 1) := dk_27 (dk_at dksX5_walks_0 6 rfl rfl)
theorem dX5_walks_7 : decode cX5_walks 7 = .ok (.iastore, 1) := dk_79 (dk_at dksX5_walks_0 7 rfl rfl)
theorem dX5_walks_8 : decode cX5_walks 8 = .ok (.iload_n 1, 1) := dk_27 (dk_at dksX5_walks_0 8 rfl rfl)
theorem dX5_walks_9 : decode cX5_walks 9 = .ok (.iload_n 2, 1) := dk_28 (dk_at dksX5_walks_0 9 rfl rfl)
theorem dX5_walks_10 : decode cX5_walks 10 = .ok (.if_icmp .ne 13, 3) := dk_160 0 13 (dk_at dksX5_walks_0 10 rfl rfl)
theorem dX5_walks_13 : decode cX5_walks 13 = .ok (.aload_n 0, 1) := dk_42 (dk_at dksX5_walks_0 13 rfl rfl)
theorem dX5_walks_14 : decode cX5_walks 14 = .ok (.iload 4, 2) := dk_21 4 (dk_at dksX5_walks_0 14 rfl rfl)
theorem dX5_walks_16 : decode cX5_walks 16 = .ok (.iconst 1, 1) := dk_4 (dk_at dksX5_walks_0 16 rfl rfl)
theorem dX5_walks_17 : decode cX5_walks 17 = .ok (.iadd, 1) := dk_96 (dk_at dksX5_walks_0 17 rfl rfl)
theorem dX5_walks_18 : decode cX5_walks 18 = .ok (.putfield 329, 3) := dk_181 1 73 (dk_at dksX5_walks_0 18 rfl rfl)
theorem dX5_walks_21 : decode cX5_walks 21 = .ok (.iconst 1, 1) := dk_4 (dk_at dksX5_walks_0 21 rfl rfl)
theorem dX5_walks_22 : decode cX5_walks 22 = .ok (.ireturn, 1) := dk_172 (dk_at dksX5_walks_0 22 rfl rfl)
theorem dX5_walks_23 : decode cX5_walks 23 = .ok (.iconst 0, 1) := dk_3 (dk_at dksX5_walks_0 23 rfl rfl)
theorem dX5_walks_24 : decode cX5_walks 24 = .ok (.istore 5, 2) := dk_54 5 (dk_at dksX5_walks_1 0 rfl rfl)
theorem dX5_walks_26 : decode cX5_walks 26 = .ok (.iload 5, 2) := dk_21 5 (dk_at dksX5_walks_1 2 rfl rfl)
theorem dX5_walks_28 : decode cX5_walks 28 = .ok (.aload_n 0, 1) := dk_42 (dk_at dksX5_walks_1 4 rfl rfl)
theorem dX5_walks_29 : decode cX5_walks 29 = .ok (.getfield 145, 3) := dk_180 0 145 (dk_at dksX5_walks_1 5 rfl rfl)
theorem dX5_walks_32 : decode cX5_walks 32 = .ok (.if_icmp .ge 46, 3) := dk_162 0 46 (dk_at dksX5_walks_1 8 rfl rfl)
theorem dX5_walks_35 : decode cX5_walks 35 = .ok (.aload_n 0, 1) := dk_42 (dk_at dksX5_walks_1 11 rfl rfl)
theorem dX5_walks_36 : decode cX5_walks 36 = .ok (.getfield 11, 3) := dk_180 0 11 (dk_at dksX5_walks_1 12 rfl rfl)
theorem dX5_walks_39 : decode cX5_walks 39 = .ok (.iload_n 1, 1) := dk_27 (dk_at dksX5_walks_1 15 rfl rfl)
theorem dX5_walks_40 : decode cX5_walks 40 = .ok (.iaload, 1) := dk_46 (dk_at dksX5_walks_1 16 rfl rfl)
theorem dX5_walks_41 : decode cX5_walks 41 = .ok (.iload 5, 2) := dk_21 5 (dk_at dksX5_walks_1 17 rfl rfl)
theorem dX5_walks_43 : decode cX5_walks 43 = .ok (.invokestatic 152, 3) := dk_184 0 152 (dk_at dksX5_walks_1 19 rfl rfl)
theorem dX5_walks_46 : decode cX5_walks 46 = .ok (.ifCond .eq 26, 3) := dk_153 0 26 (dk_at dksX5_walks_2 0 rfl rfl)
theorem dX5_walks_49 : decode cX5_walks 49 = .ok (.iload 5, 2) := dk_21 5 (dk_at dksX5_walks_2 3 rfl rfl)
theorem dX5_walks_51 : decode cX5_walks 51 = .ok (.iload_n 3, 1) := dk_29 (dk_at dksX5_walks_2 5 rfl rfl)
theorem dX5_walks_52 : decode cX5_walks 52 = .ok (.if_icmp .eq 20, 3) := dk_159 0 20 (dk_at dksX5_walks_2 6 rfl rfl)
theorem dX5_walks_55 : decode cX5_walks 55 = .ok (.aload_n 0, 1) := dk_42 (dk_at dksX5_walks_2 9 rfl rfl)
theorem dX5_walks_56 : decode cX5_walks 56 = .ok (.iload 5, 2) := dk_21 5 (dk_at dksX5_walks_2 10 rfl rfl)
theorem dX5_walks_58 : decode cX5_walks 58 = .ok (.iload_n 2, 1) := dk_28 (dk_at dksX5_walks_2 12 rfl rfl)
theorem dX5_walks_59 : decode cX5_walks 59 = .ok (.iload_n 1, 1) := dk_27 (dk_at dksX5_walks_2 13 rfl rfl)
theorem dX5_walks_60 : decode cX5_walks 60 = .ok (.iload 4, 2) := dk_21 4 (dk_at dksX5_walks_2 14 rfl rfl)
theorem dX5_walks_62 : decode cX5_walks 62 = .ok (.iconst 1, 1) := dk_4 (dk_at dksX5_walks_2 16 rfl rfl)
theorem dX5_walks_63 : decode cX5_walks 63 = .ok (.iadd, 1) := dk_96 (dk_at dksX5_walks_2 17 rfl rfl)
theorem dX5_walks_64 : decode cX5_walks 64 = .ok (.invokevirtual 332, 3) := dk_182 1 76 (dk_at dksX5_walks_2 18 rfl rfl)
theorem dX5_walks_67 : decode cX5_walks 67 = .ok (.ifCond .eq 5, 3) := dk_153 0 5 (dk_at dksX5_walks_2 21 rfl rfl)
theorem dX5_walks_70 : decode cX5_walks 70 = .ok (.iconst 1, 1) := dk_4 (dk_at dksX5_walks_3 0 rfl rfl)
theorem dX5_walks_71 : decode cX5_walks 71 = .ok (.ireturn, 1) := dk_172 (dk_at dksX5_walks_3 1 rfl rfl)
theorem dX5_walks_72 : decode cX5_walks 72 = .ok (.iinc 5 1, 3) := dk_132 5 1 (dk_at dksX5_walks_3 2 rfl rfl)
theorem dX5_walks_75 : decode cX5_walks 75 = .ok (.goto (-49), 3) := dk_167 255 207 (dk_at dksX5_walks_3 5 rfl rfl)
theorem dX5_walks_78 : decode cX5_walks 78 = .ok (.iconst 0, 1) := dk_3 (dk_at dksX5_walks_3 8 rfl rfl)
theorem dX5_walks_79 : decode cX5_walks 79 = .ok (.ireturn, 1) := dk_172 (dk_at dksX5_walks_3 9 rfl rfl)
abbrev cX5_isBetter : ByteArray := prog_22_method_74_code
def yX5_isBetter : MethodName := ⟨RX5, "isBetter", "(I)I"⟩
def dkwX5_isBetter_5 : List UInt8 := [167, 255, 203, 3, 172]
abbrev dktX5_isBetter_5 : List UInt8 := dkwX5_isBetter_5 ++ []
def dkwX5_isBetter_4 : List UInt8 := [180, 0, 79, 16, 13, 42, 180, 1, 14, 104, 29, 96, 46, 42, 180, 0, 44, 29, 46, 100, 172, 132, 3, 1]
abbrev dktX5_isBetter_4 : List UInt8 := dkwX5_isBetter_4 ++ dktX5_isBetter_5
def dkwX5_isBetter_3 : List UInt8 := [180, 0, 44, 29, 46, 42, 180, 0, 79, 16, 13, 42, 180, 1, 14, 104, 29, 96, 46, 159, 0, 25, 42]
abbrev dktX5_isBetter_3 : List UInt8 := dkwX5_isBetter_3 ++ dktX5_isBetter_4
def dkwX5_isBetter_2 : List UInt8 := [159, 0, 15, 28, 42, 180, 0, 76, 42, 180, 1, 14, 46, 100, 172, 3, 62, 29, 28, 162, 0, 54, 42]
abbrev dktX5_isBetter_2 : List UInt8 := dkwX5_isBetter_2 ++ dktX5_isBetter_3
def dkwX5_isBetter_1 : List UInt8 := [180, 1, 73, 42, 180, 0, 73, 42, 180, 1, 14, 46, 100, 172, 28, 42, 180, 0, 76, 42, 180, 1, 14, 46]
abbrev dktX5_isBetter_1 : List UInt8 := dkwX5_isBetter_1 ++ dktX5_isBetter_2
def dkwX5_isBetter_0 : List UInt8 := [42, 27, 182, 1, 30, 61, 42, 180, 1, 73, 42, 180, 0, 73, 42, 180, 1, 14, 46, 159, 0, 18, 42]
abbrev dktX5_isBetter_0 : List UInt8 := dkwX5_isBetter_0 ++ dktX5_isBetter_1
theorem dksX5_isBetter_0 : cX5_isBetter.data.toList.drop 0 = dktX5_isBetter_0 := by decide +kernel
theorem dksX5_isBetter_1 : cX5_isBetter.data.toList.drop 23 = dktX5_isBetter_1 := dk_seg dksX5_isBetter_0 23 rfl rfl
theorem dksX5_isBetter_2 : cX5_isBetter.data.toList.drop 47 = dktX5_isBetter_2 := dk_seg dksX5_isBetter_1 24 rfl rfl
theorem dksX5_isBetter_3 : cX5_isBetter.data.toList.drop 70 = dktX5_isBetter_3 := dk_seg dksX5_isBetter_2 23 rfl rfl
theorem dksX5_isBetter_4 : cX5_isBetter.data.toList.drop 93 = dktX5_isBetter_4 := dk_seg dksX5_isBetter_3 23 rfl rfl
theorem dksX5_isBetter_5 : cX5_isBetter.data.toList.drop 117 = dktX5_isBetter_5 := dk_seg dksX5_isBetter_4 24 rfl rfl
theorem dX5_isBetter_0 : decode cX5_isBetter 0 = .ok (.aload_n 0, 1) := dk_42 (dk_at dksX5_isBetter_0 0 rfl rfl)
theorem dX5_isBetter_1 : decode cX5_isBetter 1 = .ok (.iload_n 1, 1) := dk_27 (dk_at dksX5_isBetter_0 1 rfl rfl)
theorem dX5_isBetter_2 : decode cX5_isBetter 2 = .ok (.invokevirtual 286, 3) := dk_182 1 30 (dk_at dksX5_isBetter_0 2 rfl rfl)
theorem dX5_isBetter_5 : decode cX5_isBetter 5 = .ok (.istore_n 2, 1) := dk_61 (dk_at dksX5_isBetter_0 5 rfl rfl)
theorem dX5_isBetter_6 : decode cX5_isBetter 6 = .ok (.aload_n 0, 1) := dk_42 (dk_at dksX5_isBetter_0 6 rfl rfl)
theorem dX5_isBetter_7 : decode cX5_isBetter 7 = .ok (.getfield 329, 3) := dk_180 1 73 (dk_at dksX5_isBetter_0 7 rfl rfl)
theorem dX5_isBetter_10 : decode cX5_isBetter 10 = .ok (.aload_n 0, 1) := dk_42 (dk_at dksX5_isBetter_0 10 rfl rfl)
theorem dX5_isBetter_11 : decode cX5_isBetter 11 = .ok (.getfield 73, 3) := dk_180 0 73 (dk_at dksX5_isBetter_0 11 rfl rfl)
theorem dX5_isBetter_14 : decode cX5_isBetter 14 = .ok (.aload_n 0, 1) := dk_42 (dk_at dksX5_isBetter_0 14 rfl rfl)
theorem dX5_isBetter_15 : decode cX5_isBetter 15 = .ok (.getfield 270, 3) := dk_180 1 14 (dk_at dksX5_isBetter_0 15 rfl rfl)
theorem dX5_isBetter_18 : decode cX5_isBetter 18 = .ok (.iaload, 1) := dk_46 (dk_at dksX5_isBetter_0 18 rfl rfl)
theorem dX5_isBetter_19 : decode cX5_isBetter 19 = .ok (.if_icmp .eq 18, 3) := dk_159 0 18 (dk_at dksX5_isBetter_0 19 rfl rfl)
theorem dX5_isBetter_22 : decode cX5_isBetter 22 = .ok (.aload_n 0, 1) := dk_42 (dk_at dksX5_isBetter_0 22 rfl rfl)
theorem dX5_isBetter_23 : decode cX5_isBetter 23 = .ok (.getfield 329, 3) := dk_180 1 73 (dk_at dksX5_isBetter_1 0 rfl rfl)
theorem dX5_isBetter_26 : decode cX5_isBetter 26 = .ok (.aload_n 0, 1) := dk_42 (dk_at dksX5_isBetter_1 3 rfl rfl)
theorem dX5_isBetter_27 : decode cX5_isBetter 27 = .ok (.getfield 73, 3) := dk_180 0 73 (dk_at dksX5_isBetter_1 4 rfl rfl)
theorem dX5_isBetter_30 : decode cX5_isBetter 30 = .ok (.aload_n 0, 1) := dk_42 (dk_at dksX5_isBetter_1 7 rfl rfl)
theorem dX5_isBetter_31 : decode cX5_isBetter 31 = .ok (.getfield 270, 3) := dk_180 1 14 (dk_at dksX5_isBetter_1 8 rfl rfl)
theorem dX5_isBetter_34 : decode cX5_isBetter 34 = .ok (.iaload, 1) := dk_46 (dk_at dksX5_isBetter_1 11 rfl rfl)
theorem dX5_isBetter_35 : decode cX5_isBetter 35 = .ok (.isub, 1) := dk_100 (dk_at dksX5_isBetter_1 12 rfl rfl)
theorem dX5_isBetter_36 : decode cX5_isBetter 36 = .ok (.ireturn, 1) := dk_172 (dk_at dksX5_isBetter_1 13 rfl rfl)
theorem dX5_isBetter_37 : decode cX5_isBetter 37 = .ok (.iload_n 2, 1) := dk_28 (dk_at dksX5_isBetter_1 14 rfl rfl)
theorem dX5_isBetter_38 : decode cX5_isBetter 38 = .ok (.aload_n 0, 1) := dk_42 (dk_at dksX5_isBetter_1 15 rfl rfl)
theorem dX5_isBetter_39 : decode cX5_isBetter 39 = .ok (.getfield 76, 3) := dk_180 0 76 (dk_at dksX5_isBetter_1 16 rfl rfl)
theorem dX5_isBetter_42 : decode cX5_isBetter 42 = .ok (.aload_n 0, 1) := dk_42 (dk_at dksX5_isBetter_1 19 rfl rfl)
theorem dX5_isBetter_43 : decode cX5_isBetter 43 = .ok (.getfield 270, 3) := dk_180 1 14 (dk_at dksX5_isBetter_1 20 rfl rfl)
theorem dX5_isBetter_46 : decode cX5_isBetter 46 = .ok (.iaload, 1) := dk_46 (dk_at dksX5_isBetter_1 23 rfl rfl)
theorem dX5_isBetter_47 : decode cX5_isBetter 47 = .ok (.if_icmp .eq 15, 3) := dk_159 0 15 (dk_at dksX5_isBetter_2 0 rfl rfl)
theorem dX5_isBetter_50 : decode cX5_isBetter 50 = .ok (.iload_n 2, 1) := dk_28 (dk_at dksX5_isBetter_2 3 rfl rfl)
theorem dX5_isBetter_51 : decode cX5_isBetter 51 = .ok (.aload_n 0, 1) := dk_42 (dk_at dksX5_isBetter_2 4 rfl rfl)
theorem dX5_isBetter_52 : decode cX5_isBetter 52 = .ok (.getfield 76, 3) := dk_180 0 76 (dk_at dksX5_isBetter_2 5 rfl rfl)
theorem dX5_isBetter_55 : decode cX5_isBetter 55 = .ok (.aload_n 0, 1) := dk_42 (dk_at dksX5_isBetter_2 8 rfl rfl)
theorem dX5_isBetter_56 : decode cX5_isBetter 56 = .ok (.getfield 270, 3) := dk_180 1 14 (dk_at dksX5_isBetter_2 9 rfl rfl)
theorem dX5_isBetter_59 : decode cX5_isBetter 59 = .ok (.iaload, 1) := dk_46 (dk_at dksX5_isBetter_2 12 rfl rfl)
theorem dX5_isBetter_60 : decode cX5_isBetter 60 = .ok (.isub, 1) := dk_100 (dk_at dksX5_isBetter_2 13 rfl rfl)
theorem dX5_isBetter_61 : decode cX5_isBetter 61 = .ok (.ireturn, 1) := dk_172 (dk_at dksX5_isBetter_2 14 rfl rfl)
theorem dX5_isBetter_62 : decode cX5_isBetter 62 = .ok (.iconst 0, 1) := dk_3 (dk_at dksX5_isBetter_2 15 rfl rfl)
theorem dX5_isBetter_63 : decode cX5_isBetter 63 = .ok (.istore_n 3, 1) := dk_62 (dk_at dksX5_isBetter_2 16 rfl rfl)
theorem dX5_isBetter_64 : decode cX5_isBetter 64 = .ok (.iload_n 3, 1) := dk_29 (dk_at dksX5_isBetter_2 17 rfl rfl)
theorem dX5_isBetter_65 : decode cX5_isBetter 65 = .ok (.iload_n 2, 1) := dk_28 (dk_at dksX5_isBetter_2 18 rfl rfl)
theorem dX5_isBetter_66 : decode cX5_isBetter 66 = .ok (.if_icmp .ge 54, 3) := dk_162 0 54 (dk_at dksX5_isBetter_2 19 rfl rfl)
theorem dX5_isBetter_69 : decode cX5_isBetter 69 = .ok (.aload_n 0, 1) := dk_42 (dk_at dksX5_isBetter_2 22 rfl rfl)
theorem dX5_isBetter_70 : decode cX5_isBetter 70 = .ok (.getfield 44, 3) := dk_180 0 44 (dk_at dksX5_isBetter_3 0 rfl rfl)
theorem dX5_isBetter_73 : decode cX5_isBetter 73 = .ok (.iload_n 3, 1) := dk_29 (dk_at dksX5_isBetter_3 3 rfl rfl)
theorem dX5_isBetter_74 : decode cX5_isBetter 74 = .ok (.iaload, 1) := dk_46 (dk_at dksX5_isBetter_3 4 rfl rfl)
theorem dX5_isBetter_75 : decode cX5_isBetter 75 = .ok (.aload_n 0, 1) := dk_42 (dk_at dksX5_isBetter_3 5 rfl rfl)
theorem dX5_isBetter_76 : decode cX5_isBetter 76 = .ok (.getfield 79, 3) := dk_180 0 79 (dk_at dksX5_isBetter_3 6 rfl rfl)
theorem dX5_isBetter_79 : decode cX5_isBetter 79 = .ok (.bipush 13, 2) := dk_16 13 (dk_at dksX5_isBetter_3 9 rfl rfl)
theorem dX5_isBetter_81 : decode cX5_isBetter 81 = .ok (.aload_n 0, 1) := dk_42 (dk_at dksX5_isBetter_3 11 rfl rfl)
theorem dX5_isBetter_82 : decode cX5_isBetter 82 = .ok (.getfield 270, 3) := dk_180 1 14 (dk_at dksX5_isBetter_3 12 rfl rfl)
theorem dX5_isBetter_85 : decode cX5_isBetter 85 = .ok (.imul, 1) := dk_104 (dk_at dksX5_isBetter_3 15 rfl rfl)
theorem dX5_isBetter_86 : decode cX5_isBetter 86 = .ok (.iload_n 3, 1) := dk_29 (dk_at dksX5_isBetter_3 16 rfl rfl)
theorem dX5_isBetter_87 : decode cX5_isBetter 87 = .ok (.iadd, 1) := dk_96 (dk_at dksX5_isBetter_3 17 rfl rfl)
theorem dX5_isBetter_88 : decode cX5_isBetter 88 = .ok (.iaload, 1) := dk_46 (dk_at dksX5_isBetter_3 18 rfl rfl)
theorem dX5_isBetter_89 : decode cX5_isBetter 89 = .ok (.if_icmp .eq 25, 3) := dk_159 0 25 (dk_at dksX5_isBetter_3 19 rfl rfl)
theorem dX5_isBetter_92 : decode cX5_isBetter 92 = .ok (.aload_n 0, 1) := dk_42 (dk_at dksX5_isBetter_3 22 rfl rfl)
theorem dX5_isBetter_93 : decode cX5_isBetter 93 = .ok (.getfield 79, 3) := dk_180 0 79 (dk_at dksX5_isBetter_4 0 rfl rfl)
theorem dX5_isBetter_96 : decode cX5_isBetter 96 = .ok (.bipush 13, 2) := dk_16 13 (dk_at dksX5_isBetter_4 3 rfl rfl)
theorem dX5_isBetter_98 : decode cX5_isBetter 98 = .ok (.aload_n 0, 1) := dk_42 (dk_at dksX5_isBetter_4 5 rfl rfl)
theorem dX5_isBetter_99 : decode cX5_isBetter 99 = .ok (.getfield 270, 3) := dk_180 1 14 (dk_at dksX5_isBetter_4 6 rfl rfl)
theorem dX5_isBetter_102 : decode cX5_isBetter 102 = .ok (.imul, 1) := dk_104 (dk_at dksX5_isBetter_4 9 rfl rfl)
theorem dX5_isBetter_103 : decode cX5_isBetter 103 = .ok (.iload_n 3, 1) := dk_29 (dk_at dksX5_isBetter_4 10 rfl rfl)
theorem dX5_isBetter_104 : decode cX5_isBetter 104 = .ok (.iadd, 1) := dk_96 (dk_at dksX5_isBetter_4 11 rfl rfl)
theorem dX5_isBetter_105 : decode cX5_isBetter 105 = .ok (.iaload, 1) := dk_46 (dk_at dksX5_isBetter_4 12 rfl rfl)
theorem dX5_isBetter_106 : decode cX5_isBetter 106 = .ok (.aload_n 0, 1) := dk_42 (dk_at dksX5_isBetter_4 13 rfl rfl)
theorem dX5_isBetter_107 : decode cX5_isBetter 107 = .ok (.getfield 44, 3) := dk_180 0 44 (dk_at dksX5_isBetter_4 14 rfl rfl)
theorem dX5_isBetter_110 : decode cX5_isBetter 110 = .ok (.iload_n 3, 1) := dk_29 (dk_at dksX5_isBetter_4 17 rfl rfl)
theorem dX5_isBetter_111 : decode cX5_isBetter 111 = .ok (.iaload, 1) := dk_46 (dk_at dksX5_isBetter_4 18 rfl rfl)
theorem dX5_isBetter_112 : decode cX5_isBetter 112 = .ok (.isub, 1) := dk_100 (dk_at dksX5_isBetter_4 19 rfl rfl)
theorem dX5_isBetter_113 : decode cX5_isBetter 113 = .ok (.ireturn, 1) := dk_172 (dk_at dksX5_isBetter_4 20 rfl rfl)
theorem dX5_isBetter_114 : decode cX5_isBetter 114 = .ok (.iinc 3 1, 3) := dk_132 3 1 (dk_at dksX5_isBetter_4 21 rfl rfl)
theorem dX5_isBetter_117 : decode cX5_isBetter 117 = .ok (.goto (-53), 3) := dk_167 255 203 (dk_at dksX5_isBetter_5 0 rfl rfl)
theorem dX5_isBetter_120 : decode cX5_isBetter 120 = .ok (.iconst 0, 1) := dk_3 (dk_at dksX5_isBetter_5 3 rfl rfl)
theorem dX5_isBetter_121 : decode cX5_isBetter 121 = .ok (.ireturn, 1) := dk_172 (dk_at dksX5_isBetter_5 4 rfl rfl)
abbrev cX5_branchesOf : ByteArray := prog_22_method_59_code
def yX5_branchesOf : MethodName := ⟨RX5, "branchesOf", "(I)I"⟩
def dkwX5_branchesOf_2 : List UInt8 := [132, 4, 1, 167, 255, 221, 132, 3, 1, 167, 255, 204, 28, 172]
abbrev dktX5_branchesOf_2 : List UInt8 := dkwX5_branchesOf_2 ++ []
def dkwX5_branchesOf_1 : List UInt8 := [42, 29, 21, 4, 27, 182, 1, 83, 153, 0, 15, 42, 180, 0, 44, 28, 29, 4, 96, 79, 132, 2, 1]
abbrev dktX5_branchesOf_1 : List UInt8 := dkwX5_branchesOf_1 ++ dktX5_branchesOf_2
def dkwX5_branchesOf_0 : List UInt8 := [3, 61, 3, 62, 29, 42, 180, 1, 73, 162, 0, 50, 3, 54, 4, 21, 4, 42, 180, 0, 145, 162, 0, 32]
abbrev dktX5_branchesOf_0 : List UInt8 := dkwX5_branchesOf_0 ++ dktX5_branchesOf_1
theorem dksX5_branchesOf_0 : cX5_branchesOf.data.toList.drop 0 = dktX5_branchesOf_0 := by decide +kernel
theorem dksX5_branchesOf_1 : cX5_branchesOf.data.toList.drop 24 = dktX5_branchesOf_1 := dk_seg dksX5_branchesOf_0 24 rfl rfl
theorem dksX5_branchesOf_2 : cX5_branchesOf.data.toList.drop 47 = dktX5_branchesOf_2 := dk_seg dksX5_branchesOf_1 23 rfl rfl
theorem dX5_branchesOf_0 : decode cX5_branchesOf 0 = .ok (.iconst 0, 1) := dk_3 (dk_at dksX5_branchesOf_0 0 rfl rfl)
theorem dX5_branchesOf_1 : decode cX5_branchesOf 1 = .ok (.istore_n 2, 1) := dk_61 (dk_at dksX5_branchesOf_0 1 rfl rfl)
theorem dX5_branchesOf_2 : decode cX5_branchesOf 2 = .ok (.iconst 0, 1) := dk_3 (dk_at dksX5_branchesOf_0 2 rfl rfl)
theorem dX5_branchesOf_3 : decode cX5_branchesOf 3 = .ok (.istore_n 3, 1) := dk_62 (dk_at dksX5_branchesOf_0 3 rfl rfl)
theorem dX5_branchesOf_4 : decode cX5_branchesOf 4 = .ok (.iload_n 3, 1) := dk_29 (dk_at dksX5_branchesOf_0 4 rfl rfl)
theorem dX5_branchesOf_5 : decode cX5_branchesOf 5 = .ok (.aload_n 0, 1) := dk_42 (dk_at dksX5_branchesOf_0 5 rfl rfl)
theorem dX5_branchesOf_6 : decode cX5_branchesOf 6 = .ok (.getfield 329, 3) := dk_180 1 73 (dk_at dksX5_branchesOf_0 6 rfl rfl)
theorem dX5_branchesOf_9 : decode cX5_branchesOf 9 = .ok (.if_icmp .ge 50, 3) := dk_162 0 50 (dk_at dksX5_branchesOf_0 9 rfl rfl)
theorem dX5_branchesOf_12 : decode cX5_branchesOf 12 = .ok (.iconst 0, 1) := dk_3 (dk_at dksX5_branchesOf_0 12 rfl rfl)
theorem dX5_branchesOf_13 : decode cX5_branchesOf 13 = .ok (.istore 4, 2) := dk_54 4 (dk_at dksX5_branchesOf_0 13 rfl rfl)
theorem dX5_branchesOf_15 : decode cX5_branchesOf 15 = .ok (.iload 4, 2) := dk_21 4 (dk_at dksX5_branchesOf_0 15 rfl rfl)
theorem dX5_branchesOf_17 : decode cX5_branchesOf 17 = .ok (.aload_n 0, 1) := dk_42 (dk_at dksX5_branchesOf_0 17 rfl rfl)
theorem dX5_branchesOf_18 : decode cX5_branchesOf 18 = .ok (.getfield 145, 3) := dk_180 0 145 (dk_at dksX5_branchesOf_0 18 rfl rfl)
theorem dX5_branchesOf_21 : decode cX5_branchesOf 21 = .ok (.if_icmp .ge 32, 3) := dk_162 0 32 (dk_at dksX5_branchesOf_0 21 rfl rfl)
theorem dX5_branchesOf_24 : decode cX5_branchesOf 24 = .ok (.aload_n 0, 1) := dk_42 (dk_at dksX5_branchesOf_1 0 rfl rfl)
theorem dX5_branchesOf_25 : decode cX5_branchesOf 25 = .ok (.iload_n 3, 1) := dk_29 (dk_at dksX5_branchesOf_1 1 rfl rfl)
theorem dX5_branchesOf_26 : decode cX5_branchesOf 26 = .ok (.iload 4, 2) := dk_21 4 (dk_at dksX5_branchesOf_1 2 rfl rfl)
theorem dX5_branchesOf_28 : decode cX5_branchesOf 28 = .ok (.iload_n 1, 1) := dk_27 (dk_at dksX5_branchesOf_1 4 rfl rfl)
theorem dX5_branchesOf_29 : decode cX5_branchesOf 29 = .ok (.invokevirtual 339, 3) := dk_182 1 83 (dk_at dksX5_branchesOf_1 5 rfl rfl)
theorem dX5_branchesOf_32 : decode cX5_branchesOf 32 = .ok (.ifCond .eq 15, 3) := dk_153 0 15 (dk_at dksX5_branchesOf_1 8 rfl rfl)
theorem dX5_branchesOf_35 : decode cX5_branchesOf 35 = .ok (.aload_n 0, 1) := dk_42 (dk_at dksX5_branchesOf_1 11 rfl rfl)
theorem dX5_branchesOf_36 : decode cX5_branchesOf 36 = .ok (.getfield 44, 3) := dk_180 0 44 (dk_at dksX5_branchesOf_1 12 rfl rfl)
theorem dX5_branchesOf_39 : decode cX5_branchesOf 39 = .ok (.iload_n 2, 1) := dk_28 (dk_at dksX5_branchesOf_1 15 rfl rfl)
theorem dX5_branchesOf_40 : decode cX5_branchesOf 40 = .ok (.iload_n 3, 1) := dk_29 (dk_at dksX5_branchesOf_1 16 rfl rfl)
theorem dX5_branchesOf_41 : decode cX5_branchesOf 41 = .ok (.iconst 1, 1) := dk_4 (dk_at dksX5_branchesOf_1 17 rfl rfl)
theorem dX5_branchesOf_42 : decode cX5_branchesOf 42 = .ok (.iadd, 1) := dk_96 (dk_at dksX5_branchesOf_1 18 rfl rfl)
theorem dX5_branchesOf_43 : decode cX5_branchesOf 43 = .ok (.iastore, 1) := dk_79 (dk_at dksX5_branchesOf_1 19 rfl rfl)
theorem dX5_branchesOf_44 : decode cX5_branchesOf 44 = .ok (.iinc 2 1, 3) := dk_132 2 1 (dk_at dksX5_branchesOf_1 20 rfl rfl)
theorem dX5_branchesOf_47 : decode cX5_branchesOf 47 = .ok (.iinc 4 1, 3) := dk_132 4 1 (dk_at dksX5_branchesOf_2 0 rfl rfl)
theorem dX5_branchesOf_50 : decode cX5_branchesOf 50 = .ok (.goto (-35), 3) := dk_167 255 221 (dk_at dksX5_branchesOf_2 3 rfl rfl)
theorem dX5_branchesOf_53 : decode cX5_branchesOf 53 = .ok (.iinc 3 1, 3) := dk_132 3 1 (dk_at dksX5_branchesOf_2 6 rfl rfl)
theorem dX5_branchesOf_56 : decode cX5_branchesOf 56 = .ok (.goto (-52), 3) := dk_167 255 204 (dk_at dksX5_branchesOf_2 9 rfl rfl)
theorem dX5_branchesOf_59 : decode cX5_branchesOf 59 = .ok (.iload_n 2, 1) := dk_28 (dk_at dksX5_branchesOf_2 12 rfl rfl)
theorem dX5_branchesOf_60 : decode cX5_branchesOf 60 = .ok (.ireturn, 1) := dk_172 (dk_at dksX5_branchesOf_2 13 rfl rfl)
abbrev cX5_isBranch : ByteArray := prog_22_method_58_code
def yX5_isBranch : MethodName := ⟨RX5, "isBranch", "(III)Z"⟩
def dkwX5_isBranch_1 : List UInt8 := [28, 182, 1, 80, 154, 0, 7, 4, 167, 0, 4, 3, 172]
abbrev dktX5_isBranch_1 : List UInt8 := dkwX5_isBranch_1 ++ []
def dkwX5_isBranch_0 : List UInt8 := [42, 180, 0, 11, 42, 180, 0, 41, 27, 46, 46, 28, 184, 0, 152, 153, 0, 20, 28, 29, 159, 0, 15, 42]
abbrev dktX5_isBranch_0 : List UInt8 := dkwX5_isBranch_0 ++ dktX5_isBranch_1
theorem dksX5_isBranch_0 : cX5_isBranch.data.toList.drop 0 = dktX5_isBranch_0 := by decide +kernel
theorem dksX5_isBranch_1 : cX5_isBranch.data.toList.drop 24 = dktX5_isBranch_1 := dk_seg dksX5_isBranch_0 24 rfl rfl
theorem dX5_isBranch_0 : decode cX5_isBranch 0 = .ok (.aload_n 0, 1) := dk_42 (dk_at dksX5_isBranch_0 0 rfl rfl)
theorem dX5_isBranch_1 : decode cX5_isBranch 1 = .ok (.getfield 11, 3) := dk_180 0 11 (dk_at dksX5_isBranch_0 1 rfl rfl)
theorem dX5_isBranch_4 : decode cX5_isBranch 4 = .ok (.aload_n 0, 1) := dk_42 (dk_at dksX5_isBranch_0 4 rfl rfl)
theorem dX5_isBranch_5 : decode cX5_isBranch 5 = .ok (.getfield 41, 3) := dk_180 0 41 (dk_at dksX5_isBranch_0 5 rfl rfl)
theorem dX5_isBranch_8 : decode cX5_isBranch 8 = .ok (.iload_n 1, 1) := dk_27 (dk_at dksX5_isBranch_0 8 rfl rfl)
theorem dX5_isBranch_9 : decode cX5_isBranch 9 = .ok (.iaload, 1) := dk_46 (dk_at dksX5_isBranch_0 9 rfl rfl)
theorem dX5_isBranch_10 : decode cX5_isBranch 10 = .ok (.iaload, 1) := dk_46 (dk_at dksX5_isBranch_0 10 rfl rfl)
theorem dX5_isBranch_11 : decode cX5_isBranch 11 = .ok (.iload_n 2, 1) := dk_28 (dk_at dksX5_isBranch_0 11 rfl rfl)
theorem dX5_isBranch_12 : decode cX5_isBranch 12 = .ok (.invokestatic 152, 3) := dk_184 0 152 (dk_at dksX5_isBranch_0 12 rfl rfl)
theorem dX5_isBranch_15 : decode cX5_isBranch 15 = .ok (.ifCond .eq 20, 3) := dk_153 0 20 (dk_at dksX5_isBranch_0 15 rfl rfl)
theorem dX5_isBranch_18 : decode cX5_isBranch 18 = .ok (.iload_n 2, 1) := dk_28 (dk_at dksX5_isBranch_0 18 rfl rfl)
theorem dX5_isBranch_19 : decode cX5_isBranch 19 = .ok (.iload_n 3, 1) := dk_29 (dk_at dksX5_isBranch_0 19 rfl rfl)
theorem dX5_isBranch_20 : decode cX5_isBranch 20 = .ok (.if_icmp .eq 15, 3) := dk_159 0 15 (dk_at dksX5_isBranch_0 20 rfl rfl)
theorem dX5_isBranch_23 : decode cX5_isBranch 23 = .ok (.aload_n 0, 1) := dk_42 (dk_at dksX5_isBranch_0 23 rfl rfl)
theorem dX5_isBranch_24 : decode cX5_isBranch 24 = .ok (.iload_n 2, 1) := dk_28 (dk_at dksX5_isBranch_1 0 rfl rfl)
theorem dX5_isBranch_25 : decode cX5_isBranch 25 = .ok (.invokevirtual 336, 3) := dk_182 1 80 (dk_at dksX5_isBranch_1 1 rfl rfl)
theorem dX5_isBranch_28 : decode cX5_isBranch 28 = .ok (.ifCond .ne 7, 3) := dk_154 0 7 (dk_at dksX5_isBranch_1 4 rfl rfl)
theorem dX5_isBranch_31 : decode cX5_isBranch 31 = .ok (.iconst 1, 1) := dk_4 (dk_at dksX5_isBranch_1 7 rfl rfl)
theorem dX5_isBranch_32 : decode cX5_isBranch 32 = .ok (.goto 4, 3) := dk_167 0 4 (dk_at dksX5_isBranch_1 8 rfl rfl)
theorem dX5_isBranch_35 : decode cX5_isBranch 35 = .ok (.iconst 0, 1) := dk_3 (dk_at dksX5_isBranch_1 11 rfl rfl)
theorem dX5_isBranch_36 : decode cX5_isBranch 36 = .ok (.ireturn, 1) := dk_172 (dk_at dksX5_isBranch_1 12 rfl rfl)
abbrev cX5_isInChain : ByteArray := prog_22_method_57_code
def yX5_isInChain : MethodName := ⟨RX5, "isInChain", "(I)Z"⟩
def dkwX5_isInChain_1 : List UInt8 := [132, 2, 1, 167, 255, 233, 3, 172]
abbrev dktX5_isInChain_1 : List UInt8 := dkwX5_isInChain_1 ++ []
def dkwX5_isInChain_0 : List UInt8 := [3, 61, 28, 42, 180, 1, 73, 162, 0, 21, 42, 180, 0, 41, 28, 46, 27, 160, 0, 5, 4, 172]
abbrev dktX5_isInChain_0 : List UInt8 := dkwX5_isInChain_0 ++ dktX5_isInChain_1
theorem dksX5_isInChain_0 : cX5_isInChain.data.toList.drop 0 = dktX5_isInChain_0 := by decide +kernel
theorem dksX5_isInChain_1 : cX5_isInChain.data.toList.drop 22 = dktX5_isInChain_1 := dk_seg dksX5_isInChain_0 22 rfl rfl
theorem dX5_isInChain_0 : decode cX5_isInChain 0 = .ok (.iconst 0, 1) := dk_3 (dk_at dksX5_isInChain_0 0 rfl rfl)
theorem dX5_isInChain_1 : decode cX5_isInChain 1 = .ok (.istore_n 2, 1) := dk_61 (dk_at dksX5_isInChain_0 1 rfl rfl)
theorem dX5_isInChain_2 : decode cX5_isInChain 2 = .ok (.iload_n 2, 1) := dk_28 (dk_at dksX5_isInChain_0 2 rfl rfl)
theorem dX5_isInChain_3 : decode cX5_isInChain 3 = .ok (.aload_n 0, 1) := dk_42 (dk_at dksX5_isInChain_0 3 rfl rfl)
theorem dX5_isInChain_4 : decode cX5_isInChain 4 = .ok (.getfield 329, 3) := dk_180 1 73 (dk_at dksX5_isInChain_0 4 rfl rfl)
theorem dX5_isInChain_7 : decode cX5_isInChain 7 = .ok (.if_icmp .ge 21, 3) := dk_162 0 21 (dk_at dksX5_isInChain_0 7 rfl rfl)
theorem dX5_isInChain_10 : decode cX5_isInChain 10 = .ok (.aload_n 0, 1) := dk_42 (dk_at dksX5_isInChain_0 10 rfl rfl)
theorem dX5_isInChain_11 : decode cX5_isInChain 11 = .ok (.getfield 41, 3) := dk_180 0 41 (dk_at dksX5_isInChain_0 11 rfl rfl)
theorem dX5_isInChain_14 : decode cX5_isInChain 14 = .ok (.iload_n 2, 1) := dk_28 (dk_at dksX5_isInChain_0 14 rfl rfl)
theorem dX5_isInChain_15 : decode cX5_isInChain 15 = .ok (.iaload, 1) := dk_46 (dk_at dksX5_isInChain_0 15 rfl rfl)
theorem dX5_isInChain_16 : decode cX5_isInChain 16 = .ok (.iload_n 1, 1) := dk_27 (dk_at dksX5_isInChain_0 16 rfl rfl)
theorem dX5_isInChain_17 : decode cX5_isInChain 17 = .ok (.if_icmp .ne 5, 3) := dk_160 0 5 (dk_at dksX5_isInChain_0 17 rfl rfl)
theorem dX5_isInChain_20 : decode cX5_isInChain 20 = .ok (.iconst 1, 1) := dk_4 (dk_at dksX5_isInChain_0 20 rfl rfl)
theorem dX5_isInChain_21 : decode cX5_isInChain 21 = .ok (.ireturn, 1) := dk_172 (dk_at dksX5_isInChain_0 21 rfl rfl)
theorem dX5_isInChain_22 : decode cX5_isInChain 22 = .ok (.iinc 2 1, 3) := dk_132 2 1 (dk_at dksX5_isInChain_1 0 rfl rfl)
theorem dX5_isInChain_25 : decode cX5_isInChain 25 = .ok (.goto (-23), 3) := dk_167 255 233 (dk_at dksX5_isInChain_1 3 rfl rfl)
theorem dX5_isInChain_28 : decode cX5_isInChain 28 = .ok (.iconst 0, 1) := dk_3 (dk_at dksX5_isInChain_1 6 rfl rfl)
theorem dX5_isInChain_29 : decode cX5_isInChain 29 = .ok (.ireturn, 1) := dk_172 (dk_at dksX5_isInChain_1 7 rfl rfl)
abbrev cX5_isBest : ByteArray := prog_22_method_75_code
def yX5_isBest : MethodName := ⟨RX5, "isBest", "(I)V"⟩
def dkwX5_isBest_2 : List UInt8 := [16, 13, 42, 180, 1, 14, 104, 28, 96, 42, 180, 0, 44, 28, 46, 79, 132, 2, 1, 167, 255, 220, 177]
abbrev dktX5_isBest_2 : List UInt8 := dkwX5_isBest_2 ++ []
def dkwX5_isBest_1 : List UInt8 := [180, 1, 73, 79, 3, 61, 28, 42, 180, 0, 76, 42, 180, 1, 14, 46, 162, 0, 29, 42, 180, 0, 79]
abbrev dktX5_isBest_1 : List UInt8 := dkwX5_isBest_1 ++ dktX5_isBest_2
def dkwX5_isBest_0 : List UInt8 := [42, 180, 0, 76, 42, 180, 1, 14, 42, 27, 182, 1, 30, 79, 42, 180, 0, 73, 42, 180, 1, 14, 42]
abbrev dktX5_isBest_0 : List UInt8 := dkwX5_isBest_0 ++ dktX5_isBest_1
theorem dksX5_isBest_0 : cX5_isBest.data.toList.drop 0 = dktX5_isBest_0 := by decide +kernel
theorem dksX5_isBest_1 : cX5_isBest.data.toList.drop 23 = dktX5_isBest_1 := dk_seg dksX5_isBest_0 23 rfl rfl
theorem dksX5_isBest_2 : cX5_isBest.data.toList.drop 46 = dktX5_isBest_2 := dk_seg dksX5_isBest_1 23 rfl rfl
theorem dX5_isBest_0 : decode cX5_isBest 0 = .ok (.aload_n 0, 1) := dk_42 (dk_at dksX5_isBest_0 0 rfl rfl)
theorem dX5_isBest_1 : decode cX5_isBest 1 = .ok (.getfield 76, 3) := dk_180 0 76 (dk_at dksX5_isBest_0 1 rfl rfl)
theorem dX5_isBest_4 : decode cX5_isBest 4 = .ok (.aload_n 0, 1) := dk_42 (dk_at dksX5_isBest_0 4 rfl rfl)
theorem dX5_isBest_5 : decode cX5_isBest 5 = .ok (.getfield 270, 3) := dk_180 1 14 (dk_at dksX5_isBest_0 5 rfl rfl)
theorem dX5_isBest_8 : decode cX5_isBest 8 = .ok (.aload_n 0, 1) := dk_42 (dk_at dksX5_isBest_0 8 rfl rfl)
theorem dX5_isBest_9 : decode cX5_isBest 9 = .ok (.iload_n 1, 1) := dk_27 (dk_at dksX5_isBest_0 9 rfl rfl)
theorem dX5_isBest_10 : decode cX5_isBest 10 = .ok (.invokevirtual 286, 3) := dk_182 1 30 (dk_at dksX5_isBest_0 10 rfl rfl)
theorem dX5_isBest_13 : decode cX5_isBest 13 = .ok (.iastore, 1) := dk_79 (dk_at dksX5_isBest_0 13 rfl rfl)
theorem dX5_isBest_14 : decode cX5_isBest 14 = .ok (.aload_n 0, 1) := dk_42 (dk_at dksX5_isBest_0 14 rfl rfl)
theorem dX5_isBest_15 : decode cX5_isBest 15 = .ok (.getfield 73, 3) := dk_180 0 73 (dk_at dksX5_isBest_0 15 rfl rfl)
theorem dX5_isBest_18 : decode cX5_isBest 18 = .ok (.aload_n 0, 1) := dk_42 (dk_at dksX5_isBest_0 18 rfl rfl)
theorem dX5_isBest_19 : decode cX5_isBest 19 = .ok (.getfield 270, 3) := dk_180 1 14 (dk_at dksX5_isBest_0 19 rfl rfl)
theorem dX5_isBest_22 : decode cX5_isBest 22 = .ok (.aload_n 0, 1) := dk_42 (dk_at dksX5_isBest_0 22 rfl rfl)
theorem dX5_isBest_23 : decode cX5_isBest 23 = .ok (.getfield 329, 3) := dk_180 1 73 (dk_at dksX5_isBest_1 0 rfl rfl)
theorem dX5_isBest_26 : decode cX5_isBest 26 = .ok (.iastore, 1) := dk_79 (dk_at dksX5_isBest_1 3 rfl rfl)
theorem dX5_isBest_27 : decode cX5_isBest 27 = .ok (.iconst 0, 1) := dk_3 (dk_at dksX5_isBest_1 4 rfl rfl)
theorem dX5_isBest_28 : decode cX5_isBest 28 = .ok (.istore_n 2, 1) := dk_61 (dk_at dksX5_isBest_1 5 rfl rfl)
theorem dX5_isBest_29 : decode cX5_isBest 29 = .ok (.iload_n 2, 1) := dk_28 (dk_at dksX5_isBest_1 6 rfl rfl)
theorem dX5_isBest_30 : decode cX5_isBest 30 = .ok (.aload_n 0, 1) := dk_42 (dk_at dksX5_isBest_1 7 rfl rfl)
theorem dX5_isBest_31 : decode cX5_isBest 31 = .ok (.getfield 76, 3) := dk_180 0 76 (dk_at dksX5_isBest_1 8 rfl rfl)
theorem dX5_isBest_34 : decode cX5_isBest 34 = .ok (.aload_n 0, 1) := dk_42 (dk_at dksX5_isBest_1 11 rfl rfl)
theorem dX5_isBest_35 : decode cX5_isBest 35 = .ok (.getfield 270, 3) := dk_180 1 14 (dk_at dksX5_isBest_1 12 rfl rfl)
theorem dX5_isBest_38 : decode cX5_isBest 38 = .ok (.iaload, 1) := dk_46 (dk_at dksX5_isBest_1 15 rfl rfl)
theorem dX5_isBest_39 : decode cX5_isBest 39 = .ok (.if_icmp .ge 29, 3) := dk_162 0 29 (dk_at dksX5_isBest_1 16 rfl rfl)
theorem dX5_isBest_42 : decode cX5_isBest 42 = .ok (.aload_n 0, 1) := dk_42 (dk_at dksX5_isBest_1 19 rfl rfl)
theorem dX5_isBest_43 : decode cX5_isBest 43 = .ok (.getfield 79, 3) := dk_180 0 79 (dk_at dksX5_isBest_1 20 rfl rfl)
theorem dX5_isBest_46 : decode cX5_isBest 46 = .ok (.bipush 13, 2) := dk_16 13 (dk_at dksX5_isBest_2 0 rfl rfl)
theorem dX5_isBest_48 : decode cX5_isBest 48 = .ok (.aload_n 0, 1) := dk_42 (dk_at dksX5_isBest_2 2 rfl rfl)
theorem dX5_isBest_49 : decode cX5_isBest 49 = .ok (.getfield 270, 3) := dk_180 1 14 (dk_at dksX5_isBest_2 3 rfl rfl)
theorem dX5_isBest_52 : decode cX5_isBest 52 = .ok (.imul, 1) := dk_104 (dk_at dksX5_isBest_2 6 rfl rfl)
theorem dX5_isBest_53 : decode cX5_isBest 53 = .ok (.iload_n 2, 1) := dk_28 (dk_at dksX5_isBest_2 7 rfl rfl)
theorem dX5_isBest_54 : decode cX5_isBest 54 = .ok (.iadd, 1) := dk_96 (dk_at dksX5_isBest_2 8 rfl rfl)
theorem dX5_isBest_55 : decode cX5_isBest 55 = .ok (.aload_n 0, 1) := dk_42 (dk_at dksX5_isBest_2 9 rfl rfl)
theorem dX5_isBest_56 : decode cX5_isBest 56 = .ok (.getfield 44, 3) := dk_180 0 44 (dk_at dksX5_isBest_2 10 rfl rfl)
theorem dX5_isBest_59 : decode cX5_isBest 59 = .ok (.iload_n 2, 1) := dk_28 (dk_at dksX5_isBest_2 13 rfl rfl)
theorem dX5_isBest_60 : decode cX5_isBest 60 = .ok (.iaload, 1) := dk_46 (dk_at dksX5_isBest_2 14 rfl rfl)
theorem dX5_isBest_61 : decode cX5_isBest 61 = .ok (.iastore, 1) := dk_79 (dk_at dksX5_isBest_2 15 rfl rfl)
theorem dX5_isBest_62 : decode cX5_isBest 62 = .ok (.iinc 2 1, 3) := dk_132 2 1 (dk_at dksX5_isBest_2 16 rfl rfl)
theorem dX5_isBest_65 : decode cX5_isBest 65 = .ok (.goto (-36), 3) := dk_167 255 220 (dk_at dksX5_isBest_2 19 rfl rfl)
theorem dX5_isBest_68 : decode cX5_isBest 68 = .ok (.return_, 1) := dk_177 (dk_at dksX5_isBest_2 22 rfl rfl)
abbrev cX5_namesBy : ByteArray := prog_22_method_73_code
def yX5_namesBy : MethodName := ⟨RX5, "namesBy", "(IZ)I"⟩
def dkwX5_namesBy_8 : List UInt8 := [21, 9, 172]
abbrev dktX5_namesBy_8 : List UInt8 := dkwX5_namesBy_8 ++ []
def dkwX5_namesBy_7 : List UInt8 := [180, 0, 47, 21, 7, 21, 10, 96, 46, 79, 132, 10, 1, 167, 255, 227, 42, 29, 21, 9, 96, 181, 1, 11]
abbrev dktX5_namesBy_7 : List UInt8 := dkwX5_namesBy_7 ++ dktX5_namesBy_8
def dkwX5_namesBy_6 : List UInt8 := [100, 54, 9, 3, 54, 10, 21, 10, 21, 9, 162, 0, 28, 42, 180, 0, 47, 29, 21, 10, 96, 42]
abbrev dktX5_namesBy_6 : List UInt8 := dkwX5_namesBy_6 ++ dktX5_namesBy_7
def dkwX5_namesBy_5 : List UInt8 := [182, 1, 96, 167, 0, 15, 42, 16, 121, 182, 1, 96, 42, 16, 108, 182, 1, 96, 42, 180, 1, 11, 21, 7]
abbrev dktX5_namesBy_5 : List UInt8 := dkwX5_namesBy_5 ++ dktX5_namesBy_6
def dkwX5_namesBy_4 : List UInt8 := [182, 1, 124, 28, 153, 0, 24, 42, 16, 97, 182, 1, 96, 42, 16, 110, 182, 1, 96, 42, 16, 101]
abbrev dktX5_namesBy_4 : List UInt8 := dkwX5_namesBy_4 ++ dktX5_namesBy_5
def dkwX5_namesBy_3 : List UInt8 := [54, 8, 21, 8, 2, 159, 255, 225, 42, 16, 45, 182, 1, 96, 167, 255, 216, 42, 18, 50, 21, 4, 4, 100]
abbrev dktX5_namesBy_3 : List UInt8 := dkwX5_namesBy_3 ++ dktX5_namesBy_4
def dkwX5_namesBy_2 : List UInt8 := [159, 0, 40, 42, 21, 6, 21, 5, 21, 8, 182, 1, 137, 42, 21, 6, 21, 5, 21, 8, 182, 1, 134]
abbrev dktX5_namesBy_2 : List UInt8 := dkwX5_namesBy_2 ++ dktX5_namesBy_3
def dkwX5_namesBy_1 : List UInt8 := [104, 54, 6, 42, 180, 1, 11, 54, 7, 42, 21, 6, 21, 5, 2, 182, 1, 134, 54, 8, 21, 8, 2]
abbrev dktX5_namesBy_1 : List UInt8 := dkwX5_namesBy_1 ++ dktX5_namesBy_2
def dkwX5_namesBy_0 : List UInt8 := [42, 180, 1, 11, 62, 42, 180, 1, 73, 54, 4, 42, 27, 182, 1, 131, 54, 5, 16, 12, 42, 180, 1, 14]
abbrev dktX5_namesBy_0 : List UInt8 := dkwX5_namesBy_0 ++ dktX5_namesBy_1
theorem dksX5_namesBy_0 : cX5_namesBy.data.toList.drop 0 = dktX5_namesBy_0 := by decide +kernel
theorem dksX5_namesBy_1 : cX5_namesBy.data.toList.drop 24 = dktX5_namesBy_1 := dk_seg dksX5_namesBy_0 24 rfl rfl
theorem dksX5_namesBy_2 : cX5_namesBy.data.toList.drop 47 = dktX5_namesBy_2 := dk_seg dksX5_namesBy_1 23 rfl rfl
theorem dksX5_namesBy_3 : cX5_namesBy.data.toList.drop 70 = dktX5_namesBy_3 := dk_seg dksX5_namesBy_2 23 rfl rfl
theorem dksX5_namesBy_4 : cX5_namesBy.data.toList.drop 94 = dktX5_namesBy_4 := dk_seg dksX5_namesBy_3 24 rfl rfl
theorem dksX5_namesBy_5 : cX5_namesBy.data.toList.drop 116 = dktX5_namesBy_5 := dk_seg dksX5_namesBy_4 22 rfl rfl
theorem dksX5_namesBy_6 : cX5_namesBy.data.toList.drop 140 = dktX5_namesBy_6 := dk_seg dksX5_namesBy_5 24 rfl rfl
theorem dksX5_namesBy_7 : cX5_namesBy.data.toList.drop 162 = dktX5_namesBy_7 := dk_seg dksX5_namesBy_6 22 rfl rfl
theorem dksX5_namesBy_8 : cX5_namesBy.data.toList.drop 186 = dktX5_namesBy_8 := dk_seg dksX5_namesBy_7 24 rfl rfl
theorem dX5_namesBy_0 : decode cX5_namesBy 0 = .ok (.aload_n 0, 1) := dk_42 (dk_at dksX5_namesBy_0 0 rfl rfl)
theorem dX5_namesBy_1 : decode cX5_namesBy 1 = .ok (.getfield 267, 3) := dk_180 1 11 (dk_at dksX5_namesBy_0 1 rfl rfl)
theorem dX5_namesBy_4 : decode cX5_namesBy 4 = .ok (.istore_n 3, 1) := dk_62 (dk_at dksX5_namesBy_0 4 rfl rfl)
theorem dX5_namesBy_5 : decode cX5_namesBy 5 = .ok (.aload_n 0, 1) := dk_42 (dk_at dksX5_namesBy_0 5 rfl rfl)
theorem dX5_namesBy_6 : decode cX5_namesBy 6 = .ok (.getfield 329, 3) := dk_180 1 73 (dk_at dksX5_namesBy_0 6 rfl rfl)
theorem dX5_namesBy_9 : decode cX5_namesBy 9 = .ok (.istore 4, 2) := dk_54 4 (dk_at dksX5_namesBy_0 9 rfl rfl)
theorem dX5_namesBy_11 : decode cX5_namesBy 11 = .ok (.aload_n 0, 1) := dk_42 (dk_at dksX5_namesBy_0 11 rfl rfl)
theorem dX5_namesBy_12 : decode cX5_namesBy 12 = .ok (.iload_n 1, 1) := dk_27 (dk_at dksX5_namesBy_0 12 rfl rfl)
theorem dX5_namesBy_13 : decode cX5_namesBy 13 = .ok (.invokevirtual 387, 3) := dk_182 1 131 (dk_at dksX5_namesBy_0 13 rfl rfl)
theorem dX5_namesBy_16 : decode cX5_namesBy 16 = .ok (.istore 5, 2) := dk_54 5 (dk_at dksX5_namesBy_0 16 rfl rfl)
theorem dX5_namesBy_18 : decode cX5_namesBy 18 = .ok (.bipush 12, 2) := dk_16 12 (dk_at dksX5_namesBy_0 18 rfl rfl)
theorem dX5_namesBy_20 : decode cX5_namesBy 20 = .ok (.aload_n 0, 1) := dk_42 (dk_at dksX5_namesBy_0 20 rfl rfl)
theorem dX5_namesBy_21 : decode cX5_namesBy 21 = .ok (.getfield 270, 3) := dk_180 1 14 (dk_at dksX5_namesBy_0 21 rfl rfl)
theorem dX5_namesBy_24 : decode cX5_namesBy 24 = .ok (.imul, 1) := dk_104 (dk_at dksX5_namesBy_1 0 rfl rfl)
theorem dX5_namesBy_25 : decode cX5_namesBy 25 = .ok (.istore 6, 2) := dk_54 6 (dk_at dksX5_namesBy_1 1 rfl rfl)
theorem dX5_namesBy_27 : decode cX5_namesBy 27 = .ok (.aload_n 0, 1) := dk_42 (dk_at dksX5_namesBy_1 3 rfl rfl)
theorem dX5_namesBy_28 : decode cX5_namesBy 28 = .ok (.getfield 267, 3) := dk_180 1 11 (dk_at dksX5_namesBy_1 4 rfl rfl)
theorem dX5_namesBy_31 : decode cX5_namesBy 31 = .ok (.istore 7, 2) := dk_54 7 (dk_at dksX5_namesBy_1 7 rfl rfl)
theorem dX5_namesBy_33 : decode cX5_namesBy 33 = .ok (.aload_n 0, 1) := dk_42 (dk_at dksX5_namesBy_1 9 rfl rfl)
theorem dX5_namesBy_34 : decode cX5_namesBy 34 = .ok (.iload 6, 2) := dk_21 6 (dk_at dksX5_namesBy_1 10 rfl rfl)
theorem dX5_namesBy_36 : decode cX5_namesBy 36 = .ok (.iload 5, 2) := dk_21 5 (dk_at dksX5_namesBy_1 12 rfl rfl)
theorem dX5_namesBy_38 : decode cX5_namesBy 38 = .ok (.iconst (-1), 1) := dk_2 (dk_at dksX5_namesBy_1 14 rfl rfl)
theorem dX5_namesBy_39 : decode cX5_namesBy 39 = .ok (.invokevirtual 390, 3) := dk_182 1 134 (dk_at dksX5_namesBy_1 15 rfl rfl)
theorem dX5_namesBy_42 : decode cX5_namesBy 42 = .ok (.istore 8, 2) := dk_54 8 (dk_at dksX5_namesBy_1 18 rfl rfl)
theorem dX5_namesBy_44 : decode cX5_namesBy 44 = .ok (.iload 8, 2) := dk_21 8 (dk_at dksX5_namesBy_1 20 rfl rfl)
theorem dX5_namesBy_46 : decode cX5_namesBy 46 = .ok (.iconst (-1), 1) := dk_2 (dk_at dksX5_namesBy_1 22 rfl rfl)
theorem dX5_namesBy_47 : decode cX5_namesBy 47 = .ok (.if_icmp .eq 40, 3) := dk_159 0 40 (dk_at dksX5_namesBy_2 0 rfl rfl)
theorem dX5_namesBy_50 : decode cX5_namesBy 50 = .ok (.aload_n 0, 1) := dk_42 (dk_at dksX5_namesBy_2 3 rfl rfl)
theorem dX5_namesBy_51 : decode cX5_namesBy 51 = .ok (.iload 6, 2) := dk_21 6 (dk_at dksX5_namesBy_2 4 rfl rfl)
theorem dX5_namesBy_53 : decode cX5_namesBy 53 = .ok (.iload 5, 2) := dk_21 5 (dk_at dksX5_namesBy_2 6 rfl rfl)
theorem dX5_namesBy_55 : decode cX5_namesBy 55 = .ok (.iload 8, 2) := dk_21 8 (dk_at dksX5_namesBy_2 8 rfl rfl)
theorem dX5_namesBy_57 : decode cX5_namesBy 57 = .ok (.invokevirtual 393, 3) := dk_182 1 137 (dk_at dksX5_namesBy_2 10 rfl rfl)
theorem dX5_namesBy_60 : decode cX5_namesBy 60 = .ok (.aload_n 0, 1) := dk_42 (dk_at dksX5_namesBy_2 13 rfl rfl)
theorem dX5_namesBy_61 : decode cX5_namesBy 61 = .ok (.iload 6, 2) := dk_21 6 (dk_at dksX5_namesBy_2 14 rfl rfl)
theorem dX5_namesBy_63 : decode cX5_namesBy 63 = .ok (.iload 5, 2) := dk_21 5 (dk_at dksX5_namesBy_2 16 rfl rfl)
theorem dX5_namesBy_65 : decode cX5_namesBy 65 = .ok (.iload 8, 2) := dk_21 8 (dk_at dksX5_namesBy_2 18 rfl rfl)
theorem dX5_namesBy_67 : decode cX5_namesBy 67 = .ok (.invokevirtual 390, 3) := dk_182 1 134 (dk_at dksX5_namesBy_2 20 rfl rfl)
theorem dX5_namesBy_70 : decode cX5_namesBy 70 = .ok (.istore 8, 2) := dk_54 8 (dk_at dksX5_namesBy_3 0 rfl rfl)
theorem dX5_namesBy_72 : decode cX5_namesBy 72 = .ok (.iload 8, 2) := dk_21 8 (dk_at dksX5_namesBy_3 2 rfl rfl)
theorem dX5_namesBy_74 : decode cX5_namesBy 74 = .ok (.iconst (-1), 1) := dk_2 (dk_at dksX5_namesBy_3 4 rfl rfl)
theorem dX5_namesBy_75 : decode cX5_namesBy 75 = .ok (.if_icmp .eq (-31), 3) := dk_159 255 225 (dk_at dksX5_namesBy_3 5 rfl rfl)
theorem dX5_namesBy_78 : decode cX5_namesBy 78 = .ok (.aload_n 0, 1) := dk_42 (dk_at dksX5_namesBy_3 8 rfl rfl)
theorem dX5_namesBy_79 : decode cX5_namesBy 79 = .ok (.bipush 45, 2) := dk_16 45 (dk_at dksX5_namesBy_3 9 rfl rfl)
theorem dX5_namesBy_81 : decode cX5_namesBy 81 = .ok (.invokevirtual 352, 3) := dk_182 1 96 (dk_at dksX5_namesBy_3 11 rfl rfl)
theorem dX5_namesBy_84 : decode cX5_namesBy 84 = .ok (.goto (-40), 3) := dk_167 255 216 (dk_at dksX5_namesBy_3 14 rfl rfl)
theorem dX5_namesBy_87 : decode cX5_namesBy 87 = .ok (.aload_n 0, 1) := dk_42 (dk_at dksX5_namesBy_3 17 rfl rfl)
theorem dX5_namesBy_88 : decode cX5_namesBy 88 = .ok (.ldc 50, 2) := dk_18 50 (dk_at dksX5_namesBy_3 18 rfl rfl)
theorem dX5_namesBy_90 : decode cX5_namesBy 90 = .ok (.iload 4, 2) := dk_21 4 (dk_at dksX5_namesBy_3 20 rfl rfl)
theorem dX5_namesBy_92 : decode cX5_namesBy 92 = .ok (.iconst 1, 1) := dk_4 (dk_at dksX5_namesBy_3 22 rfl rfl)
theorem dX5_namesBy_93 : decode cX5_namesBy 93 = .ok (.isub, 1) := dk_100 (dk_at dksX5_namesBy_3 23 rfl rfl)
theorem dX5_namesBy_94 : decode cX5_namesBy 94 = .ok (.invokevirtual 380, 3) := dk_182 1 124 (dk_at dksX5_namesBy_4 0 rfl rfl)
theorem dX5_namesBy_97 : decode cX5_namesBy 97 = .ok (.iload_n 2, 1) := dk_28 (dk_at dksX5_namesBy_4 3 rfl rfl)
theorem dX5_namesBy_98 : decode cX5_namesBy 98 = .ok (.ifCond .eq 24, 3) := dk_153 0 24 (dk_at dksX5_namesBy_4 4 rfl rfl)
theorem dX5_namesBy_101 : decode cX5_namesBy 101 = .ok (.aload_n 0, 1) := dk_42 (dk_at dksX5_namesBy_4 7 rfl rfl)
theorem dX5_namesBy_102 : decode cX5_namesBy 102 = .ok (.bipush 97, 2) := dk_16 97 (dk_at dksX5_namesBy_4 8 rfl rfl)
theorem dX5_namesBy_104 : decode cX5_namesBy 104 = .ok (.invokevirtual 352, 3) := dk_182 1 96 (dk_at dksX5_namesBy_4 10 rfl rfl)
theorem dX5_namesBy_107 : decode cX5_namesBy 107 = .ok (.aload_n 0, 1) := dk_42 (dk_at dksX5_namesBy_4 13 rfl rfl)
theorem dX5_namesBy_108 : decode cX5_namesBy 108 = .ok (.bipush 110, 2) := dk_16 110 (dk_at dksX5_namesBy_4 14 rfl rfl)
theorem dX5_namesBy_110 : decode cX5_namesBy 110 = .ok (.invokevirtual 352, 3) := dk_182 1 96 (dk_at dksX5_namesBy_4 16 rfl rfl)
theorem dX5_namesBy_113 : decode cX5_namesBy 113 = .ok (.aload_n 0, 1) := dk_42 (dk_at dksX5_namesBy_4 19 rfl rfl)
theorem dX5_namesBy_114 : decode cX5_namesBy 114 = .ok (.bipush 101, 2) := dk_16 101 (dk_at dksX5_namesBy_4 20 rfl rfl)
theorem dX5_namesBy_116 : decode cX5_namesBy 116 = .ok (.invokevirtual 352, 3) := dk_182 1 96 (dk_at dksX5_namesBy_5 0 rfl rfl)
theorem dX5_namesBy_119 : decode cX5_namesBy 119 = .ok (.goto 15, 3) := dk_167 0 15 (dk_at dksX5_namesBy_5 3 rfl rfl)
theorem dX5_namesBy_122 : decode cX5_namesBy 122 = .ok (.aload_n 0, 1) := dk_42 (dk_at dksX5_namesBy_5 6 rfl rfl)
theorem dX5_namesBy_123 : decode cX5_namesBy 123 = .ok (.bipush 121, 2) := dk_16 121 (dk_at dksX5_namesBy_5 7 rfl rfl)
theorem dX5_namesBy_125 : decode cX5_namesBy 125 = .ok (.invokevirtual 352, 3) := dk_182 1 96 (dk_at dksX5_namesBy_5 9 rfl rfl)
theorem dX5_namesBy_128 : decode cX5_namesBy 128 = .ok (.aload_n 0, 1) := dk_42 (dk_at dksX5_namesBy_5 12 rfl rfl)
theorem dX5_namesBy_129 : decode cX5_namesBy 129 = .ok (.bipush 108, 2) := dk_16 108 (dk_at dksX5_namesBy_5 13 rfl rfl)
theorem dX5_namesBy_131 : decode cX5_namesBy 131 = .ok (.invokevirtual 352, 3) := dk_182 1 96 (dk_at dksX5_namesBy_5 15 rfl rfl)
theorem dX5_namesBy_134 : decode cX5_namesBy 134 = .ok (.aload_n 0, 1) := dk_42 (dk_at dksX5_namesBy_5 18 rfl rfl)
theorem dX5_namesBy_135 : decode cX5_namesBy 135 = .ok (.getfield 267, 3) := dk_180 1 11 (dk_at dksX5_namesBy_5 19 rfl rfl)
theorem dX5_namesBy_138 : decode cX5_namesBy 138 = .ok (.iload 7, 2) := dk_21 7 (dk_at dksX5_namesBy_5 22 rfl rfl)
theorem dX5_namesBy_140 : decode cX5_namesBy 140 = .ok (.isub, 1) := dk_100 (dk_at dksX5_namesBy_6 0 rfl rfl)
theorem dX5_namesBy_141 : decode cX5_namesBy 141 = .ok (.istore 9, 2) := dk_54 9 (dk_at dksX5_namesBy_6 1 rfl rfl)
theorem dX5_namesBy_143 : decode cX5_namesBy 143 = .ok (.iconst 0, 1) := dk_3 (dk_at dksX5_namesBy_6 3 rfl rfl)
theorem dX5_namesBy_144 : decode cX5_namesBy 144 = .ok (.istore 10, 2) := dk_54 10 (dk_at dksX5_namesBy_6 4 rfl rfl)
theorem dX5_namesBy_146 : decode cX5_namesBy 146 = .ok (.iload 10, 2) := dk_21 10 (dk_at dksX5_namesBy_6 6 rfl rfl)
theorem dX5_namesBy_148 : decode cX5_namesBy 148 = .ok (.iload 9, 2) := dk_21 9 (dk_at dksX5_namesBy_6 8 rfl rfl)
theorem dX5_namesBy_150 : decode cX5_namesBy 150 = .ok (.if_icmp .ge 28, 3) := dk_162 0 28 (dk_at dksX5_namesBy_6 10 rfl rfl)
theorem dX5_namesBy_153 : decode cX5_namesBy 153 = .ok (.aload_n 0, 1) := dk_42 (dk_at dksX5_namesBy_6 13 rfl rfl)
theorem dX5_namesBy_154 : decode cX5_namesBy 154 = .ok (.getfield 47, 3) := dk_180 0 47 (dk_at dksX5_namesBy_6 14 rfl rfl)
theorem dX5_namesBy_157 : decode cX5_namesBy 157 = .ok (.iload_n 3, 1) := dk_29 (dk_at dksX5_namesBy_6 17 rfl rfl)
theorem dX5_namesBy_158 : decode cX5_namesBy 158 = .ok (.iload 10, 2) := dk_21 10 (dk_at dksX5_namesBy_6 18 rfl rfl)
theorem dX5_namesBy_160 : decode cX5_namesBy 160 = .ok (.iadd, 1) := dk_96 (dk_at dksX5_namesBy_6 20 rfl rfl)
theorem dX5_namesBy_161 : decode cX5_namesBy 161 = .ok (.aload_n 0, 1) := dk_42 (dk_at dksX5_namesBy_6 21 rfl rfl)
theorem dX5_namesBy_162 : decode cX5_namesBy 162 = .ok (.getfield 47, 3) := dk_180 0 47 (dk_at dksX5_namesBy_7 0 rfl rfl)
theorem dX5_namesBy_165 : decode cX5_namesBy 165 = .ok (.iload 7, 2) := dk_21 7 (dk_at dksX5_namesBy_7 3 rfl rfl)
theorem dX5_namesBy_167 : decode cX5_namesBy 167 = .ok (.iload 10, 2) := dk_21 10 (dk_at dksX5_namesBy_7 5 rfl rfl)
theorem dX5_namesBy_169 : decode cX5_namesBy 169 = .ok (.iadd, 1) := dk_96 (dk_at dksX5_namesBy_7 7 rfl rfl)
theorem dX5_namesBy_170 : decode cX5_namesBy 170 = .ok (.iaload, 1) := dk_46 (dk_at dksX5_namesBy_7 8 rfl rfl)
theorem dX5_namesBy_171 : decode cX5_namesBy 171 = .ok (.iastore, 1) := dk_79 (dk_at dksX5_namesBy_7 9 rfl rfl)
theorem dX5_namesBy_172 : decode cX5_namesBy 172 = .ok (.iinc 10 1, 3) := dk_132 10 1 (dk_at dksX5_namesBy_7 10 rfl rfl)
theorem dX5_namesBy_175 : decode cX5_namesBy 175 = .ok (.goto (-29), 3) := dk_167 255 227 (dk_at dksX5_namesBy_7 13 rfl rfl)
theorem dX5_namesBy_178 : decode cX5_namesBy 178 = .ok (.aload_n 0, 1) := dk_42 (dk_at dksX5_namesBy_7 16 rfl rfl)
theorem dX5_namesBy_179 : decode cX5_namesBy 179 = .ok (.iload_n 3, 1) := dk_29 (dk_at dksX5_namesBy_7 17 rfl rfl)
theorem dX5_namesBy_180 : decode cX5_namesBy 180 = .ok (.iload 9, 2) := dk_21 9 (dk_at dksX5_namesBy_7 18 rfl rfl)
theorem dX5_namesBy_182 : decode cX5_namesBy 182 = .ok (.iadd, 1) := dk_96 (dk_at dksX5_namesBy_7 20 rfl rfl)
theorem dX5_namesBy_183 : decode cX5_namesBy 183 = .ok (.putfield 267, 3) := dk_181 1 11 (dk_at dksX5_namesBy_7 21 rfl rfl)
theorem dX5_namesBy_186 : decode cX5_namesBy 186 = .ok (.iload 9, 2) := dk_21 9 (dk_at dksX5_namesBy_8 0 rfl rfl)
theorem dX5_namesBy_188 : decode cX5_namesBy 188 = .ok (.ireturn, 1) := dk_172 (dk_at dksX5_namesBy_8 2 rfl rfl)
abbrev cX5_namesBranches : ByteArray := prog_22_method_70_code
def yX5_namesBranches : MethodName := ⟨RX5, "namesBranches", "(I)I"⟩
def dkwX5_namesBranches_8 : List UInt8 := [181, 1, 73, 29, 172]
abbrev dktX5_namesBranches_8 : List UInt8 := dkwX5_namesBranches_8 ++ []
def dkwX5_namesBranches_7 : List UInt8 := [29, 96, 21, 8, 79, 132, 3, 1, 132, 7, 1, 167, 255, 135, 132, 6, 1, 167, 255, 119, 42, 21, 4]
abbrev dktX5_namesBranches_7 : List UInt8 := dkwX5_namesBranches_7 ++ dktX5_namesBranches_8
def dkwX5_namesBranches_6 : List UInt8 := [21, 6, 96, 46, 182, 1, 17, 54, 8, 42, 89, 180, 1, 14, 4, 100, 181, 1, 14, 42, 180, 0, 67, 28]
abbrev dktX5_namesBranches_6 : List UInt8 := dkwX5_namesBranches_6 ++ dktX5_namesBranches_7
def dkwX5_namesBranches_5 : List UInt8 := [180, 1, 11, 79, 42, 89, 180, 1, 14, 4, 96, 181, 1, 14, 42, 21, 7, 42, 180, 0, 70, 21, 5]
abbrev dktX5_namesBranches_5 : List UInt8 := dkwX5_namesBranches_5 ++ dktX5_namesBranches_6
def dkwX5_namesBranches_4 : List UInt8 := [153, 0, 78, 42, 180, 0, 61, 28, 29, 96, 21, 6, 4, 96, 79, 42, 180, 0, 64, 28, 29, 96, 42]
abbrev dktX5_namesBranches_4 : List UInt8 := dkwX5_namesBranches_4 ++ dktX5_namesBranches_5
def dkwX5_namesBranches_3 : List UInt8 := [180, 0, 41, 3, 16, 13, 184, 1, 112, 42, 21, 4, 181, 1, 73, 42, 21, 6, 21, 7, 27, 182, 1, 83]
abbrev dktX5_namesBranches_3 : List UInt8 := dkwX5_namesBranches_3 ++ dktX5_namesBranches_4
def dkwX5_namesBranches_2 : List UInt8 := [21, 4, 162, 0, 136, 3, 54, 7, 21, 7, 42, 180, 0, 145, 162, 0, 118, 42, 180, 0, 70, 21, 5, 42]
abbrev dktX5_namesBranches_2 : List UInt8 := dkwX5_namesBranches_2 ++ dktX5_namesBranches_3
def dkwX5_namesBranches_1 : List UInt8 := [54, 5, 42, 180, 0, 41, 3, 42, 180, 0, 70, 21, 5, 16, 13, 184, 1, 112, 3, 54, 6, 21, 6]
abbrev dktX5_namesBranches_1 : List UInt8 := dkwX5_namesBranches_1 ++ dktX5_namesBranches_2
def dkwX5_namesBranches_0 : List UInt8 := [16, 12, 42, 180, 1, 14, 104, 61, 3, 62, 42, 180, 1, 73, 54, 4, 16, 13, 42, 180, 1, 14, 104]
abbrev dktX5_namesBranches_0 : List UInt8 := dkwX5_namesBranches_0 ++ dktX5_namesBranches_1
theorem dksX5_namesBranches_0 : cX5_namesBranches.data.toList.drop 0 = dktX5_namesBranches_0 := by decide +kernel
theorem dksX5_namesBranches_1 : cX5_namesBranches.data.toList.drop 23 = dktX5_namesBranches_1 := dk_seg dksX5_namesBranches_0 23 rfl rfl
theorem dksX5_namesBranches_2 : cX5_namesBranches.data.toList.drop 46 = dktX5_namesBranches_2 := dk_seg dksX5_namesBranches_1 23 rfl rfl
theorem dksX5_namesBranches_3 : cX5_namesBranches.data.toList.drop 70 = dktX5_namesBranches_3 := dk_seg dksX5_namesBranches_2 24 rfl rfl
theorem dksX5_namesBranches_4 : cX5_namesBranches.data.toList.drop 94 = dktX5_namesBranches_4 := dk_seg dksX5_namesBranches_3 24 rfl rfl
theorem dksX5_namesBranches_5 : cX5_namesBranches.data.toList.drop 117 = dktX5_namesBranches_5 := dk_seg dksX5_namesBranches_4 23 rfl rfl
theorem dksX5_namesBranches_6 : cX5_namesBranches.data.toList.drop 140 = dktX5_namesBranches_6 := dk_seg dksX5_namesBranches_5 23 rfl rfl
theorem dksX5_namesBranches_7 : cX5_namesBranches.data.toList.drop 164 = dktX5_namesBranches_7 := dk_seg dksX5_namesBranches_6 24 rfl rfl
theorem dksX5_namesBranches_8 : cX5_namesBranches.data.toList.drop 187 = dktX5_namesBranches_8 := dk_seg dksX5_namesBranches_7 23 rfl rfl
theorem dX5_namesBranches_0 : decode cX5_namesBranches 0 = .ok (.bipush 12, 2) := dk_16 12 (dk_at dksX5_namesBranches_0 0 rfl rfl)
theorem dX5_namesBranches_2 : decode cX5_namesBranches 2 = .ok (.aload_n 0, 1) := dk_42 (dk_at dksX5_namesBranches_0 2 rfl rfl)
theorem dX5_namesBranches_3 : decode cX5_namesBranches 3 = .ok (.getfield 270, 3) := dk_180 1 14 (dk_at dksX5_namesBranches_0 3 rfl rfl)
theorem dX5_namesBranches_6 : decode cX5_namesBranches 6 = .ok (.imul, 1) := dk_104 (dk_at dksX5_namesBranches_0 6 rfl rfl)
theorem dX5_namesBranches_7 : decode cX5_namesBranches 7 = .ok (.istore_n 2, 1) := dk_61 (dk_at dksX5_namesBranches_0 7 rfl rfl)
theorem dX5_namesBranches_8 : decode cX5_namesBranches 8 = .ok (.iconst 0, 1) := dk_3 (dk_at dksX5_namesBranches_0 8 rfl rfl)
theorem dX5_namesBranches_9 : decode cX5_namesBranches 9 = .ok (.istore_n 3, 1) := dk_62 (dk_at dksX5_namesBranches_0 9 rfl rfl)
theorem dX5_namesBranches_10 : decode cX5_namesBranches 10 = .ok (.aload_n 0, 1) := dk_42 (dk_at dksX5_namesBranches_0 10 rfl rfl)
theorem dX5_namesBranches_11 : decode cX5_namesBranches 11 = .ok (.getfield 329, 3) := dk_180 1 73 (dk_at dksX5_namesBranches_0 11 rfl rfl)
theorem dX5_namesBranches_14 : decode cX5_namesBranches 14 = .ok (.istore 4, 2) := dk_54 4 (dk_at dksX5_namesBranches_0 14 rfl rfl)
theorem dX5_namesBranches_16 : decode cX5_namesBranches 16 = .ok (.bipush 13, 2) := dk_16 13 (dk_at dksX5_namesBranches_0 16 rfl rfl)
theorem dX5_namesBranches_18 : decode cX5_namesBranches 18 = .ok (.aload_n 0, 1) := dk_42 (dk_at dksX5_namesBranches_0 18 rfl rfl)
theorem dX5_namesBranches_19 : decode cX5_namesBranches 19 = .ok (.getfield 270, 3) := dk_180 1 14 (dk_at dksX5_namesBranches_0 19 rfl rfl)
theorem dX5_namesBranches_22 : decode cX5_namesBranches 22 = .ok (.imul, 1) := dk_104 (dk_at dksX5_namesBranches_0 22 rfl rfl)
theorem dX5_namesBranches_23 : decode cX5_namesBranches 23 = .ok (.istore 5, 2) := dk_54 5 (dk_at dksX5_namesBranches_1 0 rfl rfl)
theorem dX5_namesBranches_25 : decode cX5_namesBranches 25 = .ok (.aload_n 0, 1) := dk_42 (dk_at dksX5_namesBranches_1 2 rfl rfl)
theorem dX5_namesBranches_26 : decode cX5_namesBranches 26 = .ok (.getfield 41, 3) := dk_180 0 41 (dk_at dksX5_namesBranches_1 3 rfl rfl)
theorem dX5_namesBranches_29 : decode cX5_namesBranches 29 = .ok (.iconst 0, 1) := dk_3 (dk_at dksX5_namesBranches_1 6 rfl rfl)
theorem dX5_namesBranches_30 : decode cX5_namesBranches 30 = .ok (.aload_n 0, 1) := dk_42 (dk_at dksX5_namesBranches_1 7 rfl rfl)
theorem dX5_namesBranches_31 : decode cX5_namesBranches 31 = .ok (.getfield 70, 3) := dk_180 0 70 (dk_at dksX5_namesBranches_1 8 rfl rfl)
theorem dX5_namesBranches_34 : decode cX5_namesBranches 34 = .ok (.iload 5, 2) := dk_21 5 (dk_at dksX5_namesBranches_1 11 rfl rfl)
theorem dX5_namesBranches_36 : decode cX5_namesBranches 36 = .ok (.bipush 13, 2) := dk_16 13 (dk_at dksX5_namesBranches_1 13 rfl rfl)
theorem dX5_namesBranches_38 : decode cX5_namesBranches 38 = .ok (.invokestatic 368, 3) := dk_184 1 112 (dk_at dksX5_namesBranches_1 15 rfl rfl)
theorem dX5_namesBranches_41 : decode cX5_namesBranches 41 = .ok (.iconst 0, 1) := dk_3 (dk_at dksX5_namesBranches_1 18 rfl rfl)
theorem dX5_namesBranches_42 : decode cX5_namesBranches 42 = .ok (.istore 6, 2) := dk_54 6 (dk_at dksX5_namesBranches_1 19 rfl rfl)
theorem dX5_namesBranches_44 : decode cX5_namesBranches 44 = .ok (.iload 6, 2) := dk_21 6 (dk_at dksX5_namesBranches_1 21 rfl rfl)
theorem dX5_namesBranches_46 : decode cX5_namesBranches 46 = .ok (.iload 4, 2) := dk_21 4 (dk_at dksX5_namesBranches_2 0 rfl rfl)
theorem dX5_namesBranches_48 : decode cX5_namesBranches 48 = .ok (.if_icmp .ge 136, 3) := dk_162 0 136 (dk_at dksX5_namesBranches_2 2 rfl rfl)
theorem dX5_namesBranches_51 : decode cX5_namesBranches 51 = .ok (.iconst 0, 1) := dk_3 (dk_at dksX5_namesBranches_2 5 rfl rfl)
theorem dX5_namesBranches_52 : decode cX5_namesBranches 52 = .ok (.istore 7, 2) := dk_54 7 (dk_at dksX5_namesBranches_2 6 rfl rfl)
theorem dX5_namesBranches_54 : decode cX5_namesBranches 54 = .ok (.iload 7, 2) := dk_21 7 (dk_at dksX5_namesBranches_2 8 rfl rfl)
theorem dX5_namesBranches_56 : decode cX5_namesBranches 56 = .ok (.aload_n 0, 1) := dk_42 (dk_at dksX5_namesBranches_2 10 rfl rfl)
theorem dX5_namesBranches_57 : decode cX5_namesBranches 57 = .ok (.getfield 145, 3) := dk_180 0 145 (dk_at dksX5_namesBranches_2 11 rfl rfl)
theorem dX5_namesBranches_60 : decode cX5_namesBranches 60 = .ok (.if_icmp .ge 118, 3) := dk_162 0 118 (dk_at dksX5_namesBranches_2 14 rfl rfl)
theorem dX5_namesBranches_63 : decode cX5_namesBranches 63 = .ok (.aload_n 0, 1) := dk_42 (dk_at dksX5_namesBranches_2 17 rfl rfl)
theorem dX5_namesBranches_64 : decode cX5_namesBranches 64 = .ok (.getfield 70, 3) := dk_180 0 70 (dk_at dksX5_namesBranches_2 18 rfl rfl)
theorem dX5_namesBranches_67 : decode cX5_namesBranches 67 = .ok (.iload 5, 2) := dk_21 5 (dk_at dksX5_namesBranches_2 21 rfl rfl)
theorem dX5_namesBranches_69 : decode cX5_namesBranches 69 = .ok (.aload_n 0, 1) := dk_42 (dk_at dksX5_namesBranches_2 23 rfl rfl)
theorem dX5_namesBranches_70 : decode cX5_namesBranches 70 = .ok (.getfield 41, 3) := dk_180 0 41 (dk_at dksX5_namesBranches_3 0 rfl rfl)
theorem dX5_namesBranches_73 : decode cX5_namesBranches 73 = .ok (.iconst 0, 1) := dk_3 (dk_at dksX5_namesBranches_3 3 rfl rfl)
theorem dX5_namesBranches_74 : decode cX5_namesBranches 74 = .ok (.bipush 13, 2) := dk_16 13 (dk_at dksX5_namesBranches_3 4 rfl rfl)
theorem dX5_namesBranches_76 : decode cX5_namesBranches 76 = .ok (.invokestatic 368, 3) := dk_184 1 112 (dk_at dksX5_namesBranches_3 6 rfl rfl)
theorem dX5_namesBranches_79 : decode cX5_namesBranches 79 = .ok (.aload_n 0, 1) := dk_42 (dk_at dksX5_namesBranches_3 9 rfl rfl)
theorem dX5_namesBranches_80 : decode cX5_namesBranches 80 = .ok (.iload 4, 2) := dk_21 4 (dk_at dksX5_namesBranches_3 10 rfl rfl)
theorem dX5_namesBranches_82 : decode cX5_namesBranches 82 = .ok (.putfield 329, 3) := dk_181 1 73 (dk_at dksX5_namesBranches_3 12 rfl rfl)
theorem dX5_namesBranches_85 : decode cX5_namesBranches 85 = .ok (.aload_n 0, 1) := dk_42 (dk_at dksX5_namesBranches_3 15 rfl rfl)
theorem dX5_namesBranches_86 : decode cX5_namesBranches 86 = .ok (.iload 6, 2) := dk_21 6 (dk_at dksX5_namesBranches_3 16 rfl rfl)
theorem dX5_namesBranches_88 : decode cX5_namesBranches 88 = .ok (.iload 7, 2) := dk_21 7 (dk_at dksX5_namesBranches_3 18 rfl rfl)
theorem dX5_namesBranches_90 : decode cX5_namesBranches 90 = .ok (.iload_n 1, 1) := dk_27 (dk_at dksX5_namesBranches_3 20 rfl rfl)
theorem dX5_namesBranches_91 : decode cX5_namesBranches 91 = .ok (.invokevirtual 339, 3) := dk_182 1 83 (dk_at dksX5_namesBranches_3 21 rfl rfl)
theorem dX5_namesBranches_94 : decode cX5_namesBranches 94 = .ok (.ifCond .eq 78, 3) := dk_153 0 78 (dk_at dksX5_namesBranches_4 0 rfl rfl)
theorem dX5_namesBranches_97 : decode cX5_namesBranches 97 = .ok (.aload_n 0, 1) := dk_42 (dk_at dksX5_namesBranches_4 3 rfl rfl)
theorem dX5_namesBranches_98 : decode cX5_namesBranches 98 = .ok (.getfield 61, 3) := dk_180 0 61 (dk_at dksX5_namesBranches_4 4 rfl rfl)
theorem dX5_namesBranches_101 : decode cX5_namesBranches 101 = .ok (.iload_n 2, 1) := dk_28 (dk_at dksX5_namesBranches_4 7 rfl rfl)
theorem dX5_namesBranches_102 : decode cX5_namesBranches 102 = .ok (.iload_n 3, 1) := dk_29 (dk_at dksX5_namesBranches_4 8 rfl rfl)
theorem dX5_namesBranches_103 : decode cX5_namesBranches 103 = .ok (.iadd, 1) := dk_96 (dk_at dksX5_namesBranches_4 9 rfl rfl)
theorem dX5_namesBranches_104 : decode cX5_namesBranches 104 = .ok (.iload 6, 2) := dk_21 6 (dk_at dksX5_namesBranches_4 10 rfl rfl)
theorem dX5_namesBranches_106 : decode cX5_namesBranches 106 = .ok (.iconst 1, 1) := dk_4 (dk_at dksX5_namesBranches_4 12 rfl rfl)
theorem dX5_namesBranches_107 : decode cX5_namesBranches 107 = .ok (.iadd, 1) := dk_96 (dk_at dksX5_namesBranches_4 13 rfl rfl)
theorem dX5_namesBranches_108 : decode cX5_namesBranches 108 = .ok (.iastore, 1) := dk_79 (dk_at dksX5_namesBranches_4 14 rfl rfl)
theorem dX5_namesBranches_109 : decode cX5_namesBranches 109 = .ok (.aload_n 0, 1) := dk_42 (dk_at dksX5_namesBranches_4 15 rfl rfl)
theorem dX5_namesBranches_110 : decode cX5_namesBranches 110 = .ok (.getfield 64, 3) := dk_180 0 64 (dk_at dksX5_namesBranches_4 16 rfl rfl)
theorem dX5_namesBranches_113 : decode cX5_namesBranches 113 = .ok (.iload_n 2, 1) := dk_28 (dk_at dksX5_namesBranches_4 19 rfl rfl)
theorem dX5_namesBranches_114 : decode cX5_namesBranches 114 = .ok (.iload_n 3, 1) := dk_29 (dk_at dksX5_namesBranches_4 20 rfl rfl)
theorem dX5_namesBranches_115 : decode cX5_namesBranches 115 = .ok (.iadd, 1) := dk_96 (dk_at dksX5_namesBranches_4 21 rfl rfl)
theorem dX5_namesBranches_116 : decode cX5_namesBranches 116 = .ok (.aload_n 0, 1) := dk_42 (dk_at dksX5_namesBranches_4 22 rfl rfl)
theorem dX5_namesBranches_117 : decode cX5_namesBranches 117 = .ok (.getfield 267, 3) := dk_180 1 11 (dk_at dksX5_namesBranches_5 0 rfl rfl)
theorem dX5_namesBranches_120 : decode cX5_namesBranches 120 = .ok (.iastore, 1) := dk_79 (dk_at dksX5_namesBranches_5 3 rfl rfl)
theorem dX5_namesBranches_121 : decode cX5_namesBranches 121 = .ok (.aload_n 0, 1) := dk_42 (dk_at dksX5_namesBranches_5 4 rfl rfl)
theorem dX5_namesBranches_122 : decode cX5_namesBranches 122 = .ok (.dup, 1) := dk_89 (dk_at dksX5_namesBranches_5 5 rfl rfl)
theorem dX5_namesBranches_123 : decode cX5_namesBranches 123 = .ok (.getfield 270, 3) := dk_180 1 14 (dk_at dksX5_namesBranches_5 6 rfl rfl)
theorem dX5_namesBranches_126 : decode cX5_namesBranches 126 = .ok (.iconst 1, 1) := dk_4 (dk_at dksX5_namesBranches_5 9 rfl rfl)
theorem dX5_namesBranches_127 : decode cX5_namesBranches 127 = .ok (.iadd, 1) := dk_96 (dk_at dksX5_namesBranches_5 10 rfl rfl)
theorem dX5_namesBranches_128 : decode cX5_namesBranches 128 = .ok (.putfield 270, 3) := dk_181 1 14 (dk_at dksX5_namesBranches_5 11 rfl rfl)
theorem dX5_namesBranches_131 : decode cX5_namesBranches 131 = .ok (.aload_n 0, 1) := dk_42 (dk_at dksX5_namesBranches_5 14 rfl rfl)
theorem dX5_namesBranches_132 : decode cX5_namesBranches 132 = .ok (.iload 7, 2) := dk_21 7 (dk_at dksX5_namesBranches_5 15 rfl rfl)
theorem dX5_namesBranches_134 : decode cX5_namesBranches 134 = .ok (.aload_n 0, 1) := dk_42 (dk_at dksX5_namesBranches_5 17 rfl rfl)
theorem dX5_namesBranches_135 : decode cX5_namesBranches 135 = .ok (.getfield 70, 3) := dk_180 0 70 (dk_at dksX5_namesBranches_5 18 rfl rfl)
theorem dX5_namesBranches_138 : decode cX5_namesBranches 138 = .ok (.iload 5, 2) := dk_21 5 (dk_at dksX5_namesBranches_5 21 rfl rfl)
theorem dX5_namesBranches_140 : decode cX5_namesBranches 140 = .ok (.iload 6, 2) := dk_21 6 (dk_at dksX5_namesBranches_6 0 rfl rfl)
theorem dX5_namesBranches_142 : decode cX5_namesBranches 142 = .ok (.iadd, 1) := dk_96 (dk_at dksX5_namesBranches_6 2 rfl rfl)
theorem dX5_namesBranches_143 : decode cX5_namesBranches 143 = .ok (.iaload, 1) := dk_46 (dk_at dksX5_namesBranches_6 3 rfl rfl)
theorem dX5_namesBranches_144 : decode cX5_namesBranches 144 = .ok (.invokevirtual 273, 3) := dk_182 1 17 (dk_at dksX5_namesBranches_6 4 rfl rfl)
theorem dX5_namesBranches_147 : decode cX5_namesBranches 147 = .ok (.istore 8, 2) := dk_54 8 (dk_at dksX5_namesBranches_6 7 rfl rfl)
theorem dX5_namesBranches_149 : decode cX5_namesBranches 149 = .ok (.aload_n 0, 1) := dk_42 (dk_at dksX5_namesBranches_6 9 rfl rfl)
theorem dX5_namesBranches_150 : decode cX5_namesBranches 150 = .ok (.dup, 1) := dk_89 (dk_at dksX5_namesBranches_6 10 rfl rfl)
theorem dX5_namesBranches_151 : decode cX5_namesBranches 151 = .ok (.getfield 270, 3) := dk_180 1 14 (dk_at dksX5_namesBranches_6 11 rfl rfl)
theorem dX5_namesBranches_154 : decode cX5_namesBranches 154 = .ok (.iconst 1, 1) := dk_4 (dk_at dksX5_namesBranches_6 14 rfl rfl)
theorem dX5_namesBranches_155 : decode cX5_namesBranches 155 = .ok (.isub, 1) := dk_100 (dk_at dksX5_namesBranches_6 15 rfl rfl)
theorem dX5_namesBranches_156 : decode cX5_namesBranches 156 = .ok (.putfield 270, 3) := dk_181 1 14 (dk_at dksX5_namesBranches_6 16 rfl rfl)
theorem dX5_namesBranches_159 : decode cX5_namesBranches 159 = .ok (.aload_n 0, 1) := dk_42 (dk_at dksX5_namesBranches_6 19 rfl rfl)
theorem dX5_namesBranches_160 : decode cX5_namesBranches 160 = .ok (.getfield 67, 3) := dk_180 0 67 (dk_at dksX5_namesBranches_6 20 rfl rfl)
theorem dX5_namesBranches_163 : decode cX5_namesBranches 163 = .ok (.iload_n 2, 1) := dk_28 (dk_at dksX5_namesBranches_6 23 rfl rfl)
theorem dX5_namesBranches_164 : decode cX5_namesBranches 164 = .ok (.iload_n 3, 1) := dk_29 (dk_at dksX5_namesBranches_7 0 rfl rfl)
theorem dX5_namesBranches_165 : decode cX5_namesBranches 165 = .ok (.iadd, 1) := dk_96 (dk_at dksX5_namesBranches_7 1 rfl rfl)
theorem dX5_namesBranches_166 : decode cX5_namesBranches 166 = .ok (.iload 8, 2) := dk_21 8 (dk_at dksX5_namesBranches_7 2 rfl rfl)
theorem dX5_namesBranches_168 : decode cX5_namesBranches 168 = .ok (.iastore, 1) := dk_79 (dk_at dksX5_namesBranches_7 4 rfl rfl)
theorem dX5_namesBranches_169 : decode cX5_namesBranches 169 = .ok (.iinc 3 1, 3) := dk_132 3 1 (dk_at dksX5_namesBranches_7 5 rfl rfl)
theorem dX5_namesBranches_172 : decode cX5_namesBranches 172 = .ok (.iinc 7 1, 3) := dk_132 7 1 (dk_at dksX5_namesBranches_7 8 rfl rfl)
theorem dX5_namesBranches_175 : decode cX5_namesBranches 175 = .ok (.goto (-121), 3) := dk_167 255 135 (dk_at dksX5_namesBranches_7 11 rfl rfl)
theorem dX5_namesBranches_178 : decode cX5_namesBranches 178 = .ok (.iinc 6 1, 3) := dk_132 6 1 (dk_at dksX5_namesBranches_7 14 rfl rfl)
theorem dX5_namesBranches_181 : decode cX5_namesBranches 181 = .ok (.goto (-137), 3) := dk_167 255 119 (dk_at dksX5_namesBranches_7 17 rfl rfl)
theorem dX5_namesBranches_184 : decode cX5_namesBranches 184 = .ok (.aload_n 0, 1) := dk_42 (dk_at dksX5_namesBranches_7 20 rfl rfl)
theorem dX5_namesBranches_185 : decode cX5_namesBranches 185 = .ok (.iload 4, 2) := dk_21 4 (dk_at dksX5_namesBranches_7 21 rfl rfl)
theorem dX5_namesBranches_187 : decode cX5_namesBranches 187 = .ok (.putfield 329, 3) := dk_181 1 73 (dk_at dksX5_namesBranches_8 0 rfl rfl)
theorem dX5_namesBranches_190 : decode cX5_namesBranches 190 = .ok (.iload_n 3, 1) := dk_29 (dk_at dksX5_namesBranches_8 3 rfl rfl)
theorem dX5_namesBranches_191 : decode cX5_namesBranches 191 = .ok (.ireturn, 1) := dk_172 (dk_at dksX5_namesBranches_8 4 rfl rfl)
abbrev cX5_nextPart : ByteArray := prog_22_method_72_code
def yX5_nextPart : MethodName := ⟨RX5, "nextPart", "(III)I"⟩
def dkwX5_nextPart_3 : List UInt8 := [21, 4, 54, 4, 132, 5, 1, 167, 255, 186, 21, 4, 172]
abbrev dktX5_nextPart_3 : List UInt8 := dkwX5_nextPart_3 ++ []
def dkwX5_nextPart_2 : List UInt8 := [159, 0, 18, 42, 27, 21, 5, 96, 27, 21, 4, 96, 182, 1, 118, 156, 0, 8, 21, 5, 167, 0, 5]
abbrev dktX5_nextPart_2 : List UInt8 := dkwX5_nextPart_2 ++ dktX5_nextPart_3
def dkwX5_nextPart_1 : List UInt8 := [96, 182, 1, 118, 158, 0, 7, 4, 167, 0, 4, 3, 54, 6, 21, 6, 153, 0, 29, 21, 4, 2]
abbrev dktX5_nextPart_1 : List UInt8 := dkwX5_nextPart_1 ++ dktX5_nextPart_2
def dkwX5_nextPart_0 : List UInt8 := [2, 54, 4, 3, 54, 5, 21, 5, 28, 162, 0, 70, 29, 2, 159, 0, 17, 42, 27, 21, 5, 96, 27, 29]
abbrev dktX5_nextPart_0 : List UInt8 := dkwX5_nextPart_0 ++ dktX5_nextPart_1
theorem dksX5_nextPart_0 : cX5_nextPart.data.toList.drop 0 = dktX5_nextPart_0 := by decide +kernel
theorem dksX5_nextPart_1 : cX5_nextPart.data.toList.drop 24 = dktX5_nextPart_1 := dk_seg dksX5_nextPart_0 24 rfl rfl
theorem dksX5_nextPart_2 : cX5_nextPart.data.toList.drop 46 = dktX5_nextPart_2 := dk_seg dksX5_nextPart_1 22 rfl rfl
theorem dksX5_nextPart_3 : cX5_nextPart.data.toList.drop 69 = dktX5_nextPart_3 := dk_seg dksX5_nextPart_2 23 rfl rfl
theorem dX5_nextPart_0 : decode cX5_nextPart 0 = .ok (.iconst (-1), 1) := dk_2 (dk_at dksX5_nextPart_0 0 rfl rfl)
theorem dX5_nextPart_1 : decode cX5_nextPart 1 = .ok (.istore 4, 2) := dk_54 4 (dk_at dksX5_nextPart_0 1 rfl rfl)
theorem dX5_nextPart_3 : decode cX5_nextPart 3 = .ok (.iconst 0, 1) := dk_3 (dk_at dksX5_nextPart_0 3 rfl rfl)
theorem dX5_nextPart_4 : decode cX5_nextPart 4 = .ok (.istore 5, 2) := dk_54 5 (dk_at dksX5_nextPart_0 4 rfl rfl)
theorem dX5_nextPart_6 : decode cX5_nextPart 6 = .ok (.iload 5, 2) := dk_21 5 (dk_at dksX5_nextPart_0 6 rfl rfl)
theorem dX5_nextPart_8 : decode cX5_nextPart 8 = .ok (.iload_n 2, 1) := dk_28 (dk_at dksX5_nextPart_0 8 rfl rfl)
theorem dX5_nextPart_9 : decode cX5_nextPart 9 = .ok (.if_icmp .ge 70, 3) := dk_162 0 70 (dk_at dksX5_nextPart_0 9 rfl rfl)
theorem dX5_nextPart_12 : decode cX5_nextPart 12 = .ok (.iload_n 3, 1) := dk_29 (dk_at dksX5_nextPart_0 12 rfl rfl)
theorem dX5_nextPart_13 : decode cX5_nextPart 13 = .ok (.iconst (-1), 1) := dk_2 (dk_at dksX5_nextPart_0 13 rfl rfl)
theorem dX5_nextPart_14 : decode cX5_nextPart 14 = .ok (.if_icmp .eq 17, 3) := dk_159 0 17 (dk_at dksX5_nextPart_0 14 rfl rfl)
theorem dX5_nextPart_17 : decode cX5_nextPart 17 = .ok (.aload_n 0, 1) := dk_42 (dk_at dksX5_nextPart_0 17 rfl rfl)
theorem dX5_nextPart_18 : decode cX5_nextPart 18 = .ok (.iload_n 1, 1) := dk_27 (dk_at dksX5_nextPart_0 18 rfl rfl)
theorem dX5_nextPart_19 : decode cX5_nextPart 19 = .ok (.iload 5, 2) := dk_21 5 (dk_at dksX5_nextPart_0 19 rfl rfl)
theorem dX5_nextPart_21 : decode cX5_nextPart 21 = .ok (.iadd, 1) := dk_96 (dk_at dksX5_nextPart_0 21 rfl rfl)
theorem dX5_nextPart_22 : decode cX5_nextPart 22 = .ok (.iload_n 1, 1) := dk_27 (dk_at dksX5_nextPart_0 22 rfl rfl)
theorem dX5_nextPart_23 : decode cX5_nextPart 23 = .ok (.iload_n 3, 1) := dk_29 (dk_at dksX5_nextPart_0 23 rfl rfl)
theorem dX5_nextPart_24 : decode cX5_nextPart 24 = .ok (.iadd, 1) := dk_96 (dk_at dksX5_nextPart_1 0 rfl rfl)
theorem dX5_nextPart_25 : decode cX5_nextPart 25 = .ok (.invokevirtual 374, 3) := dk_182 1 118 (dk_at dksX5_nextPart_1 1 rfl rfl)
theorem dX5_nextPart_28 : decode cX5_nextPart 28 = .ok (.ifCond .le 7, 3) := dk_158 0 7 (dk_at dksX5_nextPart_1 4 rfl rfl)
theorem dX5_nextPart_31 : decode cX5_nextPart 31 = .ok (.iconst 1, 1) := dk_4 (dk_at dksX5_nextPart_1 7 rfl rfl)
theorem dX5_nextPart_32 : decode cX5_nextPart 32 = .ok (.goto 4, 3) := dk_167 0 4 (dk_at dksX5_nextPart_1 8 rfl rfl)
theorem dX5_nextPart_35 : decode cX5_nextPart 35 = .ok (.iconst 0, 1) := dk_3 (dk_at dksX5_nextPart_1 11 rfl rfl)
theorem dX5_nextPart_36 : decode cX5_nextPart 36 = .ok (.istore 6, 2) := dk_54 6 (dk_at dksX5_nextPart_1 12 rfl rfl)
theorem dX5_nextPart_38 : decode cX5_nextPart 38 = .ok (.iload 6, 2) := dk_21 6 (dk_at dksX5_nextPart_1 14 rfl rfl)
theorem dX5_nextPart_40 : decode cX5_nextPart 40 = .ok (.ifCond .eq 29, 3) := dk_153 0 29 (dk_at dksX5_nextPart_1 16 rfl rfl)
theorem dX5_nextPart_43 : decode cX5_nextPart 43 = .ok (.iload 4, 2) := dk_21 4 (dk_at dksX5_nextPart_1 19 rfl rfl)
theorem dX5_nextPart_45 : decode cX5_nextPart 45 = .ok (.iconst (-1), 1) := dk_2 (dk_at dksX5_nextPart_1 21 rfl rfl)
theorem dX5_nextPart_46 : decode cX5_nextPart 46 = .ok (.if_icmp .eq 18, 3) := dk_159 0 18 (dk_at dksX5_nextPart_2 0 rfl rfl)
theorem dX5_nextPart_49 : decode cX5_nextPart 49 = .ok (.aload_n 0, 1) := dk_42 (dk_at dksX5_nextPart_2 3 rfl rfl)
theorem dX5_nextPart_50 : decode cX5_nextPart 50 = .ok (.iload_n 1, 1) := dk_27 (dk_at dksX5_nextPart_2 4 rfl rfl)
theorem dX5_nextPart_51 : decode cX5_nextPart 51 = .ok (.iload 5, 2) := dk_21 5 (dk_at dksX5_nextPart_2 5 rfl rfl)
theorem dX5_nextPart_53 : decode cX5_nextPart 53 = .ok (.iadd, 1) := dk_96 (dk_at dksX5_nextPart_2 7 rfl rfl)
theorem dX5_nextPart_54 : decode cX5_nextPart 54 = .ok (.iload_n 1, 1) := dk_27 (dk_at dksX5_nextPart_2 8 rfl rfl)
theorem dX5_nextPart_55 : decode cX5_nextPart 55 = .ok (.iload 4, 2) := dk_21 4 (dk_at dksX5_nextPart_2 9 rfl rfl)
theorem dX5_nextPart_57 : decode cX5_nextPart 57 = .ok (.iadd, 1) := dk_96 (dk_at dksX5_nextPart_2 11 rfl rfl)
theorem dX5_nextPart_58 : decode cX5_nextPart 58 = .ok (.invokevirtual 374, 3) := dk_182 1 118 (dk_at dksX5_nextPart_2 12 rfl rfl)
theorem dX5_nextPart_61 : decode cX5_nextPart 61 = .ok (.ifCond .ge 8, 3) := dk_156 0 8 (dk_at dksX5_nextPart_2 15 rfl rfl)
theorem dX5_nextPart_64 : decode cX5_nextPart 64 = .ok (.iload 5, 2) := dk_21 5 (dk_at dksX5_nextPart_2 18 rfl rfl)
theorem dX5_nextPart_66 : decode cX5_nextPart 66 = .ok (.goto 5, 3) := dk_167 0 5 (dk_at dksX5_nextPart_2 20 rfl rfl)
theorem dX5_nextPart_69 : decode cX5_nextPart 69 = .ok (.iload 4, 2) := dk_21 4 (dk_at dksX5_nextPart_3 0 rfl rfl)
theorem dX5_nextPart_71 : decode cX5_nextPart 71 = .ok (.istore 4, 2) := dk_54 4 (dk_at dksX5_nextPart_3 2 rfl rfl)
theorem dX5_nextPart_73 : decode cX5_nextPart 73 = .ok (.iinc 5 1, 3) := dk_132 5 1 (dk_at dksX5_nextPart_3 4 rfl rfl)
theorem dX5_nextPart_76 : decode cX5_nextPart 76 = .ok (.goto (-70), 3) := dk_167 255 186 (dk_at dksX5_nextPart_3 7 rfl rfl)
theorem dX5_nextPart_79 : decode cX5_nextPart 79 = .ok (.iload 4, 2) := dk_21 4 (dk_at dksX5_nextPart_3 10 rfl rfl)
theorem dX5_nextPart_81 : decode cX5_nextPart 81 = .ok (.ireturn, 1) := dk_172 (dk_at dksX5_nextPart_3 12 rfl rfl)
abbrev cX5_comparesNames : ByteArray := prog_22_method_69_code
def yX5_comparesNames : MethodName := ⟨RX5, "comparesNames", "(II)I"⟩
def dkwX5_comparesNames_2 : List UInt8 := [27, 46, 42, 180, 0, 64, 28, 46, 42, 180, 0, 67, 28, 46, 182, 1, 109, 172]
abbrev dktX5_comparesNames_2 : List UInt8 := dkwX5_comparesNames_2 ++ []
def dkwX5_comparesNames_1 : List UInt8 := [46, 182, 1, 105, 62, 29, 153, 0, 7, 29, 167, 0, 31, 42, 42, 180, 0, 64, 27, 46, 42, 180, 0, 67]
abbrev dktX5_comparesNames_1 : List UInt8 := dkwX5_comparesNames_1 ++ dktX5_comparesNames_2
def dkwX5_comparesNames_0 : List UInt8 := [42, 42, 180, 0, 64, 27, 46, 42, 180, 0, 67, 27, 46, 42, 180, 0, 64, 28, 46, 42, 180, 0, 67, 28]
abbrev dktX5_comparesNames_0 : List UInt8 := dkwX5_comparesNames_0 ++ dktX5_comparesNames_1
theorem dksX5_comparesNames_0 : cX5_comparesNames.data.toList.drop 0 = dktX5_comparesNames_0 := by decide +kernel
theorem dksX5_comparesNames_1 : cX5_comparesNames.data.toList.drop 24 = dktX5_comparesNames_1 := dk_seg dksX5_comparesNames_0 24 rfl rfl
theorem dksX5_comparesNames_2 : cX5_comparesNames.data.toList.drop 48 = dktX5_comparesNames_2 := dk_seg dksX5_comparesNames_1 24 rfl rfl
theorem dX5_comparesNames_0 : decode cX5_comparesNames 0 = .ok (.aload_n 0, 1) := dk_42 (dk_at dksX5_comparesNames_0 0 rfl rfl)
theorem dX5_comparesNames_1 : decode cX5_comparesNames 1 = .ok (.aload_n 0, 1) := dk_42 (dk_at dksX5_comparesNames_0 1 rfl rfl)
theorem dX5_comparesNames_2 : decode cX5_comparesNames 2 = .ok (.getfield 64, 3) := dk_180 0 64 (dk_at dksX5_comparesNames_0 2 rfl rfl)
theorem dX5_comparesNames_5 : decode cX5_comparesNames 5 = .ok (.iload_n 1, 1) := dk_27 (dk_at dksX5_comparesNames_0 5 rfl rfl)
theorem dX5_comparesNames_6 : decode cX5_comparesNames 6 = .ok (.iaload, 1) := dk_46 (dk_at dksX5_comparesNames_0 6 rfl rfl)
theorem dX5_comparesNames_7 : decode cX5_comparesNames 7 = .ok (.aload_n 0, 1) := dk_42 (dk_at dksX5_comparesNames_0 7 rfl rfl)
theorem dX5_comparesNames_8 : decode cX5_comparesNames 8 = .ok (.getfield 67, 3) := dk_180 0 67 (dk_at dksX5_comparesNames_0 8 rfl rfl)
theorem dX5_comparesNames_11 : decode cX5_comparesNames 11 = .ok (.iload_n 1, 1) := dk_27 (dk_at dksX5_comparesNames_0 11 rfl rfl)
theorem dX5_comparesNames_12 : decode cX5_comparesNames 12 = .ok (.iaload, 1) := dk_46 (dk_at dksX5_comparesNames_0 12 rfl rfl)
theorem dX5_comparesNames_13 : decode cX5_comparesNames 13 = .ok (.aload_n 0, 1) := dk_42 (dk_at dksX5_comparesNames_0 13 rfl rfl)
theorem dX5_comparesNames_14 : decode cX5_comparesNames 14 = .ok (.getfield 64, 3) := dk_180 0 64 (dk_at dksX5_comparesNames_0 14 rfl rfl)
theorem dX5_comparesNames_17 : decode cX5_comparesNames 17 = .ok (.iload_n 2, 1) := dk_28 (dk_at dksX5_comparesNames_0 17 rfl rfl)
theorem dX5_comparesNames_18 : decode cX5_comparesNames 18 = .ok (.iaload, 1) := dk_46 (dk_at dksX5_comparesNames_0 18 rfl rfl)
theorem dX5_comparesNames_19 : decode cX5_comparesNames 19 = .ok (.aload_n 0, 1) := dk_42 (dk_at dksX5_comparesNames_0 19 rfl rfl)
theorem dX5_comparesNames_20 : decode cX5_comparesNames 20 = .ok (.getfield 67, 3) := dk_180 0 67 (dk_at dksX5_comparesNames_0 20 rfl rfl)
theorem dX5_comparesNames_23 : decode cX5_comparesNames 23 = .ok (.iload_n 2, 1) := dk_28 (dk_at dksX5_comparesNames_0 23 rfl rfl)
theorem dX5_comparesNames_24 : decode cX5_comparesNames 24 = .ok (.iaload, 1) := dk_46 (dk_at dksX5_comparesNames_1 0 rfl rfl)
theorem dX5_comparesNames_25 : decode cX5_comparesNames 25 = .ok (.invokevirtual 361, 3) := dk_182 1 105 (dk_at dksX5_comparesNames_1 1 rfl rfl)
theorem dX5_comparesNames_28 : decode cX5_comparesNames 28 = .ok (.istore_n 3, 1) := dk_62 (dk_at dksX5_comparesNames_1 4 rfl rfl)
theorem dX5_comparesNames_29 : decode cX5_comparesNames 29 = .ok (.iload_n 3, 1) := dk_29 (dk_at dksX5_comparesNames_1 5 rfl rfl)
theorem dX5_comparesNames_30 : decode cX5_comparesNames 30 = .ok (.ifCond .eq 7, 3) := dk_153 0 7 (dk_at dksX5_comparesNames_1 6 rfl rfl)
theorem dX5_comparesNames_33 : decode cX5_comparesNames 33 = .ok (.iload_n 3, 1) := dk_29 (dk_at dksX5_comparesNames_1 9 rfl rfl)
theorem dX5_comparesNames_34 : decode cX5_comparesNames 34 = .ok (.goto 31, 3) := dk_167 0 31 (dk_at dksX5_comparesNames_1 10 rfl rfl)
theorem dX5_comparesNames_37 : decode cX5_comparesNames 37 = .ok (.aload_n 0, 1) := dk_42 (dk_at dksX5_comparesNames_1 13 rfl rfl)
theorem dX5_comparesNames_38 : decode cX5_comparesNames 38 = .ok (.aload_n 0, 1) := dk_42 (dk_at dksX5_comparesNames_1 14 rfl rfl)
theorem dX5_comparesNames_39 : decode cX5_comparesNames 39 = .ok (.getfield 64, 3) := dk_180 0 64 (dk_at dksX5_comparesNames_1 15 rfl rfl)
theorem dX5_comparesNames_42 : decode cX5_comparesNames 42 = .ok (.iload_n 1, 1) := dk_27 (dk_at dksX5_comparesNames_1 18 rfl rfl)
theorem dX5_comparesNames_43 : decode cX5_comparesNames 43 = .ok (.iaload, 1) := dk_46 (dk_at dksX5_comparesNames_1 19 rfl rfl)
theorem dX5_comparesNames_44 : decode cX5_comparesNames 44 = .ok (.aload_n 0, 1) := dk_42 (dk_at dksX5_comparesNames_1 20 rfl rfl)
theorem dX5_comparesNames_45 : decode cX5_comparesNames 45 = .ok (.getfield 67, 3) := dk_180 0 67 (dk_at dksX5_comparesNames_1 21 rfl rfl)
theorem dX5_comparesNames_48 : decode cX5_comparesNames 48 = .ok (.iload_n 1, 1) := dk_27 (dk_at dksX5_comparesNames_2 0 rfl rfl)
theorem dX5_comparesNames_49 : decode cX5_comparesNames 49 = .ok (.iaload, 1) := dk_46 (dk_at dksX5_comparesNames_2 1 rfl rfl)
theorem dX5_comparesNames_50 : decode cX5_comparesNames 50 = .ok (.aload_n 0, 1) := dk_42 (dk_at dksX5_comparesNames_2 2 rfl rfl)
theorem dX5_comparesNames_51 : decode cX5_comparesNames 51 = .ok (.getfield 64, 3) := dk_180 0 64 (dk_at dksX5_comparesNames_2 3 rfl rfl)
theorem dX5_comparesNames_54 : decode cX5_comparesNames 54 = .ok (.iload_n 2, 1) := dk_28 (dk_at dksX5_comparesNames_2 6 rfl rfl)
theorem dX5_comparesNames_55 : decode cX5_comparesNames 55 = .ok (.iaload, 1) := dk_46 (dk_at dksX5_comparesNames_2 7 rfl rfl)
theorem dX5_comparesNames_56 : decode cX5_comparesNames 56 = .ok (.aload_n 0, 1) := dk_42 (dk_at dksX5_comparesNames_2 8 rfl rfl)
theorem dX5_comparesNames_57 : decode cX5_comparesNames 57 = .ok (.getfield 67, 3) := dk_180 0 67 (dk_at dksX5_comparesNames_2 9 rfl rfl)
theorem dX5_comparesNames_60 : decode cX5_comparesNames 60 = .ok (.iload_n 2, 1) := dk_28 (dk_at dksX5_comparesNames_2 12 rfl rfl)
theorem dX5_comparesNames_61 : decode cX5_comparesNames 61 = .ok (.iaload, 1) := dk_46 (dk_at dksX5_comparesNames_2 13 rfl rfl)
theorem dX5_comparesNames_62 : decode cX5_comparesNames 62 = .ok (.invokevirtual 365, 3) := dk_182 1 109 (dk_at dksX5_comparesNames_2 14 rfl rfl)
theorem dX5_comparesNames_65 : decode cX5_comparesNames 65 = .ok (.ireturn, 1) := dk_172 (dk_at dksX5_comparesNames_2 17 rfl rfl)
abbrev cX5_comparesLetters : ByteArray := prog_22_method_67_code
def yX5_comparesLetters : MethodName := ⟨RX5, "comparesLetters", "(IIII)I"⟩
def dkwX5_comparesLetters_6 : List UInt8 := [132, 5, 1, 132, 6, 1, 167, 255, 116]
abbrev dktX5_comparesLetters_6 : List UInt8 := dkwX5_comparesLetters_6 ++ []
def dkwX5_comparesLetters_5 : List UInt8 := [159, 0, 23, 42, 180, 0, 47, 27, 21, 5, 96, 46, 42, 180, 0, 47, 29, 21, 6, 96, 46, 100, 172]
abbrev dktX5_comparesLetters_5 : List UInt8 := dkwX5_comparesLetters_5 ++ dktX5_comparesLetters_6
def dkwX5_comparesLetters_4 : List UInt8 := [167, 0, 4, 3, 100, 172, 42, 180, 0, 47, 27, 21, 5, 96, 46, 42, 180, 0, 47, 29, 21, 6, 96, 46]
abbrev dktX5_comparesLetters_4 : List UInt8 := dkwX5_comparesLetters_4 ++ dktX5_comparesLetters_5
def dkwX5_comparesLetters_3 : List UInt8 := [160, 0, 28, 21, 5, 28, 162, 0, 7, 4, 167, 0, 4, 3, 21, 6, 21, 4, 162, 0, 7, 4]
abbrev dktX5_comparesLetters_3 : List UInt8 := dkwX5_comparesLetters_3 ++ dktX5_comparesLetters_4
def dkwX5_comparesLetters_2 : List UInt8 := [46, 184, 1, 99, 154, 0, 9, 132, 6, 1, 167, 255, 231, 21, 5, 28, 159, 0, 10, 21, 6, 21, 4]
abbrev dktX5_comparesLetters_2 : List UInt8 := dkwX5_comparesLetters_2 ++ dktX5_comparesLetters_3
def dkwX5_comparesLetters_1 : List UInt8 := [154, 0, 9, 132, 5, 1, 167, 255, 232, 21, 6, 21, 4, 162, 0, 24, 42, 180, 0, 47, 29, 21, 6, 96]
abbrev dktX5_comparesLetters_1 : List UInt8 := dkwX5_comparesLetters_1 ++ dktX5_comparesLetters_2
def dkwX5_comparesLetters_0 : List UInt8 := [3, 54, 5, 3, 54, 6, 21, 5, 28, 162, 0, 24, 42, 180, 0, 47, 27, 21, 5, 96, 46, 184, 1, 99]
abbrev dktX5_comparesLetters_0 : List UInt8 := dkwX5_comparesLetters_0 ++ dktX5_comparesLetters_1
theorem dksX5_comparesLetters_0 : cX5_comparesLetters.data.toList.drop 0 = dktX5_comparesLetters_0 := by decide +kernel
theorem dksX5_comparesLetters_1 : cX5_comparesLetters.data.toList.drop 24 = dktX5_comparesLetters_1 := dk_seg dksX5_comparesLetters_0 24 rfl rfl
theorem dksX5_comparesLetters_2 : cX5_comparesLetters.data.toList.drop 48 = dktX5_comparesLetters_2 := dk_seg dksX5_comparesLetters_1 24 rfl rfl
theorem dksX5_comparesLetters_3 : cX5_comparesLetters.data.toList.drop 71 = dktX5_comparesLetters_3 := dk_seg dksX5_comparesLetters_2 23 rfl rfl
theorem dksX5_comparesLetters_4 : cX5_comparesLetters.data.toList.drop 93 = dktX5_comparesLetters_4 := dk_seg dksX5_comparesLetters_3 22 rfl rfl
theorem dksX5_comparesLetters_5 : cX5_comparesLetters.data.toList.drop 117 = dktX5_comparesLetters_5 := dk_seg dksX5_comparesLetters_4 24 rfl rfl
theorem dksX5_comparesLetters_6 : cX5_comparesLetters.data.toList.drop 140 = dktX5_comparesLetters_6 := dk_seg dksX5_comparesLetters_5 23 rfl rfl
theorem dX5_comparesLetters_0 : decode cX5_comparesLetters 0 = .ok (.iconst 0, 1) := dk_3 (dk_at dksX5_comparesLetters_0 0 rfl rfl)
theorem dX5_comparesLetters_1 : decode cX5_comparesLetters 1 = .ok (.istore 5, 2) := dk_54 5 (dk_at dksX5_comparesLetters_0 1 rfl rfl)
theorem dX5_comparesLetters_3 : decode cX5_comparesLetters 3 = .ok (.iconst 0, 1) := dk_3 (dk_at dksX5_comparesLetters_0 3 rfl rfl)
theorem dX5_comparesLetters_4 : decode cX5_comparesLetters 4 = .ok (.istore 6, 2) := dk_54 6 (dk_at dksX5_comparesLetters_0 4 rfl rfl)
theorem dX5_comparesLetters_6 : decode cX5_comparesLetters 6 = .ok (.iload 5, 2) := dk_21 5 (dk_at dksX5_comparesLetters_0 6 rfl rfl)
theorem dX5_comparesLetters_8 : decode cX5_comparesLetters 8 = .ok (.iload_n 2, 1) := dk_28 (dk_at dksX5_comparesLetters_0 8 rfl rfl)
theorem dX5_comparesLetters_9 : decode cX5_comparesLetters 9 = .ok (.if_icmp .ge 24, 3) := dk_162 0 24 (dk_at dksX5_comparesLetters_0 9 rfl rfl)
theorem dX5_comparesLetters_12 : decode cX5_comparesLetters 12 = .ok (.aload_n 0, 1) := dk_42 (dk_at dksX5_comparesLetters_0 12 rfl rfl)
theorem dX5_comparesLetters_13 : decode cX5_comparesLetters 13 = .ok (.getfield 47, 3) := dk_180 0 47 (dk_at dksX5_comparesLetters_0 13 rfl rfl)
theorem dX5_comparesLetters_16 : decode cX5_comparesLetters 16 = .ok (.iload_n 1, 1) := dk_27 (dk_at dksX5_comparesLetters_0 16 rfl rfl)
theorem dX5_comparesLetters_17 : decode cX5_comparesLetters 17 = .ok (.iload 5, 2) := dk_21 5 (dk_at dksX5_comparesLetters_0 17 rfl rfl)
theorem dX5_comparesLetters_19 : decode cX5_comparesLetters 19 = .ok (.iadd, 1) := dk_96 (dk_at dksX5_comparesLetters_0 19 rfl rfl)
theorem dX5_comparesLetters_20 : decode cX5_comparesLetters 20 = .ok (.iaload, 1) := dk_46 (dk_at dksX5_comparesLetters_0 20 rfl rfl)
theorem dX5_comparesLetters_21 : decode cX5_comparesLetters 21 = .ok (.invokestatic 355, 3) := dk_184 1 99 (dk_at dksX5_comparesLetters_0 21 rfl rfl)
theorem dX5_comparesLetters_24 : decode cX5_comparesLetters 24 = .ok (.ifCond .ne 9, 3) := dk_154 0 9 (dk_at dksX5_comparesLetters_1 0 rfl rfl)
theorem dX5_comparesLetters_27 : decode cX5_comparesLetters 27 = .ok (.iinc 5 1, 3) := dk_132 5 1 (dk_at dksX5_comparesLetters_1 3 rfl rfl)
theorem dX5_comparesLetters_30 : decode cX5_comparesLetters 30 = .ok (.goto (-24), 3) := dk_167 255 232 (dk_at dksX5_comparesLetters_1 6 rfl rfl)
theorem dX5_comparesLetters_33 : decode cX5_comparesLetters 33 = .ok (.iload 6, 2) := dk_21 6 (dk_at dksX5_comparesLetters_1 9 rfl rfl)
theorem dX5_comparesLetters_35 : decode cX5_comparesLetters 35 = .ok (.iload 4, 2) := dk_21 4 (dk_at dksX5_comparesLetters_1 11 rfl rfl)
theorem dX5_comparesLetters_37 : decode cX5_comparesLetters 37 = .ok (.if_icmp .ge 24, 3) := dk_162 0 24 (dk_at dksX5_comparesLetters_1 13 rfl rfl)
theorem dX5_comparesLetters_40 : decode cX5_comparesLetters 40 = .ok (.aload_n 0, 1) := dk_42 (dk_at dksX5_comparesLetters_1 16 rfl rfl)
theorem dX5_comparesLetters_41 : decode cX5_comparesLetters 41 = .ok (.getfield 47, 3) := dk_180 0 47 (dk_at dksX5_comparesLetters_1 17 rfl rfl)
theorem dX5_comparesLetters_44 : decode cX5_comparesLetters 44 = .ok (.iload_n 3, 1) := dk_29 (dk_at dksX5_comparesLetters_1 20 rfl rfl)
theorem dX5_comparesLetters_45 : decode cX5_comparesLetters 45 = .ok (.iload 6, 2) := dk_21 6 (dk_at dksX5_comparesLetters_1 21 rfl rfl)
theorem dX5_comparesLetters_47 : decode cX5_comparesLetters 47 = .ok (.iadd, 1) := dk_96 (dk_at dksX5_comparesLetters_1 23 rfl rfl)
theorem dX5_comparesLetters_48 : decode cX5_comparesLetters 48 = .ok (.iaload, 1) := dk_46 (dk_at dksX5_comparesLetters_2 0 rfl rfl)
theorem dX5_comparesLetters_49 : decode cX5_comparesLetters 49 = .ok (.invokestatic 355, 3) := dk_184 1 99 (dk_at dksX5_comparesLetters_2 1 rfl rfl)
theorem dX5_comparesLetters_52 : decode cX5_comparesLetters 52 = .ok (.ifCond .ne 9, 3) := dk_154 0 9 (dk_at dksX5_comparesLetters_2 4 rfl rfl)
theorem dX5_comparesLetters_55 : decode cX5_comparesLetters 55 = .ok (.iinc 6 1, 3) := dk_132 6 1 (dk_at dksX5_comparesLetters_2 7 rfl rfl)
theorem dX5_comparesLetters_58 : decode cX5_comparesLetters 58 = .ok (.goto (-25), 3) := dk_167 255 231 (dk_at dksX5_comparesLetters_2 10 rfl rfl)
theorem dX5_comparesLetters_61 : decode cX5_comparesLetters 61 = .ok (.iload 5, 2) := dk_21 5 (dk_at dksX5_comparesLetters_2 13 rfl rfl)
theorem dX5_comparesLetters_63 : decode cX5_comparesLetters 63 = .ok (.iload_n 2, 1) := dk_28 (dk_at dksX5_comparesLetters_2 15 rfl rfl)
theorem dX5_comparesLetters_64 : decode cX5_comparesLetters 64 = .ok (.if_icmp .eq 10, 3) := dk_159 0 10 (dk_at dksX5_comparesLetters_2 16 rfl rfl)
theorem dX5_comparesLetters_67 : decode cX5_comparesLetters 67 = .ok (.iload 6, 2) := dk_21 6 (dk_at dksX5_comparesLetters_2 19 rfl rfl)
theorem dX5_comparesLetters_69 : decode cX5_comparesLetters 69 = .ok (.iload 4, 2) := dk_21 4 (dk_at dksX5_comparesLetters_2 21 rfl rfl)
theorem dX5_comparesLetters_71 : decode cX5_comparesLetters 71 = .ok (.if_icmp .ne 28, 3) := dk_160 0 28 (dk_at dksX5_comparesLetters_3 0 rfl rfl)
theorem dX5_comparesLetters_74 : decode cX5_comparesLetters 74 = .ok (.iload 5, 2) := dk_21 5 (dk_at dksX5_comparesLetters_3 3 rfl rfl)
theorem dX5_comparesLetters_76 : decode cX5_comparesLetters 76 = .ok (.iload_n 2, 1) := dk_28 (dk_at dksX5_comparesLetters_3 5 rfl rfl)
theorem dX5_comparesLetters_77 : decode cX5_comparesLetters 77 = .ok (.if_icmp .ge 7, 3) := dk_162 0 7 (dk_at dksX5_comparesLetters_3 6 rfl rfl)
theorem dX5_comparesLetters_80 : decode cX5_comparesLetters 80 = .ok (.iconst 1, 1) := dk_4 (dk_at dksX5_comparesLetters_3 9 rfl rfl)
theorem dX5_comparesLetters_81 : decode cX5_comparesLetters 81 = .ok (.goto 4, 3) := dk_167 0 4 (dk_at dksX5_comparesLetters_3 10 rfl rfl)
theorem dX5_comparesLetters_84 : decode cX5_comparesLetters 84 = .ok (.iconst 0, 1) := dk_3 (dk_at dksX5_comparesLetters_3 13 rfl rfl)
theorem dX5_comparesLetters_85 : decode cX5_comparesLetters 85 = .ok (.iload 6, 2) := dk_21 6 (dk_at dksX5_comparesLetters_3 14 rfl rfl)
theorem dX5_comparesLetters_87 : decode cX5_comparesLetters 87 = .ok (.iload 4, 2) := dk_21 4 (dk_at dksX5_comparesLetters_3 16 rfl rfl)
theorem dX5_comparesLetters_89 : decode cX5_comparesLetters 89 = .ok (.if_icmp .ge 7, 3) := dk_162 0 7 (dk_at dksX5_comparesLetters_3 18 rfl rfl)
theorem dX5_comparesLetters_92 : decode cX5_comparesLetters 92 = .ok (.iconst 1, 1) := dk_4 (dk_at dksX5_comparesLetters_3 21 rfl rfl)
theorem dX5_comparesLetters_93 : decode cX5_comparesLetters 93 = .ok (.goto 4, 3) := dk_167 0 4 (dk_at dksX5_comparesLetters_4 0 rfl rfl)
theorem dX5_comparesLetters_96 : decode cX5_comparesLetters 96 = .ok (.iconst 0, 1) := dk_3 (dk_at dksX5_comparesLetters_4 3 rfl rfl)
theorem dX5_comparesLetters_97 : decode cX5_comparesLetters 97 = .ok (.isub, 1) := dk_100 (dk_at dksX5_comparesLetters_4 4 rfl rfl)
theorem dX5_comparesLetters_98 : decode cX5_comparesLetters 98 = .ok (.ireturn, 1) := dk_172 (dk_at dksX5_comparesLetters_4 5 rfl rfl)
theorem dX5_comparesLetters_99 : decode cX5_comparesLetters 99 = .ok (.aload_n 0, 1) := dk_42 (dk_at dksX5_comparesLetters_4 6 rfl rfl)
theorem dX5_comparesLetters_100 : decode cX5_comparesLetters 100 = .ok (.getfield 47, 3) := dk_180 0 47 (dk_at dksX5_comparesLetters_4 7 rfl rfl)
theorem dX5_comparesLetters_103 : decode cX5_comparesLetters 103 = .ok (.iload_n 1, 1) := dk_27 (dk_at dksX5_comparesLetters_4 10 rfl rfl)
theorem dX5_comparesLetters_104 : decode cX5_comparesLetters 104 = .ok (.iload 5, 2) := dk_21 5 (dk_at dksX5_comparesLetters_4 11 rfl rfl)
theorem dX5_comparesLetters_106 : decode cX5_comparesLetters 106 = .ok (.iadd, 1) := dk_96 (dk_at dksX5_comparesLetters_4 13 rfl rfl)
theorem dX5_comparesLetters_107 : decode cX5_comparesLetters 107 = .ok (.iaload, 1) := dk_46 (dk_at dksX5_comparesLetters_4 14 rfl rfl)
theorem dX5_comparesLetters_108 : decode cX5_comparesLetters 108 = .ok (.aload_n 0, 1) := dk_42 (dk_at dksX5_comparesLetters_4 15 rfl rfl)
theorem dX5_comparesLetters_109 : decode cX5_comparesLetters 109 = .ok (.getfield 47, 3) := dk_180 0 47 (dk_at dksX5_comparesLetters_4 16 rfl rfl)
theorem dX5_comparesLetters_112 : decode cX5_comparesLetters 112 = .ok (.iload_n 3, 1) := dk_29 (dk_at dksX5_comparesLetters_4 19 rfl rfl)
theorem dX5_comparesLetters_113 : decode cX5_comparesLetters 113 = .ok (.iload 6, 2) := dk_21 6 (dk_at dksX5_comparesLetters_4 20 rfl rfl)
theorem dX5_comparesLetters_115 : decode cX5_comparesLetters 115 = .ok (.iadd, 1) := dk_96 (dk_at dksX5_comparesLetters_4 22 rfl rfl)
theorem dX5_comparesLetters_116 : decode cX5_comparesLetters 116 = .ok (.iaload, 1) := dk_46 (dk_at dksX5_comparesLetters_4 23 rfl rfl)
theorem dX5_comparesLetters_117 : decode cX5_comparesLetters 117 = .ok (.if_icmp .eq 23, 3) := dk_159 0 23 (dk_at dksX5_comparesLetters_5 0 rfl rfl)
theorem dX5_comparesLetters_120 : decode cX5_comparesLetters 120 = .ok (.aload_n 0, 1) := dk_42 (dk_at dksX5_comparesLetters_5 3 rfl rfl)
theorem dX5_comparesLetters_121 : decode cX5_comparesLetters 121 = .ok (.getfield 47, 3) := dk_180 0 47 (dk_at dksX5_comparesLetters_5 4 rfl rfl)
theorem dX5_comparesLetters_124 : decode cX5_comparesLetters 124 = .ok (.iload_n 1, 1) := dk_27 (dk_at dksX5_comparesLetters_5 7 rfl rfl)
theorem dX5_comparesLetters_125 : decode cX5_comparesLetters 125 = .ok (.iload 5, 2) := dk_21 5 (dk_at dksX5_comparesLetters_5 8 rfl rfl)
theorem dX5_comparesLetters_127 : decode cX5_comparesLetters 127 = .ok (.iadd, 1) := dk_96 (dk_at dksX5_comparesLetters_5 10 rfl rfl)
theorem dX5_comparesLetters_128 : decode cX5_comparesLetters 128 = .ok (.iaload, 1) := dk_46 (dk_at dksX5_comparesLetters_5 11 rfl rfl)
theorem dX5_comparesLetters_129 : decode cX5_comparesLetters 129 = .ok (.aload_n 0, 1) := dk_42 (dk_at dksX5_comparesLetters_5 12 rfl rfl)
theorem dX5_comparesLetters_130 : decode cX5_comparesLetters 130 = .ok (.getfield 47, 3) := dk_180 0 47 (dk_at dksX5_comparesLetters_5 13 rfl rfl)
theorem dX5_comparesLetters_133 : decode cX5_comparesLetters 133 = .ok (.iload_n 3, 1) := dk_29 (dk_at dksX5_comparesLetters_5 16 rfl rfl)
theorem dX5_comparesLetters_134 : decode cX5_comparesLetters 134 = .ok (.iload 6, 2) := dk_21 6 (dk_at dksX5_comparesLetters_5 17 rfl rfl)
theorem dX5_comparesLetters_136 : decode cX5_comparesLetters 136 = .ok (.iadd, 1) := dk_96 (dk_at dksX5_comparesLetters_5 19 rfl rfl)
theorem dX5_comparesLetters_137 : decode cX5_comparesLetters 137 = .ok (.iaload, 1) := dk_46 (dk_at dksX5_comparesLetters_5 20 rfl rfl)
theorem dX5_comparesLetters_138 : decode cX5_comparesLetters 138 = .ok (.isub, 1) := dk_100 (dk_at dksX5_comparesLetters_5 21 rfl rfl)
theorem dX5_comparesLetters_139 : decode cX5_comparesLetters 139 = .ok (.ireturn, 1) := dk_172 (dk_at dksX5_comparesLetters_5 22 rfl rfl)
theorem dX5_comparesLetters_140 : decode cX5_comparesLetters 140 = .ok (.iinc 5 1, 3) := dk_132 5 1 (dk_at dksX5_comparesLetters_6 0 rfl rfl)
theorem dX5_comparesLetters_143 : decode cX5_comparesLetters 143 = .ok (.iinc 6 1, 3) := dk_132 6 1 (dk_at dksX5_comparesLetters_6 3 rfl rfl)
theorem dX5_comparesLetters_146 : decode cX5_comparesLetters 146 = .ok (.goto (-140), 3) := dk_167 255 116 (dk_at dksX5_comparesLetters_6 6 rfl rfl)
abbrev cX5_isLetter : ByteArray := prog_22_method_64_code
def yX5_isLetter : MethodName := ⟨RX5, "isLetter", "(I)Z"⟩
def dkwX5_isLetter_0 : List UInt8 := [26, 16, 97, 161, 0, 13, 26, 16, 122, 163, 0, 7, 4, 167, 0, 4, 3, 172]
abbrev dktX5_isLetter_0 : List UInt8 := dkwX5_isLetter_0 ++ []
theorem dksX5_isLetter_0 : cX5_isLetter.data.toList.drop 0 = dktX5_isLetter_0 := by decide +kernel
theorem dX5_isLetter_0 : decode cX5_isLetter 0 = .ok (.iload_n 0, 1) := dk_26 (dk_at dksX5_isLetter_0 0 rfl rfl)
theorem dX5_isLetter_1 : decode cX5_isLetter 1 = .ok (.bipush 97, 2) := dk_16 97 (dk_at dksX5_isLetter_0 1 rfl rfl)
theorem dX5_isLetter_3 : decode cX5_isLetter 3 = .ok (.if_icmp .lt 13, 3) := dk_161 0 13 (dk_at dksX5_isLetter_0 3 rfl rfl)
theorem dX5_isLetter_6 : decode cX5_isLetter 6 = .ok (.iload_n 0, 1) := dk_26 (dk_at dksX5_isLetter_0 6 rfl rfl)
theorem dX5_isLetter_7 : decode cX5_isLetter 7 = .ok (.bipush 122, 2) := dk_16 122 (dk_at dksX5_isLetter_0 7 rfl rfl)
theorem dX5_isLetter_9 : decode cX5_isLetter 9 = .ok (.if_icmp .gt 7, 3) := dk_163 0 7 (dk_at dksX5_isLetter_0 9 rfl rfl)
theorem dX5_isLetter_12 : decode cX5_isLetter 12 = .ok (.iconst 1, 1) := dk_4 (dk_at dksX5_isLetter_0 12 rfl rfl)
theorem dX5_isLetter_13 : decode cX5_isLetter 13 = .ok (.goto 4, 3) := dk_167 0 4 (dk_at dksX5_isLetter_0 13 rfl rfl)
theorem dX5_isLetter_16 : decode cX5_isLetter 16 = .ok (.iconst 0, 1) := dk_3 (dk_at dksX5_isLetter_0 16 rfl rfl)
theorem dX5_isLetter_17 : decode cX5_isLetter 17 = .ok (.ireturn, 1) := dk_172 (dk_at dksX5_isLetter_0 17 rfl rfl)
abbrev cX5_compares : ByteArray := prog_22_method_66_code
def yX5_compares : MethodName := ⟨RX5, "compares", "(IIII)I"⟩
def dkwX5_compares_2 : List UInt8 := [180, 0, 47, 29, 21, 5, 96, 46, 100, 172, 132, 5, 1, 167, 255, 199, 28, 21, 4, 100, 172]
abbrev dktX5_compares_2 : List UInt8 := dkwX5_compares_2 ++ []
def dkwX5_compares_1 : List UInt8 := [46, 42, 180, 0, 47, 29, 21, 5, 96, 46, 159, 0, 23, 42, 180, 0, 47, 27, 21, 5, 96, 46, 42]
abbrev dktX5_compares_1 : List UInt8 := dkwX5_compares_1 ++ dktX5_compares_2
def dkwX5_compares_0 : List UInt8 := [3, 54, 5, 21, 5, 28, 162, 0, 57, 21, 5, 21, 4, 162, 0, 50, 42, 180, 0, 47, 27, 21, 5, 96]
abbrev dktX5_compares_0 : List UInt8 := dkwX5_compares_0 ++ dktX5_compares_1
theorem dksX5_compares_0 : cX5_compares.data.toList.drop 0 = dktX5_compares_0 := by decide +kernel
theorem dksX5_compares_1 : cX5_compares.data.toList.drop 24 = dktX5_compares_1 := dk_seg dksX5_compares_0 24 rfl rfl
theorem dksX5_compares_2 : cX5_compares.data.toList.drop 47 = dktX5_compares_2 := dk_seg dksX5_compares_1 23 rfl rfl
theorem dX5_compares_0 : decode cX5_compares 0 = .ok (.iconst 0, 1) := dk_3 (dk_at dksX5_compares_0 0 rfl rfl)
theorem dX5_compares_1 : decode cX5_compares 1 = .ok (.istore 5, 2) := dk_54 5 (dk_at dksX5_compares_0 1 rfl rfl)
theorem dX5_compares_3 : decode cX5_compares 3 = .ok (.iload 5, 2) := dk_21 5 (dk_at dksX5_compares_0 3 rfl rfl)
theorem dX5_compares_5 : decode cX5_compares 5 = .ok (.iload_n 2, 1) := dk_28 (dk_at dksX5_compares_0 5 rfl rfl)
theorem dX5_compares_6 : decode cX5_compares 6 = .ok (.if_icmp .ge 57, 3) := dk_162 0 57 (dk_at dksX5_compares_0 6 rfl rfl)
theorem dX5_compares_9 : decode cX5_compares 9 = .ok (.iload 5, 2) := dk_21 5 (dk_at dksX5_compares_0 9 rfl rfl)
theorem dX5_compares_11 : decode cX5_compares 11 = .ok (.iload 4, 2) := dk_21 4 (dk_at dksX5_compares_0 11 rfl rfl)
theorem dX5_compares_13 : decode cX5_compares 13 = .ok (.if_icmp .ge 50, 3) := dk_162 0 50 (dk_at dksX5_compares_0 13 rfl rfl)
theorem dX5_compares_16 : decode cX5_compares 16 = .ok (.aload_n 0, 1) := dk_42 (dk_at dksX5_compares_0 16 rfl rfl)
theorem dX5_compares_17 : decode cX5_compares 17 = .ok (.getfield 47, 3) := dk_180 0 47 (dk_at dksX5_compares_0 17 rfl rfl)
theorem dX5_compares_20 : decode cX5_compares 20 = .ok (.iload_n 1, 1) := dk_27 (dk_at dksX5_compares_0 20 rfl rfl)
theorem dX5_compares_21 : decode cX5_compares 21 = .ok (.iload 5, 2) := dk_21 5 (dk_at dksX5_compares_0 21 rfl rfl)
theorem dX5_compares_23 : decode cX5_compares 23 = .ok (.iadd, 1) := dk_96 (dk_at dksX5_compares_0 23 rfl rfl)
theorem dX5_compares_24 : decode cX5_compares 24 = .ok (.iaload, 1) := dk_46 (dk_at dksX5_compares_1 0 rfl rfl)
theorem dX5_compares_25 : decode cX5_compares 25 = .ok (.aload_n 0, 1) := dk_42 (dk_at dksX5_compares_1 1 rfl rfl)
theorem dX5_compares_26 : decode cX5_compares 26 = .ok (.getfield 47, 3) := dk_180 0 47 (dk_at dksX5_compares_1 2 rfl rfl)
theorem dX5_compares_29 : decode cX5_compares 29 = .ok (.iload_n 3, 1) := dk_29 (dk_at dksX5_compares_1 5 rfl rfl)
theorem dX5_compares_30 : decode cX5_compares 30 = .ok (.iload 5, 2) := dk_21 5 (dk_at dksX5_compares_1 6 rfl rfl)
theorem dX5_compares_32 : decode cX5_compares 32 = .ok (.iadd, 1) := dk_96 (dk_at dksX5_compares_1 8 rfl rfl)
theorem dX5_compares_33 : decode cX5_compares 33 = .ok (.iaload, 1) := dk_46 (dk_at dksX5_compares_1 9 rfl rfl)
theorem dX5_compares_34 : decode cX5_compares 34 = .ok (.if_icmp .eq 23, 3) := dk_159 0 23 (dk_at dksX5_compares_1 10 rfl rfl)
theorem dX5_compares_37 : decode cX5_compares 37 = .ok (.aload_n 0, 1) := dk_42 (dk_at dksX5_compares_1 13 rfl rfl)
theorem dX5_compares_38 : decode cX5_compares 38 = .ok (.getfield 47, 3) := dk_180 0 47 (dk_at dksX5_compares_1 14 rfl rfl)
theorem dX5_compares_41 : decode cX5_compares 41 = .ok (.iload_n 1, 1) := dk_27 (dk_at dksX5_compares_1 17 rfl rfl)
theorem dX5_compares_42 : decode cX5_compares 42 = .ok (.iload 5, 2) := dk_21 5 (dk_at dksX5_compares_1 18 rfl rfl)
theorem dX5_compares_44 : decode cX5_compares 44 = .ok (.iadd, 1) := dk_96 (dk_at dksX5_compares_1 20 rfl rfl)
theorem dX5_compares_45 : decode cX5_compares 45 = .ok (.iaload, 1) := dk_46 (dk_at dksX5_compares_1 21 rfl rfl)
theorem dX5_compares_46 : decode cX5_compares 46 = .ok (.aload_n 0, 1) := dk_42 (dk_at dksX5_compares_1 22 rfl rfl)
theorem dX5_compares_47 : decode cX5_compares 47 = .ok (.getfield 47, 3) := dk_180 0 47 (dk_at dksX5_compares_2 0 rfl rfl)
theorem dX5_compares_50 : decode cX5_compares 50 = .ok (.iload_n 3, 1) := dk_29 (dk_at dksX5_compares_2 3 rfl rfl)
theorem dX5_compares_51 : decode cX5_compares 51 = .ok (.iload 5, 2) := dk_21 5 (dk_at dksX5_compares_2 4 rfl rfl)
theorem dX5_compares_53 : decode cX5_compares 53 = .ok (.iadd, 1) := dk_96 (dk_at dksX5_compares_2 6 rfl rfl)
theorem dX5_compares_54 : decode cX5_compares 54 = .ok (.iaload, 1) := dk_46 (dk_at dksX5_compares_2 7 rfl rfl)
theorem dX5_compares_55 : decode cX5_compares 55 = .ok (.isub, 1) := dk_100 (dk_at dksX5_compares_2 8 rfl rfl)
theorem dX5_compares_56 : decode cX5_compares 56 = .ok (.ireturn, 1) := dk_172 (dk_at dksX5_compares_2 9 rfl rfl)
theorem dX5_compares_57 : decode cX5_compares 57 = .ok (.iinc 5 1, 3) := dk_132 5 1 (dk_at dksX5_compares_2 10 rfl rfl)
theorem dX5_compares_60 : decode cX5_compares 60 = .ok (.goto (-57), 3) := dk_167 255 199 (dk_at dksX5_compares_2 13 rfl rfl)
theorem dX5_compares_63 : decode cX5_compares 63 = .ok (.iload_n 2, 1) := dk_28 (dk_at dksX5_compares_2 16 rfl rfl)
theorem dX5_compares_64 : decode cX5_compares 64 = .ok (.iload 4, 2) := dk_21 4 (dk_at dksX5_compares_2 17 rfl rfl)
theorem dX5_compares_66 : decode cX5_compares 66 = .ok (.isub, 1) := dk_100 (dk_at dksX5_compares_2 19 rfl rfl)
theorem dX5_compares_67 : decode cX5_compares 67 = .ok (.ireturn, 1) := dk_172 (dk_at dksX5_compares_2 20 rfl rfl)
abbrev cX5_putsPart : ByteArray := prog_22_method_71_code
def yX5_putsPart : MethodName := ⟨RX5, "putsPart", "(III)V"⟩
def dkwX5_putsPart_7 : List UInt8 := [177]
abbrev dktX5_putsPart_7 : List UInt8 := dkwX5_putsPart_7 ++ []
def dkwX5_putsPart_6 : List UInt8 := [21, 6, 96, 46, 182, 1, 96, 132, 6, 1, 167, 255, 220, 21, 5, 153, 0, 9, 42, 16, 41, 182, 1, 96]
abbrev dktX5_putsPart_6 : List UInt8 := dkwX5_putsPart_6 ++ dktX5_putsPart_7
def dkwX5_putsPart_5 : List UInt8 := [42, 180, 0, 67, 27, 29, 96, 46, 162, 0, 29, 42, 42, 180, 0, 47, 42, 180, 0, 64, 27, 29, 96, 46]
abbrev dktX5_putsPart_5 : List UInt8 := dkwX5_putsPart_5 ++ dktX5_putsPart_6
def dkwX5_putsPart_4 : List UInt8 := [29, 96, 46, 182, 1, 128, 54, 5, 21, 5, 153, 0, 9, 42, 16, 40, 182, 1, 96, 3, 54, 6, 21, 6]
abbrev dktX5_putsPart_4 : List UInt8 := dkwX5_putsPart_4 ++ dktX5_putsPart_5
def dkwX5_putsPart_3 : List UInt8 := [42, 18, 56, 21, 4, 5, 100, 182, 1, 124, 42, 42, 180, 0, 64, 27, 29, 96, 46, 42, 180, 0, 67, 27]
abbrev dktX5_putsPart_3 : List UInt8 := dkwX5_putsPart_3 ++ dktX5_putsPart_4
def dkwX5_putsPart_2 : List UInt8 := [182, 1, 121, 132, 4, 1, 132, 5, 1, 167, 255, 206, 42, 16, 45, 182, 1, 96, 21, 4, 4, 164, 0, 13]
abbrev dktX5_putsPart_2 : List UInt8 := dkwX5_putsPart_2 ++ dktX5_putsPart_3
def dkwX5_putsPart_1 : List UInt8 := [154, 0, 30, 21, 4, 158, 0, 9, 42, 16, 44, 182, 1, 96, 42, 42, 180, 0, 61, 27, 21, 5, 96, 46]
abbrev dktX5_putsPart_1 : List UInt8 := dkwX5_putsPart_1 ++ dktX5_putsPart_2
def dkwX5_putsPart_0 : List UInt8 := [3, 54, 4, 3, 54, 5, 21, 5, 28, 162, 0, 50, 42, 27, 21, 5, 96, 27, 29, 96, 182, 1, 118]
abbrev dktX5_putsPart_0 : List UInt8 := dkwX5_putsPart_0 ++ dktX5_putsPart_1
theorem dksX5_putsPart_0 : cX5_putsPart.data.toList.drop 0 = dktX5_putsPart_0 := by decide +kernel
theorem dksX5_putsPart_1 : cX5_putsPart.data.toList.drop 23 = dktX5_putsPart_1 := dk_seg dksX5_putsPart_0 23 rfl rfl
theorem dksX5_putsPart_2 : cX5_putsPart.data.toList.drop 47 = dktX5_putsPart_2 := dk_seg dksX5_putsPart_1 24 rfl rfl
theorem dksX5_putsPart_3 : cX5_putsPart.data.toList.drop 71 = dktX5_putsPart_3 := dk_seg dksX5_putsPart_2 24 rfl rfl
theorem dksX5_putsPart_4 : cX5_putsPart.data.toList.drop 95 = dktX5_putsPart_4 := dk_seg dksX5_putsPart_3 24 rfl rfl
theorem dksX5_putsPart_5 : cX5_putsPart.data.toList.drop 119 = dktX5_putsPart_5 := dk_seg dksX5_putsPart_4 24 rfl rfl
theorem dksX5_putsPart_6 : cX5_putsPart.data.toList.drop 143 = dktX5_putsPart_6 := dk_seg dksX5_putsPart_5 24 rfl rfl
theorem dksX5_putsPart_7 : cX5_putsPart.data.toList.drop 167 = dktX5_putsPart_7 := dk_seg dksX5_putsPart_6 24 rfl rfl
theorem dX5_putsPart_0 : decode cX5_putsPart 0 = .ok (.iconst 0, 1) := dk_3 (dk_at dksX5_putsPart_0 0 rfl rfl)
theorem dX5_putsPart_1 : decode cX5_putsPart 1 = .ok (.istore 4, 2) := dk_54 4 (dk_at dksX5_putsPart_0 1 rfl rfl)
theorem dX5_putsPart_3 : decode cX5_putsPart 3 = .ok (.iconst 0, 1) := dk_3 (dk_at dksX5_putsPart_0 3 rfl rfl)
theorem dX5_putsPart_4 : decode cX5_putsPart 4 = .ok (.istore 5, 2) := dk_54 5 (dk_at dksX5_putsPart_0 4 rfl rfl)
theorem dX5_putsPart_6 : decode cX5_putsPart 6 = .ok (.iload 5, 2) := dk_21 5 (dk_at dksX5_putsPart_0 6 rfl rfl)
theorem dX5_putsPart_8 : decode cX5_putsPart 8 = .ok (.iload_n 2, 1) := dk_28 (dk_at dksX5_putsPart_0 8 rfl rfl)
theorem dX5_putsPart_9 : decode cX5_putsPart 9 = .ok (.if_icmp .ge 50, 3) := dk_162 0 50 (dk_at dksX5_putsPart_0 9 rfl rfl)
theorem dX5_putsPart_12 : decode cX5_putsPart 12 = .ok (.aload_n 0, 1) := dk_42 (dk_at dksX5_putsPart_0 12 rfl rfl)
theorem dX5_putsPart_13 : decode cX5_putsPart 13 = .ok (.iload_n 1, 1) := dk_27 (dk_at dksX5_putsPart_0 13 rfl rfl)
theorem dX5_putsPart_14 : decode cX5_putsPart 14 = .ok (.iload 5, 2) := dk_21 5 (dk_at dksX5_putsPart_0 14 rfl rfl)
theorem dX5_putsPart_16 : decode cX5_putsPart 16 = .ok (.iadd, 1) := dk_96 (dk_at dksX5_putsPart_0 16 rfl rfl)
theorem dX5_putsPart_17 : decode cX5_putsPart 17 = .ok (.iload_n 1, 1) := dk_27 (dk_at dksX5_putsPart_0 17 rfl rfl)
theorem dX5_putsPart_18 : decode cX5_putsPart 18 = .ok (.iload_n 3, 1) := dk_29 (dk_at dksX5_putsPart_0 18 rfl rfl)
theorem dX5_putsPart_19 : decode cX5_putsPart 19 = .ok (.iadd, 1) := dk_96 (dk_at dksX5_putsPart_0 19 rfl rfl)
theorem dX5_putsPart_20 : decode cX5_putsPart 20 = .ok (.invokevirtual 374, 3) := dk_182 1 118 (dk_at dksX5_putsPart_0 20 rfl rfl)
theorem dX5_putsPart_23 : decode cX5_putsPart 23 = .ok (.ifCond .ne 30, 3) := dk_154 0 30 (dk_at dksX5_putsPart_1 0 rfl rfl)
theorem dX5_putsPart_26 : decode cX5_putsPart 26 = .ok (.iload 4, 2) := dk_21 4 (dk_at dksX5_putsPart_1 3 rfl rfl)
theorem dX5_putsPart_28 : decode cX5_putsPart 28 = .ok (.ifCond .le 9, 3) := dk_158 0 9 (dk_at dksX5_putsPart_1 5 rfl rfl)
theorem dX5_putsPart_31 : decode cX5_putsPart 31 = .ok (.aload_n 0, 1) := dk_42 (dk_at dksX5_putsPart_1 8 rfl rfl)
theorem dX5_putsPart_32 : decode cX5_putsPart 32 = .ok (.bipush 44, 2) := dk_16 44 (dk_at dksX5_putsPart_1 9 rfl rfl)
theorem dX5_putsPart_34 : decode cX5_putsPart 34 = .ok (.invokevirtual 352, 3) := dk_182 1 96 (dk_at dksX5_putsPart_1 11 rfl rfl)
theorem dX5_putsPart_37 : decode cX5_putsPart 37 = .ok (.aload_n 0, 1) := dk_42 (dk_at dksX5_putsPart_1 14 rfl rfl)
theorem dX5_putsPart_38 : decode cX5_putsPart 38 = .ok (.aload_n 0, 1) := dk_42 (dk_at dksX5_putsPart_1 15 rfl rfl)
theorem dX5_putsPart_39 : decode cX5_putsPart 39 = .ok (.getfield 61, 3) := dk_180 0 61 (dk_at dksX5_putsPart_1 16 rfl rfl)
theorem dX5_putsPart_42 : decode cX5_putsPart 42 = .ok (.iload_n 1, 1) := dk_27 (dk_at dksX5_putsPart_1 19 rfl rfl)
theorem dX5_putsPart_43 : decode cX5_putsPart 43 = .ok (.iload 5, 2) := dk_21 5 (dk_at dksX5_putsPart_1 20 rfl rfl)
theorem dX5_putsPart_45 : decode cX5_putsPart 45 = .ok (.iadd, 1) := dk_96 (dk_at dksX5_putsPart_1 22 rfl rfl)
theorem dX5_putsPart_46 : decode cX5_putsPart 46 = .ok (.iaload, 1) := dk_46 (dk_at dksX5_putsPart_1 23 rfl rfl)
theorem dX5_putsPart_47 : decode cX5_putsPart 47 = .ok (.invokevirtual 377, 3) := dk_182 1 121 (dk_at dksX5_putsPart_2 0 rfl rfl)
theorem dX5_putsPart_50 : decode cX5_putsPart 50 = .ok (.iinc 4 1, 3) := dk_132 4 1 (dk_at dksX5_putsPart_2 3 rfl rfl)
theorem dX5_putsPart_53 : decode cX5_putsPart 53 = .ok (.iinc 5 1, 3) := dk_132 5 1 (dk_at dksX5_putsPart_2 6 rfl rfl)
theorem dX5_putsPart_56 : decode cX5_putsPart 56 = .ok (.goto (-50), 3) := dk_167 255 206 (dk_at dksX5_putsPart_2 9 rfl rfl)
theorem dX5_putsPart_59 : decode cX5_putsPart 59 = .ok (.aload_n 0, 1) := dk_42 (dk_at dksX5_putsPart_2 12 rfl rfl)
theorem dX5_putsPart_60 : decode cX5_putsPart 60 = .ok (.bipush 45, 2) := dk_16 45 (dk_at dksX5_putsPart_2 13 rfl rfl)
theorem dX5_putsPart_62 : decode cX5_putsPart 62 = .ok (.invokevirtual 352, 3) := dk_182 1 96 (dk_at dksX5_putsPart_2 15 rfl rfl)
theorem dX5_putsPart_65 : decode cX5_putsPart 65 = .ok (.iload 4, 2) := dk_21 4 (dk_at dksX5_putsPart_2 18 rfl rfl)
theorem dX5_putsPart_67 : decode cX5_putsPart 67 = .ok (.iconst 1, 1) := dk_4 (dk_at dksX5_putsPart_2 20 rfl rfl)
theorem dX5_putsPart_68 : decode cX5_putsPart 68 = .ok (.if_icmp .le 13, 3) := dk_164 0 13 (dk_at dksX5_putsPart_2 21 rfl rfl)
theorem dX5_putsPart_71 : decode cX5_putsPart 71 = .ok (.aload_n 0, 1) := dk_42 (dk_at dksX5_putsPart_3 0 rfl rfl)
theorem dX5_putsPart_72 : decode cX5_putsPart 72 = .ok (.ldc 56, 2) := dk_18 56 (dk_at dksX5_putsPart_3 1 rfl rfl)
theorem dX5_putsPart_74 : decode cX5_putsPart 74 = .ok (.iload 4, 2) := dk_21 4 (dk_at dksX5_putsPart_3 3 rfl rfl)
theorem dX5_putsPart_76 : decode cX5_putsPart 76 = .ok (.iconst 2, 1) := dk_5 (dk_at dksX5_putsPart_3 5 rfl rfl)
theorem dX5_putsPart_77 : decode cX5_putsPart 77 = .ok (.isub, 1) := dk_100 (dk_at dksX5_putsPart_3 6 rfl rfl)
theorem dX5_putsPart_78 : decode cX5_putsPart 78 = .ok (.invokevirtual 380, 3) := dk_182 1 124 (dk_at dksX5_putsPart_3 7 rfl rfl)
theorem dX5_putsPart_81 : decode cX5_putsPart 81 = .ok (.aload_n 0, 1) := dk_42 (dk_at dksX5_putsPart_3 10 rfl rfl)
theorem dX5_putsPart_82 : decode cX5_putsPart 82 = .ok (.aload_n 0, 1) := dk_42 (dk_at dksX5_putsPart_3 11 rfl rfl)
theorem dX5_putsPart_83 : decode cX5_putsPart 83 = .ok (.getfield 64, 3) := dk_180 0 64 (dk_at dksX5_putsPart_3 12 rfl rfl)
theorem dX5_putsPart_86 : decode cX5_putsPart 86 = .ok (.iload_n 1, 1) := dk_27 (dk_at dksX5_putsPart_3 15 rfl rfl)
theorem dX5_putsPart_87 : decode cX5_putsPart 87 = .ok (.iload_n 3, 1) := dk_29 (dk_at dksX5_putsPart_3 16 rfl rfl)
theorem dX5_putsPart_88 : decode cX5_putsPart 88 = .ok (.iadd, 1) := dk_96 (dk_at dksX5_putsPart_3 17 rfl rfl)
theorem dX5_putsPart_89 : decode cX5_putsPart 89 = .ok (.iaload, 1) := dk_46 (dk_at dksX5_putsPart_3 18 rfl rfl)
theorem dX5_putsPart_90 : decode cX5_putsPart 90 = .ok (.aload_n 0, 1) := dk_42 (dk_at dksX5_putsPart_3 19 rfl rfl)
theorem dX5_putsPart_91 : decode cX5_putsPart 91 = .ok (.getfield 67, 3) := dk_180 0 67 (dk_at dksX5_putsPart_3 20 rfl rfl)
theorem dX5_putsPart_94 : decode cX5_putsPart 94 = .ok (.iload_n 1, 1) := dk_27 (dk_at dksX5_putsPart_3 23 rfl rfl)
theorem dX5_putsPart_95 : decode cX5_putsPart 95 = .ok (.iload_n 3, 1) := dk_29 (dk_at dksX5_putsPart_4 0 rfl rfl)
theorem dX5_putsPart_96 : decode cX5_putsPart 96 = .ok (.iadd, 1) := dk_96 (dk_at dksX5_putsPart_4 1 rfl rfl)
theorem dX5_putsPart_97 : decode cX5_putsPart 97 = .ok (.iaload, 1) := dk_46 (dk_at dksX5_putsPart_4 2 rfl rfl)
theorem dX5_putsPart_98 : decode cX5_putsPart 98 = .ok (.invokevirtual 384, 3) := dk_182 1 128 (dk_at dksX5_putsPart_4 3 rfl rfl)
theorem dX5_putsPart_101 : decode cX5_putsPart 101 = .ok (.istore 5, 2) := dk_54 5 (dk_at dksX5_putsPart_4 6 rfl rfl)
theorem dX5_putsPart_103 : decode cX5_putsPart 103 = .ok (.iload 5, 2) := dk_21 5 (dk_at dksX5_putsPart_4 8 rfl rfl)
theorem dX5_putsPart_105 : decode cX5_putsPart 105 = .ok (.ifCond .eq 9, 3) := dk_153 0 9 (dk_at dksX5_putsPart_4 10 rfl rfl)
theorem dX5_putsPart_108 : decode cX5_putsPart 108 = .ok (.aload_n 0, 1) := dk_42 (dk_at dksX5_putsPart_4 13 rfl rfl)
theorem dX5_putsPart_109 : decode cX5_putsPart 109 = .ok (.bipush 40, 2) := dk_16 40 (dk_at dksX5_putsPart_4 14 rfl rfl)
theorem dX5_putsPart_111 : decode cX5_putsPart 111 = .ok (.invokevirtual 352, 3) := dk_182 1 96 (dk_at dksX5_putsPart_4 16 rfl rfl)
theorem dX5_putsPart_114 : decode cX5_putsPart 114 = .ok (.iconst 0, 1) := dk_3 (dk_at dksX5_putsPart_4 19 rfl rfl)
theorem dX5_putsPart_115 : decode cX5_putsPart 115 = .ok (.istore 6, 2) := dk_54 6 (dk_at dksX5_putsPart_4 20 rfl rfl)
theorem dX5_putsPart_117 : decode cX5_putsPart 117 = .ok (.iload 6, 2) := dk_21 6 (dk_at dksX5_putsPart_4 22 rfl rfl)
theorem dX5_putsPart_119 : decode cX5_putsPart 119 = .ok (.aload_n 0, 1) := dk_42 (dk_at dksX5_putsPart_5 0 rfl rfl)
theorem dX5_putsPart_120 : decode cX5_putsPart 120 = .ok (.getfield 67, 3) := dk_180 0 67 (dk_at dksX5_putsPart_5 1 rfl rfl)
theorem dX5_putsPart_123 : decode cX5_putsPart 123 = .ok (.iload_n 1, 1) := dk_27 (dk_at dksX5_putsPart_5 4 rfl rfl)
theorem dX5_putsPart_124 : decode cX5_putsPart 124 = .ok (.iload_n 3, 1) := dk_29 (dk_at dksX5_putsPart_5 5 rfl rfl)
theorem dX5_putsPart_125 : decode cX5_putsPart 125 = .ok (.iadd, 1) := dk_96 (dk_at dksX5_putsPart_5 6 rfl rfl)
theorem dX5_putsPart_126 : decode cX5_putsPart 126 = .ok (.iaload, 1) := dk_46 (dk_at dksX5_putsPart_5 7 rfl rfl)
theorem dX5_putsPart_127 : decode cX5_putsPart 127 = .ok (.if_icmp .ge 29, 3) := dk_162 0 29 (dk_at dksX5_putsPart_5 8 rfl rfl)
theorem dX5_putsPart_130 : decode cX5_putsPart 130 = .ok (.aload_n 0, 1) := dk_42 (dk_at dksX5_putsPart_5 11 rfl rfl)
theorem dX5_putsPart_131 : decode cX5_putsPart 131 = .ok (.aload_n 0, 1) := dk_42 (dk_at dksX5_putsPart_5 12 rfl rfl)
theorem dX5_putsPart_132 : decode cX5_putsPart 132 = .ok (.getfield 47, 3) := dk_180 0 47 (dk_at dksX5_putsPart_5 13 rfl rfl)
theorem dX5_putsPart_135 : decode cX5_putsPart 135 = .ok (.aload_n 0, 1) := dk_42 (dk_at dksX5_putsPart_5 16 rfl rfl)
theorem dX5_putsPart_136 : decode cX5_putsPart 136 = .ok (.getfield 64, 3) := dk_180 0 64 (dk_at dksX5_putsPart_5 17 rfl rfl)
theorem dX5_putsPart_139 : decode cX5_putsPart 139 = .ok (.iload_n 1, 1) := dk_27 (dk_at dksX5_putsPart_5 20 rfl rfl)
theorem dX5_putsPart_140 : decode cX5_putsPart 140 = .ok (.iload_n 3, 1) := dk_29 (dk_at dksX5_putsPart_5 21 rfl rfl)
theorem dX5_putsPart_141 : decode cX5_putsPart 141 = .ok (.iadd, 1) := dk_96 (dk_at dksX5_putsPart_5 22 rfl rfl)
theorem dX5_putsPart_142 : decode cX5_putsPart 142 = .ok (.iaload, 1) := dk_46 (dk_at dksX5_putsPart_5 23 rfl rfl)
theorem dX5_putsPart_143 : decode cX5_putsPart 143 = .ok (.iload 6, 2) := dk_21 6 (dk_at dksX5_putsPart_6 0 rfl rfl)
theorem dX5_putsPart_145 : decode cX5_putsPart 145 = .ok (.iadd, 1) := dk_96 (dk_at dksX5_putsPart_6 2 rfl rfl)
theorem dX5_putsPart_146 : decode cX5_putsPart 146 = .ok (.iaload, 1) := dk_46 (dk_at dksX5_putsPart_6 3 rfl rfl)
theorem dX5_putsPart_147 : decode cX5_putsPart 147 = .ok (.invokevirtual 352, 3) := dk_182 1 96 (dk_at dksX5_putsPart_6 4 rfl rfl)
theorem dX5_putsPart_150 : decode cX5_putsPart 150 = .ok (.iinc 6 1, 3) := dk_132 6 1 (dk_at dksX5_putsPart_6 7 rfl rfl)
theorem dX5_putsPart_153 : decode cX5_putsPart 153 = .ok (.goto (-36), 3) := dk_167 255 220 (dk_at dksX5_putsPart_6 10 rfl rfl)
theorem dX5_putsPart_156 : decode cX5_putsPart 156 = .ok (.iload 5, 2) := dk_21 5 (dk_at dksX5_putsPart_6 13 rfl rfl)
theorem dX5_putsPart_158 : decode cX5_putsPart 158 = .ok (.ifCond .eq 9, 3) := dk_153 0 9 (dk_at dksX5_putsPart_6 15 rfl rfl)
theorem dX5_putsPart_161 : decode cX5_putsPart 161 = .ok (.aload_n 0, 1) := dk_42 (dk_at dksX5_putsPart_6 18 rfl rfl)
theorem dX5_putsPart_162 : decode cX5_putsPart 162 = .ok (.bipush 41, 2) := dk_16 41 (dk_at dksX5_putsPart_6 19 rfl rfl)
theorem dX5_putsPart_164 : decode cX5_putsPart 164 = .ok (.invokevirtual 352, 3) := dk_182 1 96 (dk_at dksX5_putsPart_6 21 rfl rfl)
theorem dX5_putsPart_167 : decode cX5_putsPart 167 = .ok (.return_, 1) := dk_177 (dk_at dksX5_putsPart_7 0 rfl rfl)
abbrev cX5_puts : ByteArray := prog_22_method_60_code
def yX5_puts : MethodName := ⟨RX5, "puts", "(I)V"⟩
def dkwX5_puts_0 : List UInt8 := [42, 180, 0, 47, 42, 180, 1, 11, 27, 79, 42, 89, 180, 1, 11, 4, 96, 181, 1, 11, 177]
abbrev dktX5_puts_0 : List UInt8 := dkwX5_puts_0 ++ []
theorem dksX5_puts_0 : cX5_puts.data.toList.drop 0 = dktX5_puts_0 := by decide +kernel
theorem dX5_puts_0 : decode cX5_puts 0 = .ok (.aload_n 0, 1) := dk_42 (dk_at dksX5_puts_0 0 rfl rfl)
theorem dX5_puts_1 : decode cX5_puts 1 = .ok (.getfield 47, 3) := dk_180 0 47 (dk_at dksX5_puts_0 1 rfl rfl)
theorem dX5_puts_4 : decode cX5_puts 4 = .ok (.aload_n 0, 1) := dk_42 (dk_at dksX5_puts_0 4 rfl rfl)
theorem dX5_puts_5 : decode cX5_puts 5 = .ok (.getfield 267, 3) := dk_180 1 11 (dk_at dksX5_puts_0 5 rfl rfl)
theorem dX5_puts_8 : decode cX5_puts 8 = .ok (.iload_n 1, 1) := dk_27 (dk_at dksX5_puts_0 8 rfl rfl)
theorem dX5_puts_9 : decode cX5_puts 9 = .ok (.iastore, 1) := dk_79 (dk_at dksX5_puts_0 9 rfl rfl)
theorem dX5_puts_10 : decode cX5_puts 10 = .ok (.aload_n 0, 1) := dk_42 (dk_at dksX5_puts_0 10 rfl rfl)
theorem dX5_puts_11 : decode cX5_puts 11 = .ok (.dup, 1) := dk_89 (dk_at dksX5_puts_0 11 rfl rfl)
theorem dX5_puts_12 : decode cX5_puts 12 = .ok (.getfield 267, 3) := dk_180 1 11 (dk_at dksX5_puts_0 12 rfl rfl)
theorem dX5_puts_15 : decode cX5_puts 15 = .ok (.iconst 1, 1) := dk_4 (dk_at dksX5_puts_0 15 rfl rfl)
theorem dX5_puts_16 : decode cX5_puts 16 = .ok (.iadd, 1) := dk_96 (dk_at dksX5_puts_0 16 rfl rfl)
theorem dX5_puts_17 : decode cX5_puts 17 = .ok (.putfield 267, 3) := dk_181 1 11 (dk_at dksX5_puts_0 17 rfl rfl)
theorem dX5_puts_20 : decode cX5_puts 20 = .ok (.return_, 1) := dk_177 (dk_at dksX5_puts_0 20 rfl rfl)
abbrev cX5_putsNumber : ByteArray := prog_22_method_63_code
def yX5_putsNumber : MethodName := ⟨RX5, "putsNumber", "(I)V"⟩
def dkwX5_putsNumber_1 : List UInt8 := [96, 182, 1, 96, 177]
abbrev dktX5_putsNumber_1 : List UInt8 := dkwX5_putsNumber_1 ++ []
def dkwX5_putsNumber_0 : List UInt8 := [27, 16, 9, 164, 0, 14, 42, 16, 48, 27, 16, 10, 108, 96, 182, 1, 96, 42, 16, 48, 27, 16, 10, 112]
abbrev dktX5_putsNumber_0 : List UInt8 := dkwX5_putsNumber_0 ++ dktX5_putsNumber_1
theorem dksX5_putsNumber_0 : cX5_putsNumber.data.toList.drop 0 = dktX5_putsNumber_0 := by decide +kernel
theorem dksX5_putsNumber_1 : cX5_putsNumber.data.toList.drop 24 = dktX5_putsNumber_1 := dk_seg dksX5_putsNumber_0 24 rfl rfl
theorem dX5_putsNumber_0 : decode cX5_putsNumber 0 = .ok (.iload_n 1, 1) := dk_27 (dk_at dksX5_putsNumber_0 0 rfl rfl)
theorem dX5_putsNumber_1 : decode cX5_putsNumber 1 = .ok (.bipush 9, 2) := dk_16 9 (dk_at dksX5_putsNumber_0 1 rfl rfl)
theorem dX5_putsNumber_3 : decode cX5_putsNumber 3 = .ok (.if_icmp .le 14, 3) := dk_164 0 14 (dk_at dksX5_putsNumber_0 3 rfl rfl)
theorem dX5_putsNumber_6 : decode cX5_putsNumber 6 = .ok (.aload_n 0, 1) := dk_42 (dk_at dksX5_putsNumber_0 6 rfl rfl)
theorem dX5_putsNumber_7 : decode cX5_putsNumber 7 = .ok (.bipush 48, 2) := dk_16 48 (dk_at dksX5_putsNumber_0 7 rfl rfl)
theorem dX5_putsNumber_9 : decode cX5_putsNumber 9 = .ok (.iload_n 1, 1) := dk_27 (dk_at dksX5_putsNumber_0 9 rfl rfl)
theorem dX5_putsNumber_10 : decode cX5_putsNumber 10 = .ok (.bipush 10, 2) := dk_16 10 (dk_at dksX5_putsNumber_0 10 rfl rfl)
theorem dX5_putsNumber_12 : decode cX5_putsNumber 12 = .ok (.idiv, 1) := dk_108 (dk_at dksX5_putsNumber_0 12 rfl rfl)
theorem dX5_putsNumber_13 : decode cX5_putsNumber 13 = .ok (.iadd, 1) := dk_96 (dk_at dksX5_putsNumber_0 13 rfl rfl)
theorem dX5_putsNumber_14 : decode cX5_putsNumber 14 = .ok (.invokevirtual 352, 3) := dk_182 1 96 (dk_at dksX5_putsNumber_0 14 rfl rfl)
theorem dX5_putsNumber_17 : decode cX5_putsNumber 17 = .ok (.aload_n 0, 1) := dk_42 (dk_at dksX5_putsNumber_0 17 rfl rfl)
theorem dX5_putsNumber_18 : decode cX5_putsNumber 18 = .ok (.bipush 48, 2) := dk_16 48 (dk_at dksX5_putsNumber_0 18 rfl rfl)
theorem dX5_putsNumber_20 : decode cX5_putsNumber 20 = .ok (.iload_n 1, 1) := dk_27 (dk_at dksX5_putsNumber_0 20 rfl rfl)
theorem dX5_putsNumber_21 : decode cX5_putsNumber 21 = .ok (.bipush 10, 2) := dk_16 10 (dk_at dksX5_putsNumber_0 21 rfl rfl)
theorem dX5_putsNumber_23 : decode cX5_putsNumber 23 = .ok (.irem, 1) := dk_112 (dk_at dksX5_putsNumber_0 23 rfl rfl)
theorem dX5_putsNumber_24 : decode cX5_putsNumber 24 = .ok (.iadd, 1) := dk_96 (dk_at dksX5_putsNumber_1 0 rfl rfl)
theorem dX5_putsNumber_25 : decode cX5_putsNumber 25 = .ok (.invokevirtual 352, 3) := dk_182 1 96 (dk_at dksX5_putsNumber_1 1 rfl rfl)
theorem dX5_putsNumber_28 : decode cX5_putsNumber 28 = .ok (.return_, 1) := dk_177 (dk_at dksX5_putsNumber_1 4 rfl rfl)
abbrev cX5_putsWord : ByteArray := prog_22_method_62_code
def yX5_putsWord : MethodName := ⟨RX5, "putsWord", "(Ljava/lang/String;I)V"⟩
def dkwX5_putsWord_1 : List UInt8 := [182, 1, 96, 132, 3, 1, 167, 255, 234, 177]
abbrev dktX5_putsWord_1 : List UInt8 := dkwX5_putsWord_1 ++ []
def dkwX5_putsWord_0 : List UInt8 := [43, 28, 184, 1, 92, 62, 43, 29, 182, 1, 86, 16, 32, 159, 0, 18, 42, 43, 29, 182, 1, 86]
abbrev dktX5_putsWord_0 : List UInt8 := dkwX5_putsWord_0 ++ dktX5_putsWord_1
theorem dksX5_putsWord_0 : cX5_putsWord.data.toList.drop 0 = dktX5_putsWord_0 := by decide +kernel
theorem dksX5_putsWord_1 : cX5_putsWord.data.toList.drop 22 = dktX5_putsWord_1 := dk_seg dksX5_putsWord_0 22 rfl rfl
theorem dX5_putsWord_0 : decode cX5_putsWord 0 = .ok (.aload_n 1, 1) := dk_43 (dk_at dksX5_putsWord_0 0 rfl rfl)
theorem dX5_putsWord_1 : decode cX5_putsWord 1 = .ok (.iload_n 2, 1) := dk_28 (dk_at dksX5_putsWord_0 1 rfl rfl)
theorem dX5_putsWord_2 : decode cX5_putsWord 2 = .ok (.invokestatic 348, 3) := dk_184 1 92 (dk_at dksX5_putsWord_0 2 rfl rfl)
theorem dX5_putsWord_5 : decode cX5_putsWord 5 = .ok (.istore_n 3, 1) := dk_62 (dk_at dksX5_putsWord_0 5 rfl rfl)
theorem dX5_putsWord_6 : decode cX5_putsWord 6 = .ok (.aload_n 1, 1) := dk_43 (dk_at dksX5_putsWord_0 6 rfl rfl)
theorem dX5_putsWord_7 : decode cX5_putsWord 7 = .ok (.iload_n 3, 1) := dk_29 (dk_at dksX5_putsWord_0 7 rfl rfl)
theorem dX5_putsWord_8 : decode cX5_putsWord 8 = .ok (.invokevirtual 342, 3) := dk_182 1 86 (dk_at dksX5_putsWord_0 8 rfl rfl)
theorem dX5_putsWord_11 : decode cX5_putsWord 11 = .ok (.bipush 32, 2) := dk_16 32 (dk_at dksX5_putsWord_0 11 rfl rfl)
theorem dX5_putsWord_13 : decode cX5_putsWord 13 = .ok (.if_icmp .eq 18, 3) := dk_159 0 18 (dk_at dksX5_putsWord_0 13 rfl rfl)
theorem dX5_putsWord_16 : decode cX5_putsWord 16 = .ok (.aload_n 0, 1) := dk_42 (dk_at dksX5_putsWord_0 16 rfl rfl)
theorem dX5_putsWord_17 : decode cX5_putsWord 17 = .ok (.aload_n 1, 1) := dk_43 (dk_at dksX5_putsWord_0 17 rfl rfl)
theorem dX5_putsWord_18 : decode cX5_putsWord 18 = .ok (.iload_n 3, 1) := dk_29 (dk_at dksX5_putsWord_0 18 rfl rfl)
theorem dX5_putsWord_19 : decode cX5_putsWord 19 = .ok (.invokevirtual 342, 3) := dk_182 1 86 (dk_at dksX5_putsWord_0 19 rfl rfl)
theorem dX5_putsWord_22 : decode cX5_putsWord 22 = .ok (.invokevirtual 352, 3) := dk_182 1 96 (dk_at dksX5_putsWord_1 0 rfl rfl)
theorem dX5_putsWord_25 : decode cX5_putsWord 25 = .ok (.iinc 3 1, 3) := dk_132 3 1 (dk_at dksX5_putsWord_1 3 rfl rfl)
theorem dX5_putsWord_28 : decode cX5_putsWord 28 = .ok (.goto (-22), 3) := dk_167 255 234 (dk_at dksX5_putsWord_1 6 rfl rfl)
theorem dX5_putsWord_31 : decode cX5_putsWord 31 = .ok (.return_, 1) := dk_177 (dk_at dksX5_putsWord_1 9 rfl rfl)
abbrev cX5_wordAt : ByteArray := prog_22_method_61_code
def yX5_wordAt : MethodName := ⟨RX5, "wordAt", "(Ljava/lang/String;I)I"⟩
def dkwX5_wordAt_1 : List UInt8 := [100, 62, 132, 2, 1, 167, 255, 231, 28, 172]
abbrev dktX5_wordAt_1 : List UInt8 := dkwX5_wordAt_1 ++ []
def dkwX5_wordAt_0 : List UInt8 := [3, 61, 27, 62, 29, 158, 0, 27, 29, 42, 28, 182, 1, 86, 16, 32, 160, 0, 7, 4, 167, 0, 4, 3]
abbrev dktX5_wordAt_0 : List UInt8 := dkwX5_wordAt_0 ++ dktX5_wordAt_1
theorem dksX5_wordAt_0 : cX5_wordAt.data.toList.drop 0 = dktX5_wordAt_0 := by decide +kernel
theorem dksX5_wordAt_1 : cX5_wordAt.data.toList.drop 24 = dktX5_wordAt_1 := dk_seg dksX5_wordAt_0 24 rfl rfl
theorem dX5_wordAt_0 : decode cX5_wordAt 0 = .ok (.iconst 0, 1) := dk_3 (dk_at dksX5_wordAt_0 0 rfl rfl)
theorem dX5_wordAt_1 : decode cX5_wordAt 1 = .ok (.istore_n 2, 1) := dk_61 (dk_at dksX5_wordAt_0 1 rfl rfl)
theorem dX5_wordAt_2 : decode cX5_wordAt 2 = .ok (.iload_n 1, 1) := dk_27 (dk_at dksX5_wordAt_0 2 rfl rfl)
theorem dX5_wordAt_3 : decode cX5_wordAt 3 = .ok (.istore_n 3, 1) := dk_62 (dk_at dksX5_wordAt_0 3 rfl rfl)
theorem dX5_wordAt_4 : decode cX5_wordAt 4 = .ok (.iload_n 3, 1) := dk_29 (dk_at dksX5_wordAt_0 4 rfl rfl)
theorem dX5_wordAt_5 : decode cX5_wordAt 5 = .ok (.ifCond .le 27, 3) := dk_158 0 27 (dk_at dksX5_wordAt_0 5 rfl rfl)
theorem dX5_wordAt_8 : decode cX5_wordAt 8 = .ok (.iload_n 3, 1) := dk_29 (dk_at dksX5_wordAt_0 8 rfl rfl)
theorem dX5_wordAt_9 : decode cX5_wordAt 9 = .ok (.aload_n 0, 1) := dk_42 (dk_at dksX5_wordAt_0 9 rfl rfl)
theorem dX5_wordAt_10 : decode cX5_wordAt 10 = .ok (.iload_n 2, 1) := dk_28 (dk_at dksX5_wordAt_0 10 rfl rfl)
theorem dX5_wordAt_11 : decode cX5_wordAt 11 = .ok (.invokevirtual 342, 3) := dk_182 1 86 (dk_at dksX5_wordAt_0 11 rfl rfl)
theorem dX5_wordAt_14 : decode cX5_wordAt 14 = .ok (.bipush 32, 2) := dk_16 32 (dk_at dksX5_wordAt_0 14 rfl rfl)
theorem dX5_wordAt_16 : decode cX5_wordAt 16 = .ok (.if_icmp .ne 7, 3) := dk_160 0 7 (dk_at dksX5_wordAt_0 16 rfl rfl)
theorem dX5_wordAt_19 : decode cX5_wordAt 19 = .ok (.iconst 1, 1) := dk_4 (dk_at dksX5_wordAt_0 19 rfl rfl)
theorem dX5_wordAt_20 : decode cX5_wordAt 20 = .ok (.goto 4, 3) := dk_167 0 4 (dk_at dksX5_wordAt_0 20 rfl rfl)
theorem dX5_wordAt_23 : decode cX5_wordAt 23 = .ok (.iconst 0, 1) := dk_3 (dk_at dksX5_wordAt_0 23 rfl rfl)
theorem dX5_wordAt_24 : decode cX5_wordAt 24 = .ok (.isub, 1) := dk_100 (dk_at dksX5_wordAt_1 0 rfl rfl)
theorem dX5_wordAt_25 : decode cX5_wordAt 25 = .ok (.istore_n 3, 1) := dk_62 (dk_at dksX5_wordAt_1 1 rfl rfl)
theorem dX5_wordAt_26 : decode cX5_wordAt 26 = .ok (.iinc 2 1, 3) := dk_132 2 1 (dk_at dksX5_wordAt_1 2 rfl rfl)
theorem dX5_wordAt_29 : decode cX5_wordAt 29 = .ok (.goto (-25), 3) := dk_167 255 231 (dk_at dksX5_wordAt_1 5 rfl rfl)
theorem dX5_wordAt_32 : decode cX5_wordAt 32 = .ok (.iload_n 2, 1) := dk_28 (dk_at dksX5_wordAt_1 8 rfl rfl)
theorem dX5_wordAt_33 : decode cX5_wordAt 33 = .ok (.ireturn, 1) := dk_172 (dk_at dksX5_wordAt_1 9 rfl rfl)
abbrev cX5_hasDigit : ByteArray := prog_22_method_68_code
def yX5_hasDigit : MethodName := ⟨RX5, "hasDigit", "(II)Z"⟩
def dkwX5_hasDigit_1 : List UInt8 := [132, 3, 1, 167, 255, 232, 3, 172]
abbrev dktX5_hasDigit_1 : List UInt8 := dkwX5_hasDigit_1 ++ []
def dkwX5_hasDigit_0 : List UInt8 := [3, 62, 29, 28, 162, 0, 25, 42, 180, 0, 47, 27, 29, 96, 46, 184, 1, 102, 153, 0, 5, 4, 172]
abbrev dktX5_hasDigit_0 : List UInt8 := dkwX5_hasDigit_0 ++ dktX5_hasDigit_1
theorem dksX5_hasDigit_0 : cX5_hasDigit.data.toList.drop 0 = dktX5_hasDigit_0 := by decide +kernel
theorem dksX5_hasDigit_1 : cX5_hasDigit.data.toList.drop 23 = dktX5_hasDigit_1 := dk_seg dksX5_hasDigit_0 23 rfl rfl
theorem dX5_hasDigit_0 : decode cX5_hasDigit 0 = .ok (.iconst 0, 1) := dk_3 (dk_at dksX5_hasDigit_0 0 rfl rfl)
theorem dX5_hasDigit_1 : decode cX5_hasDigit 1 = .ok (.istore_n 3, 1) := dk_62 (dk_at dksX5_hasDigit_0 1 rfl rfl)
theorem dX5_hasDigit_2 : decode cX5_hasDigit 2 = .ok (.iload_n 3, 1) := dk_29 (dk_at dksX5_hasDigit_0 2 rfl rfl)
theorem dX5_hasDigit_3 : decode cX5_hasDigit 3 = .ok (.iload_n 2, 1) := dk_28 (dk_at dksX5_hasDigit_0 3 rfl rfl)
theorem dX5_hasDigit_4 : decode cX5_hasDigit 4 = .ok (.if_icmp .ge 25, 3) := dk_162 0 25 (dk_at dksX5_hasDigit_0 4 rfl rfl)
theorem dX5_hasDigit_7 : decode cX5_hasDigit 7 = .ok (.aload_n 0, 1) := dk_42 (dk_at dksX5_hasDigit_0 7 rfl rfl)
theorem dX5_hasDigit_8 : decode cX5_hasDigit 8 = .ok (.getfield 47, 3) := dk_180 0 47 (dk_at dksX5_hasDigit_0 8 rfl rfl)
theorem dX5_hasDigit_11 : decode cX5_hasDigit 11 = .ok (.iload_n 1, 1) := dk_27 (dk_at dksX5_hasDigit_0 11 rfl rfl)
theorem dX5_hasDigit_12 : decode cX5_hasDigit 12 = .ok (.iload_n 3, 1) := dk_29 (dk_at dksX5_hasDigit_0 12 rfl rfl)
theorem dX5_hasDigit_13 : decode cX5_hasDigit 13 = .ok (.iadd, 1) := dk_96 (dk_at dksX5_hasDigit_0 13 rfl rfl)
theorem dX5_hasDigit_14 : decode cX5_hasDigit 14 = .ok (.iaload, 1) := dk_46 (dk_at dksX5_hasDigit_0 14 rfl rfl)
theorem dX5_hasDigit_15 : decode cX5_hasDigit 15 = .ok (.invokestatic 358, 3) := dk_184 1 102 (dk_at dksX5_hasDigit_0 15 rfl rfl)
theorem dX5_hasDigit_18 : decode cX5_hasDigit 18 = .ok (.ifCond .eq 5, 3) := dk_153 0 5 (dk_at dksX5_hasDigit_0 18 rfl rfl)
theorem dX5_hasDigit_21 : decode cX5_hasDigit 21 = .ok (.iconst 1, 1) := dk_4 (dk_at dksX5_hasDigit_0 21 rfl rfl)
theorem dX5_hasDigit_22 : decode cX5_hasDigit 22 = .ok (.ireturn, 1) := dk_172 (dk_at dksX5_hasDigit_0 22 rfl rfl)
theorem dX5_hasDigit_23 : decode cX5_hasDigit 23 = .ok (.iinc 3 1, 3) := dk_132 3 1 (dk_at dksX5_hasDigit_1 0 rfl rfl)
theorem dX5_hasDigit_26 : decode cX5_hasDigit 26 = .ok (.goto (-24), 3) := dk_167 255 232 (dk_at dksX5_hasDigit_1 3 rfl rfl)
theorem dX5_hasDigit_29 : decode cX5_hasDigit 29 = .ok (.iconst 0, 1) := dk_3 (dk_at dksX5_hasDigit_1 6 rfl rfl)
theorem dX5_hasDigit_30 : decode cX5_hasDigit 30 = .ok (.ireturn, 1) := dk_172 (dk_at dksX5_hasDigit_1 7 rfl rfl)
abbrev cX5_isDigit : ByteArray := prog_22_method_65_code
def yX5_isDigit : MethodName := ⟨RX5, "isDigit", "(I)Z"⟩
def dkwX5_isDigit_0 : List UInt8 := [26, 16, 48, 161, 0, 13, 26, 16, 57, 163, 0, 7, 4, 167, 0, 4, 3, 172]
abbrev dktX5_isDigit_0 : List UInt8 := dkwX5_isDigit_0 ++ []
theorem dksX5_isDigit_0 : cX5_isDigit.data.toList.drop 0 = dktX5_isDigit_0 := by decide +kernel
theorem dX5_isDigit_0 : decode cX5_isDigit 0 = .ok (.iload_n 0, 1) := dk_26 (dk_at dksX5_isDigit_0 0 rfl rfl)
theorem dX5_isDigit_1 : decode cX5_isDigit 1 = .ok (.bipush 48, 2) := dk_16 48 (dk_at dksX5_isDigit_0 1 rfl rfl)
theorem dX5_isDigit_3 : decode cX5_isDigit 3 = .ok (.if_icmp .lt 13, 3) := dk_161 0 13 (dk_at dksX5_isDigit_0 3 rfl rfl)
theorem dX5_isDigit_6 : decode cX5_isDigit 6 = .ok (.iload_n 0, 1) := dk_26 (dk_at dksX5_isDigit_0 6 rfl rfl)
theorem dX5_isDigit_7 : decode cX5_isDigit 7 = .ok (.bipush 57, 2) := dk_16 57 (dk_at dksX5_isDigit_0 7 rfl rfl)
theorem dX5_isDigit_9 : decode cX5_isDigit 9 = .ok (.if_icmp .gt 7, 3) := dk_163 0 7 (dk_at dksX5_isDigit_0 9 rfl rfl)
theorem dX5_isDigit_12 : decode cX5_isDigit 12 = .ok (.iconst 1, 1) := dk_4 (dk_at dksX5_isDigit_0 12 rfl rfl)
theorem dX5_isDigit_13 : decode cX5_isDigit 13 = .ok (.goto 4, 3) := dk_167 0 4 (dk_at dksX5_isDigit_0 13 rfl rfl)
theorem dX5_isDigit_16 : decode cX5_isDigit 16 = .ok (.iconst 0, 1) := dk_3 (dk_at dksX5_isDigit_0 16 rfl rfl)
theorem dX5_isDigit_17 : decode cX5_isDigit 17 = .ok (.ireturn, 1) := dk_172 (dk_at dksX5_isDigit_0 17 rfl rfl)
abbrev cX5_measure : ByteArray := prog_22_method_46_code
def yX5_measure : MethodName := ⟨RX5, "measure", "(I)I"⟩
def dkwX5_measure_0 : List UInt8 := [27, 133, 9, 20, 0, 230, 184, 0, 148, 154, 0, 5, 2, 172, 42, 182, 0, 241, 42, 27, 182, 1, 48, 172]
abbrev dktX5_measure_0 : List UInt8 := dkwX5_measure_0 ++ []
theorem dksX5_measure_0 : cX5_measure.data.toList.drop 0 = dktX5_measure_0 := by decide +kernel
theorem dX5_measure_0 : decode cX5_measure 0 = .ok (.iload_n 1, 1) := dk_27 (dk_at dksX5_measure_0 0 rfl rfl)
theorem dX5_measure_1 : decode cX5_measure 1 = .ok (.i2l, 1) := dk_133 (dk_at dksX5_measure_0 1 rfl rfl)
theorem dX5_measure_2 : decode cX5_measure 2 = .ok (.lconst 0, 1) := dk_9 (dk_at dksX5_measure_0 2 rfl rfl)
theorem dX5_measure_3 : decode cX5_measure 3 = .ok (.ldc2_w 230, 3) := dk_20 0 230 (dk_at dksX5_measure_0 3 rfl rfl)
theorem dX5_measure_6 : decode cX5_measure 6 = .ok (.invokestatic 148, 3) := dk_184 0 148 (dk_at dksX5_measure_0 6 rfl rfl)
theorem dX5_measure_9 : decode cX5_measure 9 = .ok (.ifCond .ne 5, 3) := dk_154 0 5 (dk_at dksX5_measure_0 9 rfl rfl)
theorem dX5_measure_12 : decode cX5_measure 12 = .ok (.iconst (-1), 1) := dk_2 (dk_at dksX5_measure_0 12 rfl rfl)
theorem dX5_measure_13 : decode cX5_measure 13 = .ok (.ireturn, 1) := dk_172 (dk_at dksX5_measure_0 13 rfl rfl)
theorem dX5_measure_14 : decode cX5_measure 14 = .ok (.aload_n 0, 1) := dk_42 (dk_at dksX5_measure_0 14 rfl rfl)
theorem dX5_measure_15 : decode cX5_measure 15 = .ok (.invokevirtual 241, 3) := dk_182 0 241 (dk_at dksX5_measure_0 15 rfl rfl)
theorem dX5_measure_18 : decode cX5_measure 18 = .ok (.aload_n 0, 1) := dk_42 (dk_at dksX5_measure_0 18 rfl rfl)
theorem dX5_measure_19 : decode cX5_measure 19 = .ok (.iload_n 1, 1) := dk_27 (dk_at dksX5_measure_0 19 rfl rfl)
theorem dX5_measure_20 : decode cX5_measure 20 = .ok (.invokevirtual 304, 3) := dk_182 1 48 (dk_at dksX5_measure_0 20 rfl rfl)
theorem dX5_measure_23 : decode cX5_measure 23 = .ok (.ireturn, 1) := dk_172 (dk_at dksX5_measure_0 23 rfl rfl)
abbrev cX5_measured : ByteArray := prog_22_method_45_code
def yX5_measured : MethodName := ⟨RX5, "measured", "(I)I"⟩
def dkwX5_measured_5 : List UInt8 := [182, 1, 45, 172]
abbrev dktX5_measured_5 : List UInt8 := dkwX5_measured_5 ++ []
def dkwX5_measured_4 : List UInt8 := [3, 182, 1, 7, 42, 3, 2, 182, 1, 20, 104, 172, 42, 182, 1, 42, 172, 42, 182, 1, 23, 172, 42]
abbrev dktX5_measured_4 : List UInt8 := dkwX5_measured_4 ++ dktX5_measured_5
def dkwX5_measured_3 : List UInt8 := [172, 42, 6, 182, 1, 33, 172, 42, 42, 182, 0, 187, 2, 182, 0, 184, 172, 42, 182, 1, 39, 172, 42, 3]
abbrev dktX5_measured_3 : List UInt8 := dkwX5_measured_3 ++ dktX5_measured_4
def dkwX5_measured_2 : List UInt8 := [42, 180, 0, 145, 172, 5, 5, 42, 180, 0, 145, 104, 96, 172, 42, 2, 182, 1, 33, 172, 42, 182, 1, 36]
abbrev dktX5_measured_2 : List UInt8 := dkwX5_measured_2 ++ dktX5_measured_3
def dkwX5_measured_1 : List UInt8 := [170, 0, 0, 0, 0, 0, 125, 0, 0, 0, 0, 0, 0, 0, 9, 0, 0, 0, 55, 0, 0, 0, 60, 0, 0, 0, 69, 0, 0, 0, 75, 0, 0, 0, 80, 0, 0, 0, 86, 0, 0, 0, 96, 0, 0, 0, 101, 0, 0, 0, 115, 0, 0, 0, 120]
abbrev dktX5_measured_1 : List UInt8 := dkwX5_measured_1 ++ dktX5_measured_2
def dkwX5_measured_0 : List UInt8 := [27]
abbrev dktX5_measured_0 : List UInt8 := dkwX5_measured_0 ++ dktX5_measured_1
theorem dksX5_measured_0 : cX5_measured.data.toList.drop 0 = dktX5_measured_0 := by decide +kernel
theorem dksX5_measured_1 : cX5_measured.data.toList.drop 1 = dktX5_measured_1 := dk_seg dksX5_measured_0 1 rfl rfl
theorem dksX5_measured_2 : cX5_measured.data.toList.drop 56 = dktX5_measured_2 := dk_seg dksX5_measured_1 55 rfl rfl
theorem dksX5_measured_3 : cX5_measured.data.toList.drop 80 = dktX5_measured_3 := dk_seg dksX5_measured_2 24 rfl rfl
theorem dksX5_measured_4 : cX5_measured.data.toList.drop 104 = dktX5_measured_4 := dk_seg dksX5_measured_3 24 rfl rfl
theorem dksX5_measured_5 : cX5_measured.data.toList.drop 127 = dktX5_measured_5 := dk_seg dksX5_measured_4 23 rfl rfl
theorem dX5_measured_0 : decode cX5_measured 0 = .ok (.iload_n 1, 1) := dk_27 (dk_at dksX5_measured_0 0 rfl rfl)
theorem dX5_measured_1 : decode cX5_measured 1 = .ok (.tableswitch 125 0 9 #[55, 60, 69, 75, 80, 86, 96, 101, 115, 120], 55) := by decide +kernel
theorem dX5_measured_56 : decode cX5_measured 56 = .ok (.aload_n 0, 1) := dk_42 (dk_at dksX5_measured_2 0 rfl rfl)
theorem dX5_measured_57 : decode cX5_measured 57 = .ok (.getfield 145, 3) := dk_180 0 145 (dk_at dksX5_measured_2 1 rfl rfl)
theorem dX5_measured_60 : decode cX5_measured 60 = .ok (.ireturn, 1) := dk_172 (dk_at dksX5_measured_2 4 rfl rfl)
theorem dX5_measured_61 : decode cX5_measured 61 = .ok (.iconst 2, 1) := dk_5 (dk_at dksX5_measured_2 5 rfl rfl)
theorem dX5_measured_62 : decode cX5_measured 62 = .ok (.iconst 2, 1) := dk_5 (dk_at dksX5_measured_2 6 rfl rfl)
theorem dX5_measured_63 : decode cX5_measured 63 = .ok (.aload_n 0, 1) := dk_42 (dk_at dksX5_measured_2 7 rfl rfl)
theorem dX5_measured_64 : decode cX5_measured 64 = .ok (.getfield 145, 3) := dk_180 0 145 (dk_at dksX5_measured_2 8 rfl rfl)
theorem dX5_measured_67 : decode cX5_measured 67 = .ok (.imul, 1) := dk_104 (dk_at dksX5_measured_2 11 rfl rfl)
theorem dX5_measured_68 : decode cX5_measured 68 = .ok (.iadd, 1) := dk_96 (dk_at dksX5_measured_2 12 rfl rfl)
theorem dX5_measured_69 : decode cX5_measured 69 = .ok (.ireturn, 1) := dk_172 (dk_at dksX5_measured_2 13 rfl rfl)
theorem dX5_measured_70 : decode cX5_measured 70 = .ok (.aload_n 0, 1) := dk_42 (dk_at dksX5_measured_2 14 rfl rfl)
theorem dX5_measured_71 : decode cX5_measured 71 = .ok (.iconst (-1), 1) := dk_2 (dk_at dksX5_measured_2 15 rfl rfl)
theorem dX5_measured_72 : decode cX5_measured 72 = .ok (.invokevirtual 289, 3) := dk_182 1 33 (dk_at dksX5_measured_2 16 rfl rfl)
theorem dX5_measured_75 : decode cX5_measured 75 = .ok (.ireturn, 1) := dk_172 (dk_at dksX5_measured_2 19 rfl rfl)
theorem dX5_measured_76 : decode cX5_measured 76 = .ok (.aload_n 0, 1) := dk_42 (dk_at dksX5_measured_2 20 rfl rfl)
theorem dX5_measured_77 : decode cX5_measured 77 = .ok (.invokevirtual 292, 3) := dk_182 1 36 (dk_at dksX5_measured_2 21 rfl rfl)
theorem dX5_measured_80 : decode cX5_measured 80 = .ok (.ireturn, 1) := dk_172 (dk_at dksX5_measured_3 0 rfl rfl)
theorem dX5_measured_81 : decode cX5_measured 81 = .ok (.aload_n 0, 1) := dk_42 (dk_at dksX5_measured_3 1 rfl rfl)
theorem dX5_measured_82 : decode cX5_measured 82 = .ok (.iconst 3, 1) := dk_6 (dk_at dksX5_measured_3 2 rfl rfl)
theorem dX5_measured_83 : decode cX5_measured 83 = .ok (.invokevirtual 289, 3) := dk_182 1 33 (dk_at dksX5_measured_3 3 rfl rfl)
theorem dX5_measured_86 : decode cX5_measured 86 = .ok (.ireturn, 1) := dk_172 (dk_at dksX5_measured_3 6 rfl rfl)
theorem dX5_measured_87 : decode cX5_measured 87 = .ok (.aload_n 0, 1) := dk_42 (dk_at dksX5_measured_3 7 rfl rfl)
theorem dX5_measured_88 : decode cX5_measured 88 = .ok (.aload_n 0, 1) := dk_42 (dk_at dksX5_measured_3 8 rfl rfl)
theorem dX5_measured_89 : decode cX5_measured 89 = .ok (.invokevirtual 187, 3) := dk_182 0 187 (dk_at dksX5_measured_3 9 rfl rfl)
theorem dX5_measured_92 : decode cX5_measured 92 = .ok (.iconst (-1), 1) := dk_2 (dk_at dksX5_measured_3 12 rfl rfl)
theorem dX5_measured_93 : decode cX5_measured 93 = .ok (.invokevirtual 184, 3) := dk_182 0 184 (dk_at dksX5_measured_3 13 rfl rfl)
theorem dX5_measured_96 : decode cX5_measured 96 = .ok (.ireturn, 1) := dk_172 (dk_at dksX5_measured_3 16 rfl rfl)
theorem dX5_measured_97 : decode cX5_measured 97 = .ok (.aload_n 0, 1) := dk_42 (dk_at dksX5_measured_3 17 rfl rfl)
theorem dX5_measured_98 : decode cX5_measured 98 = .ok (.invokevirtual 295, 3) := dk_182 1 39 (dk_at dksX5_measured_3 18 rfl rfl)
theorem dX5_measured_101 : decode cX5_measured 101 = .ok (.ireturn, 1) := dk_172 (dk_at dksX5_measured_3 21 rfl rfl)
theorem dX5_measured_102 : decode cX5_measured 102 = .ok (.aload_n 0, 1) := dk_42 (dk_at dksX5_measured_3 22 rfl rfl)
theorem dX5_measured_103 : decode cX5_measured 103 = .ok (.iconst 0, 1) := dk_3 (dk_at dksX5_measured_3 23 rfl rfl)
theorem dX5_measured_104 : decode cX5_measured 104 = .ok (.iconst 0, 1) := dk_3 (dk_at dksX5_measured_4 0 rfl rfl)
theorem dX5_measured_105 : decode cX5_measured 105 = .ok (.invokevirtual 263, 3) := dk_182 1 7 (dk_at dksX5_measured_4 1 rfl rfl)
theorem dX5_measured_108 : decode cX5_measured 108 = .ok (.aload_n 0, 1) := dk_42 (dk_at dksX5_measured_4 4 rfl rfl)
theorem dX5_measured_109 : decode cX5_measured 109 = .ok (.iconst 0, 1) := dk_3 (dk_at dksX5_measured_4 5 rfl rfl)
theorem dX5_measured_110 : decode cX5_measured 110 = .ok (.iconst (-1), 1) := dk_2 (dk_at dksX5_measured_4 6 rfl rfl)
theorem dX5_measured_111 : decode cX5_measured 111 = .ok (.invokevirtual 276, 3) := dk_182 1 20 (dk_at dksX5_measured_4 7 rfl rfl)
theorem dX5_measured_114 : decode cX5_measured 114 = .ok (.imul, 1) := dk_104 (dk_at dksX5_measured_4 10 rfl rfl)
theorem dX5_measured_115 : decode cX5_measured 115 = .ok (.ireturn, 1) := dk_172 (dk_at dksX5_measured_4 11 rfl rfl)
theorem dX5_measured_116 : decode cX5_measured 116 = .ok (.aload_n 0, 1) := dk_42 (dk_at dksX5_measured_4 12 rfl rfl)
theorem dX5_measured_117 : decode cX5_measured 117 = .ok (.invokevirtual 298, 3) := dk_182 1 42 (dk_at dksX5_measured_4 13 rfl rfl)
theorem dX5_measured_120 : decode cX5_measured 120 = .ok (.ireturn, 1) := dk_172 (dk_at dksX5_measured_4 16 rfl rfl)
theorem dX5_measured_121 : decode cX5_measured 121 = .ok (.aload_n 0, 1) := dk_42 (dk_at dksX5_measured_4 17 rfl rfl)
theorem dX5_measured_122 : decode cX5_measured 122 = .ok (.invokevirtual 279, 3) := dk_182 1 23 (dk_at dksX5_measured_4 18 rfl rfl)
theorem dX5_measured_125 : decode cX5_measured 125 = .ok (.ireturn, 1) := dk_172 (dk_at dksX5_measured_4 21 rfl rfl)
theorem dX5_measured_126 : decode cX5_measured 126 = .ok (.aload_n 0, 1) := dk_42 (dk_at dksX5_measured_4 22 rfl rfl)
theorem dX5_measured_127 : decode cX5_measured 127 = .ok (.invokevirtual 301, 3) := dk_182 1 45 (dk_at dksX5_measured_5 0 rfl rfl)
theorem dX5_measured_130 : decode cX5_measured 130 = .ok (.ireturn, 1) := dk_172 (dk_at dksX5_measured_5 3 rfl rfl)
abbrev cX5_farTogether : ByteArray := prog_22_method_38_code
def yX5_farTogether : MethodName := ⟨RX5, "farTogether", "(I)I"⟩
def dkwX5_farTogether_3 : List UInt8 := [167, 255, 191, 28, 172]
abbrev dktX5_farTogether_3 : List UInt8 := dkwX5_farTogether_3 ++ []
def dkwX5_farTogether_2 : List UInt8 := [21, 5, 27, 160, 0, 7, 4, 167, 0, 4, 3, 96, 61, 132, 4, 1, 167, 255, 210, 132, 3, 1]
abbrev dktX5_farTogether_2 : List UInt8 := dkwX5_farTogether_2 ++ dktX5_farTogether_3
def dkwX5_farTogether_1 : List UInt8 := [162, 0, 43, 42, 29, 21, 4, 2, 182, 0, 180, 54, 5, 28, 27, 2, 160, 0, 8, 21, 5, 167, 0, 14]
abbrev dktX5_farTogether_1 : List UInt8 := dkwX5_farTogether_1 ++ dktX5_farTogether_2
def dkwX5_farTogether_0 : List UInt8 := [3, 61, 3, 62, 29, 42, 180, 0, 145, 162, 0, 63, 29, 4, 96, 54, 4, 21, 4, 42, 180, 0, 145]
abbrev dktX5_farTogether_0 : List UInt8 := dkwX5_farTogether_0 ++ dktX5_farTogether_1
theorem dksX5_farTogether_0 : cX5_farTogether.data.toList.drop 0 = dktX5_farTogether_0 := by decide +kernel
theorem dksX5_farTogether_1 : cX5_farTogether.data.toList.drop 23 = dktX5_farTogether_1 := dk_seg dksX5_farTogether_0 23 rfl rfl
theorem dksX5_farTogether_2 : cX5_farTogether.data.toList.drop 47 = dktX5_farTogether_2 := dk_seg dksX5_farTogether_1 24 rfl rfl
theorem dksX5_farTogether_3 : cX5_farTogether.data.toList.drop 69 = dktX5_farTogether_3 := dk_seg dksX5_farTogether_2 22 rfl rfl
theorem dX5_farTogether_0 : decode cX5_farTogether 0 = .ok (.iconst 0, 1) := dk_3 (dk_at dksX5_farTogether_0 0 rfl rfl)
theorem dX5_farTogether_1 : decode cX5_farTogether 1 = .ok (.istore_n 2, 1) := dk_61 (dk_at dksX5_farTogether_0 1 rfl rfl)
theorem dX5_farTogether_2 : decode cX5_farTogether 2 = .ok (.iconst 0, 1) := dk_3 (dk_at dksX5_farTogether_0 2 rfl rfl)
theorem dX5_farTogether_3 : decode cX5_farTogether 3 = .ok (.istore_n 3, 1) := dk_62 (dk_at dksX5_farTogether_0 3 rfl rfl)
theorem dX5_farTogether_4 : decode cX5_farTogether 4 = .ok (.iload_n 3, 1) := dk_29 (dk_at dksX5_farTogether_0 4 rfl rfl)
theorem dX5_farTogether_5 : decode cX5_farTogether 5 = .ok (.aload_n 0, 1) := dk_42 (dk_at dksX5_farTogether_0 5 rfl rfl)
theorem dX5_farTogether_6 : decode cX5_farTogether 6 = .ok (.getfield 145, 3) := dk_180 0 145 (dk_at dksX5_farTogether_0 6 rfl rfl)
theorem dX5_farTogether_9 : decode cX5_farTogether 9 = .ok (.if_icmp .ge 63, 3) := dk_162 0 63 (dk_at dksX5_farTogether_0 9 rfl rfl)
theorem dX5_farTogether_12 : decode cX5_farTogether 12 = .ok (.iload_n 3, 1) := dk_29 (dk_at dksX5_farTogether_0 12 rfl rfl)
theorem dX5_farTogether_13 : decode cX5_farTogether 13 = .ok (.iconst 1, 1) := dk_4 (dk_at dksX5_farTogether_0 13 rfl rfl)
theorem dX5_farTogether_14 : decode cX5_farTogether 14 = .ok (.iadd, 1) := dk_96 (dk_at dksX5_farTogether_0 14 rfl rfl)
theorem dX5_farTogether_15 : decode cX5_farTogether 15 = .ok (.istore 4, 2) := dk_54 4 (dk_at dksX5_farTogether_0 15 rfl rfl)
theorem dX5_farTogether_17 : decode cX5_farTogether 17 = .ok (.iload 4, 2) := dk_21 4 (dk_at dksX5_farTogether_0 17 rfl rfl)
theorem dX5_farTogether_19 : decode cX5_farTogether 19 = .ok (.aload_n 0, 1) := dk_42 (dk_at dksX5_farTogether_0 19 rfl rfl)
theorem dX5_farTogether_20 : decode cX5_farTogether 20 = .ok (.getfield 145, 3) := dk_180 0 145 (dk_at dksX5_farTogether_0 20 rfl rfl)
theorem dX5_farTogether_23 : decode cX5_farTogether 23 = .ok (.if_icmp .ge 43, 3) := dk_162 0 43 (dk_at dksX5_farTogether_1 0 rfl rfl)
theorem dX5_farTogether_26 : decode cX5_farTogether 26 = .ok (.aload_n 0, 1) := dk_42 (dk_at dksX5_farTogether_1 3 rfl rfl)
theorem dX5_farTogether_27 : decode cX5_farTogether 27 = .ok (.iload_n 3, 1) := dk_29 (dk_at dksX5_farTogether_1 4 rfl rfl)
theorem dX5_farTogether_28 : decode cX5_farTogether 28 = .ok (.iload 4, 2) := dk_21 4 (dk_at dksX5_farTogether_1 5 rfl rfl)
theorem dX5_farTogether_30 : decode cX5_farTogether 30 = .ok (.iconst (-1), 1) := dk_2 (dk_at dksX5_farTogether_1 7 rfl rfl)
theorem dX5_farTogether_31 : decode cX5_farTogether 31 = .ok (.invokevirtual 180, 3) := dk_182 0 180 (dk_at dksX5_farTogether_1 8 rfl rfl)
theorem dX5_farTogether_34 : decode cX5_farTogether 34 = .ok (.istore 5, 2) := dk_54 5 (dk_at dksX5_farTogether_1 11 rfl rfl)
theorem dX5_farTogether_36 : decode cX5_farTogether 36 = .ok (.iload_n 2, 1) := dk_28 (dk_at dksX5_farTogether_1 13 rfl rfl)
theorem dX5_farTogether_37 : decode cX5_farTogether 37 = .ok (.iload_n 1, 1) := dk_27 (dk_at dksX5_farTogether_1 14 rfl rfl)
theorem dX5_farTogether_38 : decode cX5_farTogether 38 = .ok (.iconst (-1), 1) := dk_2 (dk_at dksX5_farTogether_1 15 rfl rfl)
theorem dX5_farTogether_39 : decode cX5_farTogether 39 = .ok (.if_icmp .ne 8, 3) := dk_160 0 8 (dk_at dksX5_farTogether_1 16 rfl rfl)
theorem dX5_farTogether_42 : decode cX5_farTogether 42 = .ok (.iload 5, 2) := dk_21 5 (dk_at dksX5_farTogether_1 19 rfl rfl)
theorem dX5_farTogether_44 : decode cX5_farTogether 44 = .ok (.goto 14, 3) := dk_167 0 14 (dk_at dksX5_farTogether_1 21 rfl rfl)
theorem dX5_farTogether_47 : decode cX5_farTogether 47 = .ok (.iload 5, 2) := dk_21 5 (dk_at dksX5_farTogether_2 0 rfl rfl)
theorem dX5_farTogether_49 : decode cX5_farTogether 49 = .ok (.iload_n 1, 1) := dk_27 (dk_at dksX5_farTogether_2 2 rfl rfl)
theorem dX5_farTogether_50 : decode cX5_farTogether 50 = .ok (.if_icmp .ne 7, 3) := dk_160 0 7 (dk_at dksX5_farTogether_2 3 rfl rfl)
theorem dX5_farTogether_53 : decode cX5_farTogether 53 = .ok (.iconst 1, 1) := dk_4 (dk_at dksX5_farTogether_2 6 rfl rfl)
theorem dX5_farTogether_54 : decode cX5_farTogether 54 = .ok (.goto 4, 3) := dk_167 0 4 (dk_at dksX5_farTogether_2 7 rfl rfl)
theorem dX5_farTogether_57 : decode cX5_farTogether 57 = .ok (.iconst 0, 1) := dk_3 (dk_at dksX5_farTogether_2 10 rfl rfl)
theorem dX5_farTogether_58 : decode cX5_farTogether 58 = .ok (.iadd, 1) := dk_96 (dk_at dksX5_farTogether_2 11 rfl rfl)
theorem dX5_farTogether_59 : decode cX5_farTogether 59 = .ok (.istore_n 2, 1) := dk_61 (dk_at dksX5_farTogether_2 12 rfl rfl)
theorem dX5_farTogether_60 : decode cX5_farTogether 60 = .ok (.iinc 4 1, 3) := dk_132 4 1 (dk_at dksX5_farTogether_2 13 rfl rfl)
theorem dX5_farTogether_63 : decode cX5_farTogether 63 = .ok (.goto (-46), 3) := dk_167 255 210 (dk_at dksX5_farTogether_2 16 rfl rfl)
theorem dX5_farTogether_66 : decode cX5_farTogether 66 = .ok (.iinc 3 1, 3) := dk_132 3 1 (dk_at dksX5_farTogether_2 19 rfl rfl)
theorem dX5_farTogether_69 : decode cX5_farTogether 69 = .ok (.goto (-65), 3) := dk_167 255 191 (dk_at dksX5_farTogether_3 0 rfl rfl)
theorem dX5_farTogether_72 : decode cX5_farTogether 72 = .ok (.iload_n 2, 1) := dk_28 (dk_at dksX5_farTogether_3 3 rfl rfl)
theorem dX5_farTogether_73 : decode cX5_farTogether 73 = .ok (.ireturn, 1) := dk_172 (dk_at dksX5_farTogether_3 4 rfl rfl)
abbrev cX5_ends : ByteArray := prog_22_method_39_code
def yX5_ends : MethodName := ⟨RX5, "ends", "()I"⟩
def dkwX5_ends_1 : List UInt8 := [160, 0, 7, 4, 167, 0, 4, 3, 96, 60, 132, 2, 1, 167, 255, 224, 27, 172]
abbrev dktX5_ends_1 : List UInt8 := dkwX5_ends_1 ++ []
def dkwX5_ends_0 : List UInt8 := [3, 60, 3, 61, 28, 42, 180, 0, 145, 162, 0, 30, 27, 42, 180, 0, 11, 28, 46, 184, 0, 160, 4]
abbrev dktX5_ends_0 : List UInt8 := dkwX5_ends_0 ++ dktX5_ends_1
theorem dksX5_ends_0 : cX5_ends.data.toList.drop 0 = dktX5_ends_0 := by decide +kernel
theorem dksX5_ends_1 : cX5_ends.data.toList.drop 23 = dktX5_ends_1 := dk_seg dksX5_ends_0 23 rfl rfl
theorem dX5_ends_0 : decode cX5_ends 0 = .ok (.iconst 0, 1) := dk_3 (dk_at dksX5_ends_0 0 rfl rfl)
theorem dX5_ends_1 : decode cX5_ends 1 = .ok (.istore_n 1, 1) := dk_60 (dk_at dksX5_ends_0 1 rfl rfl)
theorem dX5_ends_2 : decode cX5_ends 2 = .ok (.iconst 0, 1) := dk_3 (dk_at dksX5_ends_0 2 rfl rfl)
theorem dX5_ends_3 : decode cX5_ends 3 = .ok (.istore_n 2, 1) := dk_61 (dk_at dksX5_ends_0 3 rfl rfl)
theorem dX5_ends_4 : decode cX5_ends 4 = .ok (.iload_n 2, 1) := dk_28 (dk_at dksX5_ends_0 4 rfl rfl)
theorem dX5_ends_5 : decode cX5_ends 5 = .ok (.aload_n 0, 1) := dk_42 (dk_at dksX5_ends_0 5 rfl rfl)
theorem dX5_ends_6 : decode cX5_ends 6 = .ok (.getfield 145, 3) := dk_180 0 145 (dk_at dksX5_ends_0 6 rfl rfl)
theorem dX5_ends_9 : decode cX5_ends 9 = .ok (.if_icmp .ge 30, 3) := dk_162 0 30 (dk_at dksX5_ends_0 9 rfl rfl)
theorem dX5_ends_12 : decode cX5_ends 12 = .ok (.iload_n 1, 1) := dk_27 (dk_at dksX5_ends_0 12 rfl rfl)
theorem dX5_ends_13 : decode cX5_ends 13 = .ok (.aload_n 0, 1) := dk_42 (dk_at dksX5_ends_0 13 rfl rfl)
theorem dX5_ends_14 : decode cX5_ends 14 = .ok (.getfield 11, 3) := dk_180 0 11 (dk_at dksX5_ends_0 14 rfl rfl)
theorem dX5_ends_17 : decode cX5_ends 17 = .ok (.iload_n 2, 1) := dk_28 (dk_at dksX5_ends_0 17 rfl rfl)
theorem dX5_ends_18 : decode cX5_ends 18 = .ok (.iaload, 1) := dk_46 (dk_at dksX5_ends_0 18 rfl rfl)
theorem dX5_ends_19 : decode cX5_ends 19 = .ok (.invokestatic 160, 3) := dk_184 0 160 (dk_at dksX5_ends_0 19 rfl rfl)
theorem dX5_ends_22 : decode cX5_ends 22 = .ok (.iconst 1, 1) := dk_4 (dk_at dksX5_ends_0 22 rfl rfl)
theorem dX5_ends_23 : decode cX5_ends 23 = .ok (.if_icmp .ne 7, 3) := dk_160 0 7 (dk_at dksX5_ends_1 0 rfl rfl)
theorem dX5_ends_26 : decode cX5_ends 26 = .ok (.iconst 1, 1) := dk_4 (dk_at dksX5_ends_1 3 rfl rfl)
theorem dX5_ends_27 : decode cX5_ends 27 = .ok (.goto 4, 3) := dk_167 0 4 (dk_at dksX5_ends_1 4 rfl rfl)
theorem dX5_ends_30 : decode cX5_ends 30 = .ok (.iconst 0, 1) := dk_3 (dk_at dksX5_ends_1 7 rfl rfl)
theorem dX5_ends_31 : decode cX5_ends 31 = .ok (.iadd, 1) := dk_96 (dk_at dksX5_ends_1 8 rfl rfl)
theorem dX5_ends_32 : decode cX5_ends 32 = .ok (.istore_n 1, 1) := dk_60 (dk_at dksX5_ends_1 9 rfl rfl)
theorem dX5_ends_33 : decode cX5_ends 33 = .ok (.iinc 2 1, 3) := dk_132 2 1 (dk_at dksX5_ends_1 10 rfl rfl)
theorem dX5_ends_36 : decode cX5_ends 36 = .ok (.goto (-32), 3) := dk_167 255 224 (dk_at dksX5_ends_1 13 rfl rfl)
theorem dX5_ends_39 : decode cX5_ends 39 = .ok (.iload_n 1, 1) := dk_27 (dk_at dksX5_ends_1 16 rfl rfl)
theorem dX5_ends_40 : decode cX5_ends 40 = .ok (.ireturn, 1) := dk_172 (dk_at dksX5_ends_1 17 rfl rfl)
abbrev cX5_unlike : ByteArray := prog_22_method_40_code
def yX5_unlike : MethodName := ⟨RX5, "unlike", "()I"⟩
def dkwX5_unlike_1 : List UInt8 := [167, 0, 4, 3, 96, 60, 132, 2, 1, 167, 255, 227, 27, 172]
abbrev dktX5_unlike_1 : List UInt8 := dkwX5_unlike_1 ++ []
def dkwX5_unlike_0 : List UInt8 := [3, 60, 3, 61, 28, 42, 180, 0, 145, 162, 0, 27, 27, 42, 28, 4, 182, 1, 7, 28, 160, 0, 7, 4]
abbrev dktX5_unlike_0 : List UInt8 := dkwX5_unlike_0 ++ dktX5_unlike_1
theorem dksX5_unlike_0 : cX5_unlike.data.toList.drop 0 = dktX5_unlike_0 := by decide +kernel
theorem dksX5_unlike_1 : cX5_unlike.data.toList.drop 24 = dktX5_unlike_1 := dk_seg dksX5_unlike_0 24 rfl rfl
theorem dX5_unlike_0 : decode cX5_unlike 0 = .ok (.iconst 0, 1) := dk_3 (dk_at dksX5_unlike_0 0 rfl rfl)
theorem dX5_unlike_1 : decode cX5_unlike 1 = .ok (.istore_n 1, 1) := dk_60 (dk_at dksX5_unlike_0 1 rfl rfl)
theorem dX5_unlike_2 : decode cX5_unlike 2 = .ok (.iconst 0, 1) := dk_3 (dk_at dksX5_unlike_0 2 rfl rfl)
theorem dX5_unlike_3 : decode cX5_unlike 3 = .ok (.istore_n 2, 1) := dk_61 (dk_at dksX5_unlike_0 3 rfl rfl)
theorem dX5_unlike_4 : decode cX5_unlike 4 = .ok (.iload_n 2, 1) := dk_28 (dk_at dksX5_unlike_0 4 rfl rfl)
theorem dX5_unlike_5 : decode cX5_unlike 5 = .ok (.aload_n 0, 1) := dk_42 (dk_at dksX5_unlike_0 5 rfl rfl)
theorem dX5_unlike_6 : decode cX5_unlike 6 = .ok (.getfield 145, 3) := dk_180 0 145 (dk_at dksX5_unlike_0 6 rfl rfl)
theorem dX5_unlike_9 : decode cX5_unlike 9 = .ok (.if_icmp .ge 27, 3) := dk_162 0 27 (dk_at dksX5_unlike_0 9 rfl rfl)
theorem dX5_unlike_12 : decode cX5_unlike 12 = .ok (.iload_n 1, 1) := dk_27 (dk_at dksX5_unlike_0 12 rfl rfl)
theorem dX5_unlike_13 : decode cX5_unlike 13 = .ok (.aload_n 0, 1) := dk_42 (dk_at dksX5_unlike_0 13 rfl rfl)
theorem dX5_unlike_14 : decode cX5_unlike 14 = .ok (.iload_n 2, 1) := dk_28 (dk_at dksX5_unlike_0 14 rfl rfl)
theorem dX5_unlike_15 : decode cX5_unlike 15 = .ok (.iconst 1, 1) := dk_4 (dk_at dksX5_unlike_0 15 rfl rfl)
theorem dX5_unlike_16 : decode cX5_unlike 16 = .ok (.invokevirtual 263, 3) := dk_182 1 7 (dk_at dksX5_unlike_0 16 rfl rfl)
theorem dX5_unlike_19 : decode cX5_unlike 19 = .ok (.iload_n 2, 1) := dk_28 (dk_at dksX5_unlike_0 19 rfl rfl)
theorem dX5_unlike_20 : decode cX5_unlike 20 = .ok (.if_icmp .ne 7, 3) := dk_160 0 7 (dk_at dksX5_unlike_0 20 rfl rfl)
theorem dX5_unlike_23 : decode cX5_unlike 23 = .ok (.iconst 1, 1) := dk_4 (dk_at dksX5_unlike_0 23 rfl rfl)
theorem dX5_unlike_24 : decode cX5_unlike 24 = .ok (.goto 4, 3) := dk_167 0 4 (dk_at dksX5_unlike_1 0 rfl rfl)
theorem dX5_unlike_27 : decode cX5_unlike 27 = .ok (.iconst 0, 1) := dk_3 (dk_at dksX5_unlike_1 3 rfl rfl)
theorem dX5_unlike_28 : decode cX5_unlike 28 = .ok (.iadd, 1) := dk_96 (dk_at dksX5_unlike_1 4 rfl rfl)
theorem dX5_unlike_29 : decode cX5_unlike 29 = .ok (.istore_n 1, 1) := dk_60 (dk_at dksX5_unlike_1 5 rfl rfl)
theorem dX5_unlike_30 : decode cX5_unlike 30 = .ok (.iinc 2 1, 3) := dk_132 2 1 (dk_at dksX5_unlike_1 6 rfl rfl)
theorem dX5_unlike_33 : decode cX5_unlike 33 = .ok (.goto (-29), 3) := dk_167 255 227 (dk_at dksX5_unlike_1 9 rfl rfl)
theorem dX5_unlike_36 : decode cX5_unlike 36 = .ok (.iload_n 1, 1) := dk_27 (dk_at dksX5_unlike_1 12 rfl rfl)
theorem dX5_unlike_37 : decode cX5_unlike 37 = .ok (.ireturn, 1) := dk_172 (dk_at dksX5_unlike_1 13 rfl rfl)
abbrev cX5_waysOf : ByteArray := prog_22_method_41_code
def yX5_waysOf : MethodName := ⟨RX5, "waysOf", "(II)I"⟩
def dkwX5_waysOf_5 : List UInt8 := [132, 4, 1, 167, 255, 145, 29, 172]
abbrev dktX5_waysOf_5 : List UInt8 := dkwX5_waysOf_5 ++ []
def dkwX5_waysOf_4 : List UInt8 := [3, 96, 54, 5, 132, 6, 1, 167, 255, 199, 29, 21, 5, 42, 21, 4, 27, 182, 1, 20, 104, 104, 62]
abbrev dktX5_waysOf_4 : List UInt8 := dkwX5_waysOf_4 ++ dktX5_waysOf_5
def dkwX5_waysOf_3 : List UInt8 := [159, 0, 24, 42, 21, 6, 27, 182, 0, 169, 42, 21, 4, 27, 182, 0, 169, 160, 0, 7, 4, 167, 0, 4]
abbrev dktX5_waysOf_3 : List UInt8 := dkwX5_waysOf_3 ++ dktX5_waysOf_4
def dkwX5_waysOf_2 : List UInt8 := [162, 0, 56, 21, 5, 42, 180, 0, 11, 27, 46, 21, 6, 184, 0, 152, 153, 0, 30, 21, 6, 28]
abbrev dktX5_waysOf_2 : List UInt8 := dkwX5_waysOf_2 ++ dktX5_waysOf_3
def dkwX5_waysOf_1 : List UInt8 := [184, 0, 152, 153, 0, 88, 21, 4, 28, 159, 0, 82, 4, 54, 5, 3, 54, 6, 21, 6, 21, 4]
abbrev dktX5_waysOf_1 : List UInt8 := dkwX5_waysOf_1 ++ dktX5_waysOf_2
def dkwX5_waysOf_0 : List UInt8 := [4, 62, 3, 54, 4, 21, 4, 42, 180, 0, 145, 162, 0, 108, 42, 180, 0, 11, 27, 46, 21, 4]
abbrev dktX5_waysOf_0 : List UInt8 := dkwX5_waysOf_0 ++ dktX5_waysOf_1
theorem dksX5_waysOf_0 : cX5_waysOf.data.toList.drop 0 = dktX5_waysOf_0 := by decide +kernel
theorem dksX5_waysOf_1 : cX5_waysOf.data.toList.drop 22 = dktX5_waysOf_1 := dk_seg dksX5_waysOf_0 22 rfl rfl
theorem dksX5_waysOf_2 : cX5_waysOf.data.toList.drop 44 = dktX5_waysOf_2 := dk_seg dksX5_waysOf_1 22 rfl rfl
theorem dksX5_waysOf_3 : cX5_waysOf.data.toList.drop 66 = dktX5_waysOf_3 := dk_seg dksX5_waysOf_2 22 rfl rfl
theorem dksX5_waysOf_4 : cX5_waysOf.data.toList.drop 90 = dktX5_waysOf_4 := dk_seg dksX5_waysOf_3 24 rfl rfl
theorem dksX5_waysOf_5 : cX5_waysOf.data.toList.drop 113 = dktX5_waysOf_5 := dk_seg dksX5_waysOf_4 23 rfl rfl
theorem dX5_waysOf_0 : decode cX5_waysOf 0 = .ok (.iconst 1, 1) := dk_4 (dk_at dksX5_waysOf_0 0 rfl rfl)
theorem dX5_waysOf_1 : decode cX5_waysOf 1 = .ok (.istore_n 3, 1) := dk_62 (dk_at dksX5_waysOf_0 1 rfl rfl)
theorem dX5_waysOf_2 : decode cX5_waysOf 2 = .ok (.iconst 0, 1) := dk_3 (dk_at dksX5_waysOf_0 2 rfl rfl)
theorem dX5_waysOf_3 : decode cX5_waysOf 3 = .ok (.istore 4, 2) := dk_54 4 (dk_at dksX5_waysOf_0 3 rfl rfl)
theorem dX5_waysOf_5 : decode cX5_waysOf 5 = .ok (.iload 4, 2) := dk_21 4 (dk_at dksX5_waysOf_0 5 rfl rfl)
theorem dX5_waysOf_7 : decode cX5_waysOf 7 = .ok (.aload_n 0, 1) := dk_42 (dk_at dksX5_waysOf_0 7 rfl rfl)
theorem dX5_waysOf_8 : decode cX5_waysOf 8 = .ok (.getfield 145, 3) := dk_180 0 145 (dk_at dksX5_waysOf_0 8 rfl rfl)
theorem dX5_waysOf_11 : decode cX5_waysOf 11 = .ok (.if_icmp .ge 108, 3) := dk_162 0 108 (dk_at dksX5_waysOf_0 11 rfl rfl)
theorem dX5_waysOf_14 : decode cX5_waysOf 14 = .ok (.aload_n 0, 1) := dk_42 (dk_at dksX5_waysOf_0 14 rfl rfl)
theorem dX5_waysOf_15 : decode cX5_waysOf 15 = .ok (.getfield 11, 3) := dk_180 0 11 (dk_at dksX5_waysOf_0 15 rfl rfl)
theorem dX5_waysOf_18 : decode cX5_waysOf 18 = .ok (.iload_n 1, 1) := dk_27 (dk_at dksX5_waysOf_0 18 rfl rfl)
theorem dX5_waysOf_19 : decode cX5_waysOf 19 = .ok (.iaload, 1) := dk_46 (dk_at dksX5_waysOf_0 19 rfl rfl)
theorem dX5_waysOf_20 : decode cX5_waysOf 20 = .ok (.iload 4, 2) := dk_21 4 (dk_at dksX5_waysOf_0 20 rfl rfl)
theorem dX5_waysOf_22 : decode cX5_waysOf 22 = .ok (.invokestatic 152, 3) := dk_184 0 152 (dk_at dksX5_waysOf_1 0 rfl rfl)
theorem dX5_waysOf_25 : decode cX5_waysOf 25 = .ok (.ifCond .eq 88, 3) := dk_153 0 88 (dk_at dksX5_waysOf_1 3 rfl rfl)
theorem dX5_waysOf_28 : decode cX5_waysOf 28 = .ok (.iload 4, 2) := dk_21 4 (dk_at dksX5_waysOf_1 6 rfl rfl)
theorem dX5_waysOf_30 : decode cX5_waysOf 30 = .ok (.iload_n 2, 1) := dk_28 (dk_at dksX5_waysOf_1 8 rfl rfl)
theorem dX5_waysOf_31 : decode cX5_waysOf 31 = .ok (.if_icmp .eq 82, 3) := dk_159 0 82 (dk_at dksX5_waysOf_1 9 rfl rfl)
theorem dX5_waysOf_34 : decode cX5_waysOf 34 = .ok (.iconst 1, 1) := dk_4 (dk_at dksX5_waysOf_1 12 rfl rfl)
theorem dX5_waysOf_35 : decode cX5_waysOf 35 = .ok (.istore 5, 2) := dk_54 5 (dk_at dksX5_waysOf_1 13 rfl rfl)
theorem dX5_waysOf_37 : decode cX5_waysOf 37 = .ok (.iconst 0, 1) := dk_3 (dk_at dksX5_waysOf_1 15 rfl rfl)
theorem dX5_waysOf_38 : decode cX5_waysOf 38 = .ok (.istore 6, 2) := dk_54 6 (dk_at dksX5_waysOf_1 16 rfl rfl)
theorem dX5_waysOf_40 : decode cX5_waysOf 40 = .ok (.iload 6, 2) := dk_21 6 (dk_at dksX5_waysOf_1 18 rfl rfl)
theorem dX5_waysOf_42 : decode cX5_waysOf 42 = .ok (.iload 4, 2) := dk_21 4 (dk_at dksX5_waysOf_1 20 rfl rfl)
theorem dX5_waysOf_44 : decode cX5_waysOf 44 = .ok (.if_icmp .ge 56, 3) := dk_162 0 56 (dk_at dksX5_waysOf_2 0 rfl rfl)
theorem dX5_waysOf_47 : decode cX5_waysOf 47 = .ok (.iload 5, 2) := dk_21 5 (dk_at dksX5_waysOf_2 3 rfl rfl)
theorem dX5_waysOf_49 : decode cX5_waysOf 49 = .ok (.aload_n 0, 1) := dk_42 (dk_at dksX5_waysOf_2 5 rfl rfl)
theorem dX5_waysOf_50 : decode cX5_waysOf 50 = .ok (.getfield 11, 3) := dk_180 0 11 (dk_at dksX5_waysOf_2 6 rfl rfl)
theorem dX5_waysOf_53 : decode cX5_waysOf 53 = .ok (.iload_n 1, 1) := dk_27 (dk_at dksX5_waysOf_2 9 rfl rfl)
theorem dX5_waysOf_54 : decode cX5_waysOf 54 = .ok (.iaload, 1) := dk_46 (dk_at dksX5_waysOf_2 10 rfl rfl)
theorem dX5_waysOf_55 : decode cX5_waysOf 55 = .ok (.iload 6, 2) := dk_21 6 (dk_at dksX5_waysOf_2 11 rfl rfl)
theorem dX5_waysOf_57 : decode cX5_waysOf 57 = .ok (.invokestatic 152, 3) := dk_184 0 152 (dk_at dksX5_waysOf_2 13 rfl rfl)
theorem dX5_waysOf_60 : decode cX5_waysOf 60 = .ok (.ifCond .eq 30, 3) := dk_153 0 30 (dk_at dksX5_waysOf_2 16 rfl rfl)
theorem dX5_waysOf_63 : decode cX5_waysOf 63 = .ok (.iload 6, 2) := dk_21 6 (dk_at dksX5_waysOf_2 19 rfl rfl)
theorem dX5_waysOf_65 : decode cX5_waysOf 65 = .ok (.iload_n 2, 1) := dk_28 (dk_at dksX5_waysOf_2 21 rfl rfl)
theorem dX5_waysOf_66 : decode cX5_waysOf 66 = .ok (.if_icmp .eq 24, 3) := dk_159 0 24 (dk_at dksX5_waysOf_3 0 rfl rfl)
theorem dX5_waysOf_69 : decode cX5_waysOf 69 = .ok (.aload_n 0, 1) := dk_42 (dk_at dksX5_waysOf_3 3 rfl rfl)
theorem dX5_waysOf_70 : decode cX5_waysOf 70 = .ok (.iload 6, 2) := dk_21 6 (dk_at dksX5_waysOf_3 4 rfl rfl)
theorem dX5_waysOf_72 : decode cX5_waysOf 72 = .ok (.iload_n 1, 1) := dk_27 (dk_at dksX5_waysOf_3 6 rfl rfl)
theorem dX5_waysOf_73 : decode cX5_waysOf 73 = .ok (.invokevirtual 169, 3) := dk_182 0 169 (dk_at dksX5_waysOf_3 7 rfl rfl)
theorem dX5_waysOf_76 : decode cX5_waysOf 76 = .ok (.aload_n 0, 1) := dk_42 (dk_at dksX5_waysOf_3 10 rfl rfl)
theorem dX5_waysOf_77 : decode cX5_waysOf 77 = .ok (.iload 4, 2) := dk_21 4 (dk_at dksX5_waysOf_3 11 rfl rfl)
theorem dX5_waysOf_79 : decode cX5_waysOf 79 = .ok (.iload_n 1, 1) := dk_27 (dk_at dksX5_waysOf_3 13 rfl rfl)
theorem dX5_waysOf_80 : decode cX5_waysOf 80 = .ok (.invokevirtual 169, 3) := dk_182 0 169 (dk_at dksX5_waysOf_3 14 rfl rfl)
theorem dX5_waysOf_83 : decode cX5_waysOf 83 = .ok (.if_icmp .ne 7, 3) := dk_160 0 7 (dk_at dksX5_waysOf_3 17 rfl rfl)
theorem dX5_waysOf_86 : decode cX5_waysOf 86 = .ok (.iconst 1, 1) := dk_4 (dk_at dksX5_waysOf_3 20 rfl rfl)
theorem dX5_waysOf_87 : decode cX5_waysOf 87 = .ok (.goto 4, 3) := dk_167 0 4 (dk_at dksX5_waysOf_3 21 rfl rfl)
theorem dX5_waysOf_90 : decode cX5_waysOf 90 = .ok (.iconst 0, 1) := dk_3 (dk_at dksX5_waysOf_4 0 rfl rfl)
theorem dX5_waysOf_91 : decode cX5_waysOf 91 = .ok (.iadd, 1) := dk_96 (dk_at dksX5_waysOf_4 1 rfl rfl)
theorem dX5_waysOf_92 : decode cX5_waysOf 92 = .ok (.istore 5, 2) := dk_54 5 (dk_at dksX5_waysOf_4 2 rfl rfl)
theorem dX5_waysOf_94 : decode cX5_waysOf 94 = .ok (.iinc 6 1, 3) := dk_132 6 1 (dk_at dksX5_waysOf_4 4 rfl rfl)
theorem dX5_waysOf_97 : decode cX5_waysOf 97 = .ok (.goto (-57), 3) := dk_167 255 199 (dk_at dksX5_waysOf_4 7 rfl rfl)
theorem dX5_waysOf_100 : decode cX5_waysOf 100 = .ok (.iload_n 3, 1) := dk_29 (dk_at dksX5_waysOf_4 10 rfl rfl)
theorem dX5_waysOf_101 : decode cX5_waysOf 101 = .ok (.iload 5, 2) := dk_21 5 (dk_at dksX5_waysOf_4 11 rfl rfl)
theorem dX5_waysOf_103 : decode cX5_waysOf 103 = .ok (.aload_n 0, 1) := dk_42 (dk_at dksX5_waysOf_4 13 rfl rfl)
theorem dX5_waysOf_104 : decode cX5_waysOf 104 = .ok (.iload 4, 2) := dk_21 4 (dk_at dksX5_waysOf_4 14 rfl rfl)
theorem dX5_waysOf_106 : decode cX5_waysOf 106 = .ok (.iload_n 1, 1) := dk_27 (dk_at dksX5_waysOf_4 16 rfl rfl)
theorem dX5_waysOf_107 : decode cX5_waysOf 107 = .ok (.invokevirtual 276, 3) := dk_182 1 20 (dk_at dksX5_waysOf_4 17 rfl rfl)
theorem dX5_waysOf_110 : decode cX5_waysOf 110 = .ok (.imul, 1) := dk_104 (dk_at dksX5_waysOf_4 20 rfl rfl)
theorem dX5_waysOf_111 : decode cX5_waysOf 111 = .ok (.imul, 1) := dk_104 (dk_at dksX5_waysOf_4 21 rfl rfl)
theorem dX5_waysOf_112 : decode cX5_waysOf 112 = .ok (.istore_n 3, 1) := dk_62 (dk_at dksX5_waysOf_4 22 rfl rfl)
theorem dX5_waysOf_113 : decode cX5_waysOf 113 = .ok (.iinc 4 1, 3) := dk_132 4 1 (dk_at dksX5_waysOf_5 0 rfl rfl)
theorem dX5_waysOf_116 : decode cX5_waysOf 116 = .ok (.goto (-111), 3) := dk_167 255 145 (dk_at dksX5_waysOf_5 3 rfl rfl)
theorem dX5_waysOf_119 : decode cX5_waysOf 119 = .ok (.iload_n 3, 1) := dk_29 (dk_at dksX5_waysOf_5 6 rfl rfl)
theorem dX5_waysOf_120 : decode cX5_waysOf 120 = .ok (.ireturn, 1) := dk_172 (dk_at dksX5_waysOf_5 7 rfl rfl)
abbrev cX5_more : ByteArray := prog_22_method_42_code
def yX5_more : MethodName := ⟨RX5, "more", "()I"⟩
def dkwX5_more_6 : List UInt8 := [132, 3, 1, 167, 255, 122, 27, 172]
abbrev dktX5_more_6 : List UInt8 := dkwX5_more_6 ++ []
def dkwX5_more_5 : List UInt8 := [132, 6, 1, 167, 255, 223, 21, 5, 153, 0, 14, 42, 180, 0, 31, 27, 21, 4, 79, 132, 1, 1]
abbrev dktX5_more_5 : List UInt8 := dkwX5_more_5 ++ dktX5_more_6
def dkwX5_more_4 : List UInt8 := [21, 5, 153, 0, 19, 42, 180, 0, 31, 21, 6, 46, 21, 4, 159, 0, 7, 4, 167, 0, 4, 3, 54, 5]
abbrev dktX5_more_4 : List UInt8 := dkwX5_more_4 ++ dktX5_more_5
def dkwX5_more_3 : List UInt8 := [180, 0, 11, 28, 3, 79, 42, 28, 181, 0, 145, 4, 54, 5, 3, 54, 6, 21, 6, 27, 162, 0, 33]
abbrev dktX5_more_3 : List UInt8 := dkwX5_more_3 ++ dktX5_more_4
def dkwX5_more_2 : List UInt8 := [182, 0, 206, 42, 182, 0, 224, 54, 4, 42, 180, 0, 11, 29, 92, 46, 4, 28, 120, 2, 130, 126, 79, 42]
abbrev dktX5_more_2 : List UInt8 := dkwX5_more_2 ++ dktX5_more_3
def dkwX5_more_1 : List UInt8 := [160, 0, 6, 167, 0, 113, 42, 28, 4, 96, 181, 0, 145, 42, 180, 0, 11, 28, 3, 79, 42, 29, 28]
abbrev dktX5_more_1 : List UInt8 := dkwX5_more_1 ++ dktX5_more_2
def dkwX5_more_0 : List UInt8 := [3, 60, 42, 180, 0, 145, 61, 3, 62, 29, 28, 162, 0, 135, 42, 180, 0, 11, 29, 46, 184, 0, 160, 7]
abbrev dktX5_more_0 : List UInt8 := dkwX5_more_0 ++ dktX5_more_1
theorem dksX5_more_0 : cX5_more.data.toList.drop 0 = dktX5_more_0 := by decide +kernel
theorem dksX5_more_1 : cX5_more.data.toList.drop 24 = dktX5_more_1 := dk_seg dksX5_more_0 24 rfl rfl
theorem dksX5_more_2 : cX5_more.data.toList.drop 47 = dktX5_more_2 := dk_seg dksX5_more_1 23 rfl rfl
theorem dksX5_more_3 : cX5_more.data.toList.drop 71 = dktX5_more_3 := dk_seg dksX5_more_2 24 rfl rfl
theorem dksX5_more_4 : cX5_more.data.toList.drop 94 = dktX5_more_4 := dk_seg dksX5_more_3 23 rfl rfl
theorem dksX5_more_5 : cX5_more.data.toList.drop 118 = dktX5_more_5 := dk_seg dksX5_more_4 24 rfl rfl
theorem dksX5_more_6 : cX5_more.data.toList.drop 140 = dktX5_more_6 := dk_seg dksX5_more_5 22 rfl rfl
theorem dX5_more_0 : decode cX5_more 0 = .ok (.iconst 0, 1) := dk_3 (dk_at dksX5_more_0 0 rfl rfl)
theorem dX5_more_1 : decode cX5_more 1 = .ok (.istore_n 1, 1) := dk_60 (dk_at dksX5_more_0 1 rfl rfl)
theorem dX5_more_2 : decode cX5_more 2 = .ok (.aload_n 0, 1) := dk_42 (dk_at dksX5_more_0 2 rfl rfl)
theorem dX5_more_3 : decode cX5_more 3 = .ok (.getfield 145, 3) := dk_180 0 145 (dk_at dksX5_more_0 3 rfl rfl)
theorem dX5_more_6 : decode cX5_more 6 = .ok (.istore_n 2, 1) := dk_61 (dk_at dksX5_more_0 6 rfl rfl)
theorem dX5_more_7 : decode cX5_more 7 = .ok (.iconst 0, 1) := dk_3 (dk_at dksX5_more_0 7 rfl rfl)
theorem dX5_more_8 : decode cX5_more 8 = .ok (.istore_n 3, 1) := dk_62 (dk_at dksX5_more_0 8 rfl rfl)
theorem dX5_more_9 : decode cX5_more 9 = .ok (.iload_n 3, 1) := dk_29 (dk_at dksX5_more_0 9 rfl rfl)
theorem dX5_more_10 : decode cX5_more 10 = .ok (.iload_n 2, 1) := dk_28 (dk_at dksX5_more_0 10 rfl rfl)
theorem dX5_more_11 : decode cX5_more 11 = .ok (.if_icmp .ge 135, 3) := dk_162 0 135 (dk_at dksX5_more_0 11 rfl rfl)
theorem dX5_more_14 : decode cX5_more 14 = .ok (.aload_n 0, 1) := dk_42 (dk_at dksX5_more_0 14 rfl rfl)
theorem dX5_more_15 : decode cX5_more 15 = .ok (.getfield 11, 3) := dk_180 0 11 (dk_at dksX5_more_0 15 rfl rfl)
theorem dX5_more_18 : decode cX5_more 18 = .ok (.iload_n 3, 1) := dk_29 (dk_at dksX5_more_0 18 rfl rfl)
theorem dX5_more_19 : decode cX5_more 19 = .ok (.iaload, 1) := dk_46 (dk_at dksX5_more_0 19 rfl rfl)
theorem dX5_more_20 : decode cX5_more 20 = .ok (.invokestatic 160, 3) := dk_184 0 160 (dk_at dksX5_more_0 20 rfl rfl)
theorem dX5_more_23 : decode cX5_more 23 = .ok (.iconst 4, 1) := dk_7 (dk_at dksX5_more_0 23 rfl rfl)
theorem dX5_more_24 : decode cX5_more 24 = .ok (.if_icmp .ne 6, 3) := dk_160 0 6 (dk_at dksX5_more_1 0 rfl rfl)
theorem dX5_more_27 : decode cX5_more 27 = .ok (.goto 113, 3) := dk_167 0 113 (dk_at dksX5_more_1 3 rfl rfl)
theorem dX5_more_30 : decode cX5_more 30 = .ok (.aload_n 0, 1) := dk_42 (dk_at dksX5_more_1 6 rfl rfl)
theorem dX5_more_31 : decode cX5_more 31 = .ok (.iload_n 2, 1) := dk_28 (dk_at dksX5_more_1 7 rfl rfl)
theorem dX5_more_32 : decode cX5_more 32 = .ok (.iconst 1, 1) := dk_4 (dk_at dksX5_more_1 8 rfl rfl)
theorem dX5_more_33 : decode cX5_more 33 = .ok (.iadd, 1) := dk_96 (dk_at dksX5_more_1 9 rfl rfl)
theorem dX5_more_34 : decode cX5_more 34 = .ok (.putfield 145, 3) := dk_181 0 145 (dk_at dksX5_more_1 10 rfl rfl)
theorem dX5_more_37 : decode cX5_more 37 = .ok (.aload_n 0, 1) := dk_42 (dk_at dksX5_more_1 13 rfl rfl)
theorem dX5_more_38 : decode cX5_more 38 = .ok (.getfield 11, 3) := dk_180 0 11 (dk_at dksX5_more_1 14 rfl rfl)
theorem dX5_more_41 : decode cX5_more 41 = .ok (.iload_n 2, 1) := dk_28 (dk_at dksX5_more_1 17 rfl rfl)
theorem dX5_more_42 : decode cX5_more 42 = .ok (.iconst 0, 1) := dk_3 (dk_at dksX5_more_1 18 rfl rfl)
theorem dX5_more_43 : decode cX5_more 43 = .ok (.iastore, 1) := dk_79 (dk_at dksX5_more_1 19 rfl rfl)
theorem dX5_more_44 : decode cX5_more 44 = .ok (.aload_n 0, 1) := dk_42 (dk_at dksX5_more_1 20 rfl rfl)
theorem dX5_more_45 : decode cX5_more 45 = .ok (.iload_n 3, 1) := dk_29 (dk_at dksX5_more_1 21 rfl rfl)
theorem dX5_more_46 : decode cX5_more 46 = .ok (.iload_n 2, 1) := dk_28 (dk_at dksX5_more_1 22 rfl rfl)
theorem dX5_more_47 : decode cX5_more 47 = .ok (.invokevirtual 206, 3) := dk_182 0 206 (dk_at dksX5_more_2 0 rfl rfl)
theorem dX5_more_50 : decode cX5_more 50 = .ok (.aload_n 0, 1) := dk_42 (dk_at dksX5_more_2 3 rfl rfl)
theorem dX5_more_51 : decode cX5_more 51 = .ok (.invokevirtual 224, 3) := dk_182 0 224 (dk_at dksX5_more_2 4 rfl rfl)
theorem dX5_more_54 : decode cX5_more 54 = .ok (.istore 4, 2) := dk_54 4 (dk_at dksX5_more_2 7 rfl rfl)
theorem dX5_more_56 : decode cX5_more 56 = .ok (.aload_n 0, 1) := dk_42 (dk_at dksX5_more_2 9 rfl rfl)
theorem dX5_more_57 : decode cX5_more 57 = .ok (.getfield 11, 3) := dk_180 0 11 (dk_at dksX5_more_2 10 rfl rfl)
theorem dX5_more_60 : decode cX5_more 60 = .ok (.iload_n 3, 1) := dk_29 (dk_at dksX5_more_2 13 rfl rfl)
theorem dX5_more_61 : decode cX5_more 61 = .ok (.dup2, 1) := dk_92 (dk_at dksX5_more_2 14 rfl rfl)
theorem dX5_more_62 : decode cX5_more 62 = .ok (.iaload, 1) := dk_46 (dk_at dksX5_more_2 15 rfl rfl)
theorem dX5_more_63 : decode cX5_more 63 = .ok (.iconst 1, 1) := dk_4 (dk_at dksX5_more_2 16 rfl rfl)
theorem dX5_more_64 : decode cX5_more 64 = .ok (.iload_n 2, 1) := dk_28 (dk_at dksX5_more_2 17 rfl rfl)
theorem dX5_more_65 : decode cX5_more 65 = .ok (.ishl, 1) := dk_120 (dk_at dksX5_more_2 18 rfl rfl)
theorem dX5_more_66 : decode cX5_more 66 = .ok (.iconst (-1), 1) := dk_2 (dk_at dksX5_more_2 19 rfl rfl)
theorem dX5_more_67 : decode cX5_more 67 = .ok (.ixor, 1) := dk_130 (dk_at dksX5_more_2 20 rfl rfl)
theorem dX5_more_68 : decode cX5_more 68 = .ok (.iand, 1) := dk_126 (dk_at dksX5_more_2 21 rfl rfl)
theorem dX5_more_69 : decode cX5_more 69 = .ok (.iastore, 1) := dk_79 (dk_at dksX5_more_2 22 rfl rfl)
theorem dX5_more_70 : decode cX5_more 70 = .ok (.aload_n 0, 1) := dk_42 (dk_at dksX5_more_2 23 rfl rfl)
theorem dX5_more_71 : decode cX5_more 71 = .ok (.getfield 11, 3) := dk_180 0 11 (dk_at dksX5_more_3 0 rfl rfl)
theorem dX5_more_74 : decode cX5_more 74 = .ok (.iload_n 2, 1) := dk_28 (dk_at dksX5_more_3 3 rfl rfl)
theorem dX5_more_75 : decode cX5_more 75 = .ok (.iconst 0, 1) := dk_3 (dk_at dksX5_more_3 4 rfl rfl)
theorem dX5_more_76 : decode cX5_more 76 = .ok (.iastore, 1) := dk_79 (dk_at dksX5_more_3 5 rfl rfl)
theorem dX5_more_77 : decode cX5_more 77 = .ok (.aload_n 0, 1) := dk_42 (dk_at dksX5_more_3 6 rfl rfl)
theorem dX5_more_78 : decode cX5_more 78 = .ok (.iload_n 2, 1) := dk_28 (dk_at dksX5_more_3 7 rfl rfl)
theorem dX5_more_79 : decode cX5_more 79 = .ok (.putfield 145, 3) := dk_181 0 145 (dk_at dksX5_more_3 8 rfl rfl)
theorem dX5_more_82 : decode cX5_more 82 = .ok (.iconst 1, 1) := dk_4 (dk_at dksX5_more_3 11 rfl rfl)
theorem dX5_more_83 : decode cX5_more 83 = .ok (.istore 5, 2) := dk_54 5 (dk_at dksX5_more_3 12 rfl rfl)
theorem dX5_more_85 : decode cX5_more 85 = .ok (.iconst 0, 1) := dk_3 (dk_at dksX5_more_3 14 rfl rfl)
theorem dX5_more_86 : decode cX5_more 86 = .ok (.istore 6, 2) := dk_54 6 (dk_at dksX5_more_3 15 rfl rfl)
theorem dX5_more_88 : decode cX5_more 88 = .ok (.iload 6, 2) := dk_21 6 (dk_at dksX5_more_3 17 rfl rfl)
theorem dX5_more_90 : decode cX5_more 90 = .ok (.iload_n 1, 1) := dk_27 (dk_at dksX5_more_3 19 rfl rfl)
theorem dX5_more_91 : decode cX5_more 91 = .ok (.if_icmp .ge 33, 3) := dk_162 0 33 (dk_at dksX5_more_3 20 rfl rfl)
theorem dX5_more_94 : decode cX5_more 94 = .ok (.iload 5, 2) := dk_21 5 (dk_at dksX5_more_4 0 rfl rfl)
theorem dX5_more_96 : decode cX5_more 96 = .ok (.ifCond .eq 19, 3) := dk_153 0 19 (dk_at dksX5_more_4 2 rfl rfl)
theorem dX5_more_99 : decode cX5_more 99 = .ok (.aload_n 0, 1) := dk_42 (dk_at dksX5_more_4 5 rfl rfl)
theorem dX5_more_100 : decode cX5_more 100 = .ok (.getfield 31, 3) := dk_180 0 31 (dk_at dksX5_more_4 6 rfl rfl)
theorem dX5_more_103 : decode cX5_more 103 = .ok (.iload 6, 2) := dk_21 6 (dk_at dksX5_more_4 9 rfl rfl)
theorem dX5_more_105 : decode cX5_more 105 = .ok (.iaload, 1) := dk_46 (dk_at dksX5_more_4 11 rfl rfl)
theorem dX5_more_106 : decode cX5_more 106 = .ok (.iload 4, 2) := dk_21 4 (dk_at dksX5_more_4 12 rfl rfl)
theorem dX5_more_108 : decode cX5_more 108 = .ok (.if_icmp .eq 7, 3) := dk_159 0 7 (dk_at dksX5_more_4 14 rfl rfl)
theorem dX5_more_111 : decode cX5_more 111 = .ok (.iconst 1, 1) := dk_4 (dk_at dksX5_more_4 17 rfl rfl)
theorem dX5_more_112 : decode cX5_more 112 = .ok (.goto 4, 3) := dk_167 0 4 (dk_at dksX5_more_4 18 rfl rfl)
theorem dX5_more_115 : decode cX5_more 115 = .ok (.iconst 0, 1) := dk_3 (dk_at dksX5_more_4 21 rfl rfl)
theorem dX5_more_116 : decode cX5_more 116 = .ok (.istore 5, 2) := dk_54 5 (dk_at dksX5_more_4 22 rfl rfl)
theorem dX5_more_118 : decode cX5_more 118 = .ok (.iinc 6 1, 3) := dk_132 6 1 (dk_at dksX5_more_5 0 rfl rfl)
theorem dX5_more_121 : decode cX5_more 121 = .ok (.goto (-33), 3) := dk_167 255 223 (dk_at dksX5_more_5 3 rfl rfl)
theorem dX5_more_124 : decode cX5_more 124 = .ok (.iload 5, 2) := dk_21 5 (dk_at dksX5_more_5 6 rfl rfl)
theorem dX5_more_126 : decode cX5_more 126 = .ok (.ifCond .eq 14, 3) := dk_153 0 14 (dk_at dksX5_more_5 8 rfl rfl)
theorem dX5_more_129 : decode cX5_more 129 = .ok (.aload_n 0, 1) := dk_42 (dk_at dksX5_more_5 11 rfl rfl)
theorem dX5_more_130 : decode cX5_more 130 = .ok (.getfield 31, 3) := dk_180 0 31 (dk_at dksX5_more_5 12 rfl rfl)
theorem dX5_more_133 : decode cX5_more 133 = .ok (.iload_n 1, 1) := dk_27 (dk_at dksX5_more_5 15 rfl rfl)
theorem dX5_more_134 : decode cX5_more 134 = .ok (.iload 4, 2) := dk_21 4 (dk_at dksX5_more_5 16 rfl rfl)
theorem dX5_more_136 : decode cX5_more 136 = .ok (.iastore, 1) := dk_79 (dk_at dksX5_more_5 18 rfl rfl)
theorem dX5_more_137 : decode cX5_more 137 = .ok (.iinc 1 1, 3) := dk_132 1 1 (dk_at dksX5_more_5 19 rfl rfl)
theorem dX5_more_140 : decode cX5_more 140 = .ok (.iinc 3 1, 3) := dk_132 3 1 (dk_at dksX5_more_6 0 rfl rfl)
theorem dX5_more_143 : decode cX5_more 143 = .ok (.goto (-134), 3) := dk_167 255 122 (dk_at dksX5_more_6 3 rfl rfl)
theorem dX5_more_146 : decode cX5_more 146 = .ok (.iload_n 1, 1) := dk_27 (dk_at dksX5_more_6 6 rfl rfl)
theorem dX5_more_147 : decode cX5_more 147 = .ok (.ireturn, 1) := dk_172 (dk_at dksX5_more_6 7 rfl rfl)
