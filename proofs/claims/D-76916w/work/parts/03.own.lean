/-! BranchNames$Tree -/
set_option maxRecDepth 100000
def RX1 : String := "BranchNames$Tree"
def TX1 : u_T := fun k => match k with
  | 0 => ("BranchNames$Tree", "next", "[[I", true)
  | 1 => ("BranchNames$Tree", "drawing", "[[I", true)
  | 2 => ("BranchNames$Tree", "names", "[[Ljava/lang/String;", true)
  | 3 => ("BranchNames$Tree", "bonds", "[I", true)
  | 4 => ("BranchNames$Tree", "atoms", "I", false)
  | 5 => ("BranchNames$Tree", "drawings", "I", false)
  | _ => ("BranchNames$Tree", "way", "LBranchNames$Way;", false)
def tyX1 : Nat → FieldType := fun k => match k with
  | 0 => .array (.array .int)
  | 1 => .array (.array .int)
  | 2 => .array (.array (.object "java/lang/String"))
  | 3 => .array .int
  | 4 => .int
  | 5 => .int
  | _ => .object "BranchNames$Way"
abbrev wsX10 : List Cond := u_ws RX1 TX1 7
theorem nmX1 : ∀ a, a < 7 → ∀ b, b < 7 → a ≠ b → (TX1 a).2.1 ≠ (TX1 b).2.1 := by decide +kernel
theorem tyX1_ok : ∀ k, k < 7 → parseFieldDescriptor (TX1 k).2.2.1 = some (tyX1 k) := by decide +kernel
abbrev cX1_init : ByteArray := prog_16_method_1_code
def yX1_init : MethodName := ⟨RX1, "<init>", "()V"⟩
def dkwX1_init_2 : List UInt8 := [182, 0, 28, 177]
abbrev dktX1_init_2 : List UInt8 := dkwX1_init_2 ++ []
def dkwX1_init_1 : List UInt8 := [181, 0, 16, 42, 16, 13, 16, 13, 197, 0, 19, 2, 181, 0, 21, 42, 16, 13, 188, 10, 181, 0, 24, 42]
abbrev dktX1_init_1 : List UInt8 := dkwX1_init_1 ++ dktX1_init_2
def dkwX1_init_0 : List UInt8 := [42, 183, 0, 3, 42, 16, 13, 7, 197, 0, 9, 2, 181, 0, 11, 42, 16, 13, 16, 13, 197, 0, 9, 2]
abbrev dktX1_init_0 : List UInt8 := dkwX1_init_0 ++ dktX1_init_1
theorem dksX1_init_0 : cX1_init.data.toList.drop 0 = dktX1_init_0 := by decide +kernel
theorem dksX1_init_1 : cX1_init.data.toList.drop 24 = dktX1_init_1 := dk_seg dksX1_init_0 24 rfl rfl
theorem dksX1_init_2 : cX1_init.data.toList.drop 48 = dktX1_init_2 := dk_seg dksX1_init_1 24 rfl rfl
theorem dX1_init_0 : decode cX1_init 0 = .ok (.aload_n 0, 1) := dk_42 (dk_at dksX1_init_0 0 rfl rfl)
theorem dX1_init_1 : decode cX1_init 1 = .ok (.invokespecial 3, 3) := dk_183 0 3 (dk_at dksX1_init_0 1 rfl rfl)
theorem dX1_init_4 : decode cX1_init 4 = .ok (.aload_n 0, 1) := dk_42 (dk_at dksX1_init_0 4 rfl rfl)
theorem dX1_init_5 : decode cX1_init 5 = .ok (.bipush 13, 2) := dk_16 13 (dk_at dksX1_init_0 5 rfl rfl)
theorem dX1_init_7 : decode cX1_init 7 = .ok (.iconst 4, 1) := dk_7 (dk_at dksX1_init_0 7 rfl rfl)
theorem dX1_init_8 : decode cX1_init 8 = .ok (.multianewarray 9 2, 4) := by decide +kernel
theorem dX1_init_12 : decode cX1_init 12 = .ok (.putfield 11, 3) := dk_181 0 11 (dk_at dksX1_init_0 12 rfl rfl)
theorem dX1_init_15 : decode cX1_init 15 = .ok (.aload_n 0, 1) := dk_42 (dk_at dksX1_init_0 15 rfl rfl)
theorem dX1_init_16 : decode cX1_init 16 = .ok (.bipush 13, 2) := dk_16 13 (dk_at dksX1_init_0 16 rfl rfl)
theorem dX1_init_18 : decode cX1_init 18 = .ok (.bipush 13, 2) := dk_16 13 (dk_at dksX1_init_0 18 rfl rfl)
theorem dX1_init_20 : decode cX1_init 20 = .ok (.multianewarray 9 2, 4) := by decide +kernel
theorem dX1_init_24 : decode cX1_init 24 = .ok (.putfield 16, 3) := dk_181 0 16 (dk_at dksX1_init_1 0 rfl rfl)
theorem dX1_init_27 : decode cX1_init 27 = .ok (.aload_n 0, 1) := dk_42 (dk_at dksX1_init_1 3 rfl rfl)
theorem dX1_init_28 : decode cX1_init 28 = .ok (.bipush 13, 2) := dk_16 13 (dk_at dksX1_init_1 4 rfl rfl)
theorem dX1_init_30 : decode cX1_init 30 = .ok (.bipush 13, 2) := dk_16 13 (dk_at dksX1_init_1 6 rfl rfl)
theorem dX1_init_32 : decode cX1_init 32 = .ok (.multianewarray 19 2, 4) := by decide +kernel
theorem dX1_init_36 : decode cX1_init 36 = .ok (.putfield 21, 3) := dk_181 0 21 (dk_at dksX1_init_1 12 rfl rfl)
theorem dX1_init_39 : decode cX1_init 39 = .ok (.aload_n 0, 1) := dk_42 (dk_at dksX1_init_1 15 rfl rfl)
theorem dX1_init_40 : decode cX1_init 40 = .ok (.bipush 13, 2) := dk_16 13 (dk_at dksX1_init_1 16 rfl rfl)
theorem dX1_init_42 : decode cX1_init 42 = .ok (.newarray .int, 2) := dk_188_10 (dk_at dksX1_init_1 18 rfl rfl)
theorem dX1_init_44 : decode cX1_init 44 = .ok (.putfield 24, 3) := dk_181 0 24 (dk_at dksX1_init_1 20 rfl rfl)
theorem dX1_init_47 : decode cX1_init 47 = .ok (.aload_n 0, 1) := dk_42 (dk_at dksX1_init_1 23 rfl rfl)
theorem dX1_init_48 : decode cX1_init 48 = .ok (.invokevirtual 28, 3) := dk_182 0 28 (dk_at dksX1_init_2 0 rfl rfl)
theorem dX1_init_51 : decode cX1_init 51 = .ok (.return_, 1) := dk_177 (dk_at dksX1_init_2 3 rfl rfl)
abbrev cX1_begins : ByteArray := prog_16_method_2_code
def yX1_begins : MethodName := ⟨RX1, "begins", "()V"⟩
def dkwX1_begins_0 : List UInt8 := [42, 4, 181, 0, 31, 42, 180, 0, 24, 3, 3, 79, 42, 182, 0, 35, 177]
abbrev dktX1_begins_0 : List UInt8 := dkwX1_begins_0 ++ []
theorem dksX1_begins_0 : cX1_begins.data.toList.drop 0 = dktX1_begins_0 := by decide +kernel
theorem dX1_begins_0 : decode cX1_begins 0 = .ok (.aload_n 0, 1) := dk_42 (dk_at dksX1_begins_0 0 rfl rfl)
theorem dX1_begins_1 : decode cX1_begins 1 = .ok (.iconst 1, 1) := dk_4 (dk_at dksX1_begins_0 1 rfl rfl)
theorem dX1_begins_2 : decode cX1_begins 2 = .ok (.putfield 31, 3) := dk_181 0 31 (dk_at dksX1_begins_0 2 rfl rfl)
theorem dX1_begins_5 : decode cX1_begins 5 = .ok (.aload_n 0, 1) := dk_42 (dk_at dksX1_begins_0 5 rfl rfl)
theorem dX1_begins_6 : decode cX1_begins 6 = .ok (.getfield 24, 3) := dk_180 0 24 (dk_at dksX1_begins_0 6 rfl rfl)
theorem dX1_begins_9 : decode cX1_begins 9 = .ok (.iconst 0, 1) := dk_3 (dk_at dksX1_begins_0 9 rfl rfl)
theorem dX1_begins_10 : decode cX1_begins 10 = .ok (.iconst 0, 1) := dk_3 (dk_at dksX1_begins_0 10 rfl rfl)
theorem dX1_begins_11 : decode cX1_begins 11 = .ok (.iastore, 1) := dk_79 (dk_at dksX1_begins_0 11 rfl rfl)
theorem dX1_begins_12 : decode cX1_begins 12 = .ok (.aload_n 0, 1) := dk_42 (dk_at dksX1_begins_0 12 rfl rfl)
theorem dX1_begins_13 : decode cX1_begins 13 = .ok (.invokevirtual 35, 3) := dk_182 0 35 (dk_at dksX1_begins_0 13 rfl rfl)
theorem dX1_begins_16 : decode cX1_begins 16 = .ok (.return_, 1) := dk_177 (dk_at dksX1_begins_0 16 rfl rfl)
abbrev cX1_changes : ByteArray := prog_16_method_3_code
def yX1_changes : MethodName := ⟨RX1, "changes", "()V"⟩
def dkwX1_changes_0 : List UInt8 := [42, 89, 180, 0, 38, 4, 96, 181, 0, 38, 42, 1, 181, 0, 41, 177]
abbrev dktX1_changes_0 : List UInt8 := dkwX1_changes_0 ++ []
theorem dksX1_changes_0 : cX1_changes.data.toList.drop 0 = dktX1_changes_0 := by decide +kernel
theorem dX1_changes_0 : decode cX1_changes 0 = .ok (.aload_n 0, 1) := dk_42 (dk_at dksX1_changes_0 0 rfl rfl)
theorem dX1_changes_1 : decode cX1_changes 1 = .ok (.dup, 1) := dk_89 (dk_at dksX1_changes_0 1 rfl rfl)
theorem dX1_changes_2 : decode cX1_changes 2 = .ok (.getfield 38, 3) := dk_180 0 38 (dk_at dksX1_changes_0 2 rfl rfl)
theorem dX1_changes_5 : decode cX1_changes 5 = .ok (.iconst 1, 1) := dk_4 (dk_at dksX1_changes_0 5 rfl rfl)
theorem dX1_changes_6 : decode cX1_changes 6 = .ok (.iadd, 1) := dk_96 (dk_at dksX1_changes_0 6 rfl rfl)
theorem dX1_changes_7 : decode cX1_changes 7 = .ok (.putfield 38, 3) := dk_181 0 38 (dk_at dksX1_changes_0 7 rfl rfl)
theorem dX1_changes_10 : decode cX1_changes 10 = .ok (.aload_n 0, 1) := dk_42 (dk_at dksX1_changes_0 10 rfl rfl)
theorem dX1_changes_11 : decode cX1_changes 11 = .ok (.aconst_null, 1) := dk_1 (dk_at dksX1_changes_0 11 rfl rfl)
theorem dX1_changes_12 : decode cX1_changes 12 = .ok (.putfield 41, 3) := dk_181 0 41 (dk_at dksX1_changes_0 12 rfl rfl)
theorem dX1_changes_15 : decode cX1_changes 15 = .ok (.return_, 1) := dk_177 (dk_at dksX1_changes_0 15 rfl rfl)
abbrev cX1_isFull : ByteArray := prog_16_method_8_code
def yX1_isFull : MethodName := ⟨RX1, "isFull", "(I)Z"⟩
def dkwX1_isFull_0 : List UInt8 := [42, 180, 0, 24, 27, 46, 7, 160, 0, 7, 4, 167, 0, 4, 3, 172]
abbrev dktX1_isFull_0 : List UInt8 := dkwX1_isFull_0 ++ []
theorem dksX1_isFull_0 : cX1_isFull.data.toList.drop 0 = dktX1_isFull_0 := by decide +kernel
theorem dX1_isFull_0 : decode cX1_isFull 0 = .ok (.aload_n 0, 1) := dk_42 (dk_at dksX1_isFull_0 0 rfl rfl)
theorem dX1_isFull_1 : decode cX1_isFull 1 = .ok (.getfield 24, 3) := dk_180 0 24 (dk_at dksX1_isFull_0 1 rfl rfl)
theorem dX1_isFull_4 : decode cX1_isFull 4 = .ok (.iload_n 1, 1) := dk_27 (dk_at dksX1_isFull_0 4 rfl rfl)
theorem dX1_isFull_5 : decode cX1_isFull 5 = .ok (.iaload, 1) := dk_46 (dk_at dksX1_isFull_0 5 rfl rfl)
theorem dX1_isFull_6 : decode cX1_isFull 6 = .ok (.iconst 4, 1) := dk_7 (dk_at dksX1_isFull_0 6 rfl rfl)
theorem dX1_isFull_7 : decode cX1_isFull 7 = .ok (.if_icmp .ne 7, 3) := dk_160 0 7 (dk_at dksX1_isFull_0 7 rfl rfl)
theorem dX1_isFull_10 : decode cX1_isFull 10 = .ok (.iconst 1, 1) := dk_4 (dk_at dksX1_isFull_0 10 rfl rfl)
theorem dX1_isFull_11 : decode cX1_isFull 11 = .ok (.goto 4, 3) := dk_167 0 4 (dk_at dksX1_isFull_0 11 rfl rfl)
theorem dX1_isFull_14 : decode cX1_isFull 14 = .ok (.iconst 0, 1) := dk_3 (dk_at dksX1_isFull_0 14 rfl rfl)
theorem dX1_isFull_15 : decode cX1_isFull 15 = .ok (.ireturn, 1) := dk_172 (dk_at dksX1_isFull_0 15 rfl rfl)
abbrev cX1_becomes : ByteArray := prog_16_method_16_code
def yX1_becomes : MethodName := ⟨RX1, "becomes", "(LBranchNames$Tree;)V"⟩
def dkwX1_becomes_3 : List UInt8 := [182, 0, 35, 177]
abbrev dktX1_becomes_3 : List UInt8 := dkwX1_becomes_3 ++ []
def dkwX1_becomes_2 : List UInt8 := [29, 43, 180, 0, 11, 28, 50, 29, 46, 79, 132, 3, 1, 167, 255, 227, 132, 2, 1, 167, 255, 199, 42]
abbrev dktX1_becomes_2 : List UInt8 := dkwX1_becomes_2 ++ dktX1_becomes_3
def dkwX1_becomes_1 : List UInt8 := [180, 0, 24, 28, 46, 79, 3, 62, 29, 42, 180, 0, 24, 28, 46, 162, 0, 25, 42, 180, 0, 11, 28, 50]
abbrev dktX1_becomes_1 : List UInt8 := dkwX1_becomes_1 ++ dktX1_becomes_2
def dkwX1_becomes_0 : List UInt8 := [42, 43, 180, 0, 31, 181, 0, 31, 3, 61, 28, 42, 180, 0, 31, 162, 0, 55, 42, 180, 0, 24, 28, 43]
abbrev dktX1_becomes_0 : List UInt8 := dkwX1_becomes_0 ++ dktX1_becomes_1
theorem dksX1_becomes_0 : cX1_becomes.data.toList.drop 0 = dktX1_becomes_0 := by decide +kernel
theorem dksX1_becomes_1 : cX1_becomes.data.toList.drop 24 = dktX1_becomes_1 := dk_seg dksX1_becomes_0 24 rfl rfl
theorem dksX1_becomes_2 : cX1_becomes.data.toList.drop 48 = dktX1_becomes_2 := dk_seg dksX1_becomes_1 24 rfl rfl
theorem dksX1_becomes_3 : cX1_becomes.data.toList.drop 71 = dktX1_becomes_3 := dk_seg dksX1_becomes_2 23 rfl rfl
theorem dX1_becomes_0 : decode cX1_becomes 0 = .ok (.aload_n 0, 1) := dk_42 (dk_at dksX1_becomes_0 0 rfl rfl)
theorem dX1_becomes_1 : decode cX1_becomes 1 = .ok (.aload_n 1, 1) := dk_43 (dk_at dksX1_becomes_0 1 rfl rfl)
theorem dX1_becomes_2 : decode cX1_becomes 2 = .ok (.getfield 31, 3) := dk_180 0 31 (dk_at dksX1_becomes_0 2 rfl rfl)
theorem dX1_becomes_5 : decode cX1_becomes 5 = .ok (.putfield 31, 3) := dk_181 0 31 (dk_at dksX1_becomes_0 5 rfl rfl)
theorem dX1_becomes_8 : decode cX1_becomes 8 = .ok (.iconst 0, 1) := dk_3 (dk_at dksX1_becomes_0 8 rfl rfl)
theorem dX1_becomes_9 : decode cX1_becomes 9 = .ok (.istore_n 2, 1) := dk_61 (dk_at dksX1_becomes_0 9 rfl rfl)
theorem dX1_becomes_10 : decode cX1_becomes 10 = .ok (.iload_n 2, 1) := dk_28 (dk_at dksX1_becomes_0 10 rfl rfl)
theorem dX1_becomes_11 : decode cX1_becomes 11 = .ok (.aload_n 0, 1) := dk_42 (dk_at dksX1_becomes_0 11 rfl rfl)
theorem dX1_becomes_12 : decode cX1_becomes 12 = .ok (.getfield 31, 3) := dk_180 0 31 (dk_at dksX1_becomes_0 12 rfl rfl)
theorem dX1_becomes_15 : decode cX1_becomes 15 = .ok (.if_icmp .ge 55, 3) := dk_162 0 55 (dk_at dksX1_becomes_0 15 rfl rfl)
theorem dX1_becomes_18 : decode cX1_becomes 18 = .ok (.aload_n 0, 1) := dk_42 (dk_at dksX1_becomes_0 18 rfl rfl)
theorem dX1_becomes_19 : decode cX1_becomes 19 = .ok (.getfield 24, 3) := dk_180 0 24 (dk_at dksX1_becomes_0 19 rfl rfl)
theorem dX1_becomes_22 : decode cX1_becomes 22 = .ok (.iload_n 2, 1) := dk_28 (dk_at dksX1_becomes_0 22 rfl rfl)
theorem dX1_becomes_23 : decode cX1_becomes 23 = .ok (.aload_n 1, 1) := dk_43 (dk_at dksX1_becomes_0 23 rfl rfl)
theorem dX1_becomes_24 : decode cX1_becomes 24 = .ok (.getfield 24, 3) := dk_180 0 24 (dk_at dksX1_becomes_1 0 rfl rfl)
theorem dX1_becomes_27 : decode cX1_becomes 27 = .ok (.iload_n 2, 1) := dk_28 (dk_at dksX1_becomes_1 3 rfl rfl)
theorem dX1_becomes_28 : decode cX1_becomes 28 = .ok (.iaload, 1) := dk_46 (dk_at dksX1_becomes_1 4 rfl rfl)
theorem dX1_becomes_29 : decode cX1_becomes 29 = .ok (.iastore, 1) := dk_79 (dk_at dksX1_becomes_1 5 rfl rfl)
theorem dX1_becomes_30 : decode cX1_becomes 30 = .ok (.iconst 0, 1) := dk_3 (dk_at dksX1_becomes_1 6 rfl rfl)
theorem dX1_becomes_31 : decode cX1_becomes 31 = .ok (.istore_n 3, 1) := dk_62 (dk_at dksX1_becomes_1 7 rfl rfl)
theorem dX1_becomes_32 : decode cX1_becomes 32 = .ok (.iload_n 3, 1) := dk_29 (dk_at dksX1_becomes_1 8 rfl rfl)
theorem dX1_becomes_33 : decode cX1_becomes 33 = .ok (.aload_n 0, 1) := dk_42 (dk_at dksX1_becomes_1 9 rfl rfl)
theorem dX1_becomes_34 : decode cX1_becomes 34 = .ok (.getfield 24, 3) := dk_180 0 24 (dk_at dksX1_becomes_1 10 rfl rfl)
theorem dX1_becomes_37 : decode cX1_becomes 37 = .ok (.iload_n 2, 1) := dk_28 (dk_at dksX1_becomes_1 13 rfl rfl)
theorem dX1_becomes_38 : decode cX1_becomes 38 = .ok (.iaload, 1) := dk_46 (dk_at dksX1_becomes_1 14 rfl rfl)
theorem dX1_becomes_39 : decode cX1_becomes 39 = .ok (.if_icmp .ge 25, 3) := dk_162 0 25 (dk_at dksX1_becomes_1 15 rfl rfl)
theorem dX1_becomes_42 : decode cX1_becomes 42 = .ok (.aload_n 0, 1) := dk_42 (dk_at dksX1_becomes_1 18 rfl rfl)
theorem dX1_becomes_43 : decode cX1_becomes 43 = .ok (.getfield 11, 3) := dk_180 0 11 (dk_at dksX1_becomes_1 19 rfl rfl)
theorem dX1_becomes_46 : decode cX1_becomes 46 = .ok (.iload_n 2, 1) := dk_28 (dk_at dksX1_becomes_1 22 rfl rfl)
theorem dX1_becomes_47 : decode cX1_becomes 47 = .ok (.aaload, 1) := dk_50 (dk_at dksX1_becomes_1 23 rfl rfl)
theorem dX1_becomes_48 : decode cX1_becomes 48 = .ok (.iload_n 3, 1) := dk_29 (dk_at dksX1_becomes_2 0 rfl rfl)
theorem dX1_becomes_49 : decode cX1_becomes 49 = .ok (.aload_n 1, 1) := dk_43 (dk_at dksX1_becomes_2 1 rfl rfl)
theorem dX1_becomes_50 : decode cX1_becomes 50 = .ok (.getfield 11, 3) := dk_180 0 11 (dk_at dksX1_becomes_2 2 rfl rfl)
theorem dX1_becomes_53 : decode cX1_becomes 53 = .ok (.iload_n 2, 1) := dk_28 (dk_at dksX1_becomes_2 5 rfl rfl)
theorem dX1_becomes_54 : decode cX1_becomes 54 = .ok (.aaload, 1) := dk_50 (dk_at dksX1_becomes_2 6 rfl rfl)
theorem dX1_becomes_55 : decode cX1_becomes 55 = .ok (.iload_n 3, 1) := dk_29 (dk_at dksX1_becomes_2 7 rfl rfl)
theorem dX1_becomes_56 : decode cX1_becomes 56 = .ok (.iaload, 1) := dk_46 (dk_at dksX1_becomes_2 8 rfl rfl)
theorem dX1_becomes_57 : decode cX1_becomes 57 = .ok (.iastore, 1) := dk_79 (dk_at dksX1_becomes_2 9 rfl rfl)
theorem dX1_becomes_58 : decode cX1_becomes 58 = .ok (.iinc 3 1, 3) := dk_132 3 1 (dk_at dksX1_becomes_2 10 rfl rfl)
theorem dX1_becomes_61 : decode cX1_becomes 61 = .ok (.goto (-29), 3) := dk_167 255 227 (dk_at dksX1_becomes_2 13 rfl rfl)
theorem dX1_becomes_64 : decode cX1_becomes 64 = .ok (.iinc 2 1, 3) := dk_132 2 1 (dk_at dksX1_becomes_2 16 rfl rfl)
theorem dX1_becomes_67 : decode cX1_becomes 67 = .ok (.goto (-57), 3) := dk_167 255 199 (dk_at dksX1_becomes_2 19 rfl rfl)
theorem dX1_becomes_70 : decode cX1_becomes 70 = .ok (.aload_n 0, 1) := dk_42 (dk_at dksX1_becomes_2 22 rfl rfl)
theorem dX1_becomes_71 : decode cX1_becomes 71 = .ok (.invokevirtual 35, 3) := dk_182 0 35 (dk_at dksX1_becomes_3 0 rfl rfl)
theorem dX1_becomes_74 : decode cX1_becomes 74 = .ok (.return_, 1) := dk_177 (dk_at dksX1_becomes_3 3 rfl rfl)
abbrev cX1_grows : ByteArray := prog_16_method_9_code
def yX1_grows : MethodName := ⟨RX1, "grows", "(I)I"⟩
def dkwX1_grows_1 : List UInt8 := [28, 182, 0, 49, 28, 172]
abbrev dktX1_grows_1 : List UInt8 := dkwX1_grows_1 ++ []
def dkwX1_grows_0 : List UInt8 := [42, 180, 0, 31, 61, 42, 89, 180, 0, 31, 4, 96, 181, 0, 31, 42, 180, 0, 24, 28, 3, 79, 42, 27]
abbrev dktX1_grows_0 : List UInt8 := dkwX1_grows_0 ++ dktX1_grows_1
theorem dksX1_grows_0 : cX1_grows.data.toList.drop 0 = dktX1_grows_0 := by decide +kernel
theorem dksX1_grows_1 : cX1_grows.data.toList.drop 24 = dktX1_grows_1 := dk_seg dksX1_grows_0 24 rfl rfl
theorem dX1_grows_0 : decode cX1_grows 0 = .ok (.aload_n 0, 1) := dk_42 (dk_at dksX1_grows_0 0 rfl rfl)
theorem dX1_grows_1 : decode cX1_grows 1 = .ok (.getfield 31, 3) := dk_180 0 31 (dk_at dksX1_grows_0 1 rfl rfl)
theorem dX1_grows_4 : decode cX1_grows 4 = .ok (.istore_n 2, 1) := dk_61 (dk_at dksX1_grows_0 4 rfl rfl)
theorem dX1_grows_5 : decode cX1_grows 5 = .ok (.aload_n 0, 1) := dk_42 (dk_at dksX1_grows_0 5 rfl rfl)
theorem dX1_grows_6 : decode cX1_grows 6 = .ok (.dup, 1) := dk_89 (dk_at dksX1_grows_0 6 rfl rfl)
theorem dX1_grows_7 : decode cX1_grows 7 = .ok (.getfield 31, 3) := dk_180 0 31 (dk_at dksX1_grows_0 7 rfl rfl)
theorem dX1_grows_10 : decode cX1_grows 10 = .ok (.iconst 1, 1) := dk_4 (dk_at dksX1_grows_0 10 rfl rfl)
theorem dX1_grows_11 : decode cX1_grows 11 = .ok (.iadd, 1) := dk_96 (dk_at dksX1_grows_0 11 rfl rfl)
theorem dX1_grows_12 : decode cX1_grows 12 = .ok (.putfield 31, 3) := dk_181 0 31 (dk_at dksX1_grows_0 12 rfl rfl)
theorem dX1_grows_15 : decode cX1_grows 15 = .ok (.aload_n 0, 1) := dk_42 (dk_at dksX1_grows_0 15 rfl rfl)
theorem dX1_grows_16 : decode cX1_grows 16 = .ok (.getfield 24, 3) := dk_180 0 24 (dk_at dksX1_grows_0 16 rfl rfl)
theorem dX1_grows_19 : decode cX1_grows 19 = .ok (.iload_n 2, 1) := dk_28 (dk_at dksX1_grows_0 19 rfl rfl)
theorem dX1_grows_20 : decode cX1_grows 20 = .ok (.iconst 0, 1) := dk_3 (dk_at dksX1_grows_0 20 rfl rfl)
theorem dX1_grows_21 : decode cX1_grows 21 = .ok (.iastore, 1) := dk_79 (dk_at dksX1_grows_0 21 rfl rfl)
theorem dX1_grows_22 : decode cX1_grows 22 = .ok (.aload_n 0, 1) := dk_42 (dk_at dksX1_grows_0 22 rfl rfl)
theorem dX1_grows_23 : decode cX1_grows 23 = .ok (.iload_n 1, 1) := dk_27 (dk_at dksX1_grows_0 23 rfl rfl)
theorem dX1_grows_24 : decode cX1_grows 24 = .ok (.iload_n 2, 1) := dk_28 (dk_at dksX1_grows_1 0 rfl rfl)
theorem dX1_grows_25 : decode cX1_grows 25 = .ok (.invokevirtual 49, 3) := dk_182 0 49 (dk_at dksX1_grows_1 1 rfl rfl)
theorem dX1_grows_28 : decode cX1_grows 28 = .ok (.iload_n 2, 1) := dk_28 (dk_at dksX1_grows_1 4 rfl rfl)
theorem dX1_grows_29 : decode cX1_grows 29 = .ok (.ireturn, 1) := dk_172 (dk_at dksX1_grows_1 5 rfl rfl)
abbrev cX1_binds : ByteArray := prog_16_method_10_code
def yX1_binds : MethodName := ⟨RX1, "binds", "(II)V"⟩
def dkwX1_binds_2 : List UInt8 := [42, 182, 0, 35, 177]
abbrev dktX1_binds_2 : List UInt8 := dkwX1_binds_2 ++ []
def dkwX1_binds_1 : List UInt8 := [42, 180, 0, 11, 28, 50, 42, 180, 0, 24, 28, 46, 27, 79, 42, 180, 0, 24, 28, 92, 46, 4, 96, 79]
abbrev dktX1_binds_1 : List UInt8 := dkwX1_binds_1 ++ dktX1_binds_2
def dkwX1_binds_0 : List UInt8 := [42, 180, 0, 11, 27, 50, 42, 180, 0, 24, 27, 46, 28, 79, 42, 180, 0, 24, 27, 92, 46, 4, 96, 79]
abbrev dktX1_binds_0 : List UInt8 := dkwX1_binds_0 ++ dktX1_binds_1
theorem dksX1_binds_0 : cX1_binds.data.toList.drop 0 = dktX1_binds_0 := by decide +kernel
theorem dksX1_binds_1 : cX1_binds.data.toList.drop 24 = dktX1_binds_1 := dk_seg dksX1_binds_0 24 rfl rfl
theorem dksX1_binds_2 : cX1_binds.data.toList.drop 48 = dktX1_binds_2 := dk_seg dksX1_binds_1 24 rfl rfl
theorem dX1_binds_0 : decode cX1_binds 0 = .ok (.aload_n 0, 1) := dk_42 (dk_at dksX1_binds_0 0 rfl rfl)
theorem dX1_binds_1 : decode cX1_binds 1 = .ok (.getfield 11, 3) := dk_180 0 11 (dk_at dksX1_binds_0 1 rfl rfl)
theorem dX1_binds_4 : decode cX1_binds 4 = .ok (.iload_n 1, 1) := dk_27 (dk_at dksX1_binds_0 4 rfl rfl)
theorem dX1_binds_5 : decode cX1_binds 5 = .ok (.aaload, 1) := dk_50 (dk_at dksX1_binds_0 5 rfl rfl)
theorem dX1_binds_6 : decode cX1_binds 6 = .ok (.aload_n 0, 1) := dk_42 (dk_at dksX1_binds_0 6 rfl rfl)
theorem dX1_binds_7 : decode cX1_binds 7 = .ok (.getfield 24, 3) := dk_180 0 24 (dk_at dksX1_binds_0 7 rfl rfl)
theorem dX1_binds_10 : decode cX1_binds 10 = .ok (.iload_n 1, 1) := dk_27 (dk_at dksX1_binds_0 10 rfl rfl)
theorem dX1_binds_11 : decode cX1_binds 11 = .ok (.iaload, 1) := dk_46 (dk_at dksX1_binds_0 11 rfl rfl)
theorem dX1_binds_12 : decode cX1_binds 12 = .ok (.iload_n 2, 1) := dk_28 (dk_at dksX1_binds_0 12 rfl rfl)
theorem dX1_binds_13 : decode cX1_binds 13 = .ok (.iastore, 1) := dk_79 (dk_at dksX1_binds_0 13 rfl rfl)
theorem dX1_binds_14 : decode cX1_binds 14 = .ok (.aload_n 0, 1) := dk_42 (dk_at dksX1_binds_0 14 rfl rfl)
theorem dX1_binds_15 : decode cX1_binds 15 = .ok (.getfield 24, 3) := dk_180 0 24 (dk_at dksX1_binds_0 15 rfl rfl)
theorem dX1_binds_18 : decode cX1_binds 18 = .ok (.iload_n 1, 1) := dk_27 (dk_at dksX1_binds_0 18 rfl rfl)
theorem dX1_binds_19 : decode cX1_binds 19 = .ok (.dup2, 1) := dk_92 (dk_at dksX1_binds_0 19 rfl rfl)
theorem dX1_binds_20 : decode cX1_binds 20 = .ok (.iaload, 1) := dk_46 (dk_at dksX1_binds_0 20 rfl rfl)
theorem dX1_binds_21 : decode cX1_binds 21 = .ok (.iconst 1, 1) := dk_4 (dk_at dksX1_binds_0 21 rfl rfl)
theorem dX1_binds_22 : decode cX1_binds 22 = .ok (.iadd, 1) := dk_96 (dk_at dksX1_binds_0 22 rfl rfl)
theorem dX1_binds_23 : decode cX1_binds 23 = .ok (.iastore, 1) := dk_79 (dk_at dksX1_binds_0 23 rfl rfl)
theorem dX1_binds_24 : decode cX1_binds 24 = .ok (.aload_n 0, 1) := dk_42 (dk_at dksX1_binds_1 0 rfl rfl)
theorem dX1_binds_25 : decode cX1_binds 25 = .ok (.getfield 11, 3) := dk_180 0 11 (dk_at dksX1_binds_1 1 rfl rfl)
theorem dX1_binds_28 : decode cX1_binds 28 = .ok (.iload_n 2, 1) := dk_28 (dk_at dksX1_binds_1 4 rfl rfl)
theorem dX1_binds_29 : decode cX1_binds 29 = .ok (.aaload, 1) := dk_50 (dk_at dksX1_binds_1 5 rfl rfl)
theorem dX1_binds_30 : decode cX1_binds 30 = .ok (.aload_n 0, 1) := dk_42 (dk_at dksX1_binds_1 6 rfl rfl)
theorem dX1_binds_31 : decode cX1_binds 31 = .ok (.getfield 24, 3) := dk_180 0 24 (dk_at dksX1_binds_1 7 rfl rfl)
theorem dX1_binds_34 : decode cX1_binds 34 = .ok (.iload_n 2, 1) := dk_28 (dk_at dksX1_binds_1 10 rfl rfl)
theorem dX1_binds_35 : decode cX1_binds 35 = .ok (.iaload, 1) := dk_46 (dk_at dksX1_binds_1 11 rfl rfl)
theorem dX1_binds_36 : decode cX1_binds 36 = .ok (.iload_n 1, 1) := dk_27 (dk_at dksX1_binds_1 12 rfl rfl)
theorem dX1_binds_37 : decode cX1_binds 37 = .ok (.iastore, 1) := dk_79 (dk_at dksX1_binds_1 13 rfl rfl)
theorem dX1_binds_38 : decode cX1_binds 38 = .ok (.aload_n 0, 1) := dk_42 (dk_at dksX1_binds_1 14 rfl rfl)
theorem dX1_binds_39 : decode cX1_binds 39 = .ok (.getfield 24, 3) := dk_180 0 24 (dk_at dksX1_binds_1 15 rfl rfl)
theorem dX1_binds_42 : decode cX1_binds 42 = .ok (.iload_n 2, 1) := dk_28 (dk_at dksX1_binds_1 18 rfl rfl)
theorem dX1_binds_43 : decode cX1_binds 43 = .ok (.dup2, 1) := dk_92 (dk_at dksX1_binds_1 19 rfl rfl)
theorem dX1_binds_44 : decode cX1_binds 44 = .ok (.iaload, 1) := dk_46 (dk_at dksX1_binds_1 20 rfl rfl)
theorem dX1_binds_45 : decode cX1_binds 45 = .ok (.iconst 1, 1) := dk_4 (dk_at dksX1_binds_1 21 rfl rfl)
theorem dX1_binds_46 : decode cX1_binds 46 = .ok (.iadd, 1) := dk_96 (dk_at dksX1_binds_1 22 rfl rfl)
theorem dX1_binds_47 : decode cX1_binds 47 = .ok (.iastore, 1) := dk_79 (dk_at dksX1_binds_1 23 rfl rfl)
theorem dX1_binds_48 : decode cX1_binds 48 = .ok (.aload_n 0, 1) := dk_42 (dk_at dksX1_binds_2 0 rfl rfl)
theorem dX1_binds_49 : decode cX1_binds 49 = .ok (.invokevirtual 35, 3) := dk_182 0 35 (dk_at dksX1_binds_2 1 rfl rfl)
theorem dX1_binds_52 : decode cX1_binds 52 = .ok (.return_, 1) := dk_177 (dk_at dksX1_binds_2 4 rfl rfl)
abbrev cX1_isAtom : ByteArray := prog_16_method_7_code
def yX1_isAtom : MethodName := ⟨RX1, "isAtom", "(I)Z"⟩
def dkwX1_isAtom_0 : List UInt8 := [27, 133, 9, 42, 180, 0, 31, 4, 100, 133, 184, 0, 45, 172]
abbrev dktX1_isAtom_0 : List UInt8 := dkwX1_isAtom_0 ++ []
theorem dksX1_isAtom_0 : cX1_isAtom.data.toList.drop 0 = dktX1_isAtom_0 := by decide +kernel
theorem dX1_isAtom_0 : decode cX1_isAtom 0 = .ok (.iload_n 1, 1) := dk_27 (dk_at dksX1_isAtom_0 0 rfl rfl)
theorem dX1_isAtom_1 : decode cX1_isAtom 1 = .ok (.i2l, 1) := dk_133 (dk_at dksX1_isAtom_0 1 rfl rfl)
theorem dX1_isAtom_2 : decode cX1_isAtom 2 = .ok (.lconst 0, 1) := dk_9 (dk_at dksX1_isAtom_0 2 rfl rfl)
theorem dX1_isAtom_3 : decode cX1_isAtom 3 = .ok (.aload_n 0, 1) := dk_42 (dk_at dksX1_isAtom_0 3 rfl rfl)
theorem dX1_isAtom_4 : decode cX1_isAtom 4 = .ok (.getfield 31, 3) := dk_180 0 31 (dk_at dksX1_isAtom_0 4 rfl rfl)
theorem dX1_isAtom_7 : decode cX1_isAtom 7 = .ok (.iconst 1, 1) := dk_4 (dk_at dksX1_isAtom_0 7 rfl rfl)
theorem dX1_isAtom_8 : decode cX1_isAtom 8 = .ok (.isub, 1) := dk_100 (dk_at dksX1_isAtom_0 8 rfl rfl)
theorem dX1_isAtom_9 : decode cX1_isAtom 9 = .ok (.i2l, 1) := dk_133 (dk_at dksX1_isAtom_0 9 rfl rfl)
theorem dX1_isAtom_10 : decode cX1_isAtom 10 = .ok (.invokestatic 45, 3) := dk_184 0 45 (dk_at dksX1_isAtom_0 10 rfl rfl)
theorem dX1_isAtom_13 : decode cX1_isAtom 13 = .ok (.ireturn, 1) := dk_172 (dk_at dksX1_isAtom_0 13 rfl rfl)
abbrev cX1_cuts : ByteArray := prog_16_method_15_code
def yX1_cuts : MethodName := ⟨RX1, "cuts", "(I)V"⟩
def dkwX1_cuts_4 : List UInt8 := [181, 0, 31, 42, 182, 0, 35, 177]
abbrev dktX1_cuts_4 : List UInt8 := dkwX1_cuts_4 ++ []
def dkwX1_cuts_3 : List UInt8 := [180, 0, 11, 21, 4, 50, 42, 21, 4, 28, 182, 0, 53, 27, 79, 132, 3, 1, 167, 255, 207, 42, 28]
abbrev dktX1_cuts_3 : List UInt8 := dkwX1_cuts_3 ++ dktX1_cuts_4
def dkwX1_cuts_2 : List UInt8 := [162, 0, 45, 42, 180, 0, 11, 28, 50, 29, 46, 54, 4, 42, 180, 0, 11, 27, 50, 29, 21, 4, 79, 42]
abbrev dktX1_cuts_2 : List UInt8 := dkwX1_cuts_2 ++ dktX1_cuts_3
def dkwX1_cuts_1 : List UInt8 := [159, 0, 69, 42, 180, 0, 24, 27, 42, 180, 0, 24, 28, 46, 79, 3, 62, 29, 42, 180, 0, 24, 28, 46]
abbrev dktX1_cuts_1 : List UInt8 := dkwX1_cuts_1 ++ dktX1_cuts_2
def dkwX1_cuts_0 : List UInt8 := [42, 42, 180, 0, 11, 27, 50, 3, 46, 27, 182, 0, 60, 42, 180, 0, 31, 4, 100, 61, 27, 28]
abbrev dktX1_cuts_0 : List UInt8 := dkwX1_cuts_0 ++ dktX1_cuts_1
theorem dksX1_cuts_0 : cX1_cuts.data.toList.drop 0 = dktX1_cuts_0 := by decide +kernel
theorem dksX1_cuts_1 : cX1_cuts.data.toList.drop 22 = dktX1_cuts_1 := dk_seg dksX1_cuts_0 22 rfl rfl
theorem dksX1_cuts_2 : cX1_cuts.data.toList.drop 46 = dktX1_cuts_2 := dk_seg dksX1_cuts_1 24 rfl rfl
theorem dksX1_cuts_3 : cX1_cuts.data.toList.drop 70 = dktX1_cuts_3 := dk_seg dksX1_cuts_2 24 rfl rfl
theorem dksX1_cuts_4 : cX1_cuts.data.toList.drop 93 = dktX1_cuts_4 := dk_seg dksX1_cuts_3 23 rfl rfl
theorem dX1_cuts_0 : decode cX1_cuts 0 = .ok (.aload_n 0, 1) := dk_42 (dk_at dksX1_cuts_0 0 rfl rfl)
theorem dX1_cuts_1 : decode cX1_cuts 1 = .ok (.aload_n 0, 1) := dk_42 (dk_at dksX1_cuts_0 1 rfl rfl)
theorem dX1_cuts_2 : decode cX1_cuts 2 = .ok (.getfield 11, 3) := dk_180 0 11 (dk_at dksX1_cuts_0 2 rfl rfl)
theorem dX1_cuts_5 : decode cX1_cuts 5 = .ok (.iload_n 1, 1) := dk_27 (dk_at dksX1_cuts_0 5 rfl rfl)
theorem dX1_cuts_6 : decode cX1_cuts 6 = .ok (.aaload, 1) := dk_50 (dk_at dksX1_cuts_0 6 rfl rfl)
theorem dX1_cuts_7 : decode cX1_cuts 7 = .ok (.iconst 0, 1) := dk_3 (dk_at dksX1_cuts_0 7 rfl rfl)
theorem dX1_cuts_8 : decode cX1_cuts 8 = .ok (.iaload, 1) := dk_46 (dk_at dksX1_cuts_0 8 rfl rfl)
theorem dX1_cuts_9 : decode cX1_cuts 9 = .ok (.iload_n 1, 1) := dk_27 (dk_at dksX1_cuts_0 9 rfl rfl)
theorem dX1_cuts_10 : decode cX1_cuts 10 = .ok (.invokevirtual 60, 3) := dk_182 0 60 (dk_at dksX1_cuts_0 10 rfl rfl)
theorem dX1_cuts_13 : decode cX1_cuts 13 = .ok (.aload_n 0, 1) := dk_42 (dk_at dksX1_cuts_0 13 rfl rfl)
theorem dX1_cuts_14 : decode cX1_cuts 14 = .ok (.getfield 31, 3) := dk_180 0 31 (dk_at dksX1_cuts_0 14 rfl rfl)
theorem dX1_cuts_17 : decode cX1_cuts 17 = .ok (.iconst 1, 1) := dk_4 (dk_at dksX1_cuts_0 17 rfl rfl)
theorem dX1_cuts_18 : decode cX1_cuts 18 = .ok (.isub, 1) := dk_100 (dk_at dksX1_cuts_0 18 rfl rfl)
theorem dX1_cuts_19 : decode cX1_cuts 19 = .ok (.istore_n 2, 1) := dk_61 (dk_at dksX1_cuts_0 19 rfl rfl)
theorem dX1_cuts_20 : decode cX1_cuts 20 = .ok (.iload_n 1, 1) := dk_27 (dk_at dksX1_cuts_0 20 rfl rfl)
theorem dX1_cuts_21 : decode cX1_cuts 21 = .ok (.iload_n 2, 1) := dk_28 (dk_at dksX1_cuts_0 21 rfl rfl)
theorem dX1_cuts_22 : decode cX1_cuts 22 = .ok (.if_icmp .eq 69, 3) := dk_159 0 69 (dk_at dksX1_cuts_1 0 rfl rfl)
theorem dX1_cuts_25 : decode cX1_cuts 25 = .ok (.aload_n 0, 1) := dk_42 (dk_at dksX1_cuts_1 3 rfl rfl)
theorem dX1_cuts_26 : decode cX1_cuts 26 = .ok (.getfield 24, 3) := dk_180 0 24 (dk_at dksX1_cuts_1 4 rfl rfl)
theorem dX1_cuts_29 : decode cX1_cuts 29 = .ok (.iload_n 1, 1) := dk_27 (dk_at dksX1_cuts_1 7 rfl rfl)
theorem dX1_cuts_30 : decode cX1_cuts 30 = .ok (.aload_n 0, 1) := dk_42 (dk_at dksX1_cuts_1 8 rfl rfl)
theorem dX1_cuts_31 : decode cX1_cuts 31 = .ok (.getfield 24, 3) := dk_180 0 24 (dk_at dksX1_cuts_1 9 rfl rfl)
theorem dX1_cuts_34 : decode cX1_cuts 34 = .ok (.iload_n 2, 1) := dk_28 (dk_at dksX1_cuts_1 12 rfl rfl)
theorem dX1_cuts_35 : decode cX1_cuts 35 = .ok (.iaload, 1) := dk_46 (dk_at dksX1_cuts_1 13 rfl rfl)
theorem dX1_cuts_36 : decode cX1_cuts 36 = .ok (.iastore, 1) := dk_79 (dk_at dksX1_cuts_1 14 rfl rfl)
theorem dX1_cuts_37 : decode cX1_cuts 37 = .ok (.iconst 0, 1) := dk_3 (dk_at dksX1_cuts_1 15 rfl rfl)
theorem dX1_cuts_38 : decode cX1_cuts 38 = .ok (.istore_n 3, 1) := dk_62 (dk_at dksX1_cuts_1 16 rfl rfl)
theorem dX1_cuts_39 : decode cX1_cuts 39 = .ok (.iload_n 3, 1) := dk_29 (dk_at dksX1_cuts_1 17 rfl rfl)
theorem dX1_cuts_40 : decode cX1_cuts 40 = .ok (.aload_n 0, 1) := dk_42 (dk_at dksX1_cuts_1 18 rfl rfl)
theorem dX1_cuts_41 : decode cX1_cuts 41 = .ok (.getfield 24, 3) := dk_180 0 24 (dk_at dksX1_cuts_1 19 rfl rfl)
theorem dX1_cuts_44 : decode cX1_cuts 44 = .ok (.iload_n 2, 1) := dk_28 (dk_at dksX1_cuts_1 22 rfl rfl)
theorem dX1_cuts_45 : decode cX1_cuts 45 = .ok (.iaload, 1) := dk_46 (dk_at dksX1_cuts_1 23 rfl rfl)
theorem dX1_cuts_46 : decode cX1_cuts 46 = .ok (.if_icmp .ge 45, 3) := dk_162 0 45 (dk_at dksX1_cuts_2 0 rfl rfl)
theorem dX1_cuts_49 : decode cX1_cuts 49 = .ok (.aload_n 0, 1) := dk_42 (dk_at dksX1_cuts_2 3 rfl rfl)
theorem dX1_cuts_50 : decode cX1_cuts 50 = .ok (.getfield 11, 3) := dk_180 0 11 (dk_at dksX1_cuts_2 4 rfl rfl)
theorem dX1_cuts_53 : decode cX1_cuts 53 = .ok (.iload_n 2, 1) := dk_28 (dk_at dksX1_cuts_2 7 rfl rfl)
theorem dX1_cuts_54 : decode cX1_cuts 54 = .ok (.aaload, 1) := dk_50 (dk_at dksX1_cuts_2 8 rfl rfl)
theorem dX1_cuts_55 : decode cX1_cuts 55 = .ok (.iload_n 3, 1) := dk_29 (dk_at dksX1_cuts_2 9 rfl rfl)
theorem dX1_cuts_56 : decode cX1_cuts 56 = .ok (.iaload, 1) := dk_46 (dk_at dksX1_cuts_2 10 rfl rfl)
theorem dX1_cuts_57 : decode cX1_cuts 57 = .ok (.istore 4, 2) := dk_54 4 (dk_at dksX1_cuts_2 11 rfl rfl)
theorem dX1_cuts_59 : decode cX1_cuts 59 = .ok (.aload_n 0, 1) := dk_42 (dk_at dksX1_cuts_2 13 rfl rfl)
theorem dX1_cuts_60 : decode cX1_cuts 60 = .ok (.getfield 11, 3) := dk_180 0 11 (dk_at dksX1_cuts_2 14 rfl rfl)
theorem dX1_cuts_63 : decode cX1_cuts 63 = .ok (.iload_n 1, 1) := dk_27 (dk_at dksX1_cuts_2 17 rfl rfl)
theorem dX1_cuts_64 : decode cX1_cuts 64 = .ok (.aaload, 1) := dk_50 (dk_at dksX1_cuts_2 18 rfl rfl)
theorem dX1_cuts_65 : decode cX1_cuts 65 = .ok (.iload_n 3, 1) := dk_29 (dk_at dksX1_cuts_2 19 rfl rfl)
theorem dX1_cuts_66 : decode cX1_cuts 66 = .ok (.iload 4, 2) := dk_21 4 (dk_at dksX1_cuts_2 20 rfl rfl)
theorem dX1_cuts_68 : decode cX1_cuts 68 = .ok (.iastore, 1) := dk_79 (dk_at dksX1_cuts_2 22 rfl rfl)
theorem dX1_cuts_69 : decode cX1_cuts 69 = .ok (.aload_n 0, 1) := dk_42 (dk_at dksX1_cuts_2 23 rfl rfl)
theorem dX1_cuts_70 : decode cX1_cuts 70 = .ok (.getfield 11, 3) := dk_180 0 11 (dk_at dksX1_cuts_3 0 rfl rfl)
theorem dX1_cuts_73 : decode cX1_cuts 73 = .ok (.iload 4, 2) := dk_21 4 (dk_at dksX1_cuts_3 3 rfl rfl)
theorem dX1_cuts_75 : decode cX1_cuts 75 = .ok (.aaload, 1) := dk_50 (dk_at dksX1_cuts_3 5 rfl rfl)
theorem dX1_cuts_76 : decode cX1_cuts 76 = .ok (.aload_n 0, 1) := dk_42 (dk_at dksX1_cuts_3 6 rfl rfl)
theorem dX1_cuts_77 : decode cX1_cuts 77 = .ok (.iload 4, 2) := dk_21 4 (dk_at dksX1_cuts_3 7 rfl rfl)
theorem dX1_cuts_79 : decode cX1_cuts 79 = .ok (.iload_n 2, 1) := dk_28 (dk_at dksX1_cuts_3 9 rfl rfl)
theorem dX1_cuts_80 : decode cX1_cuts 80 = .ok (.invokevirtual 53, 3) := dk_182 0 53 (dk_at dksX1_cuts_3 10 rfl rfl)
theorem dX1_cuts_83 : decode cX1_cuts 83 = .ok (.iload_n 1, 1) := dk_27 (dk_at dksX1_cuts_3 13 rfl rfl)
theorem dX1_cuts_84 : decode cX1_cuts 84 = .ok (.iastore, 1) := dk_79 (dk_at dksX1_cuts_3 14 rfl rfl)
theorem dX1_cuts_85 : decode cX1_cuts 85 = .ok (.iinc 3 1, 3) := dk_132 3 1 (dk_at dksX1_cuts_3 15 rfl rfl)
theorem dX1_cuts_88 : decode cX1_cuts 88 = .ok (.goto (-49), 3) := dk_167 255 207 (dk_at dksX1_cuts_3 18 rfl rfl)
theorem dX1_cuts_91 : decode cX1_cuts 91 = .ok (.aload_n 0, 1) := dk_42 (dk_at dksX1_cuts_3 21 rfl rfl)
theorem dX1_cuts_92 : decode cX1_cuts 92 = .ok (.iload_n 2, 1) := dk_28 (dk_at dksX1_cuts_3 22 rfl rfl)
theorem dX1_cuts_93 : decode cX1_cuts 93 = .ok (.putfield 31, 3) := dk_181 0 31 (dk_at dksX1_cuts_4 0 rfl rfl)
theorem dX1_cuts_96 : decode cX1_cuts 96 = .ok (.aload_n 0, 1) := dk_42 (dk_at dksX1_cuts_4 3 rfl rfl)
theorem dX1_cuts_97 : decode cX1_cuts 97 = .ok (.invokevirtual 35, 3) := dk_182 0 35 (dk_at dksX1_cuts_4 4 rfl rfl)
theorem dX1_cuts_100 : decode cX1_cuts 100 = .ok (.return_, 1) := dk_177 (dk_at dksX1_cuts_4 7 rfl rfl)
abbrev cX1_frees : ByteArray := prog_16_method_13_code
def yX1_frees : MethodName := ⟨RX1, "frees", "(II)V"⟩
def dkwX1_frees_1 : List UInt8 := [180, 0, 11, 27, 50, 42, 180, 0, 24, 27, 46, 46, 79, 177]
abbrev dktX1_frees_1 : List UInt8 := dkwX1_frees_1 ++ []
def dkwX1_frees_0 : List UInt8 := [42, 180, 0, 24, 27, 92, 46, 4, 100, 79, 42, 180, 0, 11, 27, 50, 42, 27, 28, 182, 0, 57, 42]
abbrev dktX1_frees_0 : List UInt8 := dkwX1_frees_0 ++ dktX1_frees_1
theorem dksX1_frees_0 : cX1_frees.data.toList.drop 0 = dktX1_frees_0 := by decide +kernel
theorem dksX1_frees_1 : cX1_frees.data.toList.drop 23 = dktX1_frees_1 := dk_seg dksX1_frees_0 23 rfl rfl
theorem dX1_frees_0 : decode cX1_frees 0 = .ok (.aload_n 0, 1) := dk_42 (dk_at dksX1_frees_0 0 rfl rfl)
theorem dX1_frees_1 : decode cX1_frees 1 = .ok (.getfield 24, 3) := dk_180 0 24 (dk_at dksX1_frees_0 1 rfl rfl)
theorem dX1_frees_4 : decode cX1_frees 4 = .ok (.iload_n 1, 1) := dk_27 (dk_at dksX1_frees_0 4 rfl rfl)
theorem dX1_frees_5 : decode cX1_frees 5 = .ok (.dup2, 1) := dk_92 (dk_at dksX1_frees_0 5 rfl rfl)
theorem dX1_frees_6 : decode cX1_frees 6 = .ok (.iaload, 1) := dk_46 (dk_at dksX1_frees_0 6 rfl rfl)
theorem dX1_frees_7 : decode cX1_frees 7 = .ok (.iconst 1, 1) := dk_4 (dk_at dksX1_frees_0 7 rfl rfl)
theorem dX1_frees_8 : decode cX1_frees 8 = .ok (.isub, 1) := dk_100 (dk_at dksX1_frees_0 8 rfl rfl)
theorem dX1_frees_9 : decode cX1_frees 9 = .ok (.iastore, 1) := dk_79 (dk_at dksX1_frees_0 9 rfl rfl)
theorem dX1_frees_10 : decode cX1_frees 10 = .ok (.aload_n 0, 1) := dk_42 (dk_at dksX1_frees_0 10 rfl rfl)
theorem dX1_frees_11 : decode cX1_frees 11 = .ok (.getfield 11, 3) := dk_180 0 11 (dk_at dksX1_frees_0 11 rfl rfl)
theorem dX1_frees_14 : decode cX1_frees 14 = .ok (.iload_n 1, 1) := dk_27 (dk_at dksX1_frees_0 14 rfl rfl)
theorem dX1_frees_15 : decode cX1_frees 15 = .ok (.aaload, 1) := dk_50 (dk_at dksX1_frees_0 15 rfl rfl)
theorem dX1_frees_16 : decode cX1_frees 16 = .ok (.aload_n 0, 1) := dk_42 (dk_at dksX1_frees_0 16 rfl rfl)
theorem dX1_frees_17 : decode cX1_frees 17 = .ok (.iload_n 1, 1) := dk_27 (dk_at dksX1_frees_0 17 rfl rfl)
theorem dX1_frees_18 : decode cX1_frees 18 = .ok (.iload_n 2, 1) := dk_28 (dk_at dksX1_frees_0 18 rfl rfl)
theorem dX1_frees_19 : decode cX1_frees 19 = .ok (.invokevirtual 57, 3) := dk_182 0 57 (dk_at dksX1_frees_0 19 rfl rfl)
theorem dX1_frees_22 : decode cX1_frees 22 = .ok (.aload_n 0, 1) := dk_42 (dk_at dksX1_frees_0 22 rfl rfl)
theorem dX1_frees_23 : decode cX1_frees 23 = .ok (.getfield 11, 3) := dk_180 0 11 (dk_at dksX1_frees_1 0 rfl rfl)
theorem dX1_frees_26 : decode cX1_frees 26 = .ok (.iload_n 1, 1) := dk_27 (dk_at dksX1_frees_1 3 rfl rfl)
theorem dX1_frees_27 : decode cX1_frees 27 = .ok (.aaload, 1) := dk_50 (dk_at dksX1_frees_1 4 rfl rfl)
theorem dX1_frees_28 : decode cX1_frees 28 = .ok (.aload_n 0, 1) := dk_42 (dk_at dksX1_frees_1 5 rfl rfl)
theorem dX1_frees_29 : decode cX1_frees 29 = .ok (.getfield 24, 3) := dk_180 0 24 (dk_at dksX1_frees_1 6 rfl rfl)
theorem dX1_frees_32 : decode cX1_frees 32 = .ok (.iload_n 1, 1) := dk_27 (dk_at dksX1_frees_1 9 rfl rfl)
theorem dX1_frees_33 : decode cX1_frees 33 = .ok (.iaload, 1) := dk_46 (dk_at dksX1_frees_1 10 rfl rfl)
theorem dX1_frees_34 : decode cX1_frees 34 = .ok (.iaload, 1) := dk_46 (dk_at dksX1_frees_1 11 rfl rfl)
theorem dX1_frees_35 : decode cX1_frees 35 = .ok (.iastore, 1) := dk_79 (dk_at dksX1_frees_1 12 rfl rfl)
theorem dX1_frees_36 : decode cX1_frees 36 = .ok (.return_, 1) := dk_177 (dk_at dksX1_frees_1 13 rfl rfl)
abbrev cX1_bondTo2 : ByteArray := prog_16_method_14_code
def yX1_bondTo2 : MethodName := ⟨RX1, "bondTo2", "(II)I"⟩
def dkwX1_bondTo2_0 : List UInt8 := [3, 62, 42, 180, 0, 11, 27, 50, 29, 46, 28, 159, 0, 9, 132, 3, 1, 167, 255, 241, 29, 172]
abbrev dktX1_bondTo2_0 : List UInt8 := dkwX1_bondTo2_0 ++ []
theorem dksX1_bondTo2_0 : cX1_bondTo2.data.toList.drop 0 = dktX1_bondTo2_0 := by decide +kernel
theorem dX1_bondTo2_0 : decode cX1_bondTo2 0 = .ok (.iconst 0, 1) := dk_3 (dk_at dksX1_bondTo2_0 0 rfl rfl)
theorem dX1_bondTo2_1 : decode cX1_bondTo2 1 = .ok (.istore_n 3, 1) := dk_62 (dk_at dksX1_bondTo2_0 1 rfl rfl)
theorem dX1_bondTo2_2 : decode cX1_bondTo2 2 = .ok (.aload_n 0, 1) := dk_42 (dk_at dksX1_bondTo2_0 2 rfl rfl)
theorem dX1_bondTo2_3 : decode cX1_bondTo2 3 = .ok (.getfield 11, 3) := dk_180 0 11 (dk_at dksX1_bondTo2_0 3 rfl rfl)
theorem dX1_bondTo2_6 : decode cX1_bondTo2 6 = .ok (.iload_n 1, 1) := dk_27 (dk_at dksX1_bondTo2_0 6 rfl rfl)
theorem dX1_bondTo2_7 : decode cX1_bondTo2 7 = .ok (.aaload, 1) := dk_50 (dk_at dksX1_bondTo2_0 7 rfl rfl)
theorem dX1_bondTo2_8 : decode cX1_bondTo2 8 = .ok (.iload_n 3, 1) := dk_29 (dk_at dksX1_bondTo2_0 8 rfl rfl)
theorem dX1_bondTo2_9 : decode cX1_bondTo2 9 = .ok (.iaload, 1) := dk_46 (dk_at dksX1_bondTo2_0 9 rfl rfl)
theorem dX1_bondTo2_10 : decode cX1_bondTo2 10 = .ok (.iload_n 2, 1) := dk_28 (dk_at dksX1_bondTo2_0 10 rfl rfl)
theorem dX1_bondTo2_11 : decode cX1_bondTo2 11 = .ok (.if_icmp .eq 9, 3) := dk_159 0 9 (dk_at dksX1_bondTo2_0 11 rfl rfl)
theorem dX1_bondTo2_14 : decode cX1_bondTo2 14 = .ok (.iinc 3 1, 3) := dk_132 3 1 (dk_at dksX1_bondTo2_0 14 rfl rfl)
theorem dX1_bondTo2_17 : decode cX1_bondTo2 17 = .ok (.goto (-15), 3) := dk_167 255 241 (dk_at dksX1_bondTo2_0 17 rfl rfl)
theorem dX1_bondTo2_20 : decode cX1_bondTo2 20 = .ok (.iload_n 3, 1) := dk_29 (dk_at dksX1_bondTo2_0 20 rfl rfl)
theorem dX1_bondTo2_21 : decode cX1_bondTo2 21 = .ok (.ireturn, 1) := dk_172 (dk_at dksX1_bondTo2_0 21 rfl rfl)
abbrev cX1_bondTo : ByteArray := prog_16_method_11_code
def yX1_bondTo : MethodName := ⟨RX1, "bondTo", "(II)I"⟩
def dkwX1_bondTo_1 : List UInt8 := [132, 3, 1, 167, 255, 231, 29, 172]
abbrev dktX1_bondTo_1 : List UInt8 := dkwX1_bondTo_1 ++ []
def dkwX1_bondTo_0 : List UInt8 := [3, 62, 29, 42, 180, 0, 24, 27, 46, 162, 0, 21, 42, 180, 0, 11, 27, 50, 29, 46, 28, 159, 0, 9]
abbrev dktX1_bondTo_0 : List UInt8 := dkwX1_bondTo_0 ++ dktX1_bondTo_1
theorem dksX1_bondTo_0 : cX1_bondTo.data.toList.drop 0 = dktX1_bondTo_0 := by decide +kernel
theorem dksX1_bondTo_1 : cX1_bondTo.data.toList.drop 24 = dktX1_bondTo_1 := dk_seg dksX1_bondTo_0 24 rfl rfl
theorem dX1_bondTo_0 : decode cX1_bondTo 0 = .ok (.iconst 0, 1) := dk_3 (dk_at dksX1_bondTo_0 0 rfl rfl)
theorem dX1_bondTo_1 : decode cX1_bondTo 1 = .ok (.istore_n 3, 1) := dk_62 (dk_at dksX1_bondTo_0 1 rfl rfl)
theorem dX1_bondTo_2 : decode cX1_bondTo 2 = .ok (.iload_n 3, 1) := dk_29 (dk_at dksX1_bondTo_0 2 rfl rfl)
theorem dX1_bondTo_3 : decode cX1_bondTo 3 = .ok (.aload_n 0, 1) := dk_42 (dk_at dksX1_bondTo_0 3 rfl rfl)
theorem dX1_bondTo_4 : decode cX1_bondTo 4 = .ok (.getfield 24, 3) := dk_180 0 24 (dk_at dksX1_bondTo_0 4 rfl rfl)
theorem dX1_bondTo_7 : decode cX1_bondTo 7 = .ok (.iload_n 1, 1) := dk_27 (dk_at dksX1_bondTo_0 7 rfl rfl)
theorem dX1_bondTo_8 : decode cX1_bondTo 8 = .ok (.iaload, 1) := dk_46 (dk_at dksX1_bondTo_0 8 rfl rfl)
theorem dX1_bondTo_9 : decode cX1_bondTo 9 = .ok (.if_icmp .ge 21, 3) := dk_162 0 21 (dk_at dksX1_bondTo_0 9 rfl rfl)
theorem dX1_bondTo_12 : decode cX1_bondTo 12 = .ok (.aload_n 0, 1) := dk_42 (dk_at dksX1_bondTo_0 12 rfl rfl)
theorem dX1_bondTo_13 : decode cX1_bondTo 13 = .ok (.getfield 11, 3) := dk_180 0 11 (dk_at dksX1_bondTo_0 13 rfl rfl)
theorem dX1_bondTo_16 : decode cX1_bondTo 16 = .ok (.iload_n 1, 1) := dk_27 (dk_at dksX1_bondTo_0 16 rfl rfl)
theorem dX1_bondTo_17 : decode cX1_bondTo 17 = .ok (.aaload, 1) := dk_50 (dk_at dksX1_bondTo_0 17 rfl rfl)
theorem dX1_bondTo_18 : decode cX1_bondTo 18 = .ok (.iload_n 3, 1) := dk_29 (dk_at dksX1_bondTo_0 18 rfl rfl)
theorem dX1_bondTo_19 : decode cX1_bondTo 19 = .ok (.iaload, 1) := dk_46 (dk_at dksX1_bondTo_0 19 rfl rfl)
theorem dX1_bondTo_20 : decode cX1_bondTo 20 = .ok (.iload_n 2, 1) := dk_28 (dk_at dksX1_bondTo_0 20 rfl rfl)
theorem dX1_bondTo_21 : decode cX1_bondTo 21 = .ok (.if_icmp .eq 9, 3) := dk_159 0 9 (dk_at dksX1_bondTo_0 21 rfl rfl)
theorem dX1_bondTo_24 : decode cX1_bondTo 24 = .ok (.iinc 3 1, 3) := dk_132 3 1 (dk_at dksX1_bondTo_1 0 rfl rfl)
theorem dX1_bondTo_27 : decode cX1_bondTo 27 = .ok (.goto (-25), 3) := dk_167 255 231 (dk_at dksX1_bondTo_1 3 rfl rfl)
theorem dX1_bondTo_30 : decode cX1_bondTo 30 = .ok (.iload_n 3, 1) := dk_29 (dk_at dksX1_bondTo_1 6 rfl rfl)
theorem dX1_bondTo_31 : decode cX1_bondTo 31 = .ok (.ireturn, 1) := dk_172 (dk_at dksX1_bondTo_1 7 rfl rfl)
abbrev cX1_bound : ByteArray := prog_16_method_19_code
def yX1_bound : MethodName := ⟨RX1, "bound", "(II)I"⟩
def dkwX1_bound_1 : List UInt8 := [167, 0, 13, 29, 154, 0, 6, 21, 4, 172, 132, 3, 255, 132, 4, 1, 167, 255, 221, 2, 172]
abbrev dktX1_bound_1 : List UInt8 := dkwX1_bound_1 ++ []
def dkwX1_bound_0 : List UInt8 := [28, 62, 3, 54, 4, 21, 4, 42, 180, 0, 31, 162, 0, 32, 42, 27, 21, 4, 182, 0, 67, 154, 0, 6]
abbrev dktX1_bound_0 : List UInt8 := dkwX1_bound_0 ++ dktX1_bound_1
theorem dksX1_bound_0 : cX1_bound.data.toList.drop 0 = dktX1_bound_0 := by decide +kernel
theorem dksX1_bound_1 : cX1_bound.data.toList.drop 24 = dktX1_bound_1 := dk_seg dksX1_bound_0 24 rfl rfl
theorem dX1_bound_0 : decode cX1_bound 0 = .ok (.iload_n 2, 1) := dk_28 (dk_at dksX1_bound_0 0 rfl rfl)
theorem dX1_bound_1 : decode cX1_bound 1 = .ok (.istore_n 3, 1) := dk_62 (dk_at dksX1_bound_0 1 rfl rfl)
theorem dX1_bound_2 : decode cX1_bound 2 = .ok (.iconst 0, 1) := dk_3 (dk_at dksX1_bound_0 2 rfl rfl)
theorem dX1_bound_3 : decode cX1_bound 3 = .ok (.istore 4, 2) := dk_54 4 (dk_at dksX1_bound_0 3 rfl rfl)
theorem dX1_bound_5 : decode cX1_bound 5 = .ok (.iload 4, 2) := dk_21 4 (dk_at dksX1_bound_0 5 rfl rfl)
theorem dX1_bound_7 : decode cX1_bound 7 = .ok (.aload_n 0, 1) := dk_42 (dk_at dksX1_bound_0 7 rfl rfl)
theorem dX1_bound_8 : decode cX1_bound 8 = .ok (.getfield 31, 3) := dk_180 0 31 (dk_at dksX1_bound_0 8 rfl rfl)
theorem dX1_bound_11 : decode cX1_bound 11 = .ok (.if_icmp .ge 32, 3) := dk_162 0 32 (dk_at dksX1_bound_0 11 rfl rfl)
theorem dX1_bound_14 : decode cX1_bound 14 = .ok (.aload_n 0, 1) := dk_42 (dk_at dksX1_bound_0 14 rfl rfl)
theorem dX1_bound_15 : decode cX1_bound 15 = .ok (.iload_n 1, 1) := dk_27 (dk_at dksX1_bound_0 15 rfl rfl)
theorem dX1_bound_16 : decode cX1_bound 16 = .ok (.iload 4, 2) := dk_21 4 (dk_at dksX1_bound_0 16 rfl rfl)
theorem dX1_bound_18 : decode cX1_bound 18 = .ok (.invokevirtual 67, 3) := dk_182 0 67 (dk_at dksX1_bound_0 18 rfl rfl)
theorem dX1_bound_21 : decode cX1_bound 21 = .ok (.ifCond .ne 6, 3) := dk_154 0 6 (dk_at dksX1_bound_0 21 rfl rfl)
theorem dX1_bound_24 : decode cX1_bound 24 = .ok (.goto 13, 3) := dk_167 0 13 (dk_at dksX1_bound_1 0 rfl rfl)
theorem dX1_bound_27 : decode cX1_bound 27 = .ok (.iload_n 3, 1) := dk_29 (dk_at dksX1_bound_1 3 rfl rfl)
theorem dX1_bound_28 : decode cX1_bound 28 = .ok (.ifCond .ne 6, 3) := dk_154 0 6 (dk_at dksX1_bound_1 4 rfl rfl)
theorem dX1_bound_31 : decode cX1_bound 31 = .ok (.iload 4, 2) := dk_21 4 (dk_at dksX1_bound_1 7 rfl rfl)
theorem dX1_bound_33 : decode cX1_bound 33 = .ok (.ireturn, 1) := dk_172 (dk_at dksX1_bound_1 9 rfl rfl)
theorem dX1_bound_34 : decode cX1_bound 34 = .ok (.iinc 3 (-1), 3) := dk_132 3 255 (dk_at dksX1_bound_1 10 rfl rfl)
theorem dX1_bound_37 : decode cX1_bound 37 = .ok (.iinc 4 1, 3) := dk_132 4 1 (dk_at dksX1_bound_1 13 rfl rfl)
theorem dX1_bound_40 : decode cX1_bound 40 = .ok (.goto (-35), 3) := dk_167 255 221 (dk_at dksX1_bound_1 16 rfl rfl)
theorem dX1_bound_43 : decode cX1_bound 43 = .ok (.iconst (-1), 1) := dk_2 (dk_at dksX1_bound_1 19 rfl rfl)
theorem dX1_bound_44 : decode cX1_bound 44 = .ok (.ireturn, 1) := dk_172 (dk_at dksX1_bound_1 20 rfl rfl)
abbrev cX1_isBound : ByteArray := prog_16_method_12_code
def yX1_isBound : MethodName := ⟨RX1, "isBound", "(II)Z"⟩
def dkwX1_isBound_0 : List UInt8 := [42, 27, 28, 182, 0, 53, 42, 180, 0, 24, 27, 46, 162, 0, 7, 4, 167, 0, 4, 3, 172]
abbrev dktX1_isBound_0 : List UInt8 := dkwX1_isBound_0 ++ []
theorem dksX1_isBound_0 : cX1_isBound.data.toList.drop 0 = dktX1_isBound_0 := by decide +kernel
theorem dX1_isBound_0 : decode cX1_isBound 0 = .ok (.aload_n 0, 1) := dk_42 (dk_at dksX1_isBound_0 0 rfl rfl)
theorem dX1_isBound_1 : decode cX1_isBound 1 = .ok (.iload_n 1, 1) := dk_27 (dk_at dksX1_isBound_0 1 rfl rfl)
theorem dX1_isBound_2 : decode cX1_isBound 2 = .ok (.iload_n 2, 1) := dk_28 (dk_at dksX1_isBound_0 2 rfl rfl)
theorem dX1_isBound_3 : decode cX1_isBound 3 = .ok (.invokevirtual 53, 3) := dk_182 0 53 (dk_at dksX1_isBound_0 3 rfl rfl)
theorem dX1_isBound_6 : decode cX1_isBound 6 = .ok (.aload_n 0, 1) := dk_42 (dk_at dksX1_isBound_0 6 rfl rfl)
theorem dX1_isBound_7 : decode cX1_isBound 7 = .ok (.getfield 24, 3) := dk_180 0 24 (dk_at dksX1_isBound_0 7 rfl rfl)
theorem dX1_isBound_10 : decode cX1_isBound 10 = .ok (.iload_n 1, 1) := dk_27 (dk_at dksX1_isBound_0 10 rfl rfl)
theorem dX1_isBound_11 : decode cX1_isBound 11 = .ok (.iaload, 1) := dk_46 (dk_at dksX1_isBound_0 11 rfl rfl)
theorem dX1_isBound_12 : decode cX1_isBound 12 = .ok (.if_icmp .ge 7, 3) := dk_162 0 7 (dk_at dksX1_isBound_0 12 rfl rfl)
theorem dX1_isBound_15 : decode cX1_isBound 15 = .ok (.iconst 1, 1) := dk_4 (dk_at dksX1_isBound_0 15 rfl rfl)
theorem dX1_isBound_16 : decode cX1_isBound 16 = .ok (.goto 4, 3) := dk_167 0 4 (dk_at dksX1_isBound_0 16 rfl rfl)
theorem dX1_isBound_19 : decode cX1_isBound 19 = .ok (.iconst 0, 1) := dk_3 (dk_at dksX1_isBound_0 19 rfl rfl)
theorem dX1_isBound_20 : decode cX1_isBound 20 = .ok (.ireturn, 1) := dk_172 (dk_at dksX1_isBound_0 20 rfl rfl)
abbrev cX1_isTold : ByteArray := prog_16_method_4_code
def yX1_isTold : MethodName := ⟨RX1, "isTold", "(II)Z"⟩
def dkwX1_isTold_0 : List UInt8 := [42, 180, 0, 16, 27, 50, 28, 46, 42, 180, 0, 38, 160, 0, 7, 4, 167, 0, 4, 3, 172]
abbrev dktX1_isTold_0 : List UInt8 := dkwX1_isTold_0 ++ []
theorem dksX1_isTold_0 : cX1_isTold.data.toList.drop 0 = dktX1_isTold_0 := by decide +kernel
theorem dX1_isTold_0 : decode cX1_isTold 0 = .ok (.aload_n 0, 1) := dk_42 (dk_at dksX1_isTold_0 0 rfl rfl)
theorem dX1_isTold_1 : decode cX1_isTold 1 = .ok (.getfield 16, 3) := dk_180 0 16 (dk_at dksX1_isTold_0 1 rfl rfl)
theorem dX1_isTold_4 : decode cX1_isTold 4 = .ok (.iload_n 1, 1) := dk_27 (dk_at dksX1_isTold_0 4 rfl rfl)
theorem dX1_isTold_5 : decode cX1_isTold 5 = .ok (.aaload, 1) := dk_50 (dk_at dksX1_isTold_0 5 rfl rfl)
theorem dX1_isTold_6 : decode cX1_isTold 6 = .ok (.iload_n 2, 1) := dk_28 (dk_at dksX1_isTold_0 6 rfl rfl)
theorem dX1_isTold_7 : decode cX1_isTold 7 = .ok (.iaload, 1) := dk_46 (dk_at dksX1_isTold_0 7 rfl rfl)
theorem dX1_isTold_8 : decode cX1_isTold 8 = .ok (.aload_n 0, 1) := dk_42 (dk_at dksX1_isTold_0 8 rfl rfl)
theorem dX1_isTold_9 : decode cX1_isTold 9 = .ok (.getfield 38, 3) := dk_180 0 38 (dk_at dksX1_isTold_0 9 rfl rfl)
theorem dX1_isTold_12 : decode cX1_isTold 12 = .ok (.if_icmp .ne 7, 3) := dk_160 0 7 (dk_at dksX1_isTold_0 12 rfl rfl)
theorem dX1_isTold_15 : decode cX1_isTold 15 = .ok (.iconst 1, 1) := dk_4 (dk_at dksX1_isTold_0 15 rfl rfl)
theorem dX1_isTold_16 : decode cX1_isTold 16 = .ok (.goto 4, 3) := dk_167 0 4 (dk_at dksX1_isTold_0 16 rfl rfl)
theorem dX1_isTold_19 : decode cX1_isTold 19 = .ok (.iconst 0, 1) := dk_3 (dk_at dksX1_isTold_0 19 rfl rfl)
theorem dX1_isTold_20 : decode cX1_isTold 20 = .ok (.ireturn, 1) := dk_172 (dk_at dksX1_isTold_0 20 rfl rfl)
abbrev cX1_straight : ByteArray := prog_16_method_6_code
def yX1_straight : MethodName := ⟨RX1, "straight", "(II)I"⟩
def dkwX1_straight_3 : List UInt8 := [160, 0, 7, 29, 167, 0, 4, 2, 172]
abbrev dktX1_straight_3 : List UInt8 := dkwX1_straight_3 ++ []
def dkwX1_straight_2 : List UInt8 := [54, 6, 21, 5, 54, 4, 21, 6, 54, 5, 132, 3, 1, 167, 255, 205, 42, 180, 0, 24, 21, 5, 46, 4]
abbrev dktX1_straight_2 : List UInt8 := dkwX1_straight_2 ++ dktX1_straight_3
def dkwX1_straight_1 : List UInt8 := [21, 5, 50, 42, 180, 0, 11, 21, 5, 50, 3, 46, 21, 4, 160, 0, 7, 4, 167, 0, 4, 3, 46]
abbrev dktX1_straight_1 : List UInt8 := dkwX1_straight_1 ++ dktX1_straight_2
def dkwX1_straight_0 : List UInt8 := [4, 62, 28, 54, 4, 27, 54, 5, 42, 180, 0, 24, 21, 5, 46, 5, 160, 0, 46, 42, 180, 0, 11]
abbrev dktX1_straight_0 : List UInt8 := dkwX1_straight_0 ++ dktX1_straight_1
theorem dksX1_straight_0 : cX1_straight.data.toList.drop 0 = dktX1_straight_0 := by decide +kernel
theorem dksX1_straight_1 : cX1_straight.data.toList.drop 23 = dktX1_straight_1 := dk_seg dksX1_straight_0 23 rfl rfl
theorem dksX1_straight_2 : cX1_straight.data.toList.drop 46 = dktX1_straight_2 := dk_seg dksX1_straight_1 23 rfl rfl
theorem dksX1_straight_3 : cX1_straight.data.toList.drop 70 = dktX1_straight_3 := dk_seg dksX1_straight_2 24 rfl rfl
theorem dX1_straight_0 : decode cX1_straight 0 = .ok (.iconst 1, 1) := dk_4 (dk_at dksX1_straight_0 0 rfl rfl)
theorem dX1_straight_1 : decode cX1_straight 1 = .ok (.istore_n 3, 1) := dk_62 (dk_at dksX1_straight_0 1 rfl rfl)
theorem dX1_straight_2 : decode cX1_straight 2 = .ok (.iload_n 2, 1) := dk_28 (dk_at dksX1_straight_0 2 rfl rfl)
theorem dX1_straight_3 : decode cX1_straight 3 = .ok (.istore 4, 2) := dk_54 4 (dk_at dksX1_straight_0 3 rfl rfl)
theorem dX1_straight_5 : decode cX1_straight 5 = .ok (.iload_n 1, 1) := dk_27 (dk_at dksX1_straight_0 5 rfl rfl)
theorem dX1_straight_6 : decode cX1_straight 6 = .ok (.istore 5, 2) := dk_54 5 (dk_at dksX1_straight_0 6 rfl rfl)
theorem dX1_straight_8 : decode cX1_straight 8 = .ok (.aload_n 0, 1) := dk_42 (dk_at dksX1_straight_0 8 rfl rfl)
theorem dX1_straight_9 : decode cX1_straight 9 = .ok (.getfield 24, 3) := dk_180 0 24 (dk_at dksX1_straight_0 9 rfl rfl)
theorem dX1_straight_12 : decode cX1_straight 12 = .ok (.iload 5, 2) := dk_21 5 (dk_at dksX1_straight_0 12 rfl rfl)
theorem dX1_straight_14 : decode cX1_straight 14 = .ok (.iaload, 1) := dk_46 (dk_at dksX1_straight_0 14 rfl rfl)
theorem dX1_straight_15 : decode cX1_straight 15 = .ok (.iconst 2, 1) := dk_5 (dk_at dksX1_straight_0 15 rfl rfl)
theorem dX1_straight_16 : decode cX1_straight 16 = .ok (.if_icmp .ne 46, 3) := dk_160 0 46 (dk_at dksX1_straight_0 16 rfl rfl)
theorem dX1_straight_19 : decode cX1_straight 19 = .ok (.aload_n 0, 1) := dk_42 (dk_at dksX1_straight_0 19 rfl rfl)
theorem dX1_straight_20 : decode cX1_straight 20 = .ok (.getfield 11, 3) := dk_180 0 11 (dk_at dksX1_straight_0 20 rfl rfl)
theorem dX1_straight_23 : decode cX1_straight 23 = .ok (.iload 5, 2) := dk_21 5 (dk_at dksX1_straight_1 0 rfl rfl)
theorem dX1_straight_25 : decode cX1_straight 25 = .ok (.aaload, 1) := dk_50 (dk_at dksX1_straight_1 2 rfl rfl)
theorem dX1_straight_26 : decode cX1_straight 26 = .ok (.aload_n 0, 1) := dk_42 (dk_at dksX1_straight_1 3 rfl rfl)
theorem dX1_straight_27 : decode cX1_straight 27 = .ok (.getfield 11, 3) := dk_180 0 11 (dk_at dksX1_straight_1 4 rfl rfl)
theorem dX1_straight_30 : decode cX1_straight 30 = .ok (.iload 5, 2) := dk_21 5 (dk_at dksX1_straight_1 7 rfl rfl)
theorem dX1_straight_32 : decode cX1_straight 32 = .ok (.aaload, 1) := dk_50 (dk_at dksX1_straight_1 9 rfl rfl)
theorem dX1_straight_33 : decode cX1_straight 33 = .ok (.iconst 0, 1) := dk_3 (dk_at dksX1_straight_1 10 rfl rfl)
theorem dX1_straight_34 : decode cX1_straight 34 = .ok (.iaload, 1) := dk_46 (dk_at dksX1_straight_1 11 rfl rfl)
theorem dX1_straight_35 : decode cX1_straight 35 = .ok (.iload 4, 2) := dk_21 4 (dk_at dksX1_straight_1 12 rfl rfl)
theorem dX1_straight_37 : decode cX1_straight 37 = .ok (.if_icmp .ne 7, 3) := dk_160 0 7 (dk_at dksX1_straight_1 14 rfl rfl)
theorem dX1_straight_40 : decode cX1_straight 40 = .ok (.iconst 1, 1) := dk_4 (dk_at dksX1_straight_1 17 rfl rfl)
theorem dX1_straight_41 : decode cX1_straight 41 = .ok (.goto 4, 3) := dk_167 0 4 (dk_at dksX1_straight_1 18 rfl rfl)
theorem dX1_straight_44 : decode cX1_straight 44 = .ok (.iconst 0, 1) := dk_3 (dk_at dksX1_straight_1 21 rfl rfl)
theorem dX1_straight_45 : decode cX1_straight 45 = .ok (.iaload, 1) := dk_46 (dk_at dksX1_straight_1 22 rfl rfl)
theorem dX1_straight_46 : decode cX1_straight 46 = .ok (.istore 6, 2) := dk_54 6 (dk_at dksX1_straight_2 0 rfl rfl)
theorem dX1_straight_48 : decode cX1_straight 48 = .ok (.iload 5, 2) := dk_21 5 (dk_at dksX1_straight_2 2 rfl rfl)
theorem dX1_straight_50 : decode cX1_straight 50 = .ok (.istore 4, 2) := dk_54 4 (dk_at dksX1_straight_2 4 rfl rfl)
theorem dX1_straight_52 : decode cX1_straight 52 = .ok (.iload 6, 2) := dk_21 6 (dk_at dksX1_straight_2 6 rfl rfl)
theorem dX1_straight_54 : decode cX1_straight 54 = .ok (.istore 5, 2) := dk_54 5 (dk_at dksX1_straight_2 8 rfl rfl)
theorem dX1_straight_56 : decode cX1_straight 56 = .ok (.iinc 3 1, 3) := dk_132 3 1 (dk_at dksX1_straight_2 10 rfl rfl)
theorem dX1_straight_59 : decode cX1_straight 59 = .ok (.goto (-51), 3) := dk_167 255 205 (dk_at dksX1_straight_2 13 rfl rfl)
theorem dX1_straight_62 : decode cX1_straight 62 = .ok (.aload_n 0, 1) := dk_42 (dk_at dksX1_straight_2 16 rfl rfl)
theorem dX1_straight_63 : decode cX1_straight 63 = .ok (.getfield 24, 3) := dk_180 0 24 (dk_at dksX1_straight_2 17 rfl rfl)
theorem dX1_straight_66 : decode cX1_straight 66 = .ok (.iload 5, 2) := dk_21 5 (dk_at dksX1_straight_2 20 rfl rfl)
theorem dX1_straight_68 : decode cX1_straight 68 = .ok (.iaload, 1) := dk_46 (dk_at dksX1_straight_2 22 rfl rfl)
theorem dX1_straight_69 : decode cX1_straight 69 = .ok (.iconst 1, 1) := dk_4 (dk_at dksX1_straight_2 23 rfl rfl)
theorem dX1_straight_70 : decode cX1_straight 70 = .ok (.if_icmp .ne 7, 3) := dk_160 0 7 (dk_at dksX1_straight_3 0 rfl rfl)
theorem dX1_straight_73 : decode cX1_straight 73 = .ok (.iload_n 3, 1) := dk_29 (dk_at dksX1_straight_3 3 rfl rfl)
theorem dX1_straight_74 : decode cX1_straight 74 = .ok (.goto 4, 3) := dk_167 0 4 (dk_at dksX1_straight_3 4 rfl rfl)
theorem dX1_straight_77 : decode cX1_straight 77 = .ok (.iconst (-1), 1) := dk_2 (dk_at dksX1_straight_3 7 rfl rfl)
theorem dX1_straight_78 : decode cX1_straight 78 = .ok (.ireturn, 1) := dk_172 (dk_at dksX1_straight_3 8 rfl rfl)
abbrev cX1_tells : ByteArray := prog_16_method_5_code
def yX1_tells : MethodName := ⟨RX1, "tells", "(IILjava/lang/String;)V"⟩
def dkwX1_tells_0 : List UInt8 := [42, 180, 0, 21, 27, 50, 28, 45, 83, 42, 180, 0, 16, 27, 50, 28, 42, 180, 0, 38, 79, 177]
abbrev dktX1_tells_0 : List UInt8 := dkwX1_tells_0 ++ []
theorem dksX1_tells_0 : cX1_tells.data.toList.drop 0 = dktX1_tells_0 := by decide +kernel
theorem dX1_tells_0 : decode cX1_tells 0 = .ok (.aload_n 0, 1) := dk_42 (dk_at dksX1_tells_0 0 rfl rfl)
theorem dX1_tells_1 : decode cX1_tells 1 = .ok (.getfield 21, 3) := dk_180 0 21 (dk_at dksX1_tells_0 1 rfl rfl)
theorem dX1_tells_4 : decode cX1_tells 4 = .ok (.iload_n 1, 1) := dk_27 (dk_at dksX1_tells_0 4 rfl rfl)
theorem dX1_tells_5 : decode cX1_tells 5 = .ok (.aaload, 1) := dk_50 (dk_at dksX1_tells_0 5 rfl rfl)
theorem dX1_tells_6 : decode cX1_tells 6 = .ok (.iload_n 2, 1) := dk_28 (dk_at dksX1_tells_0 6 rfl rfl)
theorem dX1_tells_7 : decode cX1_tells 7 = .ok (.aload_n 3, 1) := dk_45 (dk_at dksX1_tells_0 7 rfl rfl)
theorem dX1_tells_8 : decode cX1_tells 8 = .ok (.aastore, 1) := dk_83 (dk_at dksX1_tells_0 8 rfl rfl)
theorem dX1_tells_9 : decode cX1_tells 9 = .ok (.aload_n 0, 1) := dk_42 (dk_at dksX1_tells_0 9 rfl rfl)
theorem dX1_tells_10 : decode cX1_tells 10 = .ok (.getfield 16, 3) := dk_180 0 16 (dk_at dksX1_tells_0 10 rfl rfl)
theorem dX1_tells_13 : decode cX1_tells 13 = .ok (.iload_n 1, 1) := dk_27 (dk_at dksX1_tells_0 13 rfl rfl)
theorem dX1_tells_14 : decode cX1_tells 14 = .ok (.aaload, 1) := dk_50 (dk_at dksX1_tells_0 14 rfl rfl)
theorem dX1_tells_15 : decode cX1_tells 15 = .ok (.iload_n 2, 1) := dk_28 (dk_at dksX1_tells_0 15 rfl rfl)
theorem dX1_tells_16 : decode cX1_tells 16 = .ok (.aload_n 0, 1) := dk_42 (dk_at dksX1_tells_0 16 rfl rfl)
theorem dX1_tells_17 : decode cX1_tells 17 = .ok (.getfield 38, 3) := dk_180 0 38 (dk_at dksX1_tells_0 17 rfl rfl)
theorem dX1_tells_20 : decode cX1_tells 20 = .ok (.iastore, 1) := dk_79 (dk_at dksX1_tells_0 20 rfl rfl)
theorem dX1_tells_21 : decode cX1_tells 21 = .ok (.return_, 1) := dk_177 (dk_at dksX1_tells_0 21 rfl rfl)
abbrev cX1_becomesChain : ByteArray := prog_16_method_17_code
def yX1_becomesChain : MethodName := ⟨RX1, "becomesChain", "(I)V"⟩
def dkwX1_becomesChain_1 : List UInt8 := [167, 255, 240, 177]
abbrev dktX1_becomesChain_1 : List UInt8 := dkwX1_becomesChain_1 ++ []
def dkwX1_becomesChain_0 : List UInt8 := [42, 182, 0, 28, 4, 61, 28, 27, 162, 0, 17, 42, 28, 4, 100, 182, 0, 63, 87, 132, 2, 1]
abbrev dktX1_becomesChain_0 : List UInt8 := dkwX1_becomesChain_0 ++ dktX1_becomesChain_1
theorem dksX1_becomesChain_0 : cX1_becomesChain.data.toList.drop 0 = dktX1_becomesChain_0 := by decide +kernel
theorem dksX1_becomesChain_1 : cX1_becomesChain.data.toList.drop 22 = dktX1_becomesChain_1 := dk_seg dksX1_becomesChain_0 22 rfl rfl
theorem dX1_becomesChain_0 : decode cX1_becomesChain 0 = .ok (.aload_n 0, 1) := dk_42 (dk_at dksX1_becomesChain_0 0 rfl rfl)
theorem dX1_becomesChain_1 : decode cX1_becomesChain 1 = .ok (.invokevirtual 28, 3) := dk_182 0 28 (dk_at dksX1_becomesChain_0 1 rfl rfl)
theorem dX1_becomesChain_4 : decode cX1_becomesChain 4 = .ok (.iconst 1, 1) := dk_4 (dk_at dksX1_becomesChain_0 4 rfl rfl)
theorem dX1_becomesChain_5 : decode cX1_becomesChain 5 = .ok (.istore_n 2, 1) := dk_61 (dk_at dksX1_becomesChain_0 5 rfl rfl)
theorem dX1_becomesChain_6 : decode cX1_becomesChain 6 = .ok (.iload_n 2, 1) := dk_28 (dk_at dksX1_becomesChain_0 6 rfl rfl)
theorem dX1_becomesChain_7 : decode cX1_becomesChain 7 = .ok (.iload_n 1, 1) := dk_27 (dk_at dksX1_becomesChain_0 7 rfl rfl)
theorem dX1_becomesChain_8 : decode cX1_becomesChain 8 = .ok (.if_icmp .ge 17, 3) := dk_162 0 17 (dk_at dksX1_becomesChain_0 8 rfl rfl)
theorem dX1_becomesChain_11 : decode cX1_becomesChain 11 = .ok (.aload_n 0, 1) := dk_42 (dk_at dksX1_becomesChain_0 11 rfl rfl)
theorem dX1_becomesChain_12 : decode cX1_becomesChain 12 = .ok (.iload_n 2, 1) := dk_28 (dk_at dksX1_becomesChain_0 12 rfl rfl)
theorem dX1_becomesChain_13 : decode cX1_becomesChain 13 = .ok (.iconst 1, 1) := dk_4 (dk_at dksX1_becomesChain_0 13 rfl rfl)
theorem dX1_becomesChain_14 : decode cX1_becomesChain 14 = .ok (.isub, 1) := dk_100 (dk_at dksX1_becomesChain_0 14 rfl rfl)
theorem dX1_becomesChain_15 : decode cX1_becomesChain 15 = .ok (.invokevirtual 63, 3) := dk_182 0 63 (dk_at dksX1_becomesChain_0 15 rfl rfl)
theorem dX1_becomesChain_18 : decode cX1_becomesChain 18 = .ok (.pop, 1) := dk_87 (dk_at dksX1_becomesChain_0 18 rfl rfl)
theorem dX1_becomesChain_19 : decode cX1_becomesChain 19 = .ok (.iinc 2 1, 3) := dk_132 2 1 (dk_at dksX1_becomesChain_0 19 rfl rfl)
theorem dX1_becomesChain_22 : decode cX1_becomesChain 22 = .ok (.goto (-16), 3) := dk_167 255 240 (dk_at dksX1_becomesChain_1 0 rfl rfl)
theorem dX1_becomesChain_25 : decode cX1_becomesChain 25 = .ok (.return_, 1) := dk_177 (dk_at dksX1_becomesChain_1 3 rfl rfl)
abbrev cX1_takes : ByteArray := prog_16_method_18_code
def yX1_takes : MethodName := ⟨RX1, "takes", "(LBranchNames$Tree;I)V"⟩
def dkwX1_takes_4 : List UInt8 := [167, 255, 183, 42, 28, 29, 182, 0, 49, 177]
abbrev dktX1_takes_4 : List UInt8 := dkwX1_takes_4 ++ []
def dkwX1_takes_3 : List UInt8 := [21, 5, 29, 43, 180, 0, 11, 21, 4, 50, 21, 5, 46, 96, 79, 132, 5, 1, 167, 255, 217, 132, 4, 1]
abbrev dktX1_takes_3 : List UInt8 := dkwX1_takes_3 ++ dktX1_takes_4
def dkwX1_takes_2 : List UInt8 := [54, 5, 21, 5, 43, 180, 0, 24, 21, 4, 46, 162, 0, 33, 42, 180, 0, 11, 29, 21, 4, 96, 50]
abbrev dktX1_takes_2 : List UInt8 := dkwX1_takes_2 ++ dktX1_takes_3
def dkwX1_takes_1 : List UInt8 := [180, 0, 31, 162, 0, 70, 42, 180, 0, 24, 29, 21, 4, 96, 43, 180, 0, 24, 21, 4, 46, 79, 3]
abbrev dktX1_takes_1 : List UInt8 := dkwX1_takes_1 ++ dktX1_takes_2
def dkwX1_takes_0 : List UInt8 := [42, 180, 0, 31, 62, 42, 89, 180, 0, 31, 43, 180, 0, 31, 96, 181, 0, 31, 3, 54, 4, 21, 4, 43]
abbrev dktX1_takes_0 : List UInt8 := dkwX1_takes_0 ++ dktX1_takes_1
theorem dksX1_takes_0 : cX1_takes.data.toList.drop 0 = dktX1_takes_0 := by decide +kernel
theorem dksX1_takes_1 : cX1_takes.data.toList.drop 24 = dktX1_takes_1 := dk_seg dksX1_takes_0 24 rfl rfl
theorem dksX1_takes_2 : cX1_takes.data.toList.drop 47 = dktX1_takes_2 := dk_seg dksX1_takes_1 23 rfl rfl
theorem dksX1_takes_3 : cX1_takes.data.toList.drop 70 = dktX1_takes_3 := dk_seg dksX1_takes_2 23 rfl rfl
theorem dksX1_takes_4 : cX1_takes.data.toList.drop 94 = dktX1_takes_4 := dk_seg dksX1_takes_3 24 rfl rfl
theorem dX1_takes_0 : decode cX1_takes 0 = .ok (.aload_n 0, 1) := dk_42 (dk_at dksX1_takes_0 0 rfl rfl)
theorem dX1_takes_1 : decode cX1_takes 1 = .ok (.getfield 31, 3) := dk_180 0 31 (dk_at dksX1_takes_0 1 rfl rfl)
theorem dX1_takes_4 : decode cX1_takes 4 = .ok (.istore_n 3, 1) := dk_62 (dk_at dksX1_takes_0 4 rfl rfl)
theorem dX1_takes_5 : decode cX1_takes 5 = .ok (.aload_n 0, 1) := dk_42 (dk_at dksX1_takes_0 5 rfl rfl)
theorem dX1_takes_6 : decode cX1_takes 6 = .ok (.dup, 1) := dk_89 (dk_at dksX1_takes_0 6 rfl rfl)
theorem dX1_takes_7 : decode cX1_takes 7 = .ok (.getfield 31, 3) := dk_180 0 31 (dk_at dksX1_takes_0 7 rfl rfl)
theorem dX1_takes_10 : decode cX1_takes 10 = .ok (.aload_n 1, 1) := dk_43 (dk_at dksX1_takes_0 10 rfl rfl)
theorem dX1_takes_11 : decode cX1_takes 11 = .ok (.getfield 31, 3) := dk_180 0 31 (dk_at dksX1_takes_0 11 rfl rfl)
theorem dX1_takes_14 : decode cX1_takes 14 = .ok (.iadd, 1) := dk_96 (dk_at dksX1_takes_0 14 rfl rfl)
theorem dX1_takes_15 : decode cX1_takes 15 = .ok (.putfield 31, 3) := dk_181 0 31 (dk_at dksX1_takes_0 15 rfl rfl)
theorem dX1_takes_18 : decode cX1_takes 18 = .ok (.iconst 0, 1) := dk_3 (dk_at dksX1_takes_0 18 rfl rfl)
theorem dX1_takes_19 : decode cX1_takes 19 = .ok (.istore 4, 2) := dk_54 4 (dk_at dksX1_takes_0 19 rfl rfl)
theorem dX1_takes_21 : decode cX1_takes 21 = .ok (.iload 4, 2) := dk_21 4 (dk_at dksX1_takes_0 21 rfl rfl)
theorem dX1_takes_23 : decode cX1_takes 23 = .ok (.aload_n 1, 1) := dk_43 (dk_at dksX1_takes_0 23 rfl rfl)
theorem dX1_takes_24 : decode cX1_takes 24 = .ok (.getfield 31, 3) := dk_180 0 31 (dk_at dksX1_takes_1 0 rfl rfl)
theorem dX1_takes_27 : decode cX1_takes 27 = .ok (.if_icmp .ge 70, 3) := dk_162 0 70 (dk_at dksX1_takes_1 3 rfl rfl)
theorem dX1_takes_30 : decode cX1_takes 30 = .ok (.aload_n 0, 1) := dk_42 (dk_at dksX1_takes_1 6 rfl rfl)
theorem dX1_takes_31 : decode cX1_takes 31 = .ok (.getfield 24, 3) := dk_180 0 24 (dk_at dksX1_takes_1 7 rfl rfl)
theorem dX1_takes_34 : decode cX1_takes 34 = .ok (.iload_n 3, 1) := dk_29 (dk_at dksX1_takes_1 10 rfl rfl)
theorem dX1_takes_35 : decode cX1_takes 35 = .ok (.iload 4, 2) := dk_21 4 (dk_at dksX1_takes_1 11 rfl rfl)
theorem dX1_takes_37 : decode cX1_takes 37 = .ok (.iadd, 1) := dk_96 (dk_at dksX1_takes_1 13 rfl rfl)
theorem dX1_takes_38 : decode cX1_takes 38 = .ok (.aload_n 1, 1) := dk_43 (dk_at dksX1_takes_1 14 rfl rfl)
theorem dX1_takes_39 : decode cX1_takes 39 = .ok (.getfield 24, 3) := dk_180 0 24 (dk_at dksX1_takes_1 15 rfl rfl)
theorem dX1_takes_42 : decode cX1_takes 42 = .ok (.iload 4, 2) := dk_21 4 (dk_at dksX1_takes_1 18 rfl rfl)
theorem dX1_takes_44 : decode cX1_takes 44 = .ok (.iaload, 1) := dk_46 (dk_at dksX1_takes_1 20 rfl rfl)
theorem dX1_takes_45 : decode cX1_takes 45 = .ok (.iastore, 1) := dk_79 (dk_at dksX1_takes_1 21 rfl rfl)
theorem dX1_takes_46 : decode cX1_takes 46 = .ok (.iconst 0, 1) := dk_3 (dk_at dksX1_takes_1 22 rfl rfl)
theorem dX1_takes_47 : decode cX1_takes 47 = .ok (.istore 5, 2) := dk_54 5 (dk_at dksX1_takes_2 0 rfl rfl)
theorem dX1_takes_49 : decode cX1_takes 49 = .ok (.iload 5, 2) := dk_21 5 (dk_at dksX1_takes_2 2 rfl rfl)
theorem dX1_takes_51 : decode cX1_takes 51 = .ok (.aload_n 1, 1) := dk_43 (dk_at dksX1_takes_2 4 rfl rfl)
theorem dX1_takes_52 : decode cX1_takes 52 = .ok (.getfield 24, 3) := dk_180 0 24 (dk_at dksX1_takes_2 5 rfl rfl)
theorem dX1_takes_55 : decode cX1_takes 55 = .ok (.iload 4, 2) := dk_21 4 (dk_at dksX1_takes_2 8 rfl rfl)
theorem dX1_takes_57 : decode cX1_takes 57 = .ok (.iaload, 1) := dk_46 (dk_at dksX1_takes_2 10 rfl rfl)
theorem dX1_takes_58 : decode cX1_takes 58 = .ok (.if_icmp .ge 33, 3) := dk_162 0 33 (dk_at dksX1_takes_2 11 rfl rfl)
theorem dX1_takes_61 : decode cX1_takes 61 = .ok (.aload_n 0, 1) := dk_42 (dk_at dksX1_takes_2 14 rfl rfl)
theorem dX1_takes_62 : decode cX1_takes 62 = .ok (.getfield 11, 3) := dk_180 0 11 (dk_at dksX1_takes_2 15 rfl rfl)
theorem dX1_takes_65 : decode cX1_takes 65 = .ok (.iload_n 3, 1) := dk_29 (dk_at dksX1_takes_2 18 rfl rfl)
theorem dX1_takes_66 : decode cX1_takes 66 = .ok (.iload 4, 2) := dk_21 4 (dk_at dksX1_takes_2 19 rfl rfl)
theorem dX1_takes_68 : decode cX1_takes 68 = .ok (.iadd, 1) := dk_96 (dk_at dksX1_takes_2 21 rfl rfl)
theorem dX1_takes_69 : decode cX1_takes 69 = .ok (.aaload, 1) := dk_50 (dk_at dksX1_takes_2 22 rfl rfl)
theorem dX1_takes_70 : decode cX1_takes 70 = .ok (.iload 5, 2) := dk_21 5 (dk_at dksX1_takes_3 0 rfl rfl)
theorem dX1_takes_72 : decode cX1_takes 72 = .ok (.iload_n 3, 1) := dk_29 (dk_at dksX1_takes_3 2 rfl rfl)
theorem dX1_takes_73 : decode cX1_takes 73 = .ok (.aload_n 1, 1) := dk_43 (dk_at dksX1_takes_3 3 rfl rfl)
theorem dX1_takes_74 : decode cX1_takes 74 = .ok (.getfield 11, 3) := dk_180 0 11 (dk_at dksX1_takes_3 4 rfl rfl)
theorem dX1_takes_77 : decode cX1_takes 77 = .ok (.iload 4, 2) := dk_21 4 (dk_at dksX1_takes_3 7 rfl rfl)
theorem dX1_takes_79 : decode cX1_takes 79 = .ok (.aaload, 1) := dk_50 (dk_at dksX1_takes_3 9 rfl rfl)
theorem dX1_takes_80 : decode cX1_takes 80 = .ok (.iload 5, 2) := dk_21 5 (dk_at dksX1_takes_3 10 rfl rfl)
theorem dX1_takes_82 : decode cX1_takes 82 = .ok (.iaload, 1) := dk_46 (dk_at dksX1_takes_3 12 rfl rfl)
theorem dX1_takes_83 : decode cX1_takes 83 = .ok (.iadd, 1) := dk_96 (dk_at dksX1_takes_3 13 rfl rfl)
theorem dX1_takes_84 : decode cX1_takes 84 = .ok (.iastore, 1) := dk_79 (dk_at dksX1_takes_3 14 rfl rfl)
theorem dX1_takes_85 : decode cX1_takes 85 = .ok (.iinc 5 1, 3) := dk_132 5 1 (dk_at dksX1_takes_3 15 rfl rfl)
theorem dX1_takes_88 : decode cX1_takes 88 = .ok (.goto (-39), 3) := dk_167 255 217 (dk_at dksX1_takes_3 18 rfl rfl)
theorem dX1_takes_91 : decode cX1_takes 91 = .ok (.iinc 4 1, 3) := dk_132 4 1 (dk_at dksX1_takes_3 21 rfl rfl)
theorem dX1_takes_94 : decode cX1_takes 94 = .ok (.goto (-73), 3) := dk_167 255 183 (dk_at dksX1_takes_4 0 rfl rfl)
theorem dX1_takes_97 : decode cX1_takes 97 = .ok (.aload_n 0, 1) := dk_42 (dk_at dksX1_takes_4 3 rfl rfl)
theorem dX1_takes_98 : decode cX1_takes 98 = .ok (.iload_n 2, 1) := dk_28 (dk_at dksX1_takes_4 4 rfl rfl)
theorem dX1_takes_99 : decode cX1_takes 99 = .ok (.iload_n 3, 1) := dk_29 (dk_at dksX1_takes_4 5 rfl rfl)
theorem dX1_takes_100 : decode cX1_takes 100 = .ok (.invokevirtual 49, 3) := dk_182 0 49 (dk_at dksX1_takes_4 6 rfl rfl)
theorem dX1_takes_103 : decode cX1_takes 103 = .ok (.return_, 1) := dk_177 (dk_at dksX1_takes_4 9 rfl rfl)
theorem q153 : (Jvm.Cond.initialized "BranchNames$Tree") ∈ lw_all := lw_g (lw_at lw_m1 2 rfl) rfl
theorem q195 : (Jvm.Cond.instantiable "BranchNames$Tree" (7 : Nat)) ∈ lw_all := lw_g (lw_at lw_m1 44 rfl) rfl
theorem q197 : (Jvm.Cond.instanceMethod ({ cls := "BranchNames$Tree", name := "<init>", desc := "()V" } : Jvm.MethodName)) ∈ lw_all := lw_g (lw_at lw_m1 46 rfl) rfl
theorem q198 : (Jvm.Cond.code ({ cls := "BranchNames$Tree", name := "<init>", desc := "()V" } : Jvm.MethodName) prog_16_method_1_code (1 : Nat) (Option.none : Option Jvm.ClassFile.FieldType)) ∈ lw_all := lw_g (lw_at lw_m1 47 rfl) rfl
theorem q199 : (Jvm.Cond.methodLink "BranchNames$Tree" (3 : Nat) ({ cls := "java/lang/Object", name := "<init>", desc := "()V" } : Jvm.MethodName)) ∈ lw_all := lw_g (lw_at lw_m1 48 rfl) rfl
theorem q200 : (Jvm.Cond.classLink "BranchNames$Tree" (9 : Nat) "[[I") ∈ lw_all := lw_g (lw_at lw_m1 49 rfl) rfl
theorem q202 : (Jvm.Cond.classLink "BranchNames$Tree" (19 : Nat) "[[Ljava/lang/String;") ∈ lw_all := lw_g (lw_at lw_m1 51 rfl) rfl
theorem q206 : (Jvm.Cond.methodLink "BranchNames$Tree" (28 : Nat) ({ cls := "BranchNames$Tree", name := "begins", desc := "()V" } : Jvm.MethodName)) ∈ lw_all := lw_g (lw_at lw_m1 55 rfl) rfl
theorem q207 : (Jvm.Cond.instanceMethod ({ cls := "BranchNames$Tree", name := "begins", desc := "()V" } : Jvm.MethodName)) ∈ lw_all := lw_g (lw_at lw_m1 56 rfl) rfl
theorem q208 : (Jvm.Cond.selects "BranchNames$Tree" ({ cls := "BranchNames$Tree", name := "begins", desc := "()V" } : Jvm.MethodName) ({ cls := "BranchNames$Tree", name := "begins", desc := "()V" } : Jvm.MethodName)) ∈ lw_all := lw_g (lw_at lw_m1 57 rfl) rfl
theorem q209 : (Jvm.Cond.code ({ cls := "BranchNames$Tree", name := "begins", desc := "()V" } : Jvm.MethodName) prog_16_method_2_code (1 : Nat) (Option.none : Option Jvm.ClassFile.FieldType)) ∈ lw_all := lw_g (lw_at lw_m1 58 rfl) rfl
theorem q210 : (Jvm.Cond.methodLink "BranchNames$Tree" (35 : Nat) ({ cls := "BranchNames$Tree", name := "changes", desc := "()V" } : Jvm.MethodName)) ∈ lw_all := lw_g (lw_at lw_m1 59 rfl) rfl
theorem q211 : (Jvm.Cond.instanceMethod ({ cls := "BranchNames$Tree", name := "changes", desc := "()V" } : Jvm.MethodName)) ∈ lw_all := lw_g (lw_at lw_m1 60 rfl) rfl
theorem q212 : (Jvm.Cond.selects "BranchNames$Tree" ({ cls := "BranchNames$Tree", name := "changes", desc := "()V" } : Jvm.MethodName) ({ cls := "BranchNames$Tree", name := "changes", desc := "()V" } : Jvm.MethodName)) ∈ lw_all := lw_g (lw_at lw_m1 61 rfl) rfl
theorem q213 : (Jvm.Cond.code ({ cls := "BranchNames$Tree", name := "changes", desc := "()V" } : Jvm.MethodName) prog_16_method_3_code (1 : Nat) (Option.none : Option Jvm.ClassFile.FieldType)) ∈ lw_all := lw_g (lw_at lw_m1 62 rfl) rfl
theorem q214 : (Jvm.Cond.fieldLink "BranchNames$Tree" (11 : Nat) "BranchNames$Tree" "next" "[[I") ∈ lw_all := lw_g (lw_at lw_m1 63 rfl) rfl
theorem q217 : (Jvm.Cond.fieldLink "BranchNames$Tree" (16 : Nat) "BranchNames$Tree" "drawing" "[[I") ∈ lw_all := lw_g (lw_at lw_m1 66 rfl) rfl
theorem q218 : (Jvm.Cond.fieldLink "BranchNames$Tree" (21 : Nat) "BranchNames$Tree" "names" "[[Ljava/lang/String;") ∈ lw_all := lw_g (lw_at lw_m1 67 rfl) rfl
theorem q220 : (Jvm.Cond.fieldLink "BranchNames$Tree" (24 : Nat) "BranchNames$Tree" "bonds" "[I") ∈ lw_all := lw_g (lw_at lw_m1 69 rfl) rfl
theorem q223 : (Jvm.Cond.fieldLink "BranchNames$Tree" (31 : Nat) "BranchNames$Tree" "atoms" "I") ∈ lw_all := lw_g (lw_at lw_m1 72 rfl) rfl
theorem q225 : (Jvm.Cond.fieldLink "BranchNames$Tree" (38 : Nat) "BranchNames$Tree" "drawings" "I") ∈ lw_all := lw_g (lw_at lw_m1 74 rfl) rfl
theorem q226 : (Jvm.Cond.fieldLink "BranchNames$Tree" (41 : Nat) "BranchNames$Tree" "way" "LBranchNames$Way;") ∈ lw_all := lw_g (lw_at lw_m1 75 rfl) rfl
theorem q228 : (Jvm.Cond.laysFinal "BranchNames$Tree" "BranchNames$Tree" "next" "[[I") ∈ lw_all := lw_g (lw_at lw_m1 77 rfl) rfl
theorem q229 : (Jvm.Cond.soleField "BranchNames$Tree" "next") ∈ lw_all := lw_g (lw_at lw_m1 78 rfl) rfl
theorem q230 : (Jvm.Cond.laysFinal "BranchNames$Tree" "BranchNames$Tree" "drawing" "[[I") ∈ lw_all := lw_g (lw_at lw_m1 79 rfl) rfl
theorem q231 : (Jvm.Cond.soleField "BranchNames$Tree" "drawing") ∈ lw_all := lw_g (lw_at lw_m1 80 rfl) rfl
theorem q232 : (Jvm.Cond.laysFinal "BranchNames$Tree" "BranchNames$Tree" "names" "[[Ljava/lang/String;") ∈ lw_all := lw_g (lw_at lw_m1 81 rfl) rfl
theorem q233 : (Jvm.Cond.soleField "BranchNames$Tree" "names") ∈ lw_all := lw_g (lw_at lw_m1 82 rfl) rfl
theorem q234 : (Jvm.Cond.laysFinal "BranchNames$Tree" "BranchNames$Tree" "bonds" "[I") ∈ lw_all := lw_g (lw_at lw_m1 83 rfl) rfl
theorem q235 : (Jvm.Cond.soleField "BranchNames$Tree" "bonds") ∈ lw_all := lw_g (lw_at lw_m1 84 rfl) rfl
theorem q236 : (Jvm.Cond.lays "BranchNames$Tree" "BranchNames$Tree" "atoms" "I") ∈ lw_all := lw_g (lw_at lw_m1 85 rfl) rfl
theorem q237 : (Jvm.Cond.soleField "BranchNames$Tree" "atoms") ∈ lw_all := lw_g (lw_at lw_m1 86 rfl) rfl
theorem q238 : (Jvm.Cond.lays "BranchNames$Tree" "BranchNames$Tree" "drawings" "I") ∈ lw_all := lw_g (lw_at lw_m1 87 rfl) rfl
theorem q239 : (Jvm.Cond.soleField "BranchNames$Tree" "drawings") ∈ lw_all := lw_g (lw_at lw_m1 88 rfl) rfl
theorem q240 : (Jvm.Cond.lays "BranchNames$Tree" "BranchNames$Tree" "way" "LBranchNames$Way;") ∈ lw_all := lw_g (lw_at lw_m1 89 rfl) rfl
theorem q241 : (Jvm.Cond.soleField "BranchNames$Tree" "way") ∈ lw_all := lw_g (lw_at lw_m1 90 rfl) rfl
theorem q242 : (Jvm.Cond.superclass "BranchNames$Tree" "java/lang/Object") ∈ lw_all := lw_g (lw_at lw_m1 91 rfl) rfl
theorem q566 : (Jvm.Cond.instanceMethod ({ cls := "BranchNames$Tree", name := "isFull", desc := "(I)Z" } : Jvm.MethodName)) ∈ lw_all := lw_g (lw_at lw_m2 175 rfl) rfl
theorem q567 : (Jvm.Cond.selects "BranchNames$Tree" ({ cls := "BranchNames$Tree", name := "isFull", desc := "(I)Z" } : Jvm.MethodName) ({ cls := "BranchNames$Tree", name := "isFull", desc := "(I)Z" } : Jvm.MethodName)) ∈ lw_all := lw_g (lw_at lw_m2 176 rfl) rfl
theorem q568 : (Jvm.Cond.code ({ cls := "BranchNames$Tree", name := "isFull", desc := "(I)Z" } : Jvm.MethodName) prog_16_method_8_code (2 : Nat) (Option.some Jvm.ClassFile.FieldType.boolean)) ∈ lw_all := lw_g (lw_at lw_m2 177 rfl) rfl
theorem q570 : (Jvm.Cond.instanceMethod ({ cls := "BranchNames$Tree", name := "becomes", desc := "(LBranchNames$Tree;)V" } : Jvm.MethodName)) ∈ lw_all := lw_g (lw_at lw_m2 179 rfl) rfl
theorem q571 : (Jvm.Cond.selects "BranchNames$Tree" ({ cls := "BranchNames$Tree", name := "becomes", desc := "(LBranchNames$Tree;)V" } : Jvm.MethodName) ({ cls := "BranchNames$Tree", name := "becomes", desc := "(LBranchNames$Tree;)V" } : Jvm.MethodName)) ∈ lw_all := lw_g (lw_at lw_m2 180 rfl) rfl
theorem q572 : (Jvm.Cond.code ({ cls := "BranchNames$Tree", name := "becomes", desc := "(LBranchNames$Tree;)V" } : Jvm.MethodName) prog_16_method_16_code (4 : Nat) (Option.none : Option Jvm.ClassFile.FieldType)) ∈ lw_all := lw_g (lw_at lw_m2 181 rfl) rfl
theorem q574 : (Jvm.Cond.instanceMethod ({ cls := "BranchNames$Tree", name := "grows", desc := "(I)I" } : Jvm.MethodName)) ∈ lw_all := lw_g (lw_at lw_m2 183 rfl) rfl
theorem q575 : (Jvm.Cond.selects "BranchNames$Tree" ({ cls := "BranchNames$Tree", name := "grows", desc := "(I)I" } : Jvm.MethodName) ({ cls := "BranchNames$Tree", name := "grows", desc := "(I)I" } : Jvm.MethodName)) ∈ lw_all := lw_g (lw_at lw_m2 184 rfl) rfl
theorem q576 : (Jvm.Cond.code ({ cls := "BranchNames$Tree", name := "grows", desc := "(I)I" } : Jvm.MethodName) prog_16_method_9_code (3 : Nat) (Option.some Jvm.ClassFile.FieldType.int)) ∈ lw_all := lw_g (lw_at lw_m2 185 rfl) rfl
theorem q577 : (Jvm.Cond.methodLink "BranchNames$Tree" (49 : Nat) ({ cls := "BranchNames$Tree", name := "binds", desc := "(II)V" } : Jvm.MethodName)) ∈ lw_all := lw_g (lw_at lw_m2 186 rfl) rfl
theorem q578 : (Jvm.Cond.instanceMethod ({ cls := "BranchNames$Tree", name := "binds", desc := "(II)V" } : Jvm.MethodName)) ∈ lw_all := lw_g (lw_at lw_m2 187 rfl) rfl
theorem q579 : (Jvm.Cond.selects "BranchNames$Tree" ({ cls := "BranchNames$Tree", name := "binds", desc := "(II)V" } : Jvm.MethodName) ({ cls := "BranchNames$Tree", name := "binds", desc := "(II)V" } : Jvm.MethodName)) ∈ lw_all := lw_g (lw_at lw_m2 188 rfl) rfl
theorem q580 : (Jvm.Cond.code ({ cls := "BranchNames$Tree", name := "binds", desc := "(II)V" } : Jvm.MethodName) prog_16_method_10_code (3 : Nat) (Option.none : Option Jvm.ClassFile.FieldType)) ∈ lw_all := lw_g (lw_at lw_m2 189 rfl) rfl
theorem q889 : (Jvm.Cond.instanceMethod ({ cls := "BranchNames$Tree", name := "isAtom", desc := "(I)Z" } : Jvm.MethodName)) ∈ lw_all := lw_g (lw_at lw_m4 18 rfl) rfl
theorem q890 : (Jvm.Cond.selects "BranchNames$Tree" ({ cls := "BranchNames$Tree", name := "isAtom", desc := "(I)Z" } : Jvm.MethodName) ({ cls := "BranchNames$Tree", name := "isAtom", desc := "(I)Z" } : Jvm.MethodName)) ∈ lw_all := lw_g (lw_at lw_m4 19 rfl) rfl
theorem q891 : (Jvm.Cond.code ({ cls := "BranchNames$Tree", name := "isAtom", desc := "(I)Z" } : Jvm.MethodName) prog_16_method_7_code (2 : Nat) (Option.some Jvm.ClassFile.FieldType.boolean)) ∈ lw_all := lw_g (lw_at lw_m4 20 rfl) rfl
theorem q892 : (Jvm.Cond.methodLinkNest "BranchNames$Tree" (45 : Nat) ({ cls := "BranchNames", name := "isIn", desc := "(JJJ)Z" } : Jvm.MethodName) "BranchNames") ∈ lw_tbl := lw_at lw_m4 21 rfl
theorem q898 : (Jvm.Cond.instanceMethod ({ cls := "BranchNames$Tree", name := "cuts", desc := "(I)V" } : Jvm.MethodName)) ∈ lw_all := lw_g (lw_at lw_m4 27 rfl) rfl
theorem q899 : (Jvm.Cond.selects "BranchNames$Tree" ({ cls := "BranchNames$Tree", name := "cuts", desc := "(I)V" } : Jvm.MethodName) ({ cls := "BranchNames$Tree", name := "cuts", desc := "(I)V" } : Jvm.MethodName)) ∈ lw_all := lw_g (lw_at lw_m4 28 rfl) rfl
theorem q900 : (Jvm.Cond.code ({ cls := "BranchNames$Tree", name := "cuts", desc := "(I)V" } : Jvm.MethodName) prog_16_method_15_code (5 : Nat) (Option.none : Option Jvm.ClassFile.FieldType)) ∈ lw_all := lw_g (lw_at lw_m4 29 rfl) rfl
theorem q901 : (Jvm.Cond.methodLink "BranchNames$Tree" (60 : Nat) ({ cls := "BranchNames$Tree", name := "frees", desc := "(II)V" } : Jvm.MethodName)) ∈ lw_all := lw_g (lw_at lw_m4 30 rfl) rfl
theorem q902 : (Jvm.Cond.privateMethod ({ cls := "BranchNames$Tree", name := "frees", desc := "(II)V" } : Jvm.MethodName)) ∈ lw_tbl := lw_at lw_m4 31 rfl
theorem q903 : (Jvm.Cond.instanceMethod ({ cls := "BranchNames$Tree", name := "frees", desc := "(II)V" } : Jvm.MethodName)) ∈ lw_all := lw_g (lw_at lw_m4 32 rfl) rfl
theorem q904 : (Jvm.Cond.code ({ cls := "BranchNames$Tree", name := "frees", desc := "(II)V" } : Jvm.MethodName) prog_16_method_13_code (3 : Nat) (Option.none : Option Jvm.ClassFile.FieldType)) ∈ lw_all := lw_g (lw_at lw_m4 33 rfl) rfl
theorem q905 : (Jvm.Cond.methodLink "BranchNames$Tree" (57 : Nat) ({ cls := "BranchNames$Tree", name := "bondTo2", desc := "(II)I" } : Jvm.MethodName)) ∈ lw_all := lw_g (lw_at lw_m4 34 rfl) rfl
theorem q906 : (Jvm.Cond.privateMethod ({ cls := "BranchNames$Tree", name := "bondTo2", desc := "(II)I" } : Jvm.MethodName)) ∈ lw_tbl := lw_at lw_m4 35 rfl
theorem q907 : (Jvm.Cond.instanceMethod ({ cls := "BranchNames$Tree", name := "bondTo2", desc := "(II)I" } : Jvm.MethodName)) ∈ lw_all := lw_g (lw_at lw_m4 36 rfl) rfl
theorem q908 : (Jvm.Cond.code ({ cls := "BranchNames$Tree", name := "bondTo2", desc := "(II)I" } : Jvm.MethodName) prog_16_method_14_code (4 : Nat) (Option.some Jvm.ClassFile.FieldType.int)) ∈ lw_all := lw_g (lw_at lw_m4 37 rfl) rfl
theorem q909 : (Jvm.Cond.methodLink "BranchNames$Tree" (53 : Nat) ({ cls := "BranchNames$Tree", name := "bondTo", desc := "(II)I" } : Jvm.MethodName)) ∈ lw_all := lw_g (lw_at lw_m4 38 rfl) rfl
theorem q910 : (Jvm.Cond.privateMethod ({ cls := "BranchNames$Tree", name := "bondTo", desc := "(II)I" } : Jvm.MethodName)) ∈ lw_tbl := lw_at lw_m4 39 rfl
theorem q911 : (Jvm.Cond.instanceMethod ({ cls := "BranchNames$Tree", name := "bondTo", desc := "(II)I" } : Jvm.MethodName)) ∈ lw_all := lw_g (lw_at lw_m4 40 rfl) rfl
theorem q912 : (Jvm.Cond.code ({ cls := "BranchNames$Tree", name := "bondTo", desc := "(II)I" } : Jvm.MethodName) prog_16_method_11_code (4 : Nat) (Option.some Jvm.ClassFile.FieldType.int)) ∈ lw_all := lw_g (lw_at lw_m4 41 rfl) rfl
theorem q949 : (Jvm.Cond.instanceMethod ({ cls := "BranchNames$Tree", name := "bound", desc := "(II)I" } : Jvm.MethodName)) ∈ lw_all := lw_g (lw_at lw_m4 78 rfl) rfl
theorem q950 : (Jvm.Cond.selects "BranchNames$Tree" ({ cls := "BranchNames$Tree", name := "bound", desc := "(II)I" } : Jvm.MethodName) ({ cls := "BranchNames$Tree", name := "bound", desc := "(II)I" } : Jvm.MethodName)) ∈ lw_all := lw_g (lw_at lw_m4 79 rfl) rfl
theorem q951 : (Jvm.Cond.code ({ cls := "BranchNames$Tree", name := "bound", desc := "(II)I" } : Jvm.MethodName) prog_16_method_19_code (5 : Nat) (Option.some Jvm.ClassFile.FieldType.int)) ∈ lw_all := lw_g (lw_at lw_m4 80 rfl) rfl
theorem q952 : (Jvm.Cond.methodLink "BranchNames$Tree" (67 : Nat) ({ cls := "BranchNames$Tree", name := "isBound", desc := "(II)Z" } : Jvm.MethodName)) ∈ lw_all := lw_g (lw_at lw_m4 81 rfl) rfl
theorem q953 : (Jvm.Cond.instanceMethod ({ cls := "BranchNames$Tree", name := "isBound", desc := "(II)Z" } : Jvm.MethodName)) ∈ lw_all := lw_g (lw_at lw_m4 82 rfl) rfl
theorem q954 : (Jvm.Cond.selects "BranchNames$Tree" ({ cls := "BranchNames$Tree", name := "isBound", desc := "(II)Z" } : Jvm.MethodName) ({ cls := "BranchNames$Tree", name := "isBound", desc := "(II)Z" } : Jvm.MethodName)) ∈ lw_all := lw_g (lw_at lw_m4 83 rfl) rfl
theorem q955 : (Jvm.Cond.code ({ cls := "BranchNames$Tree", name := "isBound", desc := "(II)Z" } : Jvm.MethodName) prog_16_method_12_code (3 : Nat) (Option.some Jvm.ClassFile.FieldType.boolean)) ∈ lw_all := lw_g (lw_at lw_m4 84 rfl) rfl
theorem q970 : (Jvm.Cond.instanceMethod ({ cls := "BranchNames$Tree", name := "isTold", desc := "(II)Z" } : Jvm.MethodName)) ∈ lw_all := lw_g (lw_at lw_m4 99 rfl) rfl
theorem q971 : (Jvm.Cond.selects "BranchNames$Tree" ({ cls := "BranchNames$Tree", name := "isTold", desc := "(II)Z" } : Jvm.MethodName) ({ cls := "BranchNames$Tree", name := "isTold", desc := "(II)Z" } : Jvm.MethodName)) ∈ lw_all := lw_g (lw_at lw_m4 100 rfl) rfl
theorem q972 : (Jvm.Cond.code ({ cls := "BranchNames$Tree", name := "isTold", desc := "(II)Z" } : Jvm.MethodName) prog_16_method_4_code (3 : Nat) (Option.some Jvm.ClassFile.FieldType.boolean)) ∈ lw_all := lw_g (lw_at lw_m4 101 rfl) rfl
theorem q974 : (Jvm.Cond.instanceMethod ({ cls := "BranchNames$Tree", name := "straight", desc := "(II)I" } : Jvm.MethodName)) ∈ lw_all := lw_g (lw_at lw_m4 103 rfl) rfl
theorem q975 : (Jvm.Cond.selects "BranchNames$Tree" ({ cls := "BranchNames$Tree", name := "straight", desc := "(II)I" } : Jvm.MethodName) ({ cls := "BranchNames$Tree", name := "straight", desc := "(II)I" } : Jvm.MethodName)) ∈ lw_all := lw_g (lw_at lw_m4 104 rfl) rfl
theorem q976 : (Jvm.Cond.code ({ cls := "BranchNames$Tree", name := "straight", desc := "(II)I" } : Jvm.MethodName) prog_16_method_6_code (7 : Nat) (Option.some Jvm.ClassFile.FieldType.int)) ∈ lw_all := lw_g (lw_at lw_m4 105 rfl) rfl
theorem q1154 : (Jvm.Cond.selects "BranchNames$Tree" ({ cls := "java/lang/Object", name := "getClass", desc := "()Ljava/lang/Class;" } : Jvm.MethodName) ({ cls := "java/lang/Object", name := "getClass", desc := "()Ljava/lang/Class;" } : Jvm.MethodName)) ∈ lw_all := lw_g (lw_at lw_m5 43 rfl) rfl
theorem q1223 : (Jvm.Cond.instanceMethod ({ cls := "BranchNames$Tree", name := "tells", desc := "(IILjava/lang/String;)V" } : Jvm.MethodName)) ∈ lw_all := lw_g (lw_at lw_m5 112 rfl) rfl
theorem q1224 : (Jvm.Cond.selects "BranchNames$Tree" ({ cls := "BranchNames$Tree", name := "tells", desc := "(IILjava/lang/String;)V" } : Jvm.MethodName) ({ cls := "BranchNames$Tree", name := "tells", desc := "(IILjava/lang/String;)V" } : Jvm.MethodName)) ∈ lw_all := lw_g (lw_at lw_m5 113 rfl) rfl
theorem q1225 : (Jvm.Cond.code ({ cls := "BranchNames$Tree", name := "tells", desc := "(IILjava/lang/String;)V" } : Jvm.MethodName) prog_16_method_5_code (4 : Nat) (Option.none : Option Jvm.ClassFile.FieldType)) ∈ lw_all := lw_g (lw_at lw_m5 114 rfl) rfl
theorem q1508 : (Jvm.Cond.instanceMethod ({ cls := "BranchNames$Tree", name := "becomesChain", desc := "(I)V" } : Jvm.MethodName)) ∈ lw_all := lw_g (lw_at lw_m6 157 rfl) rfl
theorem q1509 : (Jvm.Cond.selects "BranchNames$Tree" ({ cls := "BranchNames$Tree", name := "becomesChain", desc := "(I)V" } : Jvm.MethodName) ({ cls := "BranchNames$Tree", name := "becomesChain", desc := "(I)V" } : Jvm.MethodName)) ∈ lw_all := lw_g (lw_at lw_m6 158 rfl) rfl
theorem q1510 : (Jvm.Cond.code ({ cls := "BranchNames$Tree", name := "becomesChain", desc := "(I)V" } : Jvm.MethodName) prog_16_method_17_code (3 : Nat) (Option.none : Option Jvm.ClassFile.FieldType)) ∈ lw_all := lw_g (lw_at lw_m6 159 rfl) rfl
theorem q1511 : (Jvm.Cond.methodLink "BranchNames$Tree" (63 : Nat) ({ cls := "BranchNames$Tree", name := "grows", desc := "(I)I" } : Jvm.MethodName)) ∈ lw_all := lw_g (lw_at lw_m6 160 rfl) rfl
theorem q1544 : (Jvm.Cond.instanceMethod ({ cls := "BranchNames$Tree", name := "takes", desc := "(LBranchNames$Tree;I)V" } : Jvm.MethodName)) ∈ lw_all := lw_g (lw_at lw_m6 193 rfl) rfl
theorem q1545 : (Jvm.Cond.selects "BranchNames$Tree" ({ cls := "BranchNames$Tree", name := "takes", desc := "(LBranchNames$Tree;I)V" } : Jvm.MethodName) ({ cls := "BranchNames$Tree", name := "takes", desc := "(LBranchNames$Tree;I)V" } : Jvm.MethodName)) ∈ lw_all := lw_g (lw_at lw_m6 194 rfl) rfl
theorem q1546 : (Jvm.Cond.code ({ cls := "BranchNames$Tree", name := "takes", desc := "(LBranchNames$Tree;I)V" } : Jvm.MethodName) prog_16_method_18_code (6 : Nat) (Option.none : Option Jvm.ClassFile.FieldType)) ∈ lw_all := lw_g (lw_at lw_m6 195 rfl) rfl
theorem q2433 : (Jvm.Cond.castable "BranchNames$Tree" "java/lang/Object") ∈ lw_tbl := lw_at lw_m10 122 rfl
theorem in_X1 : ∀ w ∈ wsX10, w ∈ lw_all := lw_in wsX10 [228, 230, 232, 234, 236, 238, 240] (by decide +kernel) (by decide +kernel)
/-! BranchNames$Wrong -/
set_option maxRecDepth 100000
def RX10 : String := "BranchNames$Wrong"
abbrev cX10_init : ByteArray := prog_20_method_1_code
def yX10_init : MethodName := ⟨RX10, "<init>", "(LBranchNames$Wrong;)V"⟩
def dkwX10_init_0 : List UInt8 := [42, 1, 43, 3, 3, 183, 0, 1, 177]
abbrev dktX10_init_0 : List UInt8 := dkwX10_init_0 ++ []
theorem dksX10_init_0 : cX10_init.data.toList.drop 0 = dktX10_init_0 := by decide +kernel
theorem dX10_init_0 : decode cX10_init 0 = .ok (.aload_n 0, 1) := dk_42 (dk_at dksX10_init_0 0 rfl rfl)
theorem dX10_init_1 : decode cX10_init 1 = .ok (.aconst_null, 1) := dk_1 (dk_at dksX10_init_0 1 rfl rfl)
theorem dX10_init_2 : decode cX10_init 2 = .ok (.aload_n 1, 1) := dk_43 (dk_at dksX10_init_0 2 rfl rfl)
theorem dX10_init_3 : decode cX10_init 3 = .ok (.iconst 0, 1) := dk_3 (dk_at dksX10_init_0 3 rfl rfl)
theorem dX10_init_4 : decode cX10_init 4 = .ok (.iconst 0, 1) := dk_3 (dk_at dksX10_init_0 4 rfl rfl)
theorem dX10_init_5 : decode cX10_init 5 = .ok (.invokespecial 1, 3) := dk_183 0 1 (dk_at dksX10_init_0 5 rfl rfl)
theorem dX10_init_8 : decode cX10_init 8 = .ok (.return_, 1) := dk_177 (dk_at dksX10_init_0 8 rfl rfl)
theorem q180 : (Jvm.Cond.initialized "BranchNames$Wrong") ∈ lw_all := lw_g (lw_at lw_m1 29 rfl) rfl
theorem q1431 : (Jvm.Cond.instanceMethod ({ cls := "BranchNames$Wrong", name := "<init>", desc := "(LBranchNames$Wrong;)V" } : Jvm.MethodName)) ∈ lw_all := lw_g (lw_at lw_m6 80 rfl) rfl
theorem q1432 : (Jvm.Cond.code ({ cls := "BranchNames$Wrong", name := "<init>", desc := "(LBranchNames$Wrong;)V" } : Jvm.MethodName) prog_20_method_1_code (2 : Nat) (Option.none : Option Jvm.ClassFile.FieldType)) ∈ lw_all := lw_g (lw_at lw_m6 81 rfl) rfl
theorem q1433 : (Jvm.Cond.methodLink "BranchNames$Wrong" (1 : Nat) ({ cls := "java/lang/Exception", name := "<init>", desc := "(Ljava/lang/String;Ljava/lang/Throwable;ZZ)V" } : Jvm.MethodName)) ∈ lw_all := lw_g (lw_at lw_m6 82 rfl) rfl
theorem q1562 : (Jvm.Cond.declares ({ cls := "BranchNames$Wrong", name := "told", desc := "()I" } : Jvm.MethodName)) ∈ lw_tbl := lw_at lw_m6 211 rfl
theorem q1563 : (Jvm.Cond.sameMethod "BranchNames$Wrong" "BranchNames$Wrong" "told" "()I") ∈ lw_all := lw_g (lw_at lw_m6 212 rfl) rfl
/-! BranchNames$Unread -/
set_option maxRecDepth 100000
def RX11 : String := "BranchNames$Unread"
def TX11 : u_T := fun k => match k with
  | 0 => ("java/lang/Throwable", "cause", "Ljava/lang/Throwable;", false)
  | 1 => ("java/lang/Throwable", "stackTrace", "[Ljava/lang/StackTraceElement;", false)
  | 2 => ("java/lang/Throwable", "suppressedExceptions", "Ljava/util/List;", false)
  | 3 => ("java/lang/Throwable", "detailMessage", "Ljava/lang/String;", false)
  | 4 => ("java/lang/Throwable", "backtrace", "Ljava/lang/Object;", false)
  | 5 => ("java/lang/Throwable", "depth", "I", false)
  | _ => ("BranchNames$Unread", "place", "I", true)
def tyX11 : Nat → FieldType := fun k => match k with
  | 0 => .object "java/lang/Throwable"
  | 1 => .array (.object "java/lang/StackTraceElement")
  | 2 => .object "java/util/List"
  | 3 => .object "java/lang/String"
  | 4 => .object "java/lang/Object"
  | 5 => .int
  | _ => .int
abbrev wsX110 : List Cond := u_ws RX11 TX11 7
theorem nmX11 : ∀ a, a < 7 → ∀ b, b < 7 → a ≠ b → (TX11 a).2.1 ≠ (TX11 b).2.1 := by decide +kernel
theorem tyX11_ok : ∀ k, k < 7 → parseFieldDescriptor (TX11 k).2.2.1 = some (tyX11 k) := by decide +kernel
abbrev cX11_init : ByteArray := prog_18_method_1_code
def yX11_init : MethodName := ⟨RX11, "<init>", "(I)V"⟩
def dkwX11_init_0 : List UInt8 := [42, 1, 183, 0, 1, 42, 27, 181, 0, 7, 177]
abbrev dktX11_init_0 : List UInt8 := dkwX11_init_0 ++ []
theorem dksX11_init_0 : cX11_init.data.toList.drop 0 = dktX11_init_0 := by decide +kernel
theorem dX11_init_0 : decode cX11_init 0 = .ok (.aload_n 0, 1) := dk_42 (dk_at dksX11_init_0 0 rfl rfl)
theorem dX11_init_1 : decode cX11_init 1 = .ok (.aconst_null, 1) := dk_1 (dk_at dksX11_init_0 1 rfl rfl)
theorem dX11_init_2 : decode cX11_init 2 = .ok (.invokespecial 1, 3) := dk_183 0 1 (dk_at dksX11_init_0 2 rfl rfl)
theorem dX11_init_5 : decode cX11_init 5 = .ok (.aload_n 0, 1) := dk_42 (dk_at dksX11_init_0 5 rfl rfl)
theorem dX11_init_6 : decode cX11_init 6 = .ok (.iload_n 1, 1) := dk_27 (dk_at dksX11_init_0 6 rfl rfl)
theorem dX11_init_7 : decode cX11_init 7 = .ok (.putfield 7, 3) := dk_181 0 7 (dk_at dksX11_init_0 7 rfl rfl)
theorem dX11_init_10 : decode cX11_init 10 = .ok (.return_, 1) := dk_177 (dk_at dksX11_init_0 10 rfl rfl)
abbrev cX11_told : ByteArray := prog_18_method_2_code
def yX11_told : MethodName := ⟨RX11, "told", "()I"⟩
def dkwX11_told_0 : List UInt8 := [16, 156, 42, 180, 0, 7, 100, 172]
abbrev dktX11_told_0 : List UInt8 := dkwX11_told_0 ++ []
theorem dksX11_told_0 : cX11_told.data.toList.drop 0 = dktX11_told_0 := by decide +kernel
theorem dX11_told_0 : decode cX11_told 0 = .ok (.bipush (-100), 2) := dk_16 156 (dk_at dksX11_told_0 0 rfl rfl)
theorem dX11_told_2 : decode cX11_told 2 = .ok (.aload_n 0, 1) := dk_42 (dk_at dksX11_told_0 2 rfl rfl)
theorem dX11_told_3 : decode cX11_told 3 = .ok (.getfield 7, 3) := dk_180 0 7 (dk_at dksX11_told_0 3 rfl rfl)
theorem dX11_told_6 : decode cX11_told 6 = .ok (.isub, 1) := dk_100 (dk_at dksX11_told_0 6 rfl rfl)
theorem dX11_told_7 : decode cX11_told 7 = .ok (.ireturn, 1) := dk_172 (dk_at dksX11_told_0 7 rfl rfl)
theorem q181 : (Jvm.Cond.initialized "BranchNames$Unread") ∈ lw_all := lw_g (lw_at lw_m1 30 rfl) rfl
theorem q1156 : (Jvm.Cond.selects "BranchNames$Unread" ({ cls := "java/lang/Object", name := "getClass", desc := "()Ljava/lang/Class;" } : Jvm.MethodName) ({ cls := "java/lang/Object", name := "getClass", desc := "()Ljava/lang/Class;" } : Jvm.MethodName)) ∈ lw_all := lw_g (lw_at lw_m5 45 rfl) rfl
theorem q1390 : (Jvm.Cond.instantiable "BranchNames$Unread" (7 : Nat)) ∈ lw_all := lw_g (lw_at lw_m6 39 rfl) rfl
theorem q1391 : (Jvm.Cond.castable "BranchNames$Unread" "BranchNames$Unread") ∈ lw_tbl := lw_at lw_m6 40 rfl
theorem q1396 : (Jvm.Cond.selects "BranchNames$Unread" ({ cls := "java/lang/Throwable", name := "fillInStackTrace", desc := "(I)Ljava/lang/Throwable;" } : Jvm.MethodName) ({ cls := "java/lang/Throwable", name := "fillInStackTrace", desc := "(I)Ljava/lang/Throwable;" } : Jvm.MethodName)) ∈ lw_all := lw_g (lw_at lw_m6 45 rfl) rfl
theorem q1397 : (Jvm.Cond.selects "BranchNames$Unread" ({ cls := "java/lang/Throwable", name := "fillInStackTrace", desc := "()Ljava/lang/Throwable;" } : Jvm.MethodName) ({ cls := "java/lang/Throwable", name := "fillInStackTrace", desc := "()Ljava/lang/Throwable;" } : Jvm.MethodName)) ∈ lw_all := lw_g (lw_at lw_m6 46 rfl) rfl
theorem q1398 : (Jvm.Cond.lays "BranchNames$Unread" "java/lang/Throwable" "cause" "Ljava/lang/Throwable;") ∈ lw_all := lw_g (lw_at lw_m6 47 rfl) rfl
theorem q1400 : (Jvm.Cond.lays "BranchNames$Unread" "java/lang/Throwable" "stackTrace" "[Ljava/lang/StackTraceElement;") ∈ lw_all := lw_g (lw_at lw_m6 49 rfl) rfl
theorem q1402 : (Jvm.Cond.lays "BranchNames$Unread" "java/lang/Throwable" "suppressedExceptions" "Ljava/util/List;") ∈ lw_all := lw_g (lw_at lw_m6 51 rfl) rfl
theorem q1404 : (Jvm.Cond.lays "BranchNames$Unread" "java/lang/Throwable" "detailMessage" "Ljava/lang/String;") ∈ lw_all := lw_g (lw_at lw_m6 53 rfl) rfl
theorem q1406 : (Jvm.Cond.lays "BranchNames$Unread" "java/lang/Throwable" "backtrace" "Ljava/lang/Object;") ∈ lw_all := lw_g (lw_at lw_m6 55 rfl) rfl
theorem q1428 : (Jvm.Cond.instanceMethod ({ cls := "BranchNames$Unread", name := "<init>", desc := "(I)V" } : Jvm.MethodName)) ∈ lw_all := lw_g (lw_at lw_m6 77 rfl) rfl
theorem q1429 : (Jvm.Cond.code ({ cls := "BranchNames$Unread", name := "<init>", desc := "(I)V" } : Jvm.MethodName) prog_18_method_1_code (2 : Nat) (Option.none : Option Jvm.ClassFile.FieldType)) ∈ lw_all := lw_g (lw_at lw_m6 78 rfl) rfl
theorem q1430 : (Jvm.Cond.methodLink "BranchNames$Unread" (1 : Nat) ({ cls := "BranchNames$Wrong", name := "<init>", desc := "(LBranchNames$Wrong;)V" } : Jvm.MethodName)) ∈ lw_all := lw_g (lw_at lw_m6 79 rfl) rfl
theorem q1439 : (Jvm.Cond.fieldLink "BranchNames$Unread" (7 : Nat) "BranchNames$Unread" "place" "I") ∈ lw_all := lw_g (lw_at lw_m6 88 rfl) rfl
theorem q1445 : (Jvm.Cond.laysFinal "BranchNames$Unread" "BranchNames$Unread" "place" "I") ∈ lw_all := lw_g (lw_at lw_m6 94 rfl) rfl
theorem q1446 : (Jvm.Cond.soleField "BranchNames$Unread" "place") ∈ lw_all := lw_g (lw_at lw_m6 95 rfl) rfl
theorem q1451 : (Jvm.Cond.lays "BranchNames$Unread" "java/lang/Throwable" "depth" "I") ∈ lw_all := lw_g (lw_at lw_m6 100 rfl) rfl
theorem q1454 : (Jvm.Cond.superclass "BranchNames$Unread" "BranchNames$Wrong") ∈ lw_all := lw_g (lw_at lw_m6 103 rfl) rfl
theorem q1559 : (Jvm.Cond.selects "BranchNames$Unread" ({ cls := "java/lang/Throwable", name := "getCause", desc := "()Ljava/lang/Throwable;" } : Jvm.MethodName) ({ cls := "java/lang/Throwable", name := "getCause", desc := "()Ljava/lang/Throwable;" } : Jvm.MethodName)) ∈ lw_all := lw_g (lw_at lw_m6 208 rfl) rfl
theorem q1567 : (Jvm.Cond.selects "BranchNames$Unread" ({ cls := "BranchNames$Wrong", name := "told", desc := "()I" } : Jvm.MethodName) ({ cls := "BranchNames$Unread", name := "told", desc := "()I" } : Jvm.MethodName)) ∈ lw_all := lw_g (lw_at lw_m6 216 rfl) rfl
theorem q1568 : (Jvm.Cond.instanceMethod ({ cls := "BranchNames$Unread", name := "told", desc := "()I" } : Jvm.MethodName)) ∈ lw_all := lw_g (lw_at lw_m6 217 rfl) rfl
theorem q1569 : (Jvm.Cond.code ({ cls := "BranchNames$Unread", name := "told", desc := "()I" } : Jvm.MethodName) prog_18_method_2_code (1 : Nat) (Option.some Jvm.ClassFile.FieldType.int)) ∈ lw_all := lw_g (lw_at lw_m6 218 rfl) rfl
theorem q2444 : (Jvm.Cond.castable "BranchNames$Unread" "java/lang/Object") ∈ lw_tbl := lw_at lw_m10 133 rfl
theorem in_X11 : ∀ w ∈ wsX110, w ∈ lw_all := lw_in wsX110 [1398, 1400, 1402, 1404, 1406, 1451, 1445] (by decide +kernel) (by decide +kernel)
/-! BranchNames$Trouble -/
set_option maxRecDepth 100000
def RX12 : String := "BranchNames$Trouble"
def TX12 : u_T := fun k => match k with
  | 0 => ("java/lang/Throwable", "cause", "Ljava/lang/Throwable;", false)
  | 1 => ("java/lang/Throwable", "stackTrace", "[Ljava/lang/StackTraceElement;", false)
  | 2 => ("java/lang/Throwable", "suppressedExceptions", "Ljava/util/List;", false)
  | 3 => ("java/lang/Throwable", "detailMessage", "Ljava/lang/String;", false)
  | 4 => ("java/lang/Throwable", "backtrace", "Ljava/lang/Object;", false)
  | 5 => ("java/lang/Throwable", "depth", "I", false)
  | 6 => ("BranchNames$Trouble", "which", "I", true)
  | _ => ("BranchNames$Trouble", "place", "I", true)
def tyX12 : Nat → FieldType := fun k => match k with
  | 0 => .object "java/lang/Throwable"
  | 1 => .array (.object "java/lang/StackTraceElement")
  | 2 => .object "java/util/List"
  | 3 => .object "java/lang/String"
  | 4 => .object "java/lang/Object"
  | 5 => .int
  | 6 => .int
  | _ => .int
abbrev wsX120 : List Cond := u_ws RX12 TX12 8
theorem nmX12 : ∀ a, a < 8 → ∀ b, b < 8 → a ≠ b → (TX12 a).2.1 ≠ (TX12 b).2.1 := by decide +kernel
theorem tyX12_ok : ∀ k, k < 8 → parseFieldDescriptor (TX12 k).2.2.1 = some (tyX12 k) := by decide +kernel
abbrev cX12_init : ByteArray := prog_17_method_1_code
def yX12_init : MethodName := ⟨RX12, "<init>", "(IILBranchNames$Trouble;)V"⟩
def dkwX12_init_0 : List UInt8 := [42, 45, 183, 0, 1, 42, 27, 181, 0, 7, 42, 28, 181, 0, 13, 177]
abbrev dktX12_init_0 : List UInt8 := dkwX12_init_0 ++ []
theorem dksX12_init_0 : cX12_init.data.toList.drop 0 = dktX12_init_0 := by decide +kernel
theorem dX12_init_0 : decode cX12_init 0 = .ok (.aload_n 0, 1) := dk_42 (dk_at dksX12_init_0 0 rfl rfl)
theorem dX12_init_1 : decode cX12_init 1 = .ok (.aload_n 3, 1) := dk_45 (dk_at dksX12_init_0 1 rfl rfl)
theorem dX12_init_2 : decode cX12_init 2 = .ok (.invokespecial 1, 3) := dk_183 0 1 (dk_at dksX12_init_0 2 rfl rfl)
theorem dX12_init_5 : decode cX12_init 5 = .ok (.aload_n 0, 1) := dk_42 (dk_at dksX12_init_0 5 rfl rfl)
theorem dX12_init_6 : decode cX12_init 6 = .ok (.iload_n 1, 1) := dk_27 (dk_at dksX12_init_0 6 rfl rfl)
theorem dX12_init_7 : decode cX12_init 7 = .ok (.putfield 7, 3) := dk_181 0 7 (dk_at dksX12_init_0 7 rfl rfl)
theorem dX12_init_10 : decode cX12_init 10 = .ok (.aload_n 0, 1) := dk_42 (dk_at dksX12_init_0 10 rfl rfl)
theorem dX12_init_11 : decode cX12_init 11 = .ok (.iload_n 2, 1) := dk_28 (dk_at dksX12_init_0 11 rfl rfl)
theorem dX12_init_12 : decode cX12_init 12 = .ok (.putfield 13, 3) := dk_181 0 13 (dk_at dksX12_init_0 12 rfl rfl)
theorem dX12_init_15 : decode cX12_init 15 = .ok (.return_, 1) := dk_177 (dk_at dksX12_init_0 15 rfl rfl)
abbrev cX12_told : ByteArray := prog_17_method_2_code
def yX12_told : MethodName := ⟨RX12, "told", "()I"⟩
theorem dX12_told_0 : decode cX12_told 0 = .ok (.bipush (-20), 2) := by decide +kernel
theorem dX12_told_2 : decode cX12_told 2 = .ok (.ireturn, 1) := by decide +kernel
theorem q182 : (Jvm.Cond.initialized "BranchNames$Trouble") ∈ lw_all := lw_g (lw_at lw_m1 31 rfl) rfl
theorem q1155 : (Jvm.Cond.selects "BranchNames$Trouble" ({ cls := "java/lang/Object", name := "getClass", desc := "()Ljava/lang/Class;" } : Jvm.MethodName) ({ cls := "java/lang/Object", name := "getClass", desc := "()Ljava/lang/Class;" } : Jvm.MethodName)) ∈ lw_all := lw_g (lw_at lw_m5 44 rfl) rfl
theorem q1420 : (Jvm.Cond.selects "BranchNames$Trouble" ({ cls := "java/lang/Throwable", name := "fillInStackTrace", desc := "()Ljava/lang/Throwable;" } : Jvm.MethodName) ({ cls := "java/lang/Throwable", name := "fillInStackTrace", desc := "()Ljava/lang/Throwable;" } : Jvm.MethodName)) ∈ lw_all := lw_g (lw_at lw_m6 69 rfl) rfl
theorem q1513 : (Jvm.Cond.instantiable "BranchNames$Trouble" (8 : Nat)) ∈ lw_all := lw_g (lw_at lw_m6 162 rfl) rfl
theorem q1514 : (Jvm.Cond.castable "BranchNames$Trouble" "BranchNames$Trouble") ∈ lw_tbl := lw_at lw_m6 163 rfl
theorem q1515 : (Jvm.Cond.selects "BranchNames$Trouble" ({ cls := "java/lang/Throwable", name := "fillInStackTrace", desc := "(I)Ljava/lang/Throwable;" } : Jvm.MethodName) ({ cls := "java/lang/Throwable", name := "fillInStackTrace", desc := "(I)Ljava/lang/Throwable;" } : Jvm.MethodName)) ∈ lw_all := lw_g (lw_at lw_m6 164 rfl) rfl
theorem q1516 : (Jvm.Cond.lays "BranchNames$Trouble" "java/lang/Throwable" "cause" "Ljava/lang/Throwable;") ∈ lw_all := lw_g (lw_at lw_m6 165 rfl) rfl
theorem q1517 : (Jvm.Cond.lays "BranchNames$Trouble" "java/lang/Throwable" "stackTrace" "[Ljava/lang/StackTraceElement;") ∈ lw_all := lw_g (lw_at lw_m6 166 rfl) rfl
theorem q1518 : (Jvm.Cond.lays "BranchNames$Trouble" "java/lang/Throwable" "suppressedExceptions" "Ljava/util/List;") ∈ lw_all := lw_g (lw_at lw_m6 167 rfl) rfl
theorem q1519 : (Jvm.Cond.lays "BranchNames$Trouble" "java/lang/Throwable" "detailMessage" "Ljava/lang/String;") ∈ lw_all := lw_g (lw_at lw_m6 168 rfl) rfl
theorem q1520 : (Jvm.Cond.lays "BranchNames$Trouble" "java/lang/Throwable" "backtrace" "Ljava/lang/Object;") ∈ lw_all := lw_g (lw_at lw_m6 169 rfl) rfl
theorem q1522 : (Jvm.Cond.instanceMethod ({ cls := "BranchNames$Trouble", name := "<init>", desc := "(IILBranchNames$Trouble;)V" } : Jvm.MethodName)) ∈ lw_all := lw_g (lw_at lw_m6 171 rfl) rfl
theorem q1523 : (Jvm.Cond.code ({ cls := "BranchNames$Trouble", name := "<init>", desc := "(IILBranchNames$Trouble;)V" } : Jvm.MethodName) prog_17_method_1_code (4 : Nat) (Option.none : Option Jvm.ClassFile.FieldType)) ∈ lw_all := lw_g (lw_at lw_m6 172 rfl) rfl
theorem q1524 : (Jvm.Cond.methodLink "BranchNames$Trouble" (1 : Nat) ({ cls := "BranchNames$Wrong", name := "<init>", desc := "(LBranchNames$Wrong;)V" } : Jvm.MethodName)) ∈ lw_all := lw_g (lw_at lw_m6 173 rfl) rfl
theorem q1525 : (Jvm.Cond.fieldLink "BranchNames$Trouble" (7 : Nat) "BranchNames$Trouble" "which" "I") ∈ lw_all := lw_g (lw_at lw_m6 174 rfl) rfl
theorem q1527 : (Jvm.Cond.fieldLink "BranchNames$Trouble" (13 : Nat) "BranchNames$Trouble" "place" "I") ∈ lw_all := lw_g (lw_at lw_m6 176 rfl) rfl
theorem q1529 : (Jvm.Cond.laysFinal "BranchNames$Trouble" "BranchNames$Trouble" "which" "I") ∈ lw_all := lw_g (lw_at lw_m6 178 rfl) rfl
theorem q1530 : (Jvm.Cond.soleField "BranchNames$Trouble" "which") ∈ lw_all := lw_g (lw_at lw_m6 179 rfl) rfl
theorem q1531 : (Jvm.Cond.laysFinal "BranchNames$Trouble" "BranchNames$Trouble" "place" "I") ∈ lw_all := lw_g (lw_at lw_m6 180 rfl) rfl
theorem q1532 : (Jvm.Cond.soleField "BranchNames$Trouble" "place") ∈ lw_all := lw_g (lw_at lw_m6 181 rfl) rfl
theorem q1533 : (Jvm.Cond.lays "BranchNames$Trouble" "java/lang/Throwable" "depth" "I") ∈ lw_all := lw_g (lw_at lw_m6 182 rfl) rfl
theorem q1534 : (Jvm.Cond.superclass "BranchNames$Trouble" "BranchNames$Wrong") ∈ lw_all := lw_g (lw_at lw_m6 183 rfl) rfl
theorem q1558 : (Jvm.Cond.selects "BranchNames$Trouble" ({ cls := "java/lang/Throwable", name := "getCause", desc := "()Ljava/lang/Throwable;" } : Jvm.MethodName) ({ cls := "java/lang/Throwable", name := "getCause", desc := "()Ljava/lang/Throwable;" } : Jvm.MethodName)) ∈ lw_all := lw_g (lw_at lw_m6 207 rfl) rfl
theorem q1564 : (Jvm.Cond.selects "BranchNames$Trouble" ({ cls := "BranchNames$Wrong", name := "told", desc := "()I" } : Jvm.MethodName) ({ cls := "BranchNames$Trouble", name := "told", desc := "()I" } : Jvm.MethodName)) ∈ lw_all := lw_g (lw_at lw_m6 213 rfl) rfl
theorem q1565 : (Jvm.Cond.instanceMethod ({ cls := "BranchNames$Trouble", name := "told", desc := "()I" } : Jvm.MethodName)) ∈ lw_all := lw_g (lw_at lw_m6 214 rfl) rfl
theorem q1566 : (Jvm.Cond.code ({ cls := "BranchNames$Trouble", name := "told", desc := "()I" } : Jvm.MethodName) prog_17_method_2_code (1 : Nat) (Option.some Jvm.ClassFile.FieldType.int)) ∈ lw_all := lw_g (lw_at lw_m6 215 rfl) rfl
theorem q2445 : (Jvm.Cond.castable "BranchNames$Trouble" "java/lang/Object") ∈ lw_tbl := lw_at lw_m10 134 rfl
theorem in_X12 : ∀ w ∈ wsX120, w ∈ lw_all := lw_in wsX120 [1516, 1517, 1518, 1519, 1520, 1533, 1529, 1531] (by decide +kernel) (by decide +kernel)
/-! BranchNames$2 -/
set_option maxRecDepth 100000
def RX13 : String := "BranchNames$2"
def TX13 : u_T := fun k => match k with
  | 0 => ("BranchNames$2", "items", "[I", true)
  | _ => ("BranchNames$2", "val$n", "I", true)
def tyX13 : Nat → FieldType := fun k => match k with
  | 0 => .array .int
  | _ => .int
abbrev wsX130 : List Cond := u_ws RX13 TX13 2
theorem nmX13 : ∀ a, a < 2 → ∀ b, b < 2 → a ≠ b → (TX13 a).2.1 ≠ (TX13 b).2.1 := by decide +kernel
theorem tyX13_ok : ∀ k, k < 2 → parseFieldDescriptor (TX13 k).2.2.1 = some (tyX13 k) := by decide +kernel
abbrev cX13_init : ByteArray := prog_3_method_1_code
def yX13_init : MethodName := ⟨RX13, "<init>", "(I)V"⟩
def dkwX13_init_0 : List UInt8 := [42, 27, 181, 0, 1, 42, 183, 0, 7, 42, 42, 180, 0, 1, 188, 10, 181, 0, 13, 177]
abbrev dktX13_init_0 : List UInt8 := dkwX13_init_0 ++ []
theorem dksX13_init_0 : cX13_init.data.toList.drop 0 = dktX13_init_0 := by decide +kernel
theorem dX13_init_0 : decode cX13_init 0 = .ok (.aload_n 0, 1) := dk_42 (dk_at dksX13_init_0 0 rfl rfl)
theorem dX13_init_1 : decode cX13_init 1 = .ok (.iload_n 1, 1) := dk_27 (dk_at dksX13_init_0 1 rfl rfl)
theorem dX13_init_2 : decode cX13_init 2 = .ok (.putfield 1, 3) := dk_181 0 1 (dk_at dksX13_init_0 2 rfl rfl)
theorem dX13_init_5 : decode cX13_init 5 = .ok (.aload_n 0, 1) := dk_42 (dk_at dksX13_init_0 5 rfl rfl)
theorem dX13_init_6 : decode cX13_init 6 = .ok (.invokespecial 7, 3) := dk_183 0 7 (dk_at dksX13_init_0 6 rfl rfl)
theorem dX13_init_9 : decode cX13_init 9 = .ok (.aload_n 0, 1) := dk_42 (dk_at dksX13_init_0 9 rfl rfl)
theorem dX13_init_10 : decode cX13_init 10 = .ok (.aload_n 0, 1) := dk_42 (dk_at dksX13_init_0 10 rfl rfl)
theorem dX13_init_11 : decode cX13_init 11 = .ok (.getfield 1, 3) := dk_180 0 1 (dk_at dksX13_init_0 11 rfl rfl)
theorem dX13_init_14 : decode cX13_init 14 = .ok (.newarray .int, 2) := dk_188_10 (dk_at dksX13_init_0 14 rfl rfl)
theorem dX13_init_16 : decode cX13_init 16 = .ok (.putfield 13, 3) := dk_181 0 13 (dk_at dksX13_init_0 16 rfl rfl)
theorem dX13_init_19 : decode cX13_init 19 = .ok (.return_, 1) := dk_177 (dk_at dksX13_init_0 19 rfl rfl)
abbrev cX13_many : ByteArray := prog_3_method_3_code
def yX13_many : MethodName := ⟨RX13, "many", "()I"⟩
def dkwX13_many_0 : List UInt8 := [42, 180, 0, 13, 190, 172]
abbrev dktX13_many_0 : List UInt8 := dkwX13_many_0 ++ []
theorem dksX13_many_0 : cX13_many.data.toList.drop 0 = dktX13_many_0 := by decide +kernel
theorem dX13_many_0 : decode cX13_many 0 = .ok (.aload_n 0, 1) := dk_42 (dk_at dksX13_many_0 0 rfl rfl)
theorem dX13_many_1 : decode cX13_many 1 = .ok (.getfield 13, 3) := dk_180 0 13 (dk_at dksX13_many_0 1 rfl rfl)
theorem dX13_many_4 : decode cX13_many 4 = .ok (.arraylength, 1) := dk_190 (dk_at dksX13_many_0 4 rfl rfl)
theorem dX13_many_5 : decode cX13_many 5 = .ok (.ireturn, 1) := dk_172 (dk_at dksX13_many_0 5 rfl rfl)
abbrev cX13_lays : ByteArray := prog_3_method_5_code
def yX13_lays : MethodName := ⟨RX13, "lays", "(IJ)V"⟩
def dkwX13_lays_0 : List UInt8 := [42, 180, 0, 13, 27, 32, 136, 79, 177]
abbrev dktX13_lays_0 : List UInt8 := dkwX13_lays_0 ++ []
theorem dksX13_lays_0 : cX13_lays.data.toList.drop 0 = dktX13_lays_0 := by decide +kernel
theorem dX13_lays_0 : decode cX13_lays 0 = .ok (.aload_n 0, 1) := dk_42 (dk_at dksX13_lays_0 0 rfl rfl)
theorem dX13_lays_1 : decode cX13_lays 1 = .ok (.getfield 13, 3) := dk_180 0 13 (dk_at dksX13_lays_0 1 rfl rfl)
theorem dX13_lays_4 : decode cX13_lays 4 = .ok (.iload_n 1, 1) := dk_27 (dk_at dksX13_lays_0 4 rfl rfl)
theorem dX13_lays_5 : decode cX13_lays 5 = .ok (.lload_n 2, 1) := dk_32 (dk_at dksX13_lays_0 5 rfl rfl)
theorem dX13_lays_6 : decode cX13_lays 6 = .ok (.l2i, 1) := dk_136 (dk_at dksX13_lays_0 6 rfl rfl)
theorem dX13_lays_7 : decode cX13_lays 7 = .ok (.iastore, 1) := dk_79 (dk_at dksX13_lays_0 7 rfl rfl)
theorem dX13_lays_8 : decode cX13_lays 8 = .ok (.return_, 1) := dk_177 (dk_at dksX13_lays_0 8 rfl rfl)
abbrev cX13_at : ByteArray := prog_3_method_4_code
def yX13_at : MethodName := ⟨RX13, "at", "(I)J"⟩
def dkwX13_at_0 : List UInt8 := [42, 180, 0, 13, 27, 46, 133, 173]
abbrev dktX13_at_0 : List UInt8 := dkwX13_at_0 ++ []
theorem dksX13_at_0 : cX13_at.data.toList.drop 0 = dktX13_at_0 := by decide +kernel
theorem dX13_at_0 : decode cX13_at 0 = .ok (.aload_n 0, 1) := dk_42 (dk_at dksX13_at_0 0 rfl rfl)
theorem dX13_at_1 : decode cX13_at 1 = .ok (.getfield 13, 3) := dk_180 0 13 (dk_at dksX13_at_0 1 rfl rfl)
theorem dX13_at_4 : decode cX13_at 4 = .ok (.iload_n 1, 1) := dk_27 (dk_at dksX13_at_0 4 rfl rfl)
theorem dX13_at_5 : decode cX13_at 5 = .ok (.iaload, 1) := dk_46 (dk_at dksX13_at_0 5 rfl rfl)
theorem dX13_at_6 : decode cX13_at 6 = .ok (.i2l, 1) := dk_133 (dk_at dksX13_at_0 6 rfl rfl)
theorem dX13_at_7 : decode cX13_at 7 = .ok (.lreturn, 1) := dk_173 (dk_at dksX13_at_0 7 rfl rfl)
abbrev cX13_sort : ByteArray := prog_3_method_2_code
def yX13_sort : MethodName := ⟨RX13, "sort", "()I"⟩
theorem dX13_sort_0 : decode cX13_sort 0 = .ok (.iconst 0, 1) := by decide +kernel
theorem dX13_sort_1 : decode cX13_sort 1 = .ok (.ireturn, 1) := by decide +kernel
theorem q183 : (Jvm.Cond.initialized "BranchNames$2") ∈ lw_all := lw_g (lw_at lw_m1 32 rfl) rfl
theorem q1146 : (Jvm.Cond.selects "BranchNames$2" ({ cls := "java/lang/Object", name := "getClass", desc := "()Ljava/lang/Class;" } : Jvm.MethodName) ({ cls := "java/lang/Object", name := "getClass", desc := "()Ljava/lang/Class;" } : Jvm.MethodName)) ∈ lw_all := lw_g (lw_at lw_m5 35 rfl) rfl
theorem q1592 : (Jvm.Cond.instantiable "BranchNames$2" (2 : Nat)) ∈ lw_all := lw_g (lw_at lw_m7 1 rfl) rfl
theorem q1594 : (Jvm.Cond.instanceMethod ({ cls := "BranchNames$2", name := "<init>", desc := "(I)V" } : Jvm.MethodName)) ∈ lw_all := lw_g (lw_at lw_m7 3 rfl) rfl
theorem q1595 : (Jvm.Cond.code ({ cls := "BranchNames$2", name := "<init>", desc := "(I)V" } : Jvm.MethodName) prog_3_method_1_code (2 : Nat) (Option.none : Option Jvm.ClassFile.FieldType)) ∈ lw_all := lw_g (lw_at lw_m7 4 rfl) rfl
theorem q1596 : (Jvm.Cond.methodLink "BranchNames$2" (7 : Nat) ({ cls := "java/lang/Object", name := "<init>", desc := "()V" } : Jvm.MethodName)) ∈ lw_all := lw_g (lw_at lw_m7 5 rfl) rfl
theorem q1597 : (Jvm.Cond.fieldLink "BranchNames$2" (13 : Nat) "BranchNames$2" "items" "[I") ∈ lw_all := lw_g (lw_at lw_m7 6 rfl) rfl
theorem q1598 : (Jvm.Cond.fieldLink "BranchNames$2" (1 : Nat) "BranchNames$2" "val$n" "I") ∈ lw_all := lw_g (lw_at lw_m7 7 rfl) rfl
theorem q1599 : (Jvm.Cond.laysFinal "BranchNames$2" "BranchNames$2" "items" "[I") ∈ lw_all := lw_g (lw_at lw_m7 8 rfl) rfl
theorem q1600 : (Jvm.Cond.soleField "BranchNames$2" "items") ∈ lw_all := lw_g (lw_at lw_m7 9 rfl) rfl
theorem q1601 : (Jvm.Cond.laysFinal "BranchNames$2" "BranchNames$2" "val$n" "I") ∈ lw_all := lw_g (lw_at lw_m7 10 rfl) rfl
theorem q1602 : (Jvm.Cond.soleField "BranchNames$2" "val$n") ∈ lw_all := lw_g (lw_at lw_m7 11 rfl) rfl
theorem q1603 : (Jvm.Cond.superclass "BranchNames$2" "java/lang/Object") ∈ lw_all := lw_g (lw_at lw_m7 12 rfl) rfl
theorem q1644 : (Jvm.Cond.castable "BranchNames$2" "BranchNames$Items") ∈ lw_tbl := lw_at lw_m7 53 rfl
theorem q1645 : (Jvm.Cond.selects "BranchNames$2" ({ cls := "BranchNames$Items", name := "many", desc := "()I" } : Jvm.MethodName) ({ cls := "BranchNames$2", name := "many", desc := "()I" } : Jvm.MethodName)) ∈ lw_all := lw_g (lw_at lw_m7 54 rfl) rfl
theorem q1646 : (Jvm.Cond.unhidden "BranchNames$2" "many" "()I") ∈ lw_tbl := lw_at lw_m7 55 rfl
theorem q1647 : (Jvm.Cond.instanceMethod ({ cls := "BranchNames$2", name := "many", desc := "()I" } : Jvm.MethodName)) ∈ lw_all := lw_g (lw_at lw_m7 56 rfl) rfl
theorem q1648 : (Jvm.Cond.publicMethod ({ cls := "BranchNames$2", name := "many", desc := "()I" } : Jvm.MethodName)) ∈ lw_tbl := lw_at lw_m7 57 rfl
theorem q1649 : (Jvm.Cond.code ({ cls := "BranchNames$2", name := "many", desc := "()I" } : Jvm.MethodName) prog_3_method_3_code (1 : Nat) (Option.some Jvm.ClassFile.FieldType.int)) ∈ lw_all := lw_g (lw_at lw_m7 58 rfl) rfl
theorem q1666 : (Jvm.Cond.selects "BranchNames$2" ({ cls := "BranchNames$Items", name := "lays", desc := "(IJ)V" } : Jvm.MethodName) ({ cls := "BranchNames$2", name := "lays", desc := "(IJ)V" } : Jvm.MethodName)) ∈ lw_all := lw_g (lw_at lw_m7 75 rfl) rfl
theorem q1667 : (Jvm.Cond.unhidden "BranchNames$2" "lays" "(IJ)V") ∈ lw_tbl := lw_at lw_m7 76 rfl
theorem q1668 : (Jvm.Cond.instanceMethod ({ cls := "BranchNames$2", name := "lays", desc := "(IJ)V" } : Jvm.MethodName)) ∈ lw_all := lw_g (lw_at lw_m7 77 rfl) rfl
theorem q1669 : (Jvm.Cond.publicMethod ({ cls := "BranchNames$2", name := "lays", desc := "(IJ)V" } : Jvm.MethodName)) ∈ lw_tbl := lw_at lw_m7 78 rfl
theorem q1670 : (Jvm.Cond.code ({ cls := "BranchNames$2", name := "lays", desc := "(IJ)V" } : Jvm.MethodName) prog_3_method_5_code (4 : Nat) (Option.none : Option Jvm.ClassFile.FieldType)) ∈ lw_all := lw_g (lw_at lw_m7 79 rfl) rfl
theorem q1689 : (Jvm.Cond.selects "BranchNames$2" ({ cls := "BranchNames$Items", name := "at", desc := "(I)J" } : Jvm.MethodName) ({ cls := "BranchNames$2", name := "at", desc := "(I)J" } : Jvm.MethodName)) ∈ lw_all := lw_g (lw_at lw_m7 98 rfl) rfl
theorem q1690 : (Jvm.Cond.unhidden "BranchNames$2" "at" "(I)J") ∈ lw_tbl := lw_at lw_m7 99 rfl
theorem q1691 : (Jvm.Cond.instanceMethod ({ cls := "BranchNames$2", name := "at", desc := "(I)J" } : Jvm.MethodName)) ∈ lw_all := lw_g (lw_at lw_m7 100 rfl) rfl
theorem q1692 : (Jvm.Cond.publicMethod ({ cls := "BranchNames$2", name := "at", desc := "(I)J" } : Jvm.MethodName)) ∈ lw_tbl := lw_at lw_m7 101 rfl
theorem q1693 : (Jvm.Cond.code ({ cls := "BranchNames$2", name := "at", desc := "(I)J" } : Jvm.MethodName) prog_3_method_4_code (2 : Nat) (Option.some Jvm.ClassFile.FieldType.long)) ∈ lw_all := lw_g (lw_at lw_m7 102 rfl) rfl
theorem q1712 : (Jvm.Cond.selects "BranchNames$2" ({ cls := "BranchNames$Items", name := "sort", desc := "()I" } : Jvm.MethodName) ({ cls := "BranchNames$2", name := "sort", desc := "()I" } : Jvm.MethodName)) ∈ lw_all := lw_g (lw_at lw_m7 121 rfl) rfl
theorem q1713 : (Jvm.Cond.unhidden "BranchNames$2" "sort" "()I") ∈ lw_tbl := lw_at lw_m7 122 rfl
theorem q1714 : (Jvm.Cond.instanceMethod ({ cls := "BranchNames$2", name := "sort", desc := "()I" } : Jvm.MethodName)) ∈ lw_all := lw_g (lw_at lw_m7 123 rfl) rfl
theorem q1715 : (Jvm.Cond.publicMethod ({ cls := "BranchNames$2", name := "sort", desc := "()I" } : Jvm.MethodName)) ∈ lw_tbl := lw_at lw_m7 124 rfl
theorem q1716 : (Jvm.Cond.code ({ cls := "BranchNames$2", name := "sort", desc := "()I" } : Jvm.MethodName) prog_3_method_2_code (1 : Nat) (Option.some Jvm.ClassFile.FieldType.int)) ∈ lw_all := lw_g (lw_at lw_m7 125 rfl) rfl
theorem q2446 : (Jvm.Cond.castable "BranchNames$2" "java/lang/Object") ∈ lw_tbl := lw_at lw_m10 135 rfl
theorem in_X13 : ∀ w ∈ wsX130, w ∈ lw_all := lw_in wsX130 [1599, 1601] (by decide +kernel) (by decide +kernel)
/-! BranchNames$3 -/
set_option maxRecDepth 100000
def RX14 : String := "BranchNames$3"
def TX14 : u_T := fun k => match k with
  | 0 => ("BranchNames$3", "items", "[J", true)
  | _ => ("BranchNames$3", "val$n", "I", true)
def tyX14 : Nat → FieldType := fun k => match k with
  | 0 => .array .long
  | _ => .int
abbrev wsX140 : List Cond := u_ws RX14 TX14 2
theorem nmX14 : ∀ a, a < 2 → ∀ b, b < 2 → a ≠ b → (TX14 a).2.1 ≠ (TX14 b).2.1 := by decide +kernel
theorem tyX14_ok : ∀ k, k < 2 → parseFieldDescriptor (TX14 k).2.2.1 = some (tyX14 k) := by decide +kernel
abbrev cX14_init : ByteArray := prog_4_method_1_code
def yX14_init : MethodName := ⟨RX14, "<init>", "(I)V"⟩
def dkwX14_init_0 : List UInt8 := [42, 27, 181, 0, 1, 42, 183, 0, 7, 42, 42, 180, 0, 1, 188, 11, 181, 0, 13, 177]
abbrev dktX14_init_0 : List UInt8 := dkwX14_init_0 ++ []
theorem dksX14_init_0 : cX14_init.data.toList.drop 0 = dktX14_init_0 := by decide +kernel
theorem dX14_init_0 : decode cX14_init 0 = .ok (.aload_n 0, 1) := dk_42 (dk_at dksX14_init_0 0 rfl rfl)
theorem dX14_init_1 : decode cX14_init 1 = .ok (.iload_n 1, 1) := dk_27 (dk_at dksX14_init_0 1 rfl rfl)
theorem dX14_init_2 : decode cX14_init 2 = .ok (.putfield 1, 3) := dk_181 0 1 (dk_at dksX14_init_0 2 rfl rfl)
theorem dX14_init_5 : decode cX14_init 5 = .ok (.aload_n 0, 1) := dk_42 (dk_at dksX14_init_0 5 rfl rfl)
theorem dX14_init_6 : decode cX14_init 6 = .ok (.invokespecial 7, 3) := dk_183 0 7 (dk_at dksX14_init_0 6 rfl rfl)
theorem dX14_init_9 : decode cX14_init 9 = .ok (.aload_n 0, 1) := dk_42 (dk_at dksX14_init_0 9 rfl rfl)
theorem dX14_init_10 : decode cX14_init 10 = .ok (.aload_n 0, 1) := dk_42 (dk_at dksX14_init_0 10 rfl rfl)
theorem dX14_init_11 : decode cX14_init 11 = .ok (.getfield 1, 3) := dk_180 0 1 (dk_at dksX14_init_0 11 rfl rfl)
theorem dX14_init_14 : decode cX14_init 14 = .ok (.newarray .long, 2) := dk_188_11 (dk_at dksX14_init_0 14 rfl rfl)
theorem dX14_init_16 : decode cX14_init 16 = .ok (.putfield 13, 3) := dk_181 0 13 (dk_at dksX14_init_0 16 rfl rfl)
theorem dX14_init_19 : decode cX14_init 19 = .ok (.return_, 1) := dk_177 (dk_at dksX14_init_0 19 rfl rfl)
abbrev cX14_many : ByteArray := prog_4_method_3_code
def yX14_many : MethodName := ⟨RX14, "many", "()I"⟩
def dkwX14_many_0 : List UInt8 := [42, 180, 0, 13, 190, 172]
abbrev dktX14_many_0 : List UInt8 := dkwX14_many_0 ++ []
theorem dksX14_many_0 : cX14_many.data.toList.drop 0 = dktX14_many_0 := by decide +kernel
theorem dX14_many_0 : decode cX14_many 0 = .ok (.aload_n 0, 1) := dk_42 (dk_at dksX14_many_0 0 rfl rfl)
theorem dX14_many_1 : decode cX14_many 1 = .ok (.getfield 13, 3) := dk_180 0 13 (dk_at dksX14_many_0 1 rfl rfl)
theorem dX14_many_4 : decode cX14_many 4 = .ok (.arraylength, 1) := dk_190 (dk_at dksX14_many_0 4 rfl rfl)
theorem dX14_many_5 : decode cX14_many 5 = .ok (.ireturn, 1) := dk_172 (dk_at dksX14_many_0 5 rfl rfl)
abbrev cX14_lays : ByteArray := prog_4_method_5_code
def yX14_lays : MethodName := ⟨RX14, "lays", "(IJ)V"⟩
def dkwX14_lays_0 : List UInt8 := [42, 180, 0, 13, 27, 32, 80, 177]
abbrev dktX14_lays_0 : List UInt8 := dkwX14_lays_0 ++ []
theorem dksX14_lays_0 : cX14_lays.data.toList.drop 0 = dktX14_lays_0 := by decide +kernel
theorem dX14_lays_0 : decode cX14_lays 0 = .ok (.aload_n 0, 1) := dk_42 (dk_at dksX14_lays_0 0 rfl rfl)
theorem dX14_lays_1 : decode cX14_lays 1 = .ok (.getfield 13, 3) := dk_180 0 13 (dk_at dksX14_lays_0 1 rfl rfl)
theorem dX14_lays_4 : decode cX14_lays 4 = .ok (.iload_n 1, 1) := dk_27 (dk_at dksX14_lays_0 4 rfl rfl)
theorem dX14_lays_5 : decode cX14_lays 5 = .ok (.lload_n 2, 1) := dk_32 (dk_at dksX14_lays_0 5 rfl rfl)
theorem dX14_lays_6 : decode cX14_lays 6 = .ok (.lastore, 1) := dk_80 (dk_at dksX14_lays_0 6 rfl rfl)
theorem dX14_lays_7 : decode cX14_lays 7 = .ok (.return_, 1) := dk_177 (dk_at dksX14_lays_0 7 rfl rfl)
abbrev cX14_at : ByteArray := prog_4_method_4_code
def yX14_at : MethodName := ⟨RX14, "at", "(I)J"⟩
def dkwX14_at_0 : List UInt8 := [42, 180, 0, 13, 27, 47, 173]
abbrev dktX14_at_0 : List UInt8 := dkwX14_at_0 ++ []
theorem dksX14_at_0 : cX14_at.data.toList.drop 0 = dktX14_at_0 := by decide +kernel
theorem dX14_at_0 : decode cX14_at 0 = .ok (.aload_n 0, 1) := dk_42 (dk_at dksX14_at_0 0 rfl rfl)
theorem dX14_at_1 : decode cX14_at 1 = .ok (.getfield 13, 3) := dk_180 0 13 (dk_at dksX14_at_0 1 rfl rfl)
theorem dX14_at_4 : decode cX14_at 4 = .ok (.iload_n 1, 1) := dk_27 (dk_at dksX14_at_0 4 rfl rfl)
theorem dX14_at_5 : decode cX14_at 5 = .ok (.laload, 1) := dk_47 (dk_at dksX14_at_0 5 rfl rfl)
theorem dX14_at_6 : decode cX14_at 6 = .ok (.lreturn, 1) := dk_173 (dk_at dksX14_at_0 6 rfl rfl)
abbrev cX14_sort : ByteArray := prog_4_method_2_code
def yX14_sort : MethodName := ⟨RX14, "sort", "()I"⟩
theorem dX14_sort_0 : decode cX14_sort 0 = .ok (.iconst 1, 1) := by decide +kernel
theorem dX14_sort_1 : decode cX14_sort 1 = .ok (.ireturn, 1) := by decide +kernel
theorem q184 : (Jvm.Cond.initialized "BranchNames$3") ∈ lw_all := lw_g (lw_at lw_m1 33 rfl) rfl
theorem q1147 : (Jvm.Cond.selects "BranchNames$3" ({ cls := "java/lang/Object", name := "getClass", desc := "()Ljava/lang/Class;" } : Jvm.MethodName) ({ cls := "java/lang/Object", name := "getClass", desc := "()Ljava/lang/Class;" } : Jvm.MethodName)) ∈ lw_all := lw_g (lw_at lw_m5 36 rfl) rfl
theorem q1608 : (Jvm.Cond.instantiable "BranchNames$3" (2 : Nat)) ∈ lw_all := lw_g (lw_at lw_m7 17 rfl) rfl
theorem q1610 : (Jvm.Cond.instanceMethod ({ cls := "BranchNames$3", name := "<init>", desc := "(I)V" } : Jvm.MethodName)) ∈ lw_all := lw_g (lw_at lw_m7 19 rfl) rfl
theorem q1611 : (Jvm.Cond.code ({ cls := "BranchNames$3", name := "<init>", desc := "(I)V" } : Jvm.MethodName) prog_4_method_1_code (2 : Nat) (Option.none : Option Jvm.ClassFile.FieldType)) ∈ lw_all := lw_g (lw_at lw_m7 20 rfl) rfl
theorem q1612 : (Jvm.Cond.methodLink "BranchNames$3" (7 : Nat) ({ cls := "java/lang/Object", name := "<init>", desc := "()V" } : Jvm.MethodName)) ∈ lw_all := lw_g (lw_at lw_m7 21 rfl) rfl
theorem q1613 : (Jvm.Cond.fieldLink "BranchNames$3" (13 : Nat) "BranchNames$3" "items" "[J") ∈ lw_all := lw_g (lw_at lw_m7 22 rfl) rfl
theorem q1614 : (Jvm.Cond.fieldLink "BranchNames$3" (1 : Nat) "BranchNames$3" "val$n" "I") ∈ lw_all := lw_g (lw_at lw_m7 23 rfl) rfl
theorem q1615 : (Jvm.Cond.laysFinal "BranchNames$3" "BranchNames$3" "items" "[J") ∈ lw_all := lw_g (lw_at lw_m7 24 rfl) rfl
theorem q1616 : (Jvm.Cond.soleField "BranchNames$3" "items") ∈ lw_all := lw_g (lw_at lw_m7 25 rfl) rfl
theorem q1617 : (Jvm.Cond.laysFinal "BranchNames$3" "BranchNames$3" "val$n" "I") ∈ lw_all := lw_g (lw_at lw_m7 26 rfl) rfl
theorem q1618 : (Jvm.Cond.soleField "BranchNames$3" "val$n") ∈ lw_all := lw_g (lw_at lw_m7 27 rfl) rfl
theorem q1619 : (Jvm.Cond.superclass "BranchNames$3" "java/lang/Object") ∈ lw_all := lw_g (lw_at lw_m7 28 rfl) rfl
theorem q1650 : (Jvm.Cond.castable "BranchNames$3" "BranchNames$Items") ∈ lw_tbl := lw_at lw_m7 59 rfl
theorem q1651 : (Jvm.Cond.selects "BranchNames$3" ({ cls := "BranchNames$Items", name := "many", desc := "()I" } : Jvm.MethodName) ({ cls := "BranchNames$3", name := "many", desc := "()I" } : Jvm.MethodName)) ∈ lw_all := lw_g (lw_at lw_m7 60 rfl) rfl
theorem q1652 : (Jvm.Cond.unhidden "BranchNames$3" "many" "()I") ∈ lw_tbl := lw_at lw_m7 61 rfl
theorem q1653 : (Jvm.Cond.instanceMethod ({ cls := "BranchNames$3", name := "many", desc := "()I" } : Jvm.MethodName)) ∈ lw_all := lw_g (lw_at lw_m7 62 rfl) rfl
theorem q1654 : (Jvm.Cond.publicMethod ({ cls := "BranchNames$3", name := "many", desc := "()I" } : Jvm.MethodName)) ∈ lw_tbl := lw_at lw_m7 63 rfl
theorem q1655 : (Jvm.Cond.code ({ cls := "BranchNames$3", name := "many", desc := "()I" } : Jvm.MethodName) prog_4_method_3_code (1 : Nat) (Option.some Jvm.ClassFile.FieldType.int)) ∈ lw_all := lw_g (lw_at lw_m7 64 rfl) rfl
theorem q1671 : (Jvm.Cond.selects "BranchNames$3" ({ cls := "BranchNames$Items", name := "lays", desc := "(IJ)V" } : Jvm.MethodName) ({ cls := "BranchNames$3", name := "lays", desc := "(IJ)V" } : Jvm.MethodName)) ∈ lw_all := lw_g (lw_at lw_m7 80 rfl) rfl
theorem q1672 : (Jvm.Cond.unhidden "BranchNames$3" "lays" "(IJ)V") ∈ lw_tbl := lw_at lw_m7 81 rfl
theorem q1673 : (Jvm.Cond.instanceMethod ({ cls := "BranchNames$3", name := "lays", desc := "(IJ)V" } : Jvm.MethodName)) ∈ lw_all := lw_g (lw_at lw_m7 82 rfl) rfl
theorem q1674 : (Jvm.Cond.publicMethod ({ cls := "BranchNames$3", name := "lays", desc := "(IJ)V" } : Jvm.MethodName)) ∈ lw_tbl := lw_at lw_m7 83 rfl
theorem q1675 : (Jvm.Cond.code ({ cls := "BranchNames$3", name := "lays", desc := "(IJ)V" } : Jvm.MethodName) prog_4_method_5_code (4 : Nat) (Option.none : Option Jvm.ClassFile.FieldType)) ∈ lw_all := lw_g (lw_at lw_m7 84 rfl) rfl
theorem q1694 : (Jvm.Cond.selects "BranchNames$3" ({ cls := "BranchNames$Items", name := "at", desc := "(I)J" } : Jvm.MethodName) ({ cls := "BranchNames$3", name := "at", desc := "(I)J" } : Jvm.MethodName)) ∈ lw_all := lw_g (lw_at lw_m7 103 rfl) rfl
theorem q1695 : (Jvm.Cond.unhidden "BranchNames$3" "at" "(I)J") ∈ lw_tbl := lw_at lw_m7 104 rfl
theorem q1696 : (Jvm.Cond.instanceMethod ({ cls := "BranchNames$3", name := "at", desc := "(I)J" } : Jvm.MethodName)) ∈ lw_all := lw_g (lw_at lw_m7 105 rfl) rfl
theorem q1697 : (Jvm.Cond.publicMethod ({ cls := "BranchNames$3", name := "at", desc := "(I)J" } : Jvm.MethodName)) ∈ lw_tbl := lw_at lw_m7 106 rfl
theorem q1698 : (Jvm.Cond.code ({ cls := "BranchNames$3", name := "at", desc := "(I)J" } : Jvm.MethodName) prog_4_method_4_code (2 : Nat) (Option.some Jvm.ClassFile.FieldType.long)) ∈ lw_all := lw_g (lw_at lw_m7 107 rfl) rfl
theorem q1717 : (Jvm.Cond.selects "BranchNames$3" ({ cls := "BranchNames$Items", name := "sort", desc := "()I" } : Jvm.MethodName) ({ cls := "BranchNames$3", name := "sort", desc := "()I" } : Jvm.MethodName)) ∈ lw_all := lw_g (lw_at lw_m7 126 rfl) rfl
theorem q1718 : (Jvm.Cond.unhidden "BranchNames$3" "sort" "()I") ∈ lw_tbl := lw_at lw_m7 127 rfl
theorem q1719 : (Jvm.Cond.instanceMethod ({ cls := "BranchNames$3", name := "sort", desc := "()I" } : Jvm.MethodName)) ∈ lw_all := lw_g (lw_at lw_m7 128 rfl) rfl
theorem q1720 : (Jvm.Cond.publicMethod ({ cls := "BranchNames$3", name := "sort", desc := "()I" } : Jvm.MethodName)) ∈ lw_tbl := lw_at lw_m7 129 rfl
theorem q1721 : (Jvm.Cond.code ({ cls := "BranchNames$3", name := "sort", desc := "()I" } : Jvm.MethodName) prog_4_method_2_code (1 : Nat) (Option.some Jvm.ClassFile.FieldType.int)) ∈ lw_all := lw_g (lw_at lw_m7 130 rfl) rfl
theorem q2447 : (Jvm.Cond.castable "BranchNames$3" "java/lang/Object") ∈ lw_tbl := lw_at lw_m10 136 rfl
theorem in_X14 : ∀ w ∈ wsX140, w ∈ lw_all := lw_in wsX140 [1615, 1617] (by decide +kernel) (by decide +kernel)
/-! BranchNames$4 -/
set_option maxRecDepth 100000
def RX15 : String := "BranchNames$4"
def TX15 : u_T := fun k => match k with
  | 0 => ("BranchNames$4", "items", "[B", true)
  | _ => ("BranchNames$4", "val$n", "I", true)
def tyX15 : Nat → FieldType := fun k => match k with
  | 0 => .array .byte
  | _ => .int
abbrev wsX150 : List Cond := u_ws RX15 TX15 2
theorem nmX15 : ∀ a, a < 2 → ∀ b, b < 2 → a ≠ b → (TX15 a).2.1 ≠ (TX15 b).2.1 := by decide +kernel
theorem tyX15_ok : ∀ k, k < 2 → parseFieldDescriptor (TX15 k).2.2.1 = some (tyX15 k) := by decide +kernel
abbrev cX15_init : ByteArray := prog_5_method_1_code
def yX15_init : MethodName := ⟨RX15, "<init>", "(I)V"⟩
def dkwX15_init_0 : List UInt8 := [42, 27, 181, 0, 1, 42, 183, 0, 7, 42, 42, 180, 0, 1, 188, 8, 181, 0, 13, 177]
abbrev dktX15_init_0 : List UInt8 := dkwX15_init_0 ++ []
theorem dksX15_init_0 : cX15_init.data.toList.drop 0 = dktX15_init_0 := by decide +kernel
theorem dX15_init_0 : decode cX15_init 0 = .ok (.aload_n 0, 1) := dk_42 (dk_at dksX15_init_0 0 rfl rfl)
theorem dX15_init_1 : decode cX15_init 1 = .ok (.iload_n 1, 1) := dk_27 (dk_at dksX15_init_0 1 rfl rfl)
theorem dX15_init_2 : decode cX15_init 2 = .ok (.putfield 1, 3) := dk_181 0 1 (dk_at dksX15_init_0 2 rfl rfl)
theorem dX15_init_5 : decode cX15_init 5 = .ok (.aload_n 0, 1) := dk_42 (dk_at dksX15_init_0 5 rfl rfl)
theorem dX15_init_6 : decode cX15_init 6 = .ok (.invokespecial 7, 3) := dk_183 0 7 (dk_at dksX15_init_0 6 rfl rfl)
theorem dX15_init_9 : decode cX15_init 9 = .ok (.aload_n 0, 1) := dk_42 (dk_at dksX15_init_0 9 rfl rfl)
theorem dX15_init_10 : decode cX15_init 10 = .ok (.aload_n 0, 1) := dk_42 (dk_at dksX15_init_0 10 rfl rfl)
theorem dX15_init_11 : decode cX15_init 11 = .ok (.getfield 1, 3) := dk_180 0 1 (dk_at dksX15_init_0 11 rfl rfl)
theorem dX15_init_14 : decode cX15_init 14 = .ok (.newarray .byte, 2) := dk_188_8 (dk_at dksX15_init_0 14 rfl rfl)
theorem dX15_init_16 : decode cX15_init 16 = .ok (.putfield 13, 3) := dk_181 0 13 (dk_at dksX15_init_0 16 rfl rfl)
theorem dX15_init_19 : decode cX15_init 19 = .ok (.return_, 1) := dk_177 (dk_at dksX15_init_0 19 rfl rfl)
abbrev cX15_many : ByteArray := prog_5_method_3_code
def yX15_many : MethodName := ⟨RX15, "many", "()I"⟩
def dkwX15_many_0 : List UInt8 := [42, 180, 0, 13, 190, 172]
abbrev dktX15_many_0 : List UInt8 := dkwX15_many_0 ++ []
theorem dksX15_many_0 : cX15_many.data.toList.drop 0 = dktX15_many_0 := by decide +kernel
theorem dX15_many_0 : decode cX15_many 0 = .ok (.aload_n 0, 1) := dk_42 (dk_at dksX15_many_0 0 rfl rfl)
theorem dX15_many_1 : decode cX15_many 1 = .ok (.getfield 13, 3) := dk_180 0 13 (dk_at dksX15_many_0 1 rfl rfl)
theorem dX15_many_4 : decode cX15_many 4 = .ok (.arraylength, 1) := dk_190 (dk_at dksX15_many_0 4 rfl rfl)
theorem dX15_many_5 : decode cX15_many 5 = .ok (.ireturn, 1) := dk_172 (dk_at dksX15_many_0 5 rfl rfl)
abbrev cX15_lays : ByteArray := prog_5_method_5_code
def yX15_lays : MethodName := ⟨RX15, "lays", "(IJ)V"⟩
def dkwX15_lays_0 : List UInt8 := [42, 180, 0, 13, 27, 32, 136, 145, 84, 177]
abbrev dktX15_lays_0 : List UInt8 := dkwX15_lays_0 ++ []
theorem dksX15_lays_0 : cX15_lays.data.toList.drop 0 = dktX15_lays_0 := by decide +kernel
theorem dX15_lays_0 : decode cX15_lays 0 = .ok (.aload_n 0, 1) := dk_42 (dk_at dksX15_lays_0 0 rfl rfl)
theorem dX15_lays_1 : decode cX15_lays 1 = .ok (.getfield 13, 3) := dk_180 0 13 (dk_at dksX15_lays_0 1 rfl rfl)
theorem dX15_lays_4 : decode cX15_lays 4 = .ok (.iload_n 1, 1) := dk_27 (dk_at dksX15_lays_0 4 rfl rfl)
theorem dX15_lays_5 : decode cX15_lays 5 = .ok (.lload_n 2, 1) := dk_32 (dk_at dksX15_lays_0 5 rfl rfl)
theorem dX15_lays_6 : decode cX15_lays 6 = .ok (.l2i, 1) := dk_136 (dk_at dksX15_lays_0 6 rfl rfl)
theorem dX15_lays_7 : decode cX15_lays 7 = .ok (.i2b, 1) := dk_145 (dk_at dksX15_lays_0 7 rfl rfl)
theorem dX15_lays_8 : decode cX15_lays 8 = .ok (.bastore, 1) := dk_84 (dk_at dksX15_lays_0 8 rfl rfl)
theorem dX15_lays_9 : decode cX15_lays 9 = .ok (.return_, 1) := dk_177 (dk_at dksX15_lays_0 9 rfl rfl)
abbrev cX15_at : ByteArray := prog_5_method_4_code
def yX15_at : MethodName := ⟨RX15, "at", "(I)J"⟩
def dkwX15_at_0 : List UInt8 := [42, 180, 0, 13, 27, 51, 133, 173]
abbrev dktX15_at_0 : List UInt8 := dkwX15_at_0 ++ []
theorem dksX15_at_0 : cX15_at.data.toList.drop 0 = dktX15_at_0 := by decide +kernel
theorem dX15_at_0 : decode cX15_at 0 = .ok (.aload_n 0, 1) := dk_42 (dk_at dksX15_at_0 0 rfl rfl)
theorem dX15_at_1 : decode cX15_at 1 = .ok (.getfield 13, 3) := dk_180 0 13 (dk_at dksX15_at_0 1 rfl rfl)
theorem dX15_at_4 : decode cX15_at 4 = .ok (.iload_n 1, 1) := dk_27 (dk_at dksX15_at_0 4 rfl rfl)
theorem dX15_at_5 : decode cX15_at 5 = .ok (.baload, 1) := dk_51 (dk_at dksX15_at_0 5 rfl rfl)
theorem dX15_at_6 : decode cX15_at 6 = .ok (.i2l, 1) := dk_133 (dk_at dksX15_at_0 6 rfl rfl)
theorem dX15_at_7 : decode cX15_at 7 = .ok (.lreturn, 1) := dk_173 (dk_at dksX15_at_0 7 rfl rfl)
abbrev cX15_sort : ByteArray := prog_5_method_2_code
def yX15_sort : MethodName := ⟨RX15, "sort", "()I"⟩
theorem dX15_sort_0 : decode cX15_sort 0 = .ok (.iconst 2, 1) := by decide +kernel
theorem dX15_sort_1 : decode cX15_sort 1 = .ok (.ireturn, 1) := by decide +kernel
theorem q185 : (Jvm.Cond.initialized "BranchNames$4") ∈ lw_all := lw_g (lw_at lw_m1 34 rfl) rfl
theorem q1148 : (Jvm.Cond.selects "BranchNames$4" ({ cls := "java/lang/Object", name := "getClass", desc := "()Ljava/lang/Class;" } : Jvm.MethodName) ({ cls := "java/lang/Object", name := "getClass", desc := "()Ljava/lang/Class;" } : Jvm.MethodName)) ∈ lw_all := lw_g (lw_at lw_m5 37 rfl) rfl
theorem q1624 : (Jvm.Cond.instantiable "BranchNames$4" (2 : Nat)) ∈ lw_all := lw_g (lw_at lw_m7 33 rfl) rfl
theorem q1626 : (Jvm.Cond.instanceMethod ({ cls := "BranchNames$4", name := "<init>", desc := "(I)V" } : Jvm.MethodName)) ∈ lw_all := lw_g (lw_at lw_m7 35 rfl) rfl
theorem q1627 : (Jvm.Cond.code ({ cls := "BranchNames$4", name := "<init>", desc := "(I)V" } : Jvm.MethodName) prog_5_method_1_code (2 : Nat) (Option.none : Option Jvm.ClassFile.FieldType)) ∈ lw_all := lw_g (lw_at lw_m7 36 rfl) rfl
theorem q1628 : (Jvm.Cond.methodLink "BranchNames$4" (7 : Nat) ({ cls := "java/lang/Object", name := "<init>", desc := "()V" } : Jvm.MethodName)) ∈ lw_all := lw_g (lw_at lw_m7 37 rfl) rfl
theorem q1629 : (Jvm.Cond.fieldLink "BranchNames$4" (13 : Nat) "BranchNames$4" "items" "[B") ∈ lw_all := lw_g (lw_at lw_m7 38 rfl) rfl
theorem q1630 : (Jvm.Cond.fieldLink "BranchNames$4" (1 : Nat) "BranchNames$4" "val$n" "I") ∈ lw_all := lw_g (lw_at lw_m7 39 rfl) rfl
theorem q1631 : (Jvm.Cond.laysFinal "BranchNames$4" "BranchNames$4" "items" "[B") ∈ lw_all := lw_g (lw_at lw_m7 40 rfl) rfl
theorem q1632 : (Jvm.Cond.soleField "BranchNames$4" "items") ∈ lw_all := lw_g (lw_at lw_m7 41 rfl) rfl
theorem q1633 : (Jvm.Cond.laysFinal "BranchNames$4" "BranchNames$4" "val$n" "I") ∈ lw_all := lw_g (lw_at lw_m7 42 rfl) rfl
theorem q1634 : (Jvm.Cond.soleField "BranchNames$4" "val$n") ∈ lw_all := lw_g (lw_at lw_m7 43 rfl) rfl
theorem q1635 : (Jvm.Cond.superclass "BranchNames$4" "java/lang/Object") ∈ lw_all := lw_g (lw_at lw_m7 44 rfl) rfl
theorem q1656 : (Jvm.Cond.castable "BranchNames$4" "BranchNames$Items") ∈ lw_tbl := lw_at lw_m7 65 rfl
theorem q1657 : (Jvm.Cond.selects "BranchNames$4" ({ cls := "BranchNames$Items", name := "many", desc := "()I" } : Jvm.MethodName) ({ cls := "BranchNames$4", name := "many", desc := "()I" } : Jvm.MethodName)) ∈ lw_all := lw_g (lw_at lw_m7 66 rfl) rfl
theorem q1658 : (Jvm.Cond.unhidden "BranchNames$4" "many" "()I") ∈ lw_tbl := lw_at lw_m7 67 rfl
theorem q1659 : (Jvm.Cond.instanceMethod ({ cls := "BranchNames$4", name := "many", desc := "()I" } : Jvm.MethodName)) ∈ lw_all := lw_g (lw_at lw_m7 68 rfl) rfl
theorem q1660 : (Jvm.Cond.publicMethod ({ cls := "BranchNames$4", name := "many", desc := "()I" } : Jvm.MethodName)) ∈ lw_tbl := lw_at lw_m7 69 rfl
theorem q1661 : (Jvm.Cond.code ({ cls := "BranchNames$4", name := "many", desc := "()I" } : Jvm.MethodName) prog_5_method_3_code (1 : Nat) (Option.some Jvm.ClassFile.FieldType.int)) ∈ lw_all := lw_g (lw_at lw_m7 70 rfl) rfl
theorem q1676 : (Jvm.Cond.selects "BranchNames$4" ({ cls := "BranchNames$Items", name := "lays", desc := "(IJ)V" } : Jvm.MethodName) ({ cls := "BranchNames$4", name := "lays", desc := "(IJ)V" } : Jvm.MethodName)) ∈ lw_all := lw_g (lw_at lw_m7 85 rfl) rfl
theorem q1677 : (Jvm.Cond.unhidden "BranchNames$4" "lays" "(IJ)V") ∈ lw_tbl := lw_at lw_m7 86 rfl
theorem q1678 : (Jvm.Cond.instanceMethod ({ cls := "BranchNames$4", name := "lays", desc := "(IJ)V" } : Jvm.MethodName)) ∈ lw_all := lw_g (lw_at lw_m7 87 rfl) rfl
theorem q1679 : (Jvm.Cond.publicMethod ({ cls := "BranchNames$4", name := "lays", desc := "(IJ)V" } : Jvm.MethodName)) ∈ lw_tbl := lw_at lw_m7 88 rfl
theorem q1680 : (Jvm.Cond.code ({ cls := "BranchNames$4", name := "lays", desc := "(IJ)V" } : Jvm.MethodName) prog_5_method_5_code (4 : Nat) (Option.none : Option Jvm.ClassFile.FieldType)) ∈ lw_all := lw_g (lw_at lw_m7 89 rfl) rfl
theorem q1699 : (Jvm.Cond.selects "BranchNames$4" ({ cls := "BranchNames$Items", name := "at", desc := "(I)J" } : Jvm.MethodName) ({ cls := "BranchNames$4", name := "at", desc := "(I)J" } : Jvm.MethodName)) ∈ lw_all := lw_g (lw_at lw_m7 108 rfl) rfl
theorem q1700 : (Jvm.Cond.unhidden "BranchNames$4" "at" "(I)J") ∈ lw_tbl := lw_at lw_m7 109 rfl
theorem q1701 : (Jvm.Cond.instanceMethod ({ cls := "BranchNames$4", name := "at", desc := "(I)J" } : Jvm.MethodName)) ∈ lw_all := lw_g (lw_at lw_m7 110 rfl) rfl
theorem q1702 : (Jvm.Cond.publicMethod ({ cls := "BranchNames$4", name := "at", desc := "(I)J" } : Jvm.MethodName)) ∈ lw_tbl := lw_at lw_m7 111 rfl
theorem q1703 : (Jvm.Cond.code ({ cls := "BranchNames$4", name := "at", desc := "(I)J" } : Jvm.MethodName) prog_5_method_4_code (2 : Nat) (Option.some Jvm.ClassFile.FieldType.long)) ∈ lw_all := lw_g (lw_at lw_m7 112 rfl) rfl
theorem q1722 : (Jvm.Cond.selects "BranchNames$4" ({ cls := "BranchNames$Items", name := "sort", desc := "()I" } : Jvm.MethodName) ({ cls := "BranchNames$4", name := "sort", desc := "()I" } : Jvm.MethodName)) ∈ lw_all := lw_g (lw_at lw_m7 131 rfl) rfl
theorem q1723 : (Jvm.Cond.unhidden "BranchNames$4" "sort" "()I") ∈ lw_tbl := lw_at lw_m7 132 rfl
theorem q1724 : (Jvm.Cond.instanceMethod ({ cls := "BranchNames$4", name := "sort", desc := "()I" } : Jvm.MethodName)) ∈ lw_all := lw_g (lw_at lw_m7 133 rfl) rfl
theorem q1725 : (Jvm.Cond.publicMethod ({ cls := "BranchNames$4", name := "sort", desc := "()I" } : Jvm.MethodName)) ∈ lw_tbl := lw_at lw_m7 134 rfl
theorem q1726 : (Jvm.Cond.code ({ cls := "BranchNames$4", name := "sort", desc := "()I" } : Jvm.MethodName) prog_5_method_2_code (1 : Nat) (Option.some Jvm.ClassFile.FieldType.int)) ∈ lw_all := lw_g (lw_at lw_m7 135 rfl) rfl
theorem q2448 : (Jvm.Cond.castable "BranchNames$4" "java/lang/Object") ∈ lw_tbl := lw_at lw_m10 137 rfl
theorem in_X15 : ∀ w ∈ wsX150, w ∈ lw_all := lw_in wsX150 [1631, 1633] (by decide +kernel) (by decide +kernel)
/-! BranchNames$1 -/
set_option maxRecDepth 100000
def RX2 : String := "BranchNames$1"
def TX2 : u_T := fun k => match k with
  | 0 => ("BranchNames$1", "best", "LBranchNames$Way;", true)
  | _ => ("BranchNames$1", "val$rules", "[LBranchNames$Prefers;", true)
def tyX2 : Nat → FieldType := fun k => match k with
  | 0 => .object "BranchNames$Way"
  | _ => .array (.object "BranchNames$Prefers")
abbrev wsX20 : List Cond := u_ws RX2 TX2 2
theorem nmX2 : ∀ a, a < 2 → ∀ b, b < 2 → a ≠ b → (TX2 a).2.1 ≠ (TX2 b).2.1 := by decide +kernel
theorem tyX2_ok : ∀ k, k < 2 → parseFieldDescriptor (TX2 k).2.2.1 = some (tyX2 k) := by decide +kernel
abbrev cX2_init : ByteArray := prog_2_method_1_code
def yX2_init : MethodName := ⟨RX2, "<init>", "([LBranchNames$Prefers;)V"⟩
def dkwX2_init_0 : List UInt8 := [42, 43, 181, 0, 1, 42, 183, 0, 7, 42, 187, 0, 13, 89, 183, 0, 15, 181, 0, 16, 177]
abbrev dktX2_init_0 : List UInt8 := dkwX2_init_0 ++ []
theorem dksX2_init_0 : cX2_init.data.toList.drop 0 = dktX2_init_0 := by decide +kernel
theorem dX2_init_0 : decode cX2_init 0 = .ok (.aload_n 0, 1) := dk_42 (dk_at dksX2_init_0 0 rfl rfl)
theorem dX2_init_1 : decode cX2_init 1 = .ok (.aload_n 1, 1) := dk_43 (dk_at dksX2_init_0 1 rfl rfl)
theorem dX2_init_2 : decode cX2_init 2 = .ok (.putfield 1, 3) := dk_181 0 1 (dk_at dksX2_init_0 2 rfl rfl)
theorem dX2_init_5 : decode cX2_init 5 = .ok (.aload_n 0, 1) := dk_42 (dk_at dksX2_init_0 5 rfl rfl)
theorem dX2_init_6 : decode cX2_init 6 = .ok (.invokespecial 7, 3) := dk_183 0 7 (dk_at dksX2_init_0 6 rfl rfl)
theorem dX2_init_9 : decode cX2_init 9 = .ok (.aload_n 0, 1) := dk_42 (dk_at dksX2_init_0 9 rfl rfl)
theorem dX2_init_10 : decode cX2_init 10 = .ok (.new 13, 3) := dk_187 0 13 (dk_at dksX2_init_0 10 rfl rfl)
theorem dX2_init_13 : decode cX2_init 13 = .ok (.dup, 1) := dk_89 (dk_at dksX2_init_0 13 rfl rfl)
theorem dX2_init_14 : decode cX2_init 14 = .ok (.invokespecial 15, 3) := dk_183 0 15 (dk_at dksX2_init_0 14 rfl rfl)
theorem dX2_init_17 : decode cX2_init 17 = .ok (.putfield 16, 3) := dk_181 0 16 (dk_at dksX2_init_0 17 rfl rfl)
theorem dX2_init_20 : decode cX2_init 20 = .ok (.return_, 1) := dk_177 (dk_at dksX2_init_0 20 rfl rfl)
abbrev cX2_sees : ByteArray := prog_2_method_3_code
def yX2_sees : MethodName := ⟨RX2, "sees", "(LBranchNames$Way;)V"⟩
def dkwX2_sees_1 : List UInt8 := [180, 0, 16, 43, 182, 0, 38, 177]
abbrev dktX2_sees_1 : List UInt8 := dkwX2_sees_1 ++ []
def dkwX2_sees_0 : List UInt8 := [43, 1, 181, 0, 26, 42, 180, 0, 16, 180, 0, 30, 153, 0, 11, 42, 43, 182, 0, 34, 153, 0, 11, 42]
abbrev dktX2_sees_0 : List UInt8 := dkwX2_sees_0 ++ dktX2_sees_1
theorem dksX2_sees_0 : cX2_sees.data.toList.drop 0 = dktX2_sees_0 := by decide +kernel
theorem dksX2_sees_1 : cX2_sees.data.toList.drop 24 = dktX2_sees_1 := dk_seg dksX2_sees_0 24 rfl rfl
theorem dX2_sees_0 : decode cX2_sees 0 = .ok (.aload_n 1, 1) := dk_43 (dk_at dksX2_sees_0 0 rfl rfl)
theorem dX2_sees_1 : decode cX2_sees 1 = .ok (.aconst_null, 1) := dk_1 (dk_at dksX2_sees_0 1 rfl rfl)
theorem dX2_sees_2 : decode cX2_sees 2 = .ok (.putfield 26, 3) := dk_181 0 26 (dk_at dksX2_sees_0 2 rfl rfl)
theorem dX2_sees_5 : decode cX2_sees 5 = .ok (.aload_n 0, 1) := dk_42 (dk_at dksX2_sees_0 5 rfl rfl)
theorem dX2_sees_6 : decode cX2_sees 6 = .ok (.getfield 16, 3) := dk_180 0 16 (dk_at dksX2_sees_0 6 rfl rfl)
theorem dX2_sees_9 : decode cX2_sees 9 = .ok (.getfield 30, 3) := dk_180 0 30 (dk_at dksX2_sees_0 9 rfl rfl)
theorem dX2_sees_12 : decode cX2_sees 12 = .ok (.ifCond .eq 11, 3) := dk_153 0 11 (dk_at dksX2_sees_0 12 rfl rfl)
theorem dX2_sees_15 : decode cX2_sees 15 = .ok (.aload_n 0, 1) := dk_42 (dk_at dksX2_sees_0 15 rfl rfl)
theorem dX2_sees_16 : decode cX2_sees 16 = .ok (.aload_n 1, 1) := dk_43 (dk_at dksX2_sees_0 16 rfl rfl)
theorem dX2_sees_17 : decode cX2_sees 17 = .ok (.invokevirtual 34, 3) := dk_182 0 34 (dk_at dksX2_sees_0 17 rfl rfl)
theorem dX2_sees_20 : decode cX2_sees 20 = .ok (.ifCond .eq 11, 3) := dk_153 0 11 (dk_at dksX2_sees_0 20 rfl rfl)
theorem dX2_sees_23 : decode cX2_sees 23 = .ok (.aload_n 0, 1) := dk_42 (dk_at dksX2_sees_0 23 rfl rfl)
theorem dX2_sees_24 : decode cX2_sees 24 = .ok (.getfield 16, 3) := dk_180 0 16 (dk_at dksX2_sees_1 0 rfl rfl)
theorem dX2_sees_27 : decode cX2_sees 27 = .ok (.aload_n 1, 1) := dk_43 (dk_at dksX2_sees_1 3 rfl rfl)
theorem dX2_sees_28 : decode cX2_sees 28 = .ok (.invokevirtual 38, 3) := dk_182 0 38 (dk_at dksX2_sees_1 4 rfl rfl)
theorem dX2_sees_31 : decode cX2_sees 31 = .ok (.return_, 1) := dk_177 (dk_at dksX2_sees_1 7 rfl rfl)
abbrev cX2_isBetter : ByteArray := prog_2_method_2_code
def yX2_isBetter : MethodName := ⟨RX2, "isBetter", "(LBranchNames$Way;)Z"⟩
def dkwX2_isBetter_2 : List UInt8 := [167, 255, 213, 3, 172]
abbrev dktX2_isBetter_2 : List UInt8 := dkwX2_isBetter_2 ++ []
def dkwX2_isBetter_1 : List UInt8 := [185, 0, 20, 3, 0, 62, 29, 153, 0, 13, 29, 158, 0, 7, 4, 167, 0, 4, 3, 172, 132, 2, 1]
abbrev dktX2_isBetter_1 : List UInt8 := dkwX2_isBetter_1 ++ dktX2_isBetter_2
def dkwX2_isBetter_0 : List UInt8 := [3, 61, 28, 42, 180, 0, 1, 190, 162, 0, 40, 42, 180, 0, 1, 28, 50, 43, 42, 180, 0, 16]
abbrev dktX2_isBetter_0 : List UInt8 := dkwX2_isBetter_0 ++ dktX2_isBetter_1
theorem dksX2_isBetter_0 : cX2_isBetter.data.toList.drop 0 = dktX2_isBetter_0 := by decide +kernel
theorem dksX2_isBetter_1 : cX2_isBetter.data.toList.drop 22 = dktX2_isBetter_1 := dk_seg dksX2_isBetter_0 22 rfl rfl
theorem dksX2_isBetter_2 : cX2_isBetter.data.toList.drop 45 = dktX2_isBetter_2 := dk_seg dksX2_isBetter_1 23 rfl rfl
theorem dX2_isBetter_0 : decode cX2_isBetter 0 = .ok (.iconst 0, 1) := dk_3 (dk_at dksX2_isBetter_0 0 rfl rfl)
theorem dX2_isBetter_1 : decode cX2_isBetter 1 = .ok (.istore_n 2, 1) := dk_61 (dk_at dksX2_isBetter_0 1 rfl rfl)
theorem dX2_isBetter_2 : decode cX2_isBetter 2 = .ok (.iload_n 2, 1) := dk_28 (dk_at dksX2_isBetter_0 2 rfl rfl)
theorem dX2_isBetter_3 : decode cX2_isBetter 3 = .ok (.aload_n 0, 1) := dk_42 (dk_at dksX2_isBetter_0 3 rfl rfl)
theorem dX2_isBetter_4 : decode cX2_isBetter 4 = .ok (.getfield 1, 3) := dk_180 0 1 (dk_at dksX2_isBetter_0 4 rfl rfl)
theorem dX2_isBetter_7 : decode cX2_isBetter 7 = .ok (.arraylength, 1) := dk_190 (dk_at dksX2_isBetter_0 7 rfl rfl)
theorem dX2_isBetter_8 : decode cX2_isBetter 8 = .ok (.if_icmp .ge 40, 3) := dk_162 0 40 (dk_at dksX2_isBetter_0 8 rfl rfl)
theorem dX2_isBetter_11 : decode cX2_isBetter 11 = .ok (.aload_n 0, 1) := dk_42 (dk_at dksX2_isBetter_0 11 rfl rfl)
theorem dX2_isBetter_12 : decode cX2_isBetter 12 = .ok (.getfield 1, 3) := dk_180 0 1 (dk_at dksX2_isBetter_0 12 rfl rfl)
theorem dX2_isBetter_15 : decode cX2_isBetter 15 = .ok (.iload_n 2, 1) := dk_28 (dk_at dksX2_isBetter_0 15 rfl rfl)
theorem dX2_isBetter_16 : decode cX2_isBetter 16 = .ok (.aaload, 1) := dk_50 (dk_at dksX2_isBetter_0 16 rfl rfl)
theorem dX2_isBetter_17 : decode cX2_isBetter 17 = .ok (.aload_n 1, 1) := dk_43 (dk_at dksX2_isBetter_0 17 rfl rfl)
theorem dX2_isBetter_18 : decode cX2_isBetter 18 = .ok (.aload_n 0, 1) := dk_42 (dk_at dksX2_isBetter_0 18 rfl rfl)
theorem dX2_isBetter_19 : decode cX2_isBetter 19 = .ok (.getfield 16, 3) := dk_180 0 16 (dk_at dksX2_isBetter_0 19 rfl rfl)
theorem dX2_isBetter_22 : decode cX2_isBetter 22 = .ok (.invokeinterface 20 3, 5) := by decide +kernel
theorem dX2_isBetter_27 : decode cX2_isBetter 27 = .ok (.istore_n 3, 1) := dk_62 (dk_at dksX2_isBetter_1 5 rfl rfl)
theorem dX2_isBetter_28 : decode cX2_isBetter 28 = .ok (.iload_n 3, 1) := dk_29 (dk_at dksX2_isBetter_1 6 rfl rfl)
theorem dX2_isBetter_29 : decode cX2_isBetter 29 = .ok (.ifCond .eq 13, 3) := dk_153 0 13 (dk_at dksX2_isBetter_1 7 rfl rfl)
theorem dX2_isBetter_32 : decode cX2_isBetter 32 = .ok (.iload_n 3, 1) := dk_29 (dk_at dksX2_isBetter_1 10 rfl rfl)
theorem dX2_isBetter_33 : decode cX2_isBetter 33 = .ok (.ifCond .le 7, 3) := dk_158 0 7 (dk_at dksX2_isBetter_1 11 rfl rfl)
theorem dX2_isBetter_36 : decode cX2_isBetter 36 = .ok (.iconst 1, 1) := dk_4 (dk_at dksX2_isBetter_1 14 rfl rfl)
theorem dX2_isBetter_37 : decode cX2_isBetter 37 = .ok (.goto 4, 3) := dk_167 0 4 (dk_at dksX2_isBetter_1 15 rfl rfl)
theorem dX2_isBetter_40 : decode cX2_isBetter 40 = .ok (.iconst 0, 1) := dk_3 (dk_at dksX2_isBetter_1 18 rfl rfl)
theorem dX2_isBetter_41 : decode cX2_isBetter 41 = .ok (.ireturn, 1) := dk_172 (dk_at dksX2_isBetter_1 19 rfl rfl)
theorem dX2_isBetter_42 : decode cX2_isBetter 42 = .ok (.iinc 2 1, 3) := dk_132 2 1 (dk_at dksX2_isBetter_1 20 rfl rfl)
theorem dX2_isBetter_45 : decode cX2_isBetter 45 = .ok (.goto (-43), 3) := dk_167 255 213 (dk_at dksX2_isBetter_2 0 rfl rfl)
theorem dX2_isBetter_48 : decode cX2_isBetter 48 = .ok (.iconst 0, 1) := dk_3 (dk_at dksX2_isBetter_2 3 rfl rfl)
theorem dX2_isBetter_49 : decode cX2_isBetter 49 = .ok (.ireturn, 1) := dk_172 (dk_at dksX2_isBetter_2 4 rfl rfl)
abbrev cX2_chosen : ByteArray := prog_2_method_4_code
def yX2_chosen : MethodName := ⟨RX2, "chosen", "()LBranchNames$Way;"⟩
theorem dX2_chosen_0 : decode cX2_chosen 0 = .ok (.aload_n 0, 1) := by decide +kernel
theorem dX2_chosen_1 : decode cX2_chosen 1 = .ok (.getfield 16, 3) := by decide +kernel
theorem dX2_chosen_4 : decode cX2_chosen 4 = .ok (.areturn, 1) := by decide +kernel
theorem q164 : (Jvm.Cond.initialized "BranchNames$1") ∈ lw_all := lw_g (lw_at lw_m1 13 rfl) rfl
theorem q608 : (Jvm.Cond.instantiable "BranchNames$1" (2 : Nat)) ∈ lw_all := lw_g (lw_at lw_m2 217 rfl) rfl
theorem q610 : (Jvm.Cond.instanceMethod ({ cls := "BranchNames$1", name := "<init>", desc := "([LBranchNames$Prefers;)V" } : Jvm.MethodName)) ∈ lw_all := lw_g (lw_at lw_m2 219 rfl) rfl
theorem q611 : (Jvm.Cond.code ({ cls := "BranchNames$1", name := "<init>", desc := "([LBranchNames$Prefers;)V" } : Jvm.MethodName) prog_2_method_1_code (2 : Nat) (Option.none : Option Jvm.ClassFile.FieldType)) ∈ lw_all := lw_g (lw_at lw_m2 220 rfl) rfl
theorem q612 : (Jvm.Cond.methodLink "BranchNames$1" (7 : Nat) ({ cls := "java/lang/Object", name := "<init>", desc := "()V" } : Jvm.MethodName)) ∈ lw_all := lw_g (lw_at lw_m2 221 rfl) rfl
theorem q613 : (Jvm.Cond.classLink "BranchNames$1" (13 : Nat) "BranchNames$Way") ∈ lw_all := lw_g (lw_at lw_m2 222 rfl) rfl
theorem q615 : (Jvm.Cond.methodLinkNest "BranchNames$1" (15 : Nat) ({ cls := "BranchNames$Way", name := "<init>", desc := "()V" } : Jvm.MethodName) "BranchNames") ∈ lw_tbl := lw_at lw_m2 224 rfl
theorem q623 : (Jvm.Cond.fieldLinkNest "BranchNames$1" (30 : Nat) "BranchNames$Way" "many" "I" "BranchNames") ∈ lw_tbl := lw_at lw_m2 232 rfl
theorem q629 : (Jvm.Cond.fieldLinkNest "BranchNames$1" (26 : Nat) "BranchNames$Way" "name" "Ljava/lang/String;" "BranchNames") ∈ lw_tbl := lw_at lw_m2 238 rfl
theorem q641 : (Jvm.Cond.fieldLink "BranchNames$1" (16 : Nat) "BranchNames$1" "best" "LBranchNames$Way;") ∈ lw_all := lw_g (lw_at lw_m3 10 rfl) rfl
theorem q642 : (Jvm.Cond.fieldLink "BranchNames$1" (1 : Nat) "BranchNames$1" "val$rules" "[LBranchNames$Prefers;") ∈ lw_all := lw_g (lw_at lw_m3 11 rfl) rfl
theorem q643 : (Jvm.Cond.laysFinal "BranchNames$1" "BranchNames$1" "best" "LBranchNames$Way;") ∈ lw_all := lw_g (lw_at lw_m3 12 rfl) rfl
theorem q644 : (Jvm.Cond.soleField "BranchNames$1" "best") ∈ lw_all := lw_g (lw_at lw_m3 13 rfl) rfl
theorem q645 : (Jvm.Cond.laysFinal "BranchNames$1" "BranchNames$1" "val$rules" "[LBranchNames$Prefers;") ∈ lw_all := lw_g (lw_at lw_m3 14 rfl) rfl
theorem q646 : (Jvm.Cond.soleField "BranchNames$1" "val$rules") ∈ lw_all := lw_g (lw_at lw_m3 15 rfl) rfl
theorem q647 : (Jvm.Cond.superclass "BranchNames$1" "java/lang/Object") ∈ lw_all := lw_g (lw_at lw_m3 16 rfl) rfl
theorem q690 : (Jvm.Cond.castable "BranchNames$1" "BranchNames$Sees") ∈ lw_tbl := lw_at lw_m3 59 rfl
theorem q691 : (Jvm.Cond.selects "BranchNames$1" ({ cls := "BranchNames$Sees", name := "sees", desc := "(LBranchNames$Way;)V" } : Jvm.MethodName) ({ cls := "BranchNames$1", name := "sees", desc := "(LBranchNames$Way;)V" } : Jvm.MethodName)) ∈ lw_all := lw_g (lw_at lw_m3 60 rfl) rfl
theorem q692 : (Jvm.Cond.unhidden "BranchNames$1" "sees" "(LBranchNames$Way;)V") ∈ lw_tbl := lw_at lw_m3 61 rfl
theorem q693 : (Jvm.Cond.instanceMethod ({ cls := "BranchNames$1", name := "sees", desc := "(LBranchNames$Way;)V" } : Jvm.MethodName)) ∈ lw_all := lw_g (lw_at lw_m3 62 rfl) rfl
theorem q694 : (Jvm.Cond.publicMethod ({ cls := "BranchNames$1", name := "sees", desc := "(LBranchNames$Way;)V" } : Jvm.MethodName)) ∈ lw_tbl := lw_at lw_m3 63 rfl
theorem q695 : (Jvm.Cond.code ({ cls := "BranchNames$1", name := "sees", desc := "(LBranchNames$Way;)V" } : Jvm.MethodName) prog_2_method_3_code (2 : Nat) (Option.none : Option Jvm.ClassFile.FieldType)) ∈ lw_all := lw_g (lw_at lw_m3 64 rfl) rfl
theorem q696 : (Jvm.Cond.methodLink "BranchNames$1" (34 : Nat) ({ cls := "BranchNames$1", name := "isBetter", desc := "(LBranchNames$Way;)Z" } : Jvm.MethodName)) ∈ lw_all := lw_g (lw_at lw_m3 65 rfl) rfl
theorem q697 : (Jvm.Cond.privateMethod ({ cls := "BranchNames$1", name := "isBetter", desc := "(LBranchNames$Way;)Z" } : Jvm.MethodName)) ∈ lw_tbl := lw_at lw_m3 66 rfl
theorem q698 : (Jvm.Cond.instanceMethod ({ cls := "BranchNames$1", name := "isBetter", desc := "(LBranchNames$Way;)Z" } : Jvm.MethodName)) ∈ lw_all := lw_g (lw_at lw_m3 67 rfl) rfl
theorem q699 : (Jvm.Cond.code ({ cls := "BranchNames$1", name := "isBetter", desc := "(LBranchNames$Way;)Z" } : Jvm.MethodName) prog_2_method_2_code (4 : Nat) (Option.some Jvm.ClassFile.FieldType.boolean)) ∈ lw_all := lw_g (lw_at lw_m3 68 rfl) rfl
theorem q700 : (Jvm.Cond.interfaceEntry "BranchNames$1" (20 : Nat)) ∈ lw_tbl := lw_at lw_m3 69 rfl
theorem q701 : (Jvm.Cond.methodLink "BranchNames$1" (20 : Nat) ({ cls := "BranchNames$Prefers", name := "prefers", desc := "(LBranchNames$Way;LBranchNames$Way;)I" } : Jvm.MethodName)) ∈ lw_all := lw_g (lw_at lw_m3 70 rfl) rfl
theorem q704 : (Jvm.Cond.methodLink "BranchNames$1" (38 : Nat) ({ cls := "BranchNames$Way", name := "becomes", desc := "(LBranchNames$Way;)V" } : Jvm.MethodName)) ∈ lw_all := lw_g (lw_at lw_m3 73 rfl) rfl
theorem q713 : (Jvm.Cond.castable "BranchNames$1" "BranchNames$Chooses") ∈ lw_tbl := lw_at lw_m3 82 rfl
theorem q714 : (Jvm.Cond.selects "BranchNames$1" ({ cls := "BranchNames$Chooses", name := "chosen", desc := "()LBranchNames$Way;" } : Jvm.MethodName) ({ cls := "BranchNames$1", name := "chosen", desc := "()LBranchNames$Way;" } : Jvm.MethodName)) ∈ lw_all := lw_g (lw_at lw_m3 83 rfl) rfl
theorem q715 : (Jvm.Cond.unhidden "BranchNames$1" "chosen" "()LBranchNames$Way;") ∈ lw_tbl := lw_at lw_m3 84 rfl
theorem q716 : (Jvm.Cond.instanceMethod ({ cls := "BranchNames$1", name := "chosen", desc := "()LBranchNames$Way;" } : Jvm.MethodName)) ∈ lw_all := lw_g (lw_at lw_m3 85 rfl) rfl
theorem q717 : (Jvm.Cond.publicMethod ({ cls := "BranchNames$1", name := "chosen", desc := "()LBranchNames$Way;" } : Jvm.MethodName)) ∈ lw_tbl := lw_at lw_m3 86 rfl
theorem q718 : (Jvm.Cond.code ({ cls := "BranchNames$1", name := "chosen", desc := "()LBranchNames$Way;" } : Jvm.MethodName) prog_2_method_4_code (1 : Nat) (Option.some (Jvm.ClassFile.FieldType.object "BranchNames$Way"))) ∈ lw_all := lw_g (lw_at lw_m3 87 rfl) rfl
theorem q1145 : (Jvm.Cond.selects "BranchNames$1" ({ cls := "java/lang/Object", name := "getClass", desc := "()Ljava/lang/Class;" } : Jvm.MethodName) ({ cls := "java/lang/Object", name := "getClass", desc := "()Ljava/lang/Class;" } : Jvm.MethodName)) ∈ lw_all := lw_g (lw_at lw_m5 34 rfl) rfl
theorem q2435 : (Jvm.Cond.castable "BranchNames$1" "java/lang/Object") ∈ lw_tbl := lw_at lw_m10 124 rfl
theorem in_X2 : ∀ w ∈ wsX20, w ∈ lw_all := lw_in wsX20 [643, 645] (by decide +kernel) (by decide +kernel)
/-! BranchNames$Way -/
set_option maxRecDepth 100000
def RX3 : String := "BranchNames$Way"
def TX3 : u_T := fun k => match k with
  | 0 => ("BranchNames$Way", "atom", "[I", true)
  | 1 => ("BranchNames$Way", "many", "I", false)
  | 2 => ("BranchNames$Way", "branches", "I", false)
  | _ => ("BranchNames$Way", "name", "Ljava/lang/String;", false)
def tyX3 : Nat → FieldType := fun k => match k with
  | 0 => .array .int
  | 1 => .int
  | 2 => .int
  | _ => .object "java/lang/String"
abbrev wsX30 : List Cond := u_ws RX3 TX3 4
theorem nmX3 : ∀ a, a < 4 → ∀ b, b < 4 → a ≠ b → (TX3 a).2.1 ≠ (TX3 b).2.1 := by decide +kernel
theorem tyX3_ok : ∀ k, k < 4 → parseFieldDescriptor (TX3 k).2.2.1 = some (tyX3 k) := by decide +kernel
abbrev cX3_init : ByteArray := prog_19_method_1_code
def yX3_init : MethodName := ⟨RX3, "<init>", "()V"⟩
def dkwX3_init_0 : List UInt8 := [42, 183, 0, 3, 42, 16, 13, 188, 10, 181, 0, 9, 177]
abbrev dktX3_init_0 : List UInt8 := dkwX3_init_0 ++ []
theorem dksX3_init_0 : cX3_init.data.toList.drop 0 = dktX3_init_0 := by decide +kernel
theorem dX3_init_0 : decode cX3_init 0 = .ok (.aload_n 0, 1) := dk_42 (dk_at dksX3_init_0 0 rfl rfl)
theorem dX3_init_1 : decode cX3_init 1 = .ok (.invokespecial 3, 3) := dk_183 0 3 (dk_at dksX3_init_0 1 rfl rfl)
theorem dX3_init_4 : decode cX3_init 4 = .ok (.aload_n 0, 1) := dk_42 (dk_at dksX3_init_0 4 rfl rfl)
theorem dX3_init_5 : decode cX3_init 5 = .ok (.bipush 13, 2) := dk_16 13 (dk_at dksX3_init_0 5 rfl rfl)
theorem dX3_init_7 : decode cX3_init 7 = .ok (.newarray .int, 2) := dk_188_10 (dk_at dksX3_init_0 7 rfl rfl)
theorem dX3_init_9 : decode cX3_init 9 = .ok (.putfield 9, 3) := dk_181 0 9 (dk_at dksX3_init_0 9 rfl rfl)
theorem dX3_init_12 : decode cX3_init 12 = .ok (.return_, 1) := dk_177 (dk_at dksX3_init_0 12 rfl rfl)
abbrev cX3_isOn : ByteArray := prog_19_method_2_code
def yX3_isOn : MethodName := ⟨RX3, "isOn", "(I)Z"⟩
def dkwX3_isOn_1 : List UInt8 := [132, 2, 1, 167, 255, 233, 3, 172]
abbrev dktX3_isOn_1 : List UInt8 := dkwX3_isOn_1 ++ []
def dkwX3_isOn_0 : List UInt8 := [3, 61, 28, 42, 180, 0, 15, 162, 0, 21, 42, 180, 0, 9, 28, 46, 27, 160, 0, 5, 4, 172]
abbrev dktX3_isOn_0 : List UInt8 := dkwX3_isOn_0 ++ dktX3_isOn_1
theorem dksX3_isOn_0 : cX3_isOn.data.toList.drop 0 = dktX3_isOn_0 := by decide +kernel
theorem dksX3_isOn_1 : cX3_isOn.data.toList.drop 22 = dktX3_isOn_1 := dk_seg dksX3_isOn_0 22 rfl rfl
theorem dX3_isOn_0 : decode cX3_isOn 0 = .ok (.iconst 0, 1) := dk_3 (dk_at dksX3_isOn_0 0 rfl rfl)
theorem dX3_isOn_1 : decode cX3_isOn 1 = .ok (.istore_n 2, 1) := dk_61 (dk_at dksX3_isOn_0 1 rfl rfl)
theorem dX3_isOn_2 : decode cX3_isOn 2 = .ok (.iload_n 2, 1) := dk_28 (dk_at dksX3_isOn_0 2 rfl rfl)
theorem dX3_isOn_3 : decode cX3_isOn 3 = .ok (.aload_n 0, 1) := dk_42 (dk_at dksX3_isOn_0 3 rfl rfl)
theorem dX3_isOn_4 : decode cX3_isOn 4 = .ok (.getfield 15, 3) := dk_180 0 15 (dk_at dksX3_isOn_0 4 rfl rfl)
theorem dX3_isOn_7 : decode cX3_isOn 7 = .ok (.if_icmp .ge 21, 3) := dk_162 0 21 (dk_at dksX3_isOn_0 7 rfl rfl)
theorem dX3_isOn_10 : decode cX3_isOn 10 = .ok (.aload_n 0, 1) := dk_42 (dk_at dksX3_isOn_0 10 rfl rfl)
theorem dX3_isOn_11 : decode cX3_isOn 11 = .ok (.getfield 9, 3) := dk_180 0 9 (dk_at dksX3_isOn_0 11 rfl rfl)
theorem dX3_isOn_14 : decode cX3_isOn 14 = .ok (.iload_n 2, 1) := dk_28 (dk_at dksX3_isOn_0 14 rfl rfl)
theorem dX3_isOn_15 : decode cX3_isOn 15 = .ok (.iaload, 1) := dk_46 (dk_at dksX3_isOn_0 15 rfl rfl)
theorem dX3_isOn_16 : decode cX3_isOn 16 = .ok (.iload_n 1, 1) := dk_27 (dk_at dksX3_isOn_0 16 rfl rfl)
theorem dX3_isOn_17 : decode cX3_isOn 17 = .ok (.if_icmp .ne 5, 3) := dk_160 0 5 (dk_at dksX3_isOn_0 17 rfl rfl)
theorem dX3_isOn_20 : decode cX3_isOn 20 = .ok (.iconst 1, 1) := dk_4 (dk_at dksX3_isOn_0 20 rfl rfl)
theorem dX3_isOn_21 : decode cX3_isOn 21 = .ok (.ireturn, 1) := dk_172 (dk_at dksX3_isOn_0 21 rfl rfl)
theorem dX3_isOn_22 : decode cX3_isOn 22 = .ok (.iinc 2 1, 3) := dk_132 2 1 (dk_at dksX3_isOn_1 0 rfl rfl)
theorem dX3_isOn_25 : decode cX3_isOn 25 = .ok (.goto (-23), 3) := dk_167 255 233 (dk_at dksX3_isOn_1 3 rfl rfl)
theorem dX3_isOn_28 : decode cX3_isOn 28 = .ok (.iconst 0, 1) := dk_3 (dk_at dksX3_isOn_1 6 rfl rfl)
theorem dX3_isOn_29 : decode cX3_isOn 29 = .ok (.ireturn, 1) := dk_172 (dk_at dksX3_isOn_1 7 rfl rfl)
abbrev cX3_becomes : ByteArray := prog_19_method_3_code
def yX3_becomes : MethodName := ⟨RX3, "becomes", "(LBranchNames$Way;)V"⟩
def dkwX3_becomes_2 : List UInt8 := [132, 2, 1, 167, 255, 233, 177]
abbrev dktX3_becomes_2 : List UInt8 := dkwX3_becomes_2 ++ []
def dkwX3_becomes_1 : List UInt8 := [3, 61, 28, 42, 180, 0, 15, 162, 0, 21, 42, 180, 0, 9, 28, 43, 180, 0, 9, 28, 46, 79]
abbrev dktX3_becomes_1 : List UInt8 := dkwX3_becomes_1 ++ dktX3_becomes_2
def dkwX3_becomes_0 : List UInt8 := [42, 43, 180, 0, 15, 181, 0, 15, 42, 43, 180, 0, 19, 181, 0, 19, 42, 43, 180, 0, 22, 181, 0, 22]
abbrev dktX3_becomes_0 : List UInt8 := dkwX3_becomes_0 ++ dktX3_becomes_1
theorem dksX3_becomes_0 : cX3_becomes.data.toList.drop 0 = dktX3_becomes_0 := by decide +kernel
theorem dksX3_becomes_1 : cX3_becomes.data.toList.drop 24 = dktX3_becomes_1 := dk_seg dksX3_becomes_0 24 rfl rfl
theorem dksX3_becomes_2 : cX3_becomes.data.toList.drop 46 = dktX3_becomes_2 := dk_seg dksX3_becomes_1 22 rfl rfl
theorem dX3_becomes_0 : decode cX3_becomes 0 = .ok (.aload_n 0, 1) := dk_42 (dk_at dksX3_becomes_0 0 rfl rfl)
theorem dX3_becomes_1 : decode cX3_becomes 1 = .ok (.aload_n 1, 1) := dk_43 (dk_at dksX3_becomes_0 1 rfl rfl)
theorem dX3_becomes_2 : decode cX3_becomes 2 = .ok (.getfield 15, 3) := dk_180 0 15 (dk_at dksX3_becomes_0 2 rfl rfl)
theorem dX3_becomes_5 : decode cX3_becomes 5 = .ok (.putfield 15, 3) := dk_181 0 15 (dk_at dksX3_becomes_0 5 rfl rfl)
theorem dX3_becomes_8 : decode cX3_becomes 8 = .ok (.aload_n 0, 1) := dk_42 (dk_at dksX3_becomes_0 8 rfl rfl)
theorem dX3_becomes_9 : decode cX3_becomes 9 = .ok (.aload_n 1, 1) := dk_43 (dk_at dksX3_becomes_0 9 rfl rfl)
theorem dX3_becomes_10 : decode cX3_becomes 10 = .ok (.getfield 19, 3) := dk_180 0 19 (dk_at dksX3_becomes_0 10 rfl rfl)
theorem dX3_becomes_13 : decode cX3_becomes 13 = .ok (.putfield 19, 3) := dk_181 0 19 (dk_at dksX3_becomes_0 13 rfl rfl)
theorem dX3_becomes_16 : decode cX3_becomes 16 = .ok (.aload_n 0, 1) := dk_42 (dk_at dksX3_becomes_0 16 rfl rfl)
theorem dX3_becomes_17 : decode cX3_becomes 17 = .ok (.aload_n 1, 1) := dk_43 (dk_at dksX3_becomes_0 17 rfl rfl)
theorem dX3_becomes_18 : decode cX3_becomes 18 = .ok (.getfield 22, 3) := dk_180 0 22 (dk_at dksX3_becomes_0 18 rfl rfl)
theorem dX3_becomes_21 : decode cX3_becomes 21 = .ok (.putfield 22, 3) := dk_181 0 22 (dk_at dksX3_becomes_0 21 rfl rfl)
theorem dX3_becomes_24 : decode cX3_becomes 24 = .ok (.iconst 0, 1) := dk_3 (dk_at dksX3_becomes_1 0 rfl rfl)
theorem dX3_becomes_25 : decode cX3_becomes 25 = .ok (.istore_n 2, 1) := dk_61 (dk_at dksX3_becomes_1 1 rfl rfl)
theorem dX3_becomes_26 : decode cX3_becomes 26 = .ok (.iload_n 2, 1) := dk_28 (dk_at dksX3_becomes_1 2 rfl rfl)
theorem dX3_becomes_27 : decode cX3_becomes 27 = .ok (.aload_n 0, 1) := dk_42 (dk_at dksX3_becomes_1 3 rfl rfl)
theorem dX3_becomes_28 : decode cX3_becomes 28 = .ok (.getfield 15, 3) := dk_180 0 15 (dk_at dksX3_becomes_1 4 rfl rfl)
theorem dX3_becomes_31 : decode cX3_becomes 31 = .ok (.if_icmp .ge 21, 3) := dk_162 0 21 (dk_at dksX3_becomes_1 7 rfl rfl)
theorem dX3_becomes_34 : decode cX3_becomes 34 = .ok (.aload_n 0, 1) := dk_42 (dk_at dksX3_becomes_1 10 rfl rfl)
theorem dX3_becomes_35 : decode cX3_becomes 35 = .ok (.getfield 9, 3) := dk_180 0 9 (dk_at dksX3_becomes_1 11 rfl rfl)
theorem dX3_becomes_38 : decode cX3_becomes 38 = .ok (.iload_n 2, 1) := dk_28 (dk_at dksX3_becomes_1 14 rfl rfl)
theorem dX3_becomes_39 : decode cX3_becomes 39 = .ok (.aload_n 1, 1) := dk_43 (dk_at dksX3_becomes_1 15 rfl rfl)
theorem dX3_becomes_40 : decode cX3_becomes 40 = .ok (.getfield 9, 3) := dk_180 0 9 (dk_at dksX3_becomes_1 16 rfl rfl)
theorem dX3_becomes_43 : decode cX3_becomes 43 = .ok (.iload_n 2, 1) := dk_28 (dk_at dksX3_becomes_1 19 rfl rfl)
theorem dX3_becomes_44 : decode cX3_becomes 44 = .ok (.iaload, 1) := dk_46 (dk_at dksX3_becomes_1 20 rfl rfl)
theorem dX3_becomes_45 : decode cX3_becomes 45 = .ok (.iastore, 1) := dk_79 (dk_at dksX3_becomes_1 21 rfl rfl)
theorem dX3_becomes_46 : decode cX3_becomes 46 = .ok (.iinc 2 1, 3) := dk_132 2 1 (dk_at dksX3_becomes_2 0 rfl rfl)
theorem dX3_becomes_49 : decode cX3_becomes 49 = .ok (.goto (-23), 3) := dk_167 255 233 (dk_at dksX3_becomes_2 3 rfl rfl)
theorem dX3_becomes_52 : decode cX3_becomes 52 = .ok (.return_, 1) := dk_177 (dk_at dksX3_becomes_2 6 rfl rfl)
theorem q165 : (Jvm.Cond.initialized "BranchNames$Way") ∈ lw_all := lw_g (lw_at lw_m1 14 rfl) rfl
theorem q614 : (Jvm.Cond.instantiable "BranchNames$Way" (4 : Nat)) ∈ lw_all := lw_g (lw_at lw_m2 223 rfl) rfl
theorem q616 : (Jvm.Cond.instanceMethod ({ cls := "BranchNames$Way", name := "<init>", desc := "()V" } : Jvm.MethodName)) ∈ lw_all := lw_g (lw_at lw_m2 225 rfl) rfl
theorem q617 : (Jvm.Cond.code ({ cls := "BranchNames$Way", name := "<init>", desc := "()V" } : Jvm.MethodName) prog_19_method_1_code (1 : Nat) (Option.none : Option Jvm.ClassFile.FieldType)) ∈ lw_all := lw_g (lw_at lw_m2 226 rfl) rfl
theorem q618 : (Jvm.Cond.methodLink "BranchNames$Way" (3 : Nat) ({ cls := "java/lang/Object", name := "<init>", desc := "()V" } : Jvm.MethodName)) ∈ lw_all := lw_g (lw_at lw_m2 227 rfl) rfl
theorem q619 : (Jvm.Cond.fieldLink "BranchNames$Way" (9 : Nat) "BranchNames$Way" "atom" "[I") ∈ lw_all := lw_g (lw_at lw_m2 228 rfl) rfl
theorem q622 : (Jvm.Cond.fieldLink "BranchNames$Way" (15 : Nat) "BranchNames$Way" "many" "I") ∈ lw_all := lw_g (lw_at lw_m2 231 rfl) rfl
theorem q626 : (Jvm.Cond.fieldLink "BranchNames$Way" (19 : Nat) "BranchNames$Way" "branches" "I") ∈ lw_all := lw_g (lw_at lw_m2 235 rfl) rfl
theorem q630 : (Jvm.Cond.fieldLink "BranchNames$Way" (22 : Nat) "BranchNames$Way" "name" "Ljava/lang/String;") ∈ lw_all := lw_g (lw_at lw_m2 239 rfl) rfl
theorem q632 : (Jvm.Cond.laysFinal "BranchNames$Way" "BranchNames$Way" "atom" "[I") ∈ lw_all := lw_g (lw_at lw_m3 1 rfl) rfl
theorem q633 : (Jvm.Cond.soleField "BranchNames$Way" "atom") ∈ lw_all := lw_g (lw_at lw_m3 2 rfl) rfl
theorem q634 : (Jvm.Cond.lays "BranchNames$Way" "BranchNames$Way" "many" "I") ∈ lw_all := lw_g (lw_at lw_m3 3 rfl) rfl
theorem q635 : (Jvm.Cond.soleField "BranchNames$Way" "many") ∈ lw_all := lw_g (lw_at lw_m3 4 rfl) rfl
theorem q636 : (Jvm.Cond.lays "BranchNames$Way" "BranchNames$Way" "branches" "I") ∈ lw_all := lw_g (lw_at lw_m3 5 rfl) rfl
theorem q637 : (Jvm.Cond.soleField "BranchNames$Way" "branches") ∈ lw_all := lw_g (lw_at lw_m3 6 rfl) rfl
theorem q638 : (Jvm.Cond.lays "BranchNames$Way" "BranchNames$Way" "name" "Ljava/lang/String;") ∈ lw_all := lw_g (lw_at lw_m3 7 rfl) rfl
theorem q639 : (Jvm.Cond.soleField "BranchNames$Way" "name") ∈ lw_all := lw_g (lw_at lw_m3 8 rfl) rfl
theorem q640 : (Jvm.Cond.superclass "BranchNames$Way" "java/lang/Object") ∈ lw_all := lw_g (lw_at lw_m3 9 rfl) rfl
theorem q683 : (Jvm.Cond.instanceMethod ({ cls := "BranchNames$Way", name := "isOn", desc := "(I)Z" } : Jvm.MethodName)) ∈ lw_all := lw_g (lw_at lw_m3 52 rfl) rfl
theorem q684 : (Jvm.Cond.selects "BranchNames$Way" ({ cls := "BranchNames$Way", name := "isOn", desc := "(I)Z" } : Jvm.MethodName) ({ cls := "BranchNames$Way", name := "isOn", desc := "(I)Z" } : Jvm.MethodName)) ∈ lw_all := lw_g (lw_at lw_m3 53 rfl) rfl
theorem q685 : (Jvm.Cond.code ({ cls := "BranchNames$Way", name := "isOn", desc := "(I)Z" } : Jvm.MethodName) prog_19_method_2_code (3 : Nat) (Option.some Jvm.ClassFile.FieldType.boolean)) ∈ lw_all := lw_g (lw_at lw_m3 54 rfl) rfl
theorem q705 : (Jvm.Cond.instanceMethod ({ cls := "BranchNames$Way", name := "becomes", desc := "(LBranchNames$Way;)V" } : Jvm.MethodName)) ∈ lw_all := lw_g (lw_at lw_m3 74 rfl) rfl
theorem q706 : (Jvm.Cond.selects "BranchNames$Way" ({ cls := "BranchNames$Way", name := "becomes", desc := "(LBranchNames$Way;)V" } : Jvm.MethodName) ({ cls := "BranchNames$Way", name := "becomes", desc := "(LBranchNames$Way;)V" } : Jvm.MethodName)) ∈ lw_all := lw_g (lw_at lw_m3 75 rfl) rfl
theorem q707 : (Jvm.Cond.code ({ cls := "BranchNames$Way", name := "becomes", desc := "(LBranchNames$Way;)V" } : Jvm.MethodName) prog_19_method_3_code (3 : Nat) (Option.none : Option Jvm.ClassFile.FieldType)) ∈ lw_all := lw_g (lw_at lw_m3 76 rfl) rfl
theorem q1157 : (Jvm.Cond.selects "BranchNames$Way" ({ cls := "java/lang/Object", name := "getClass", desc := "()Ljava/lang/Class;" } : Jvm.MethodName) ({ cls := "java/lang/Object", name := "getClass", desc := "()Ljava/lang/Class;" } : Jvm.MethodName)) ∈ lw_all := lw_g (lw_at lw_m5 46 rfl) rfl
theorem q2436 : (Jvm.Cond.castable "BranchNames$Way" "java/lang/Object") ∈ lw_tbl := lw_at lw_m10 125 rfl
theorem in_X3 : ∀ w ∈ wsX30, w ∈ lw_all := lw_in wsX30 [632, 634, 636, 638] (by decide +kernel) (by decide +kernel)
/-! BranchNames$Seeker -/
set_option maxRecDepth 100000
def RX4 : String := "BranchNames$Seeker"
def TX4 : u_T := fun k => match k with
  | 0 => ("BranchNames$Seeker", "tree", "LBranchNames$Tree;", true)
  | 1 => ("BranchNames$Seeker", "from", "I", true)
  | _ => ("BranchNames$Seeker", "way", "LBranchNames$Way;", true)
def tyX4 : Nat → FieldType := fun k => match k with
  | 0 => .object "BranchNames$Tree"
  | 1 => .int
  | _ => .object "BranchNames$Way"
abbrev wsX40 : List Cond := u_ws RX4 TX4 3
theorem nmX4 : ∀ a, a < 3 → ∀ b, b < 3 → a ≠ b → (TX4 a).2.1 ≠ (TX4 b).2.1 := by decide +kernel
theorem tyX4_ok : ∀ k, k < 3 → parseFieldDescriptor (TX4 k).2.2.1 = some (tyX4 k) := by decide +kernel
abbrev cX4_init : ByteArray := prog_14_method_1_code
def yX4_init : MethodName := ⟨RX4, "<init>", "(LBranchNames$Tree;I)V"⟩
def dkwX4_init_1 : List UInt8 := [181, 0, 20, 177]
abbrev dktX4_init_1 : List UInt8 := dkwX4_init_1 ++ []
def dkwX4_init_0 : List UInt8 := [42, 183, 0, 1, 42, 187, 0, 7, 89, 183, 0, 9, 181, 0, 10, 42, 43, 181, 0, 16, 42, 28]
abbrev dktX4_init_0 : List UInt8 := dkwX4_init_0 ++ dktX4_init_1
theorem dksX4_init_0 : cX4_init.data.toList.drop 0 = dktX4_init_0 := by decide +kernel
theorem dksX4_init_1 : cX4_init.data.toList.drop 22 = dktX4_init_1 := dk_seg dksX4_init_0 22 rfl rfl
theorem dX4_init_0 : decode cX4_init 0 = .ok (.aload_n 0, 1) := dk_42 (dk_at dksX4_init_0 0 rfl rfl)
theorem dX4_init_1 : decode cX4_init 1 = .ok (.invokespecial 1, 3) := dk_183 0 1 (dk_at dksX4_init_0 1 rfl rfl)
theorem dX4_init_4 : decode cX4_init 4 = .ok (.aload_n 0, 1) := dk_42 (dk_at dksX4_init_0 4 rfl rfl)
theorem dX4_init_5 : decode cX4_init 5 = .ok (.new 7, 3) := dk_187 0 7 (dk_at dksX4_init_0 5 rfl rfl)
theorem dX4_init_8 : decode cX4_init 8 = .ok (.dup, 1) := dk_89 (dk_at dksX4_init_0 8 rfl rfl)
theorem dX4_init_9 : decode cX4_init 9 = .ok (.invokespecial 9, 3) := dk_183 0 9 (dk_at dksX4_init_0 9 rfl rfl)
theorem dX4_init_12 : decode cX4_init 12 = .ok (.putfield 10, 3) := dk_181 0 10 (dk_at dksX4_init_0 12 rfl rfl)
theorem dX4_init_15 : decode cX4_init 15 = .ok (.aload_n 0, 1) := dk_42 (dk_at dksX4_init_0 15 rfl rfl)
theorem dX4_init_16 : decode cX4_init 16 = .ok (.aload_n 1, 1) := dk_43 (dk_at dksX4_init_0 16 rfl rfl)
theorem dX4_init_17 : decode cX4_init 17 = .ok (.putfield 16, 3) := dk_181 0 16 (dk_at dksX4_init_0 17 rfl rfl)
theorem dX4_init_20 : decode cX4_init 20 = .ok (.aload_n 0, 1) := dk_42 (dk_at dksX4_init_0 20 rfl rfl)
theorem dX4_init_21 : decode cX4_init 21 = .ok (.iload_n 2, 1) := dk_28 (dk_at dksX4_init_0 21 rfl rfl)
theorem dX4_init_22 : decode cX4_init 22 = .ok (.putfield 20, 3) := dk_181 0 20 (dk_at dksX4_init_1 0 rfl rfl)
theorem dX4_init_25 : decode cX4_init 25 = .ok (.return_, 1) := dk_177 (dk_at dksX4_init_1 3 rfl rfl)
abbrev cX4_seeks : ByteArray := prog_14_method_4_code
def yX4_seeks : MethodName := ⟨RX4, "seeks", "(IILBranchNames$Sees;)V"⟩
def dkwX4_seeks_6 : List UInt8 := [182, 0, 61, 132, 4, 1, 167, 255, 205, 42, 180, 0, 10, 89, 180, 0, 45, 4, 100, 181, 0, 45, 177]
abbrev dktX4_seeks_6 : List UInt8 := dkwX4_seeks_6 ++ []
def dkwX4_seeks_5 : List UInt8 := [27, 50, 21, 4, 46, 28, 159, 0, 21, 42, 42, 180, 0, 16, 180, 0, 30, 27, 50, 21, 4, 46, 27, 45]
abbrev dktX4_seeks_5 : List UInt8 := dkwX4_seeks_5 ++ dktX4_seeks_6
def dkwX4_seeks_4 : List UInt8 := [3, 54, 4, 21, 4, 42, 180, 0, 16, 180, 0, 24, 27, 46, 162, 0, 43, 42, 180, 0, 16, 180, 0, 30]
abbrev dktX4_seeks_4 : List UInt8 := dkwX4_seeks_4 ++ dktX4_seeks_5
def dkwX4_seeks_3 : List UInt8 := [46, 182, 0, 51, 96, 181, 0, 48, 132, 4, 1, 167, 255, 215, 45, 42, 180, 0, 10, 185, 0, 55, 2, 0]
abbrev dktX4_seeks_3 : List UInt8 := dkwX4_seeks_3 ++ dktX4_seeks_4
def dkwX4_seeks_2 : List UInt8 := [180, 0, 45, 162, 0, 35, 42, 180, 0, 10, 89, 180, 0, 48, 42, 42, 180, 0, 10, 180, 0, 42, 21, 4]
abbrev dktX4_seeks_2 : List UInt8 := dkwX4_seeks_2 ++ dktX4_seeks_3
def dkwX4_seeks_1 : List UInt8 := [4, 96, 181, 0, 45, 42, 180, 0, 10, 3, 181, 0, 48, 3, 54, 4, 21, 4, 42, 180, 0, 10]
abbrev dktX4_seeks_1 : List UInt8 := dkwX4_seeks_1 ++ dktX4_seeks_2
def dkwX4_seeks_0 : List UInt8 := [42, 180, 0, 10, 180, 0, 42, 42, 180, 0, 10, 180, 0, 45, 27, 79, 42, 180, 0, 10, 89, 180, 0, 45]
abbrev dktX4_seeks_0 : List UInt8 := dkwX4_seeks_0 ++ dktX4_seeks_1
theorem dksX4_seeks_0 : cX4_seeks.data.toList.drop 0 = dktX4_seeks_0 := by decide +kernel
theorem dksX4_seeks_1 : cX4_seeks.data.toList.drop 24 = dktX4_seeks_1 := dk_seg dksX4_seeks_0 24 rfl rfl
theorem dksX4_seeks_2 : cX4_seeks.data.toList.drop 46 = dktX4_seeks_2 := dk_seg dksX4_seeks_1 22 rfl rfl
theorem dksX4_seeks_3 : cX4_seeks.data.toList.drop 70 = dktX4_seeks_3 := dk_seg dksX4_seeks_2 24 rfl rfl
theorem dksX4_seeks_4 : cX4_seeks.data.toList.drop 94 = dktX4_seeks_4 := dk_seg dksX4_seeks_3 24 rfl rfl
theorem dksX4_seeks_5 : cX4_seeks.data.toList.drop 118 = dktX4_seeks_5 := dk_seg dksX4_seeks_4 24 rfl rfl
theorem dksX4_seeks_6 : cX4_seeks.data.toList.drop 142 = dktX4_seeks_6 := dk_seg dksX4_seeks_5 24 rfl rfl
theorem dX4_seeks_0 : decode cX4_seeks 0 = .ok (.aload_n 0, 1) := dk_42 (dk_at dksX4_seeks_0 0 rfl rfl)
theorem dX4_seeks_1 : decode cX4_seeks 1 = .ok (.getfield 10, 3) := dk_180 0 10 (dk_at dksX4_seeks_0 1 rfl rfl)
theorem dX4_seeks_4 : decode cX4_seeks 4 = .ok (.getfield 42, 3) := dk_180 0 42 (dk_at dksX4_seeks_0 4 rfl rfl)
theorem dX4_seeks_7 : decode cX4_seeks 7 = .ok (.aload_n 0, 1) := dk_42 (dk_at dksX4_seeks_0 7 rfl rfl)
theorem dX4_seeks_8 : decode cX4_seeks 8 = .ok (.getfield 10, 3) := dk_180 0 10 (dk_at dksX4_seeks_0 8 rfl rfl)
theorem dX4_seeks_11 : decode cX4_seeks 11 = .ok (.getfield 45, 3) := dk_180 0 45 (dk_at dksX4_seeks_0 11 rfl rfl)
theorem dX4_seeks_14 : decode cX4_seeks 14 = .ok (.iload_n 1, 1) := dk_27 (dk_at dksX4_seeks_0 14 rfl rfl)
theorem dX4_seeks_15 : decode cX4_seeks 15 = .ok (.iastore, 1) := dk_79 (dk_at dksX4_seeks_0 15 rfl rfl)
theorem dX4_seeks_16 : decode cX4_seeks 16 = .ok (.aload_n 0, 1) := dk_42 (dk_at dksX4_seeks_0 16 rfl rfl)
theorem dX4_seeks_17 : decode cX4_seeks 17 = .ok (.getfield 10, 3) := dk_180 0 10 (dk_at dksX4_seeks_0 17 rfl rfl)
theorem dX4_seeks_20 : decode cX4_seeks 20 = .ok (.dup, 1) := dk_89 (dk_at dksX4_seeks_0 20 rfl rfl)
theorem dX4_seeks_21 : decode cX4_seeks 21 = .ok (.getfield 45, 3) := dk_180 0 45 (dk_at dksX4_seeks_0 21 rfl rfl)
theorem dX4_seeks_24 : decode cX4_seeks 24 = .ok (.iconst 1, 1) := dk_4 (dk_at dksX4_seeks_1 0 rfl rfl)
theorem dX4_seeks_25 : decode cX4_seeks 25 = .ok (.iadd, 1) := dk_96 (dk_at dksX4_seeks_1 1 rfl rfl)
theorem dX4_seeks_26 : decode cX4_seeks 26 = .ok (.putfield 45, 3) := dk_181 0 45 (dk_at dksX4_seeks_1 2 rfl rfl)
theorem dX4_seeks_29 : decode cX4_seeks 29 = .ok (.aload_n 0, 1) := dk_42 (dk_at dksX4_seeks_1 5 rfl rfl)
theorem dX4_seeks_30 : decode cX4_seeks 30 = .ok (.getfield 10, 3) := dk_180 0 10 (dk_at dksX4_seeks_1 6 rfl rfl)
theorem dX4_seeks_33 : decode cX4_seeks 33 = .ok (.iconst 0, 1) := dk_3 (dk_at dksX4_seeks_1 9 rfl rfl)
theorem dX4_seeks_34 : decode cX4_seeks 34 = .ok (.putfield 48, 3) := dk_181 0 48 (dk_at dksX4_seeks_1 10 rfl rfl)
theorem dX4_seeks_37 : decode cX4_seeks 37 = .ok (.iconst 0, 1) := dk_3 (dk_at dksX4_seeks_1 13 rfl rfl)
theorem dX4_seeks_38 : decode cX4_seeks 38 = .ok (.istore 4, 2) := dk_54 4 (dk_at dksX4_seeks_1 14 rfl rfl)
theorem dX4_seeks_40 : decode cX4_seeks 40 = .ok (.iload 4, 2) := dk_21 4 (dk_at dksX4_seeks_1 16 rfl rfl)
theorem dX4_seeks_42 : decode cX4_seeks 42 = .ok (.aload_n 0, 1) := dk_42 (dk_at dksX4_seeks_1 18 rfl rfl)
theorem dX4_seeks_43 : decode cX4_seeks 43 = .ok (.getfield 10, 3) := dk_180 0 10 (dk_at dksX4_seeks_1 19 rfl rfl)
theorem dX4_seeks_46 : decode cX4_seeks 46 = .ok (.getfield 45, 3) := dk_180 0 45 (dk_at dksX4_seeks_2 0 rfl rfl)
theorem dX4_seeks_49 : decode cX4_seeks 49 = .ok (.if_icmp .ge 35, 3) := dk_162 0 35 (dk_at dksX4_seeks_2 3 rfl rfl)
theorem dX4_seeks_52 : decode cX4_seeks 52 = .ok (.aload_n 0, 1) := dk_42 (dk_at dksX4_seeks_2 6 rfl rfl)
theorem dX4_seeks_53 : decode cX4_seeks 53 = .ok (.getfield 10, 3) := dk_180 0 10 (dk_at dksX4_seeks_2 7 rfl rfl)
theorem dX4_seeks_56 : decode cX4_seeks 56 = .ok (.dup, 1) := dk_89 (dk_at dksX4_seeks_2 10 rfl rfl)
theorem dX4_seeks_57 : decode cX4_seeks 57 = .ok (.getfield 48, 3) := dk_180 0 48 (dk_at dksX4_seeks_2 11 rfl rfl)
theorem dX4_seeks_60 : decode cX4_seeks 60 = .ok (.aload_n 0, 1) := dk_42 (dk_at dksX4_seeks_2 14 rfl rfl)
theorem dX4_seeks_61 : decode cX4_seeks 61 = .ok (.aload_n 0, 1) := dk_42 (dk_at dksX4_seeks_2 15 rfl rfl)
theorem dX4_seeks_62 : decode cX4_seeks 62 = .ok (.getfield 10, 3) := dk_180 0 10 (dk_at dksX4_seeks_2 16 rfl rfl)
theorem dX4_seeks_65 : decode cX4_seeks 65 = .ok (.getfield 42, 3) := dk_180 0 42 (dk_at dksX4_seeks_2 19 rfl rfl)
theorem dX4_seeks_68 : decode cX4_seeks 68 = .ok (.iload 4, 2) := dk_21 4 (dk_at dksX4_seeks_2 22 rfl rfl)
theorem dX4_seeks_70 : decode cX4_seeks 70 = .ok (.iaload, 1) := dk_46 (dk_at dksX4_seeks_3 0 rfl rfl)
theorem dX4_seeks_71 : decode cX4_seeks 71 = .ok (.invokevirtual 51, 3) := dk_182 0 51 (dk_at dksX4_seeks_3 1 rfl rfl)
theorem dX4_seeks_74 : decode cX4_seeks 74 = .ok (.iadd, 1) := dk_96 (dk_at dksX4_seeks_3 4 rfl rfl)
theorem dX4_seeks_75 : decode cX4_seeks 75 = .ok (.putfield 48, 3) := dk_181 0 48 (dk_at dksX4_seeks_3 5 rfl rfl)
theorem dX4_seeks_78 : decode cX4_seeks 78 = .ok (.iinc 4 1, 3) := dk_132 4 1 (dk_at dksX4_seeks_3 8 rfl rfl)
theorem dX4_seeks_81 : decode cX4_seeks 81 = .ok (.goto (-41), 3) := dk_167 255 215 (dk_at dksX4_seeks_3 11 rfl rfl)
theorem dX4_seeks_84 : decode cX4_seeks 84 = .ok (.aload_n 3, 1) := dk_45 (dk_at dksX4_seeks_3 14 rfl rfl)
theorem dX4_seeks_85 : decode cX4_seeks 85 = .ok (.aload_n 0, 1) := dk_42 (dk_at dksX4_seeks_3 15 rfl rfl)
theorem dX4_seeks_86 : decode cX4_seeks 86 = .ok (.getfield 10, 3) := dk_180 0 10 (dk_at dksX4_seeks_3 16 rfl rfl)
theorem dX4_seeks_89 : decode cX4_seeks 89 = .ok (.invokeinterface 55 2, 5) := by decide +kernel
theorem dX4_seeks_94 : decode cX4_seeks 94 = .ok (.iconst 0, 1) := dk_3 (dk_at dksX4_seeks_4 0 rfl rfl)
theorem dX4_seeks_95 : decode cX4_seeks 95 = .ok (.istore 4, 2) := dk_54 4 (dk_at dksX4_seeks_4 1 rfl rfl)
theorem dX4_seeks_97 : decode cX4_seeks 97 = .ok (.iload 4, 2) := dk_21 4 (dk_at dksX4_seeks_4 3 rfl rfl)
theorem dX4_seeks_99 : decode cX4_seeks 99 = .ok (.aload_n 0, 1) := dk_42 (dk_at dksX4_seeks_4 5 rfl rfl)
theorem dX4_seeks_100 : decode cX4_seeks 100 = .ok (.getfield 16, 3) := dk_180 0 16 (dk_at dksX4_seeks_4 6 rfl rfl)
theorem dX4_seeks_103 : decode cX4_seeks 103 = .ok (.getfield 24, 3) := dk_180 0 24 (dk_at dksX4_seeks_4 9 rfl rfl)
theorem dX4_seeks_106 : decode cX4_seeks 106 = .ok (.iload_n 1, 1) := dk_27 (dk_at dksX4_seeks_4 12 rfl rfl)
theorem dX4_seeks_107 : decode cX4_seeks 107 = .ok (.iaload, 1) := dk_46 (dk_at dksX4_seeks_4 13 rfl rfl)
theorem dX4_seeks_108 : decode cX4_seeks 108 = .ok (.if_icmp .ge 43, 3) := dk_162 0 43 (dk_at dksX4_seeks_4 14 rfl rfl)
theorem dX4_seeks_111 : decode cX4_seeks 111 = .ok (.aload_n 0, 1) := dk_42 (dk_at dksX4_seeks_4 17 rfl rfl)
theorem dX4_seeks_112 : decode cX4_seeks 112 = .ok (.getfield 16, 3) := dk_180 0 16 (dk_at dksX4_seeks_4 18 rfl rfl)
theorem dX4_seeks_115 : decode cX4_seeks 115 = .ok (.getfield 30, 3) := dk_180 0 30 (dk_at dksX4_seeks_4 21 rfl rfl)
theorem dX4_seeks_118 : decode cX4_seeks 118 = .ok (.iload_n 1, 1) := dk_27 (dk_at dksX4_seeks_5 0 rfl rfl)
theorem dX4_seeks_119 : decode cX4_seeks 119 = .ok (.aaload, 1) := dk_50 (dk_at dksX4_seeks_5 1 rfl rfl)
theorem dX4_seeks_120 : decode cX4_seeks 120 = .ok (.iload 4, 2) := dk_21 4 (dk_at dksX4_seeks_5 2 rfl rfl)
theorem dX4_seeks_122 : decode cX4_seeks 122 = .ok (.iaload, 1) := dk_46 (dk_at dksX4_seeks_5 4 rfl rfl)
theorem dX4_seeks_123 : decode cX4_seeks 123 = .ok (.iload_n 2, 1) := dk_28 (dk_at dksX4_seeks_5 5 rfl rfl)
theorem dX4_seeks_124 : decode cX4_seeks 124 = .ok (.if_icmp .eq 21, 3) := dk_159 0 21 (dk_at dksX4_seeks_5 6 rfl rfl)
theorem dX4_seeks_127 : decode cX4_seeks 127 = .ok (.aload_n 0, 1) := dk_42 (dk_at dksX4_seeks_5 9 rfl rfl)
theorem dX4_seeks_128 : decode cX4_seeks 128 = .ok (.aload_n 0, 1) := dk_42 (dk_at dksX4_seeks_5 10 rfl rfl)
theorem dX4_seeks_129 : decode cX4_seeks 129 = .ok (.getfield 16, 3) := dk_180 0 16 (dk_at dksX4_seeks_5 11 rfl rfl)
theorem dX4_seeks_132 : decode cX4_seeks 132 = .ok (.getfield 30, 3) := dk_180 0 30 (dk_at dksX4_seeks_5 14 rfl rfl)
theorem dX4_seeks_135 : decode cX4_seeks 135 = .ok (.iload_n 1, 1) := dk_27 (dk_at dksX4_seeks_5 17 rfl rfl)
theorem dX4_seeks_136 : decode cX4_seeks 136 = .ok (.aaload, 1) := dk_50 (dk_at dksX4_seeks_5 18 rfl rfl)
theorem dX4_seeks_137 : decode cX4_seeks 137 = .ok (.iload 4, 2) := dk_21 4 (dk_at dksX4_seeks_5 19 rfl rfl)
theorem dX4_seeks_139 : decode cX4_seeks 139 = .ok (.iaload, 1) := dk_46 (dk_at dksX4_seeks_5 21 rfl rfl)
theorem dX4_seeks_140 : decode cX4_seeks 140 = .ok (.iload_n 1, 1) := dk_27 (dk_at dksX4_seeks_5 22 rfl rfl)
theorem dX4_seeks_141 : decode cX4_seeks 141 = .ok (.aload_n 3, 1) := dk_45 (dk_at dksX4_seeks_5 23 rfl rfl)
theorem dX4_seeks_142 : decode cX4_seeks 142 = .ok (.invokevirtual 61, 3) := dk_182 0 61 (dk_at dksX4_seeks_6 0 rfl rfl)
theorem dX4_seeks_145 : decode cX4_seeks 145 = .ok (.iinc 4 1, 3) := dk_132 4 1 (dk_at dksX4_seeks_6 3 rfl rfl)
theorem dX4_seeks_148 : decode cX4_seeks 148 = .ok (.goto (-51), 3) := dk_167 255 205 (dk_at dksX4_seeks_6 6 rfl rfl)
theorem dX4_seeks_151 : decode cX4_seeks 151 = .ok (.aload_n 0, 1) := dk_42 (dk_at dksX4_seeks_6 9 rfl rfl)
theorem dX4_seeks_152 : decode cX4_seeks 152 = .ok (.getfield 10, 3) := dk_180 0 10 (dk_at dksX4_seeks_6 10 rfl rfl)
theorem dX4_seeks_155 : decode cX4_seeks 155 = .ok (.dup, 1) := dk_89 (dk_at dksX4_seeks_6 13 rfl rfl)
theorem dX4_seeks_156 : decode cX4_seeks 156 = .ok (.getfield 45, 3) := dk_180 0 45 (dk_at dksX4_seeks_6 14 rfl rfl)
theorem dX4_seeks_159 : decode cX4_seeks 159 = .ok (.iconst 1, 1) := dk_4 (dk_at dksX4_seeks_6 17 rfl rfl)
theorem dX4_seeks_160 : decode cX4_seeks 160 = .ok (.isub, 1) := dk_100 (dk_at dksX4_seeks_6 18 rfl rfl)
theorem dX4_seeks_161 : decode cX4_seeks 161 = .ok (.putfield 45, 3) := dk_181 0 45 (dk_at dksX4_seeks_6 19 rfl rfl)
theorem dX4_seeks_164 : decode cX4_seeks 164 = .ok (.return_, 1) := dk_177 (dk_at dksX4_seeks_6 22 rfl rfl)
abbrev cX4_hanging : ByteArray := prog_14_method_2_code
def yX4_hanging : MethodName := ⟨RX4, "hanging", "(I)I"⟩
def dkwX4_hanging_2 : List UInt8 := [167, 255, 213, 28, 172]
abbrev dktX4_hanging_2 : List UInt8 := dkwX4_hanging_2 ++ []
def dkwX4_hanging_1 : List UInt8 := [180, 0, 30, 27, 50, 29, 46, 182, 0, 34, 153, 0, 7, 4, 167, 0, 4, 3, 96, 61, 132, 3, 1]
abbrev dktX4_hanging_1 : List UInt8 := dkwX4_hanging_1 ++ dktX4_hanging_2
def dkwX4_hanging_0 : List UInt8 := [3, 61, 3, 62, 29, 42, 180, 0, 16, 180, 0, 24, 27, 46, 162, 0, 36, 28, 42, 27, 42, 180, 0, 16]
abbrev dktX4_hanging_0 : List UInt8 := dkwX4_hanging_0 ++ dktX4_hanging_1
theorem dksX4_hanging_0 : cX4_hanging.data.toList.drop 0 = dktX4_hanging_0 := by decide +kernel
theorem dksX4_hanging_1 : cX4_hanging.data.toList.drop 24 = dktX4_hanging_1 := dk_seg dksX4_hanging_0 24 rfl rfl
theorem dksX4_hanging_2 : cX4_hanging.data.toList.drop 47 = dktX4_hanging_2 := dk_seg dksX4_hanging_1 23 rfl rfl
theorem dX4_hanging_0 : decode cX4_hanging 0 = .ok (.iconst 0, 1) := dk_3 (dk_at dksX4_hanging_0 0 rfl rfl)
theorem dX4_hanging_1 : decode cX4_hanging 1 = .ok (.istore_n 2, 1) := dk_61 (dk_at dksX4_hanging_0 1 rfl rfl)
theorem dX4_hanging_2 : decode cX4_hanging 2 = .ok (.iconst 0, 1) := dk_3 (dk_at dksX4_hanging_0 2 rfl rfl)
theorem dX4_hanging_3 : decode cX4_hanging 3 = .ok (.istore_n 3, 1) := dk_62 (dk_at dksX4_hanging_0 3 rfl rfl)
theorem dX4_hanging_4 : decode cX4_hanging 4 = .ok (.iload_n 3, 1) := dk_29 (dk_at dksX4_hanging_0 4 rfl rfl)
theorem dX4_hanging_5 : decode cX4_hanging 5 = .ok (.aload_n 0, 1) := dk_42 (dk_at dksX4_hanging_0 5 rfl rfl)
theorem dX4_hanging_6 : decode cX4_hanging 6 = .ok (.getfield 16, 3) := dk_180 0 16 (dk_at dksX4_hanging_0 6 rfl rfl)
theorem dX4_hanging_9 : decode cX4_hanging 9 = .ok (.getfield 24, 3) := dk_180 0 24 (dk_at dksX4_hanging_0 9 rfl rfl)
theorem dX4_hanging_12 : decode cX4_hanging 12 = .ok (.iload_n 1, 1) := dk_27 (dk_at dksX4_hanging_0 12 rfl rfl)
theorem dX4_hanging_13 : decode cX4_hanging 13 = .ok (.iaload, 1) := dk_46 (dk_at dksX4_hanging_0 13 rfl rfl)
theorem dX4_hanging_14 : decode cX4_hanging 14 = .ok (.if_icmp .ge 36, 3) := dk_162 0 36 (dk_at dksX4_hanging_0 14 rfl rfl)
theorem dX4_hanging_17 : decode cX4_hanging 17 = .ok (.iload_n 2, 1) := dk_28 (dk_at dksX4_hanging_0 17 rfl rfl)
theorem dX4_hanging_18 : decode cX4_hanging 18 = .ok (.aload_n 0, 1) := dk_42 (dk_at dksX4_hanging_0 18 rfl rfl)
theorem dX4_hanging_19 : decode cX4_hanging 19 = .ok (.iload_n 1, 1) := dk_27 (dk_at dksX4_hanging_0 19 rfl rfl)
theorem dX4_hanging_20 : decode cX4_hanging 20 = .ok (.aload_n 0, 1) := dk_42 (dk_at dksX4_hanging_0 20 rfl rfl)
theorem dX4_hanging_21 : decode cX4_hanging 21 = .ok (.getfield 16, 3) := dk_180 0 16 (dk_at dksX4_hanging_0 21 rfl rfl)
theorem dX4_hanging_24 : decode cX4_hanging 24 = .ok (.getfield 30, 3) := dk_180 0 30 (dk_at dksX4_hanging_1 0 rfl rfl)
theorem dX4_hanging_27 : decode cX4_hanging 27 = .ok (.iload_n 1, 1) := dk_27 (dk_at dksX4_hanging_1 3 rfl rfl)
theorem dX4_hanging_28 : decode cX4_hanging 28 = .ok (.aaload, 1) := dk_50 (dk_at dksX4_hanging_1 4 rfl rfl)
theorem dX4_hanging_29 : decode cX4_hanging 29 = .ok (.iload_n 3, 1) := dk_29 (dk_at dksX4_hanging_1 5 rfl rfl)
theorem dX4_hanging_30 : decode cX4_hanging 30 = .ok (.iaload, 1) := dk_46 (dk_at dksX4_hanging_1 6 rfl rfl)
theorem dX4_hanging_31 : decode cX4_hanging 31 = .ok (.invokevirtual 34, 3) := dk_182 0 34 (dk_at dksX4_hanging_1 7 rfl rfl)
theorem dX4_hanging_34 : decode cX4_hanging 34 = .ok (.ifCond .eq 7, 3) := dk_153 0 7 (dk_at dksX4_hanging_1 10 rfl rfl)
theorem dX4_hanging_37 : decode cX4_hanging 37 = .ok (.iconst 1, 1) := dk_4 (dk_at dksX4_hanging_1 13 rfl rfl)
theorem dX4_hanging_38 : decode cX4_hanging 38 = .ok (.goto 4, 3) := dk_167 0 4 (dk_at dksX4_hanging_1 14 rfl rfl)
theorem dX4_hanging_41 : decode cX4_hanging 41 = .ok (.iconst 0, 1) := dk_3 (dk_at dksX4_hanging_1 17 rfl rfl)
theorem dX4_hanging_42 : decode cX4_hanging 42 = .ok (.iadd, 1) := dk_96 (dk_at dksX4_hanging_1 18 rfl rfl)
theorem dX4_hanging_43 : decode cX4_hanging 43 = .ok (.istore_n 2, 1) := dk_61 (dk_at dksX4_hanging_1 19 rfl rfl)
theorem dX4_hanging_44 : decode cX4_hanging 44 = .ok (.iinc 3 1, 3) := dk_132 3 1 (dk_at dksX4_hanging_1 20 rfl rfl)
theorem dX4_hanging_47 : decode cX4_hanging 47 = .ok (.goto (-43), 3) := dk_167 255 213 (dk_at dksX4_hanging_2 0 rfl rfl)
theorem dX4_hanging_50 : decode cX4_hanging 50 = .ok (.iload_n 2, 1) := dk_28 (dk_at dksX4_hanging_2 3 rfl rfl)
theorem dX4_hanging_51 : decode cX4_hanging 51 = .ok (.ireturn, 1) := dk_172 (dk_at dksX4_hanging_2 4 rfl rfl)
abbrev cX4_isBranch : ByteArray := prog_14_method_3_code
def yX4_isBranch : MethodName := ⟨RX4, "isBranch", "(II)Z"⟩
def dkwX4_isBranch_1 : List UInt8 := [172]
abbrev dktX4_isBranch_1 : List UInt8 := dkwX4_isBranch_1 ++ []
def dkwX4_isBranch_0 : List UInt8 := [28, 42, 180, 0, 20, 159, 0, 18, 42, 180, 0, 10, 28, 182, 0, 38, 154, 0, 7, 4, 167, 0, 4, 3]
abbrev dktX4_isBranch_0 : List UInt8 := dkwX4_isBranch_0 ++ dktX4_isBranch_1
theorem dksX4_isBranch_0 : cX4_isBranch.data.toList.drop 0 = dktX4_isBranch_0 := by decide +kernel
theorem dksX4_isBranch_1 : cX4_isBranch.data.toList.drop 24 = dktX4_isBranch_1 := dk_seg dksX4_isBranch_0 24 rfl rfl
theorem dX4_isBranch_0 : decode cX4_isBranch 0 = .ok (.iload_n 2, 1) := dk_28 (dk_at dksX4_isBranch_0 0 rfl rfl)
theorem dX4_isBranch_1 : decode cX4_isBranch 1 = .ok (.aload_n 0, 1) := dk_42 (dk_at dksX4_isBranch_0 1 rfl rfl)
theorem dX4_isBranch_2 : decode cX4_isBranch 2 = .ok (.getfield 20, 3) := dk_180 0 20 (dk_at dksX4_isBranch_0 2 rfl rfl)
theorem dX4_isBranch_5 : decode cX4_isBranch 5 = .ok (.if_icmp .eq 18, 3) := dk_159 0 18 (dk_at dksX4_isBranch_0 5 rfl rfl)
theorem dX4_isBranch_8 : decode cX4_isBranch 8 = .ok (.aload_n 0, 1) := dk_42 (dk_at dksX4_isBranch_0 8 rfl rfl)
theorem dX4_isBranch_9 : decode cX4_isBranch 9 = .ok (.getfield 10, 3) := dk_180 0 10 (dk_at dksX4_isBranch_0 9 rfl rfl)
theorem dX4_isBranch_12 : decode cX4_isBranch 12 = .ok (.iload_n 2, 1) := dk_28 (dk_at dksX4_isBranch_0 12 rfl rfl)
theorem dX4_isBranch_13 : decode cX4_isBranch 13 = .ok (.invokevirtual 38, 3) := dk_182 0 38 (dk_at dksX4_isBranch_0 13 rfl rfl)
theorem dX4_isBranch_16 : decode cX4_isBranch 16 = .ok (.ifCond .ne 7, 3) := dk_154 0 7 (dk_at dksX4_isBranch_0 16 rfl rfl)
theorem dX4_isBranch_19 : decode cX4_isBranch 19 = .ok (.iconst 1, 1) := dk_4 (dk_at dksX4_isBranch_0 19 rfl rfl)
theorem dX4_isBranch_20 : decode cX4_isBranch 20 = .ok (.goto 4, 3) := dk_167 0 4 (dk_at dksX4_isBranch_0 20 rfl rfl)
theorem dX4_isBranch_23 : decode cX4_isBranch 23 = .ok (.iconst 0, 1) := dk_3 (dk_at dksX4_isBranch_0 23 rfl rfl)
theorem dX4_isBranch_24 : decode cX4_isBranch 24 = .ok (.ireturn, 1) := dk_172 (dk_at dksX4_isBranch_1 0 rfl rfl)
theorem q166 : (Jvm.Cond.initialized "BranchNames$Seeker") ∈ lw_all := lw_g (lw_at lw_m1 15 rfl) rfl
theorem q215 : (Jvm.Cond.fieldLinkNest "BranchNames$Seeker" (30 : Nat) "BranchNames$Tree" "next" "[[I" "BranchNames") ∈ lw_tbl := lw_at lw_m1 64 rfl
theorem q221 : (Jvm.Cond.fieldLinkNest "BranchNames$Seeker" (24 : Nat) "BranchNames$Tree" "bonds" "[I" "BranchNames") ∈ lw_tbl := lw_at lw_m1 70 rfl
theorem q620 : (Jvm.Cond.fieldLinkNest "BranchNames$Seeker" (42 : Nat) "BranchNames$Way" "atom" "[I" "BranchNames") ∈ lw_tbl := lw_at lw_m2 229 rfl
theorem q624 : (Jvm.Cond.fieldLinkNest "BranchNames$Seeker" (45 : Nat) "BranchNames$Way" "many" "I" "BranchNames") ∈ lw_tbl := lw_at lw_m2 233 rfl
theorem q627 : (Jvm.Cond.fieldLinkNest "BranchNames$Seeker" (48 : Nat) "BranchNames$Way" "branches" "I" "BranchNames") ∈ lw_tbl := lw_at lw_m2 236 rfl
theorem q653 : (Jvm.Cond.instantiable "BranchNames$Seeker" (3 : Nat)) ∈ lw_all := lw_g (lw_at lw_m3 22 rfl) rfl
theorem q655 : (Jvm.Cond.instanceMethod ({ cls := "BranchNames$Seeker", name := "<init>", desc := "(LBranchNames$Tree;I)V" } : Jvm.MethodName)) ∈ lw_all := lw_g (lw_at lw_m3 24 rfl) rfl
theorem q656 : (Jvm.Cond.code ({ cls := "BranchNames$Seeker", name := "<init>", desc := "(LBranchNames$Tree;I)V" } : Jvm.MethodName) prog_14_method_1_code (3 : Nat) (Option.none : Option Jvm.ClassFile.FieldType)) ∈ lw_all := lw_g (lw_at lw_m3 25 rfl) rfl
theorem q657 : (Jvm.Cond.methodLink "BranchNames$Seeker" (1 : Nat) ({ cls := "java/lang/Object", name := "<init>", desc := "()V" } : Jvm.MethodName)) ∈ lw_all := lw_g (lw_at lw_m3 26 rfl) rfl
theorem q658 : (Jvm.Cond.classLink "BranchNames$Seeker" (7 : Nat) "BranchNames$Way") ∈ lw_all := lw_g (lw_at lw_m3 27 rfl) rfl
theorem q659 : (Jvm.Cond.methodLinkNest "BranchNames$Seeker" (9 : Nat) ({ cls := "BranchNames$Way", name := "<init>", desc := "()V" } : Jvm.MethodName) "BranchNames") ∈ lw_tbl := lw_at lw_m3 28 rfl
theorem q660 : (Jvm.Cond.fieldLink "BranchNames$Seeker" (16 : Nat) "BranchNames$Seeker" "tree" "LBranchNames$Tree;") ∈ lw_all := lw_g (lw_at lw_m3 29 rfl) rfl
theorem q661 : (Jvm.Cond.fieldLink "BranchNames$Seeker" (20 : Nat) "BranchNames$Seeker" "from" "I") ∈ lw_all := lw_g (lw_at lw_m3 30 rfl) rfl
theorem q662 : (Jvm.Cond.fieldLink "BranchNames$Seeker" (10 : Nat) "BranchNames$Seeker" "way" "LBranchNames$Way;") ∈ lw_all := lw_g (lw_at lw_m3 31 rfl) rfl
theorem q663 : (Jvm.Cond.laysFinal "BranchNames$Seeker" "BranchNames$Seeker" "tree" "LBranchNames$Tree;") ∈ lw_all := lw_g (lw_at lw_m3 32 rfl) rfl
theorem q664 : (Jvm.Cond.soleField "BranchNames$Seeker" "tree") ∈ lw_all := lw_g (lw_at lw_m3 33 rfl) rfl
theorem q665 : (Jvm.Cond.laysFinal "BranchNames$Seeker" "BranchNames$Seeker" "from" "I") ∈ lw_all := lw_g (lw_at lw_m3 34 rfl) rfl
theorem q666 : (Jvm.Cond.soleField "BranchNames$Seeker" "from") ∈ lw_all := lw_g (lw_at lw_m3 35 rfl) rfl
theorem q667 : (Jvm.Cond.laysFinal "BranchNames$Seeker" "BranchNames$Seeker" "way" "LBranchNames$Way;") ∈ lw_all := lw_g (lw_at lw_m3 36 rfl) rfl
theorem q668 : (Jvm.Cond.soleField "BranchNames$Seeker" "way") ∈ lw_all := lw_g (lw_at lw_m3 37 rfl) rfl
theorem q669 : (Jvm.Cond.superclass "BranchNames$Seeker" "java/lang/Object") ∈ lw_all := lw_g (lw_at lw_m3 38 rfl) rfl
theorem q671 : (Jvm.Cond.instanceMethod ({ cls := "BranchNames$Seeker", name := "seeks", desc := "(IILBranchNames$Sees;)V" } : Jvm.MethodName)) ∈ lw_all := lw_g (lw_at lw_m3 40 rfl) rfl
theorem q672 : (Jvm.Cond.selects "BranchNames$Seeker" ({ cls := "BranchNames$Seeker", name := "seeks", desc := "(IILBranchNames$Sees;)V" } : Jvm.MethodName) ({ cls := "BranchNames$Seeker", name := "seeks", desc := "(IILBranchNames$Sees;)V" } : Jvm.MethodName)) ∈ lw_all := lw_g (lw_at lw_m3 41 rfl) rfl
theorem q673 : (Jvm.Cond.code ({ cls := "BranchNames$Seeker", name := "seeks", desc := "(IILBranchNames$Sees;)V" } : Jvm.MethodName) prog_14_method_4_code (5 : Nat) (Option.none : Option Jvm.ClassFile.FieldType)) ∈ lw_all := lw_g (lw_at lw_m3 42 rfl) rfl
theorem q674 : (Jvm.Cond.methodLink "BranchNames$Seeker" (51 : Nat) ({ cls := "BranchNames$Seeker", name := "hanging", desc := "(I)I" } : Jvm.MethodName)) ∈ lw_all := lw_g (lw_at lw_m3 43 rfl) rfl
theorem q675 : (Jvm.Cond.privateMethod ({ cls := "BranchNames$Seeker", name := "hanging", desc := "(I)I" } : Jvm.MethodName)) ∈ lw_tbl := lw_at lw_m3 44 rfl
theorem q676 : (Jvm.Cond.instanceMethod ({ cls := "BranchNames$Seeker", name := "hanging", desc := "(I)I" } : Jvm.MethodName)) ∈ lw_all := lw_g (lw_at lw_m3 45 rfl) rfl
theorem q677 : (Jvm.Cond.code ({ cls := "BranchNames$Seeker", name := "hanging", desc := "(I)I" } : Jvm.MethodName) prog_14_method_2_code (4 : Nat) (Option.some Jvm.ClassFile.FieldType.int)) ∈ lw_all := lw_g (lw_at lw_m3 46 rfl) rfl
theorem q678 : (Jvm.Cond.methodLink "BranchNames$Seeker" (34 : Nat) ({ cls := "BranchNames$Seeker", name := "isBranch", desc := "(II)Z" } : Jvm.MethodName)) ∈ lw_all := lw_g (lw_at lw_m3 47 rfl) rfl
theorem q679 : (Jvm.Cond.instanceMethod ({ cls := "BranchNames$Seeker", name := "isBranch", desc := "(II)Z" } : Jvm.MethodName)) ∈ lw_all := lw_g (lw_at lw_m3 48 rfl) rfl
theorem q680 : (Jvm.Cond.selects "BranchNames$Seeker" ({ cls := "BranchNames$Seeker", name := "isBranch", desc := "(II)Z" } : Jvm.MethodName) ({ cls := "BranchNames$Seeker", name := "isBranch", desc := "(II)Z" } : Jvm.MethodName)) ∈ lw_all := lw_g (lw_at lw_m3 49 rfl) rfl
theorem q681 : (Jvm.Cond.code ({ cls := "BranchNames$Seeker", name := "isBranch", desc := "(II)Z" } : Jvm.MethodName) prog_14_method_3_code (3 : Nat) (Option.some Jvm.ClassFile.FieldType.boolean)) ∈ lw_all := lw_g (lw_at lw_m3 50 rfl) rfl
theorem q682 : (Jvm.Cond.methodLink "BranchNames$Seeker" (38 : Nat) ({ cls := "BranchNames$Way", name := "isOn", desc := "(I)Z" } : Jvm.MethodName)) ∈ lw_all := lw_g (lw_at lw_m3 51 rfl) rfl
theorem q686 : (Jvm.Cond.interfaceEntry "BranchNames$Seeker" (55 : Nat)) ∈ lw_tbl := lw_at lw_m3 55 rfl
theorem q687 : (Jvm.Cond.methodLink "BranchNames$Seeker" (55 : Nat) ({ cls := "BranchNames$Sees", name := "sees", desc := "(LBranchNames$Way;)V" } : Jvm.MethodName)) ∈ lw_all := lw_g (lw_at lw_m3 56 rfl) rfl
theorem q708 : (Jvm.Cond.methodLink "BranchNames$Seeker" (61 : Nat) ({ cls := "BranchNames$Seeker", name := "seeks", desc := "(IILBranchNames$Sees;)V" } : Jvm.MethodName)) ∈ lw_all := lw_g (lw_at lw_m3 77 rfl) rfl
theorem q1153 : (Jvm.Cond.selects "BranchNames$Seeker" ({ cls := "java/lang/Object", name := "getClass", desc := "()Ljava/lang/Class;" } : Jvm.MethodName) ({ cls := "java/lang/Object", name := "getClass", desc := "()Ljava/lang/Class;" } : Jvm.MethodName)) ∈ lw_all := lw_g (lw_at lw_m5 42 rfl) rfl
theorem q2437 : (Jvm.Cond.castable "BranchNames$Seeker" "java/lang/Object") ∈ lw_tbl := lw_at lw_m10 126 rfl
theorem in_X4 : ∀ w ∈ wsX40, w ∈ lw_all := lw_in wsX40 [663, 665, 667] (by decide +kernel) (by decide +kernel)
/-! BranchNames$Named -/
set_option maxRecDepth 100000
def RX6 : String := "BranchNames$Named"
def TX6 : u_T := fun k => match k with
  | 0 => ("BranchNames$Named", "name", "Ljava/lang/String;", true)
  | 1 => ("BranchNames$Named", "letters", "Ljava/lang/String;", true)
  | 2 => ("BranchNames$Named", "numbers", "[I", true)
  | _ => ("BranchNames$Named", "many", "I", false)
def tyX6 : Nat → FieldType := fun k => match k with
  | 0 => .object "java/lang/String"
  | 1 => .object "java/lang/String"
  | 2 => .array .int
  | _ => .int
abbrev wsX60 : List Cond := u_ws RX6 TX6 4
theorem nmX6 : ∀ a, a < 4 → ∀ b, b < 4 → a ≠ b → (TX6 a).2.1 ≠ (TX6 b).2.1 := by decide +kernel
theorem tyX6_ok : ∀ k, k < 4 → parseFieldDescriptor (TX6 k).2.2.1 = some (tyX6 k) := by decide +kernel
abbrev cX6_init : ByteArray := prog_10_method_1_code
def yX6_init : MethodName := ⟨RX6, "<init>", "(Ljava/lang/String;)V"⟩
def dkwX6_init_1 : List UInt8 := [181, 0, 23, 177]
abbrev dktX6_init_1 : List UInt8 := dkwX6_init_1 ++ []
def dkwX6_init_0 : List UInt8 := [42, 183, 0, 3, 42, 16, 12, 188, 10, 181, 0, 9, 42, 43, 181, 0, 15, 42, 43, 184, 0, 19]
abbrev dktX6_init_0 : List UInt8 := dkwX6_init_0 ++ dktX6_init_1
theorem dksX6_init_0 : cX6_init.data.toList.drop 0 = dktX6_init_0 := by decide +kernel
theorem dksX6_init_1 : cX6_init.data.toList.drop 22 = dktX6_init_1 := dk_seg dksX6_init_0 22 rfl rfl
theorem dX6_init_0 : decode cX6_init 0 = .ok (.aload_n 0, 1) := dk_42 (dk_at dksX6_init_0 0 rfl rfl)
theorem dX6_init_1 : decode cX6_init 1 = .ok (.invokespecial 3, 3) := dk_183 0 3 (dk_at dksX6_init_0 1 rfl rfl)
theorem dX6_init_4 : decode cX6_init 4 = .ok (.aload_n 0, 1) := dk_42 (dk_at dksX6_init_0 4 rfl rfl)
theorem dX6_init_5 : decode cX6_init 5 = .ok (.bipush 12, 2) := dk_16 12 (dk_at dksX6_init_0 5 rfl rfl)
theorem dX6_init_7 : decode cX6_init 7 = .ok (.newarray .int, 2) := dk_188_10 (dk_at dksX6_init_0 7 rfl rfl)
theorem dX6_init_9 : decode cX6_init 9 = .ok (.putfield 9, 3) := dk_181 0 9 (dk_at dksX6_init_0 9 rfl rfl)
theorem dX6_init_12 : decode cX6_init 12 = .ok (.aload_n 0, 1) := dk_42 (dk_at dksX6_init_0 12 rfl rfl)
theorem dX6_init_13 : decode cX6_init 13 = .ok (.aload_n 1, 1) := dk_43 (dk_at dksX6_init_0 13 rfl rfl)
theorem dX6_init_14 : decode cX6_init 14 = .ok (.putfield 15, 3) := dk_181 0 15 (dk_at dksX6_init_0 14 rfl rfl)
theorem dX6_init_17 : decode cX6_init 17 = .ok (.aload_n 0, 1) := dk_42 (dk_at dksX6_init_0 17 rfl rfl)
theorem dX6_init_18 : decode cX6_init 18 = .ok (.aload_n 1, 1) := dk_43 (dk_at dksX6_init_0 18 rfl rfl)
theorem dX6_init_19 : decode cX6_init 19 = .ok (.invokestatic 19, 3) := dk_184 0 19 (dk_at dksX6_init_0 19 rfl rfl)
theorem dX6_init_22 : decode cX6_init 22 = .ok (.putfield 23, 3) := dk_181 0 23 (dk_at dksX6_init_1 0 rfl rfl)
theorem dX6_init_25 : decode cX6_init 25 = .ok (.return_, 1) := dk_177 (dk_at dksX6_init_1 3 rfl rfl)
abbrev cX6_behind : ByteArray := prog_10_method_3_code
def yX6_behind : MethodName := ⟨RX6, "behind", "(LBranchNames$Named;)I"⟩
def dkwX6_behind_1 : List UInt8 := [43, 180, 0, 15, 184, 0, 30, 172]
abbrev dktX6_behind_1 : List UInt8 := dkwX6_behind_1 ++ []
def dkwX6_behind_0 : List UInt8 := [42, 180, 0, 23, 43, 180, 0, 23, 184, 0, 30, 61, 28, 153, 0, 7, 28, 167, 0, 14, 42, 180, 0, 15]
abbrev dktX6_behind_0 : List UInt8 := dkwX6_behind_0 ++ dktX6_behind_1
theorem dksX6_behind_0 : cX6_behind.data.toList.drop 0 = dktX6_behind_0 := by decide +kernel
theorem dksX6_behind_1 : cX6_behind.data.toList.drop 24 = dktX6_behind_1 := dk_seg dksX6_behind_0 24 rfl rfl
theorem dX6_behind_0 : decode cX6_behind 0 = .ok (.aload_n 0, 1) := dk_42 (dk_at dksX6_behind_0 0 rfl rfl)
theorem dX6_behind_1 : decode cX6_behind 1 = .ok (.getfield 23, 3) := dk_180 0 23 (dk_at dksX6_behind_0 1 rfl rfl)
theorem dX6_behind_4 : decode cX6_behind 4 = .ok (.aload_n 1, 1) := dk_43 (dk_at dksX6_behind_0 4 rfl rfl)
theorem dX6_behind_5 : decode cX6_behind 5 = .ok (.getfield 23, 3) := dk_180 0 23 (dk_at dksX6_behind_0 5 rfl rfl)
theorem dX6_behind_8 : decode cX6_behind 8 = .ok (.invokestatic 30, 3) := dk_184 0 30 (dk_at dksX6_behind_0 8 rfl rfl)
theorem dX6_behind_11 : decode cX6_behind 11 = .ok (.istore_n 2, 1) := dk_61 (dk_at dksX6_behind_0 11 rfl rfl)
theorem dX6_behind_12 : decode cX6_behind 12 = .ok (.iload_n 2, 1) := dk_28 (dk_at dksX6_behind_0 12 rfl rfl)
theorem dX6_behind_13 : decode cX6_behind 13 = .ok (.ifCond .eq 7, 3) := dk_153 0 7 (dk_at dksX6_behind_0 13 rfl rfl)
theorem dX6_behind_16 : decode cX6_behind 16 = .ok (.iload_n 2, 1) := dk_28 (dk_at dksX6_behind_0 16 rfl rfl)
theorem dX6_behind_17 : decode cX6_behind 17 = .ok (.goto 14, 3) := dk_167 0 14 (dk_at dksX6_behind_0 17 rfl rfl)
theorem dX6_behind_20 : decode cX6_behind 20 = .ok (.aload_n 0, 1) := dk_42 (dk_at dksX6_behind_0 20 rfl rfl)
theorem dX6_behind_21 : decode cX6_behind 21 = .ok (.getfield 15, 3) := dk_180 0 15 (dk_at dksX6_behind_0 21 rfl rfl)
theorem dX6_behind_24 : decode cX6_behind 24 = .ok (.aload_n 1, 1) := dk_43 (dk_at dksX6_behind_1 0 rfl rfl)
theorem dX6_behind_25 : decode cX6_behind 25 = .ok (.getfield 15, 3) := dk_180 0 15 (dk_at dksX6_behind_1 1 rfl rfl)
theorem dX6_behind_28 : decode cX6_behind 28 = .ok (.invokestatic 30, 3) := dk_184 0 30 (dk_at dksX6_behind_1 4 rfl rfl)
theorem dX6_behind_31 : decode cX6_behind 31 = .ok (.ireturn, 1) := dk_172 (dk_at dksX6_behind_1 7 rfl rfl)
abbrev cX6_comes : ByteArray := prog_10_method_2_code
def yX6_comes : MethodName := ⟨RX6, "comes", "(I)V"⟩
def dkwX6_comes_0 : List UInt8 := [42, 180, 0, 9, 42, 180, 0, 26, 27, 79, 42, 89, 180, 0, 26, 4, 96, 181, 0, 26, 177]
abbrev dktX6_comes_0 : List UInt8 := dkwX6_comes_0 ++ []
theorem dksX6_comes_0 : cX6_comes.data.toList.drop 0 = dktX6_comes_0 := by decide +kernel
theorem dX6_comes_0 : decode cX6_comes 0 = .ok (.aload_n 0, 1) := dk_42 (dk_at dksX6_comes_0 0 rfl rfl)
theorem dX6_comes_1 : decode cX6_comes 1 = .ok (.getfield 9, 3) := dk_180 0 9 (dk_at dksX6_comes_0 1 rfl rfl)
theorem dX6_comes_4 : decode cX6_comes 4 = .ok (.aload_n 0, 1) := dk_42 (dk_at dksX6_comes_0 4 rfl rfl)
theorem dX6_comes_5 : decode cX6_comes 5 = .ok (.getfield 26, 3) := dk_180 0 26 (dk_at dksX6_comes_0 5 rfl rfl)
theorem dX6_comes_8 : decode cX6_comes 8 = .ok (.iload_n 1, 1) := dk_27 (dk_at dksX6_comes_0 8 rfl rfl)
theorem dX6_comes_9 : decode cX6_comes 9 = .ok (.iastore, 1) := dk_79 (dk_at dksX6_comes_0 9 rfl rfl)
theorem dX6_comes_10 : decode cX6_comes 10 = .ok (.aload_n 0, 1) := dk_42 (dk_at dksX6_comes_0 10 rfl rfl)
theorem dX6_comes_11 : decode cX6_comes 11 = .ok (.dup, 1) := dk_89 (dk_at dksX6_comes_0 11 rfl rfl)
theorem dX6_comes_12 : decode cX6_comes 12 = .ok (.getfield 26, 3) := dk_180 0 26 (dk_at dksX6_comes_0 12 rfl rfl)
theorem dX6_comes_15 : decode cX6_comes 15 = .ok (.iconst 1, 1) := dk_4 (dk_at dksX6_comes_0 15 rfl rfl)
theorem dX6_comes_16 : decode cX6_comes 16 = .ok (.iadd, 1) := dk_96 (dk_at dksX6_comes_0 16 rfl rfl)
theorem dX6_comes_17 : decode cX6_comes 17 = .ok (.putfield 26, 3) := dk_181 0 26 (dk_at dksX6_comes_0 17 rfl rfl)
theorem dX6_comes_20 : decode cX6_comes 20 = .ok (.return_, 1) := dk_177 (dk_at dksX6_comes_0 20 rfl rfl)
abbrev cX6_spells : ByteArray := prog_10_method_5_code
def yX6_spells : MethodName := ⟨RX6, "spells", "(Ljava/lang/StringBuilder;Ljava/lang/String;)V"⟩
def dkwX6_spells_4 : List UInt8 := [177]
abbrev dktX6_spells_4 : List UInt8 := dkwX6_spells_4 ++ []
def dkwX6_spells_3 : List UInt8 := [180, 0, 15, 182, 0, 52, 16, 41, 182, 0, 61, 87, 167, 0, 12, 43, 42, 180, 0, 15, 182, 0, 52, 87]
abbrev dktX6_spells_3 : List UInt8 := dkwX6_spells_3 ++ dktX6_spells_4
def dkwX6_spells_2 : List UInt8 := [182, 0, 61, 44, 182, 0, 52, 87, 42, 182, 0, 64, 153, 0, 25, 43, 16, 40, 182, 0, 61, 42]
abbrev dktX6_spells_2 : List UInt8 := dkwX6_spells_2 ++ dktX6_spells_3
def dkwX6_spells_1 : List UInt8 := [182, 0, 52, 42, 180, 0, 9, 29, 46, 182, 0, 58, 87, 132, 3, 1, 167, 255, 220, 43, 16, 45]
abbrev dktX6_spells_1 : List UInt8 := dkwX6_spells_1 ++ dktX6_spells_2
def dkwX6_spells_0 : List UInt8 := [3, 62, 29, 42, 180, 0, 26, 162, 0, 34, 43, 29, 158, 0, 8, 18, 48, 167, 0, 5, 18, 50]
abbrev dktX6_spells_0 : List UInt8 := dkwX6_spells_0 ++ dktX6_spells_1
theorem dksX6_spells_0 : cX6_spells.data.toList.drop 0 = dktX6_spells_0 := by decide +kernel
theorem dksX6_spells_1 : cX6_spells.data.toList.drop 22 = dktX6_spells_1 := dk_seg dksX6_spells_0 22 rfl rfl
theorem dksX6_spells_2 : cX6_spells.data.toList.drop 44 = dktX6_spells_2 := dk_seg dksX6_spells_1 22 rfl rfl
theorem dksX6_spells_3 : cX6_spells.data.toList.drop 66 = dktX6_spells_3 := dk_seg dksX6_spells_2 22 rfl rfl
theorem dksX6_spells_4 : cX6_spells.data.toList.drop 90 = dktX6_spells_4 := dk_seg dksX6_spells_3 24 rfl rfl
theorem dX6_spells_0 : decode cX6_spells 0 = .ok (.iconst 0, 1) := dk_3 (dk_at dksX6_spells_0 0 rfl rfl)
theorem dX6_spells_1 : decode cX6_spells 1 = .ok (.istore_n 3, 1) := dk_62 (dk_at dksX6_spells_0 1 rfl rfl)
theorem dX6_spells_2 : decode cX6_spells 2 = .ok (.iload_n 3, 1) := dk_29 (dk_at dksX6_spells_0 2 rfl rfl)
theorem dX6_spells_3 : decode cX6_spells 3 = .ok (.aload_n 0, 1) := dk_42 (dk_at dksX6_spells_0 3 rfl rfl)
theorem dX6_spells_4 : decode cX6_spells 4 = .ok (.getfield 26, 3) := dk_180 0 26 (dk_at dksX6_spells_0 4 rfl rfl)
theorem dX6_spells_7 : decode cX6_spells 7 = .ok (.if_icmp .ge 34, 3) := dk_162 0 34 (dk_at dksX6_spells_0 7 rfl rfl)
theorem dX6_spells_10 : decode cX6_spells 10 = .ok (.aload_n 1, 1) := dk_43 (dk_at dksX6_spells_0 10 rfl rfl)
theorem dX6_spells_11 : decode cX6_spells 11 = .ok (.iload_n 3, 1) := dk_29 (dk_at dksX6_spells_0 11 rfl rfl)
theorem dX6_spells_12 : decode cX6_spells 12 = .ok (.ifCond .le 8, 3) := dk_158 0 8 (dk_at dksX6_spells_0 12 rfl rfl)
theorem dX6_spells_15 : decode cX6_spells 15 = .ok (.ldc 48, 2) := dk_18 48 (dk_at dksX6_spells_0 15 rfl rfl)
theorem dX6_spells_17 : decode cX6_spells 17 = .ok (.goto 5, 3) := dk_167 0 5 (dk_at dksX6_spells_0 17 rfl rfl)
theorem dX6_spells_20 : decode cX6_spells 20 = .ok (.ldc 50, 2) := dk_18 50 (dk_at dksX6_spells_0 20 rfl rfl)
theorem dX6_spells_22 : decode cX6_spells 22 = .ok (.invokevirtual 52, 3) := dk_182 0 52 (dk_at dksX6_spells_1 0 rfl rfl)
theorem dX6_spells_25 : decode cX6_spells 25 = .ok (.aload_n 0, 1) := dk_42 (dk_at dksX6_spells_1 3 rfl rfl)
theorem dX6_spells_26 : decode cX6_spells 26 = .ok (.getfield 9, 3) := dk_180 0 9 (dk_at dksX6_spells_1 4 rfl rfl)
theorem dX6_spells_29 : decode cX6_spells 29 = .ok (.iload_n 3, 1) := dk_29 (dk_at dksX6_spells_1 7 rfl rfl)
theorem dX6_spells_30 : decode cX6_spells 30 = .ok (.iaload, 1) := dk_46 (dk_at dksX6_spells_1 8 rfl rfl)
theorem dX6_spells_31 : decode cX6_spells 31 = .ok (.invokevirtual 58, 3) := dk_182 0 58 (dk_at dksX6_spells_1 9 rfl rfl)
theorem dX6_spells_34 : decode cX6_spells 34 = .ok (.pop, 1) := dk_87 (dk_at dksX6_spells_1 12 rfl rfl)
theorem dX6_spells_35 : decode cX6_spells 35 = .ok (.iinc 3 1, 3) := dk_132 3 1 (dk_at dksX6_spells_1 13 rfl rfl)
theorem dX6_spells_38 : decode cX6_spells 38 = .ok (.goto (-36), 3) := dk_167 255 220 (dk_at dksX6_spells_1 16 rfl rfl)
theorem dX6_spells_41 : decode cX6_spells 41 = .ok (.aload_n 1, 1) := dk_43 (dk_at dksX6_spells_1 19 rfl rfl)
theorem dX6_spells_42 : decode cX6_spells 42 = .ok (.bipush 45, 2) := dk_16 45 (dk_at dksX6_spells_1 20 rfl rfl)
theorem dX6_spells_44 : decode cX6_spells 44 = .ok (.invokevirtual 61, 3) := dk_182 0 61 (dk_at dksX6_spells_2 0 rfl rfl)
theorem dX6_spells_47 : decode cX6_spells 47 = .ok (.aload_n 2, 1) := dk_44 (dk_at dksX6_spells_2 3 rfl rfl)
theorem dX6_spells_48 : decode cX6_spells 48 = .ok (.invokevirtual 52, 3) := dk_182 0 52 (dk_at dksX6_spells_2 4 rfl rfl)
theorem dX6_spells_51 : decode cX6_spells 51 = .ok (.pop, 1) := dk_87 (dk_at dksX6_spells_2 7 rfl rfl)
theorem dX6_spells_52 : decode cX6_spells 52 = .ok (.aload_n 0, 1) := dk_42 (dk_at dksX6_spells_2 8 rfl rfl)
theorem dX6_spells_53 : decode cX6_spells 53 = .ok (.invokevirtual 64, 3) := dk_182 0 64 (dk_at dksX6_spells_2 9 rfl rfl)
theorem dX6_spells_56 : decode cX6_spells 56 = .ok (.ifCond .eq 25, 3) := dk_153 0 25 (dk_at dksX6_spells_2 12 rfl rfl)
theorem dX6_spells_59 : decode cX6_spells 59 = .ok (.aload_n 1, 1) := dk_43 (dk_at dksX6_spells_2 15 rfl rfl)
theorem dX6_spells_60 : decode cX6_spells 60 = .ok (.bipush 40, 2) := dk_16 40 (dk_at dksX6_spells_2 16 rfl rfl)
theorem dX6_spells_62 : decode cX6_spells 62 = .ok (.invokevirtual 61, 3) := dk_182 0 61 (dk_at dksX6_spells_2 18 rfl rfl)
theorem dX6_spells_65 : decode cX6_spells 65 = .ok (.aload_n 0, 1) := dk_42 (dk_at dksX6_spells_2 21 rfl rfl)
theorem dX6_spells_66 : decode cX6_spells 66 = .ok (.getfield 15, 3) := dk_180 0 15 (dk_at dksX6_spells_3 0 rfl rfl)
theorem dX6_spells_69 : decode cX6_spells 69 = .ok (.invokevirtual 52, 3) := dk_182 0 52 (dk_at dksX6_spells_3 3 rfl rfl)
theorem dX6_spells_72 : decode cX6_spells 72 = .ok (.bipush 41, 2) := dk_16 41 (dk_at dksX6_spells_3 6 rfl rfl)
theorem dX6_spells_74 : decode cX6_spells 74 = .ok (.invokevirtual 61, 3) := dk_182 0 61 (dk_at dksX6_spells_3 8 rfl rfl)
theorem dX6_spells_77 : decode cX6_spells 77 = .ok (.pop, 1) := dk_87 (dk_at dksX6_spells_3 11 rfl rfl)
theorem dX6_spells_78 : decode cX6_spells 78 = .ok (.goto 12, 3) := dk_167 0 12 (dk_at dksX6_spells_3 12 rfl rfl)
theorem dX6_spells_81 : decode cX6_spells 81 = .ok (.aload_n 1, 1) := dk_43 (dk_at dksX6_spells_3 15 rfl rfl)
theorem dX6_spells_82 : decode cX6_spells 82 = .ok (.aload_n 0, 1) := dk_42 (dk_at dksX6_spells_3 16 rfl rfl)
theorem dX6_spells_83 : decode cX6_spells 83 = .ok (.getfield 15, 3) := dk_180 0 15 (dk_at dksX6_spells_3 17 rfl rfl)
theorem dX6_spells_86 : decode cX6_spells 86 = .ok (.invokevirtual 52, 3) := dk_182 0 52 (dk_at dksX6_spells_3 20 rfl rfl)
theorem dX6_spells_89 : decode cX6_spells 89 = .ok (.pop, 1) := dk_87 (dk_at dksX6_spells_3 23 rfl rfl)
theorem dX6_spells_90 : decode cX6_spells 90 = .ok (.return_, 1) := dk_177 (dk_at dksX6_spells_4 0 rfl rfl)
abbrev cX6_isBracketed : ByteArray := prog_10_method_4_code
def yX6_isBracketed : MethodName := ⟨RX6, "isBracketed", "()Z"⟩
def dkwX6_isBracketed_1 : List UInt8 := [153, 0, 5, 4, 172, 132, 1, 1, 167, 255, 226, 3, 172]
abbrev dktX6_isBracketed_1 : List UInt8 := dkwX6_isBracketed_1 ++ []
def dkwX6_isBracketed_0 : List UInt8 := [3, 60, 27, 42, 180, 0, 15, 182, 0, 34, 162, 0, 25, 42, 180, 0, 15, 27, 182, 0, 40, 184, 0, 44]
abbrev dktX6_isBracketed_0 : List UInt8 := dkwX6_isBracketed_0 ++ dktX6_isBracketed_1
theorem dksX6_isBracketed_0 : cX6_isBracketed.data.toList.drop 0 = dktX6_isBracketed_0 := by decide +kernel
theorem dksX6_isBracketed_1 : cX6_isBracketed.data.toList.drop 24 = dktX6_isBracketed_1 := dk_seg dksX6_isBracketed_0 24 rfl rfl
theorem dX6_isBracketed_0 : decode cX6_isBracketed 0 = .ok (.iconst 0, 1) := dk_3 (dk_at dksX6_isBracketed_0 0 rfl rfl)
theorem dX6_isBracketed_1 : decode cX6_isBracketed 1 = .ok (.istore_n 1, 1) := dk_60 (dk_at dksX6_isBracketed_0 1 rfl rfl)
theorem dX6_isBracketed_2 : decode cX6_isBracketed 2 = .ok (.iload_n 1, 1) := dk_27 (dk_at dksX6_isBracketed_0 2 rfl rfl)
theorem dX6_isBracketed_3 : decode cX6_isBracketed 3 = .ok (.aload_n 0, 1) := dk_42 (dk_at dksX6_isBracketed_0 3 rfl rfl)
theorem dX6_isBracketed_4 : decode cX6_isBracketed 4 = .ok (.getfield 15, 3) := dk_180 0 15 (dk_at dksX6_isBracketed_0 4 rfl rfl)
theorem dX6_isBracketed_7 : decode cX6_isBracketed 7 = .ok (.invokevirtual 34, 3) := dk_182 0 34 (dk_at dksX6_isBracketed_0 7 rfl rfl)
theorem dX6_isBracketed_10 : decode cX6_isBracketed 10 = .ok (.if_icmp .ge 25, 3) := dk_162 0 25 (dk_at dksX6_isBracketed_0 10 rfl rfl)
theorem dX6_isBracketed_13 : decode cX6_isBracketed 13 = .ok (.aload_n 0, 1) := dk_42 (dk_at dksX6_isBracketed_0 13 rfl rfl)
theorem dX6_isBracketed_14 : decode cX6_isBracketed 14 = .ok (.getfield 15, 3) := dk_180 0 15 (dk_at dksX6_isBracketed_0 14 rfl rfl)
theorem dX6_isBracketed_17 : decode cX6_isBracketed 17 = .ok (.iload_n 1, 1) := dk_27 (dk_at dksX6_isBracketed_0 17 rfl rfl)
theorem dX6_isBracketed_18 : decode cX6_isBracketed 18 = .ok (.invokevirtual 40, 3) := dk_182 0 40 (dk_at dksX6_isBracketed_0 18 rfl rfl)
theorem dX6_isBracketed_21 : decode cX6_isBracketed 21 = .ok (.invokestatic 44, 3) := dk_184 0 44 (dk_at dksX6_isBracketed_0 21 rfl rfl)
theorem dX6_isBracketed_24 : decode cX6_isBracketed 24 = .ok (.ifCond .eq 5, 3) := dk_153 0 5 (dk_at dksX6_isBracketed_1 0 rfl rfl)
theorem dX6_isBracketed_27 : decode cX6_isBracketed 27 = .ok (.iconst 1, 1) := dk_4 (dk_at dksX6_isBracketed_1 3 rfl rfl)
theorem dX6_isBracketed_28 : decode cX6_isBracketed 28 = .ok (.ireturn, 1) := dk_172 (dk_at dksX6_isBracketed_1 4 rfl rfl)
theorem dX6_isBracketed_29 : decode cX6_isBracketed 29 = .ok (.iinc 1 1, 3) := dk_132 1 1 (dk_at dksX6_isBracketed_1 5 rfl rfl)
theorem dX6_isBracketed_32 : decode cX6_isBracketed 32 = .ok (.goto (-30), 3) := dk_167 255 226 (dk_at dksX6_isBracketed_1 8 rfl rfl)
theorem dX6_isBracketed_35 : decode cX6_isBracketed 35 = .ok (.iconst 0, 1) := dk_3 (dk_at dksX6_isBracketed_1 11 rfl rfl)
theorem dX6_isBracketed_36 : decode cX6_isBracketed 36 = .ok (.ireturn, 1) := dk_172 (dk_at dksX6_isBracketed_1 12 rfl rfl)
theorem q174 : (Jvm.Cond.initialized "BranchNames$Named") ∈ lw_all := lw_g (lw_at lw_m1 23 rfl) rfl
theorem q1075 : (Jvm.Cond.instantiable "BranchNames$Named" (4 : Nat)) ∈ lw_all := lw_g (lw_at lw_m4 204 rfl) rfl
theorem q1077 : (Jvm.Cond.instanceMethod ({ cls := "BranchNames$Named", name := "<init>", desc := "(Ljava/lang/String;)V" } : Jvm.MethodName)) ∈ lw_all := lw_g (lw_at lw_m4 206 rfl) rfl
theorem q1078 : (Jvm.Cond.code ({ cls := "BranchNames$Named", name := "<init>", desc := "(Ljava/lang/String;)V" } : Jvm.MethodName) prog_10_method_1_code (2 : Nat) (Option.none : Option Jvm.ClassFile.FieldType)) ∈ lw_all := lw_g (lw_at lw_m4 207 rfl) rfl
theorem q1079 : (Jvm.Cond.methodLink "BranchNames$Named" (3 : Nat) ({ cls := "java/lang/Object", name := "<init>", desc := "()V" } : Jvm.MethodName)) ∈ lw_all := lw_g (lw_at lw_m4 208 rfl) rfl
theorem q1080 : (Jvm.Cond.methodLinkNest "BranchNames$Named" (19 : Nat) ({ cls := "BranchNames", name := "lettersOf", desc := "(Ljava/lang/String;)Ljava/lang/String;" } : Jvm.MethodName) "BranchNames") ∈ lw_tbl := lw_at lw_m4 209 rfl
theorem q1101 : (Jvm.Cond.fieldLink "BranchNames$Named" (15 : Nat) "BranchNames$Named" "name" "Ljava/lang/String;") ∈ lw_all := lw_g (lw_at lw_m4 230 rfl) rfl
theorem q1103 : (Jvm.Cond.fieldLink "BranchNames$Named" (23 : Nat) "BranchNames$Named" "letters" "Ljava/lang/String;") ∈ lw_all := lw_g (lw_at lw_m4 232 rfl) rfl
theorem q1104 : (Jvm.Cond.fieldLink "BranchNames$Named" (9 : Nat) "BranchNames$Named" "numbers" "[I") ∈ lw_all := lw_g (lw_at lw_m4 233 rfl) rfl
theorem q1105 : (Jvm.Cond.fieldLink "BranchNames$Named" (26 : Nat) "BranchNames$Named" "many" "I") ∈ lw_all := lw_g (lw_at lw_m4 234 rfl) rfl
theorem q1107 : (Jvm.Cond.laysFinal "BranchNames$Named" "BranchNames$Named" "name" "Ljava/lang/String;") ∈ lw_all := lw_g (lw_at lw_m4 236 rfl) rfl
theorem q1108 : (Jvm.Cond.soleField "BranchNames$Named" "name") ∈ lw_all := lw_g (lw_at lw_m4 237 rfl) rfl
theorem q1109 : (Jvm.Cond.laysFinal "BranchNames$Named" "BranchNames$Named" "letters" "Ljava/lang/String;") ∈ lw_all := lw_g (lw_at lw_m4 238 rfl) rfl
theorem q1110 : (Jvm.Cond.soleField "BranchNames$Named" "letters") ∈ lw_all := lw_g (lw_at lw_m4 239 rfl) rfl
theorem q1111 : (Jvm.Cond.laysFinal "BranchNames$Named" "BranchNames$Named" "numbers" "[I") ∈ lw_all := lw_g (lw_at lw_m5 0 rfl) rfl
theorem q1112 : (Jvm.Cond.soleField "BranchNames$Named" "numbers") ∈ lw_all := lw_g (lw_at lw_m5 1 rfl) rfl
theorem q1113 : (Jvm.Cond.lays "BranchNames$Named" "BranchNames$Named" "many" "I") ∈ lw_all := lw_g (lw_at lw_m5 2 rfl) rfl
theorem q1114 : (Jvm.Cond.soleField "BranchNames$Named" "many") ∈ lw_all := lw_g (lw_at lw_m5 3 rfl) rfl
theorem q1115 : (Jvm.Cond.superclass "BranchNames$Named" "java/lang/Object") ∈ lw_all := lw_g (lw_at lw_m5 4 rfl) rfl
theorem q1117 : (Jvm.Cond.instanceMethod ({ cls := "BranchNames$Named", name := "behind", desc := "(LBranchNames$Named;)I" } : Jvm.MethodName)) ∈ lw_all := lw_g (lw_at lw_m5 6 rfl) rfl
theorem q1118 : (Jvm.Cond.selects "BranchNames$Named" ({ cls := "BranchNames$Named", name := "behind", desc := "(LBranchNames$Named;)I" } : Jvm.MethodName) ({ cls := "BranchNames$Named", name := "behind", desc := "(LBranchNames$Named;)I" } : Jvm.MethodName)) ∈ lw_all := lw_g (lw_at lw_m5 7 rfl) rfl
theorem q1119 : (Jvm.Cond.code ({ cls := "BranchNames$Named", name := "behind", desc := "(LBranchNames$Named;)I" } : Jvm.MethodName) prog_10_method_3_code (3 : Nat) (Option.some Jvm.ClassFile.FieldType.int)) ∈ lw_all := lw_g (lw_at lw_m5 8 rfl) rfl
theorem q1120 : (Jvm.Cond.methodLinkNest "BranchNames$Named" (30 : Nat) ({ cls := "BranchNames", name := "compared", desc := "(Ljava/lang/String;Ljava/lang/String;)I" } : Jvm.MethodName) "BranchNames") ∈ lw_tbl := lw_at lw_m5 9 rfl
theorem q1150 : (Jvm.Cond.selects "BranchNames$Named" ({ cls := "java/lang/Object", name := "getClass", desc := "()Ljava/lang/Class;" } : Jvm.MethodName) ({ cls := "java/lang/Object", name := "getClass", desc := "()Ljava/lang/Class;" } : Jvm.MethodName)) ∈ lw_all := lw_g (lw_at lw_m5 39 rfl) rfl
theorem q1173 : (Jvm.Cond.instanceMethod ({ cls := "BranchNames$Named", name := "comes", desc := "(I)V" } : Jvm.MethodName)) ∈ lw_all := lw_g (lw_at lw_m5 62 rfl) rfl
theorem q1174 : (Jvm.Cond.selects "BranchNames$Named" ({ cls := "BranchNames$Named", name := "comes", desc := "(I)V" } : Jvm.MethodName) ({ cls := "BranchNames$Named", name := "comes", desc := "(I)V" } : Jvm.MethodName)) ∈ lw_all := lw_g (lw_at lw_m5 63 rfl) rfl
theorem q1175 : (Jvm.Cond.code ({ cls := "BranchNames$Named", name := "comes", desc := "(I)V" } : Jvm.MethodName) prog_10_method_2_code (2 : Nat) (Option.none : Option Jvm.ClassFile.FieldType)) ∈ lw_all := lw_g (lw_at lw_m5 64 rfl) rfl
theorem q1178 : (Jvm.Cond.instanceMethod ({ cls := "BranchNames$Named", name := "spells", desc := "(Ljava/lang/StringBuilder;Ljava/lang/String;)V" } : Jvm.MethodName)) ∈ lw_all := lw_g (lw_at lw_m5 67 rfl) rfl
theorem q1179 : (Jvm.Cond.selects "BranchNames$Named" ({ cls := "BranchNames$Named", name := "spells", desc := "(Ljava/lang/StringBuilder;Ljava/lang/String;)V" } : Jvm.MethodName) ({ cls := "BranchNames$Named", name := "spells", desc := "(Ljava/lang/StringBuilder;Ljava/lang/String;)V" } : Jvm.MethodName)) ∈ lw_all := lw_g (lw_at lw_m5 68 rfl) rfl
theorem q1180 : (Jvm.Cond.code ({ cls := "BranchNames$Named", name := "spells", desc := "(Ljava/lang/StringBuilder;Ljava/lang/String;)V" } : Jvm.MethodName) prog_10_method_5_code (4 : Nat) (Option.none : Option Jvm.ClassFile.FieldType)) ∈ lw_all := lw_g (lw_at lw_m5 69 rfl) rfl
theorem q1181 : (Jvm.Cond.stringRef "BranchNames$Named" (48 : Nat) ",") ∈ lw_tbl := lw_at lw_m5 70 rfl
theorem q1182 : (Jvm.Cond.stringRef "BranchNames$Named" (50 : Nat) "") ∈ lw_tbl := lw_at lw_m5 71 rfl
theorem q1183 : (Jvm.Cond.methodLink "BranchNames$Named" (52 : Nat) ({ cls := "java/lang/StringBuilder", name := "append", desc := "(Ljava/lang/String;)Ljava/lang/StringBuilder;" } : Jvm.MethodName)) ∈ lw_all := lw_g (lw_at lw_m5 72 rfl) rfl
theorem q1184 : (Jvm.Cond.methodLink "BranchNames$Named" (58 : Nat) ({ cls := "java/lang/StringBuilder", name := "append", desc := "(I)Ljava/lang/StringBuilder;" } : Jvm.MethodName)) ∈ lw_all := lw_g (lw_at lw_m5 73 rfl) rfl
theorem q1209 : (Jvm.Cond.methodLink "BranchNames$Named" (61 : Nat) ({ cls := "java/lang/StringBuilder", name := "append", desc := "(C)Ljava/lang/StringBuilder;" } : Jvm.MethodName)) ∈ lw_all := lw_g (lw_at lw_m5 98 rfl) rfl
theorem q1210 : (Jvm.Cond.methodLink "BranchNames$Named" (64 : Nat) ({ cls := "BranchNames$Named", name := "isBracketed", desc := "()Z" } : Jvm.MethodName)) ∈ lw_all := lw_g (lw_at lw_m5 99 rfl) rfl
theorem q1211 : (Jvm.Cond.privateMethod ({ cls := "BranchNames$Named", name := "isBracketed", desc := "()Z" } : Jvm.MethodName)) ∈ lw_tbl := lw_at lw_m5 100 rfl
theorem q1212 : (Jvm.Cond.instanceMethod ({ cls := "BranchNames$Named", name := "isBracketed", desc := "()Z" } : Jvm.MethodName)) ∈ lw_all := lw_g (lw_at lw_m5 101 rfl) rfl
theorem q1213 : (Jvm.Cond.code ({ cls := "BranchNames$Named", name := "isBracketed", desc := "()Z" } : Jvm.MethodName) prog_10_method_4_code (2 : Nat) (Option.some Jvm.ClassFile.FieldType.boolean)) ∈ lw_all := lw_g (lw_at lw_m5 102 rfl) rfl
theorem q1214 : (Jvm.Cond.methodLink "BranchNames$Named" (34 : Nat) ({ cls := "java/lang/String", name := "length", desc := "()I" } : Jvm.MethodName)) ∈ lw_all := lw_g (lw_at lw_m5 103 rfl) rfl
theorem q1215 : (Jvm.Cond.methodLink "BranchNames$Named" (40 : Nat) ({ cls := "java/lang/String", name := "charAt", desc := "(I)C" } : Jvm.MethodName)) ∈ lw_all := lw_g (lw_at lw_m5 104 rfl) rfl
theorem q1216 : (Jvm.Cond.methodLinkNest "BranchNames$Named" (44 : Nat) ({ cls := "BranchNames", name := "isDigit", desc := "(I)Z" } : Jvm.MethodName) "BranchNames") ∈ lw_tbl := lw_at lw_m5 105 rfl
theorem q2440 : (Jvm.Cond.castable "BranchNames$Named" "java/lang/Object") ∈ lw_tbl := lw_at lw_m10 129 rfl
theorem in_X6 : ∀ w ∈ wsX60, w ∈ lw_all := lw_in wsX60 [1107, 1109, 1111, 1113] (by decide +kernel) (by decide +kernel)
/-! BranchNames$Reader -/
set_option maxRecDepth 100000
def RX7 : String := "BranchNames$Reader"
def TX7 : u_T := fun k => match k with
  | 0 => ("BranchNames$Reader", "at", "I", false)
  | 1 => ("BranchNames$Reader", "reached", "I", false)
  | _ => ("BranchNames$Reader", "this$0", "LBranchNames;", true)
def tyX7 : Nat → FieldType := fun k => match k with
  | 0 => .int
  | 1 => .int
  | _ => .object "BranchNames"
abbrev wsX70 : List Cond := u_ws RX7 TX7 3
theorem nmX7 : ∀ a, a < 3 → ∀ b, b < 3 → a ≠ b → (TX7 a).2.1 ≠ (TX7 b).2.1 := by decide +kernel
theorem tyX7_ok : ∀ k, k < 3 → parseFieldDescriptor (TX7 k).2.2.1 = some (tyX7 k) := by decide +kernel
abbrev cX7_init : ByteArray := prog_13_method_1_code
def yX7_init : MethodName := ⟨RX7, "<init>", "(LBranchNames;)V"⟩
def dkwX7_init_0 : List UInt8 := [42, 43, 181, 0, 3, 42, 183, 0, 9, 177]
abbrev dktX7_init_0 : List UInt8 := dkwX7_init_0 ++ []
theorem dksX7_init_0 : cX7_init.data.toList.drop 0 = dktX7_init_0 := by decide +kernel
theorem dX7_init_0 : decode cX7_init 0 = .ok (.aload_n 0, 1) := dk_42 (dk_at dksX7_init_0 0 rfl rfl)
theorem dX7_init_1 : decode cX7_init 1 = .ok (.aload_n 1, 1) := dk_43 (dk_at dksX7_init_0 1 rfl rfl)
theorem dX7_init_2 : decode cX7_init 2 = .ok (.putfield 3, 3) := dk_181 0 3 (dk_at dksX7_init_0 2 rfl rfl)
theorem dX7_init_5 : decode cX7_init 5 = .ok (.aload_n 0, 1) := dk_42 (dk_at dksX7_init_0 5 rfl rfl)
theorem dX7_init_6 : decode cX7_init 6 = .ok (.invokespecial 9, 3) := dk_183 0 9 (dk_at dksX7_init_0 6 rfl rfl)
theorem dX7_init_9 : decode cX7_init 9 = .ok (.return_, 1) := dk_177 (dk_at dksX7_init_0 9 rfl rfl)
abbrev cX7_whole : ByteArray := prog_13_method_14_code
def yX7_whole : MethodName := ⟨RX7, "whole", "()LBranchNames$Branch;"⟩
def dkwX7_whole_3 : List UInt8 := [162, 0, 15, 187, 0, 34, 89, 42, 180, 0, 15, 183, 0, 36, 191, 43, 176]
abbrev dktX7_whole_3 : List UInt8 := dkwX7_whole_3 ++ []
def dkwX7_whole_2 : List UInt8 := [16, 110, 182, 0, 80, 42, 16, 101, 182, 0, 80, 42, 180, 0, 15, 42, 180, 0, 3, 180, 0, 19]
abbrev dktX7_whole_2 : List UInt8 := dkwX7_whole_2 ++ dktX7_whole_3
def dkwX7_whole_1 : List UInt8 := [187, 0, 88, 89, 183, 0, 104, 76, 43, 42, 182, 0, 93, 181, 0, 96, 42, 16, 97, 182, 0, 80, 42]
abbrev dktX7_whole_1 : List UInt8 := dkwX7_whole_1 ++ dktX7_whole_2
def dkwX7_whole_0 : List UInt8 := [42, 182, 0, 26, 133, 20, 0, 69, 20, 0, 71, 184, 0, 73, 153, 0, 10, 42, 182, 0, 83, 167, 0, 10]
abbrev dktX7_whole_0 : List UInt8 := dkwX7_whole_0 ++ dktX7_whole_1
theorem dksX7_whole_0 : cX7_whole.data.toList.drop 0 = dktX7_whole_0 := by decide +kernel
theorem dksX7_whole_1 : cX7_whole.data.toList.drop 24 = dktX7_whole_1 := dk_seg dksX7_whole_0 24 rfl rfl
theorem dksX7_whole_2 : cX7_whole.data.toList.drop 47 = dktX7_whole_2 := dk_seg dksX7_whole_1 23 rfl rfl
theorem dksX7_whole_3 : cX7_whole.data.toList.drop 69 = dktX7_whole_3 := dk_seg dksX7_whole_2 22 rfl rfl
theorem dX7_whole_0 : decode cX7_whole 0 = .ok (.aload_n 0, 1) := dk_42 (dk_at dksX7_whole_0 0 rfl rfl)
theorem dX7_whole_1 : decode cX7_whole 1 = .ok (.invokevirtual 26, 3) := dk_182 0 26 (dk_at dksX7_whole_0 1 rfl rfl)
theorem dX7_whole_4 : decode cX7_whole 4 = .ok (.i2l, 1) := dk_133 (dk_at dksX7_whole_0 4 rfl rfl)
theorem dX7_whole_5 : decode cX7_whole 5 = .ok (.ldc2_w 69, 3) := dk_20 0 69 (dk_at dksX7_whole_0 5 rfl rfl)
theorem dX7_whole_8 : decode cX7_whole 8 = .ok (.ldc2_w 71, 3) := dk_20 0 71 (dk_at dksX7_whole_0 8 rfl rfl)
theorem dX7_whole_11 : decode cX7_whole 11 = .ok (.invokestatic 73, 3) := dk_184 0 73 (dk_at dksX7_whole_0 11 rfl rfl)
theorem dX7_whole_14 : decode cX7_whole 14 = .ok (.ifCond .eq 10, 3) := dk_153 0 10 (dk_at dksX7_whole_0 14 rfl rfl)
theorem dX7_whole_17 : decode cX7_whole 17 = .ok (.aload_n 0, 1) := dk_42 (dk_at dksX7_whole_0 17 rfl rfl)
theorem dX7_whole_18 : decode cX7_whole 18 = .ok (.invokevirtual 83, 3) := dk_182 0 83 (dk_at dksX7_whole_0 18 rfl rfl)
theorem dX7_whole_21 : decode cX7_whole 21 = .ok (.goto 10, 3) := dk_167 0 10 (dk_at dksX7_whole_0 21 rfl rfl)
theorem dX7_whole_24 : decode cX7_whole 24 = .ok (.new 88, 3) := dk_187 0 88 (dk_at dksX7_whole_1 0 rfl rfl)
theorem dX7_whole_27 : decode cX7_whole 27 = .ok (.dup, 1) := dk_89 (dk_at dksX7_whole_1 3 rfl rfl)
theorem dX7_whole_28 : decode cX7_whole 28 = .ok (.invokespecial 104, 3) := dk_183 0 104 (dk_at dksX7_whole_1 4 rfl rfl)
theorem dX7_whole_31 : decode cX7_whole 31 = .ok (.astore_n 1, 1) := dk_76 (dk_at dksX7_whole_1 7 rfl rfl)
theorem dX7_whole_32 : decode cX7_whole 32 = .ok (.aload_n 1, 1) := dk_43 (dk_at dksX7_whole_1 8 rfl rfl)
theorem dX7_whole_33 : decode cX7_whole 33 = .ok (.aload_n 0, 1) := dk_42 (dk_at dksX7_whole_1 9 rfl rfl)
theorem dX7_whole_34 : decode cX7_whole 34 = .ok (.invokevirtual 93, 3) := dk_182 0 93 (dk_at dksX7_whole_1 10 rfl rfl)
theorem dX7_whole_37 : decode cX7_whole 37 = .ok (.putfield 96, 3) := dk_181 0 96 (dk_at dksX7_whole_1 13 rfl rfl)
theorem dX7_whole_40 : decode cX7_whole 40 = .ok (.aload_n 0, 1) := dk_42 (dk_at dksX7_whole_1 16 rfl rfl)
theorem dX7_whole_41 : decode cX7_whole 41 = .ok (.bipush 97, 2) := dk_16 97 (dk_at dksX7_whole_1 17 rfl rfl)
theorem dX7_whole_43 : decode cX7_whole 43 = .ok (.invokevirtual 80, 3) := dk_182 0 80 (dk_at dksX7_whole_1 19 rfl rfl)
theorem dX7_whole_46 : decode cX7_whole 46 = .ok (.aload_n 0, 1) := dk_42 (dk_at dksX7_whole_1 22 rfl rfl)
theorem dX7_whole_47 : decode cX7_whole 47 = .ok (.bipush 110, 2) := dk_16 110 (dk_at dksX7_whole_2 0 rfl rfl)
theorem dX7_whole_49 : decode cX7_whole 49 = .ok (.invokevirtual 80, 3) := dk_182 0 80 (dk_at dksX7_whole_2 2 rfl rfl)
theorem dX7_whole_52 : decode cX7_whole 52 = .ok (.aload_n 0, 1) := dk_42 (dk_at dksX7_whole_2 5 rfl rfl)
theorem dX7_whole_53 : decode cX7_whole 53 = .ok (.bipush 101, 2) := dk_16 101 (dk_at dksX7_whole_2 6 rfl rfl)
theorem dX7_whole_55 : decode cX7_whole 55 = .ok (.invokevirtual 80, 3) := dk_182 0 80 (dk_at dksX7_whole_2 8 rfl rfl)
theorem dX7_whole_58 : decode cX7_whole 58 = .ok (.aload_n 0, 1) := dk_42 (dk_at dksX7_whole_2 11 rfl rfl)
theorem dX7_whole_59 : decode cX7_whole 59 = .ok (.getfield 15, 3) := dk_180 0 15 (dk_at dksX7_whole_2 12 rfl rfl)
theorem dX7_whole_62 : decode cX7_whole 62 = .ok (.aload_n 0, 1) := dk_42 (dk_at dksX7_whole_2 15 rfl rfl)
theorem dX7_whole_63 : decode cX7_whole 63 = .ok (.getfield 3, 3) := dk_180 0 3 (dk_at dksX7_whole_2 16 rfl rfl)
theorem dX7_whole_66 : decode cX7_whole 66 = .ok (.getfield 19, 3) := dk_180 0 19 (dk_at dksX7_whole_2 19 rfl rfl)
theorem dX7_whole_69 : decode cX7_whole 69 = .ok (.if_icmp .ge 15, 3) := dk_162 0 15 (dk_at dksX7_whole_3 0 rfl rfl)
theorem dX7_whole_72 : decode cX7_whole 72 = .ok (.new 34, 3) := dk_187 0 34 (dk_at dksX7_whole_3 3 rfl rfl)
theorem dX7_whole_75 : decode cX7_whole 75 = .ok (.dup, 1) := dk_89 (dk_at dksX7_whole_3 6 rfl rfl)
theorem dX7_whole_76 : decode cX7_whole 76 = .ok (.aload_n 0, 1) := dk_42 (dk_at dksX7_whole_3 7 rfl rfl)
theorem dX7_whole_77 : decode cX7_whole 77 = .ok (.getfield 15, 3) := dk_180 0 15 (dk_at dksX7_whole_3 8 rfl rfl)
theorem dX7_whole_80 : decode cX7_whole 80 = .ok (.invokespecial 36, 3) := dk_183 0 36 (dk_at dksX7_whole_3 11 rfl rfl)
theorem dX7_whole_83 : decode cX7_whole 83 = .ok (.athrow, 1) := dk_191 (dk_at dksX7_whole_3 14 rfl rfl)
theorem dX7_whole_84 : decode cX7_whole 84 = .ok (.aload_n 1, 1) := dk_43 (dk_at dksX7_whole_3 15 rfl rfl)
theorem dX7_whole_85 : decode cX7_whole 85 = .ok (.areturn, 1) := dk_176 (dk_at dksX7_whole_3 16 rfl rfl)
abbrev cX7_here : ByteArray := prog_13_method_2_code
def yX7_here : MethodName := ⟨RX7, "here", "()I"⟩
def dkwX7_here_1 : List UInt8 := [180, 0, 15, 51, 167, 0, 4, 2, 172]
abbrev dktX7_here_1 : List UInt8 := dkwX7_here_1 ++ []
def dkwX7_here_0 : List UInt8 := [42, 180, 0, 15, 42, 180, 0, 3, 180, 0, 19, 162, 0, 18, 42, 180, 0, 3, 180, 0, 22, 42]
abbrev dktX7_here_0 : List UInt8 := dkwX7_here_0 ++ dktX7_here_1
theorem dksX7_here_0 : cX7_here.data.toList.drop 0 = dktX7_here_0 := by decide +kernel
theorem dksX7_here_1 : cX7_here.data.toList.drop 22 = dktX7_here_1 := dk_seg dksX7_here_0 22 rfl rfl
theorem dX7_here_0 : decode cX7_here 0 = .ok (.aload_n 0, 1) := dk_42 (dk_at dksX7_here_0 0 rfl rfl)
theorem dX7_here_1 : decode cX7_here 1 = .ok (.getfield 15, 3) := dk_180 0 15 (dk_at dksX7_here_0 1 rfl rfl)
theorem dX7_here_4 : decode cX7_here 4 = .ok (.aload_n 0, 1) := dk_42 (dk_at dksX7_here_0 4 rfl rfl)
theorem dX7_here_5 : decode cX7_here 5 = .ok (.getfield 3, 3) := dk_180 0 3 (dk_at dksX7_here_0 5 rfl rfl)
theorem dX7_here_8 : decode cX7_here 8 = .ok (.getfield 19, 3) := dk_180 0 19 (dk_at dksX7_here_0 8 rfl rfl)
theorem dX7_here_11 : decode cX7_here 11 = .ok (.if_icmp .ge 18, 3) := dk_162 0 18 (dk_at dksX7_here_0 11 rfl rfl)
theorem dX7_here_14 : decode cX7_here 14 = .ok (.aload_n 0, 1) := dk_42 (dk_at dksX7_here_0 14 rfl rfl)
theorem dX7_here_15 : decode cX7_here 15 = .ok (.getfield 3, 3) := dk_180 0 3 (dk_at dksX7_here_0 15 rfl rfl)
theorem dX7_here_18 : decode cX7_here 18 = .ok (.getfield 22, 3) := dk_180 0 22 (dk_at dksX7_here_0 18 rfl rfl)
theorem dX7_here_21 : decode cX7_here 21 = .ok (.aload_n 0, 1) := dk_42 (dk_at dksX7_here_0 21 rfl rfl)
theorem dX7_here_22 : decode cX7_here 22 = .ok (.getfield 15, 3) := dk_180 0 15 (dk_at dksX7_here_1 0 rfl rfl)
theorem dX7_here_25 : decode cX7_here 25 = .ok (.baload, 1) := dk_51 (dk_at dksX7_here_1 3 rfl rfl)
theorem dX7_here_26 : decode cX7_here 26 = .ok (.goto 4, 3) := dk_167 0 4 (dk_at dksX7_here_1 4 rfl rfl)
theorem dX7_here_29 : decode cX7_here 29 = .ok (.iconst (-1), 1) := dk_2 (dk_at dksX7_here_1 7 rfl rfl)
theorem dX7_here_30 : decode cX7_here 30 = .ok (.ireturn, 1) := dk_172 (dk_at dksX7_here_1 8 rfl rfl)
abbrev cX7_parts : ByteArray := prog_13_method_13_code
def yX7_parts : MethodName := ⟨RX7, "parts", "()LBranchNames$Branch;"⟩
def dkwX7_parts_2 : List UInt8 := [182, 0, 133, 87, 167, 255, 225, 43, 176]
abbrev dktX7_parts_2 : List UInt8 := dkwX7_parts_2 ++ []
def dkwX7_parts_1 : List UInt8 := [182, 0, 30, 153, 0, 28, 42, 89, 180, 0, 15, 4, 96, 181, 0, 15, 43, 180, 0, 126, 42, 182, 0, 129]
abbrev dktX7_parts_1 : List UInt8 := dkwX7_parts_1 ++ dktX7_parts_2
def dkwX7_parts_0 : List UInt8 := [187, 0, 88, 89, 183, 0, 104, 76, 43, 180, 0, 126, 42, 182, 0, 129, 182, 0, 133, 87, 42, 16, 45]
abbrev dktX7_parts_0 : List UInt8 := dkwX7_parts_0 ++ dktX7_parts_1
theorem dksX7_parts_0 : cX7_parts.data.toList.drop 0 = dktX7_parts_0 := by decide +kernel
theorem dksX7_parts_1 : cX7_parts.data.toList.drop 23 = dktX7_parts_1 := dk_seg dksX7_parts_0 23 rfl rfl
theorem dksX7_parts_2 : cX7_parts.data.toList.drop 47 = dktX7_parts_2 := dk_seg dksX7_parts_1 24 rfl rfl
theorem dX7_parts_0 : decode cX7_parts 0 = .ok (.new 88, 3) := dk_187 0 88 (dk_at dksX7_parts_0 0 rfl rfl)
theorem dX7_parts_3 : decode cX7_parts 3 = .ok (.dup, 1) := dk_89 (dk_at dksX7_parts_0 3 rfl rfl)
theorem dX7_parts_4 : decode cX7_parts 4 = .ok (.invokespecial 104, 3) := dk_183 0 104 (dk_at dksX7_parts_0 4 rfl rfl)
theorem dX7_parts_7 : decode cX7_parts 7 = .ok (.astore_n 1, 1) := dk_76 (dk_at dksX7_parts_0 7 rfl rfl)
theorem dX7_parts_8 : decode cX7_parts 8 = .ok (.aload_n 1, 1) := dk_43 (dk_at dksX7_parts_0 8 rfl rfl)
theorem dX7_parts_9 : decode cX7_parts 9 = .ok (.getfield 126, 3) := dk_180 0 126 (dk_at dksX7_parts_0 9 rfl rfl)
theorem dX7_parts_12 : decode cX7_parts 12 = .ok (.aload_n 0, 1) := dk_42 (dk_at dksX7_parts_0 12 rfl rfl)
theorem dX7_parts_13 : decode cX7_parts 13 = .ok (.invokevirtual 129, 3) := dk_182 0 129 (dk_at dksX7_parts_0 13 rfl rfl)
theorem dX7_parts_16 : decode cX7_parts 16 = .ok (.invokevirtual 133, 3) := dk_182 0 133 (dk_at dksX7_parts_0 16 rfl rfl)
theorem dX7_parts_19 : decode cX7_parts 19 = .ok (.pop, 1) := dk_87 (dk_at dksX7_parts_0 19 rfl rfl)
theorem dX7_parts_20 : decode cX7_parts 20 = .ok (.aload_n 0, 1) := dk_42 (dk_at dksX7_parts_0 20 rfl rfl)
theorem dX7_parts_21 : decode cX7_parts 21 = .ok (.bipush 45, 2) := dk_16 45 (dk_at dksX7_parts_0 21 rfl rfl)
theorem dX7_parts_23 : decode cX7_parts 23 = .ok (.invokevirtual 30, 3) := dk_182 0 30 (dk_at dksX7_parts_1 0 rfl rfl)
theorem dX7_parts_26 : decode cX7_parts 26 = .ok (.ifCond .eq 28, 3) := dk_153 0 28 (dk_at dksX7_parts_1 3 rfl rfl)
theorem dX7_parts_29 : decode cX7_parts 29 = .ok (.aload_n 0, 1) := dk_42 (dk_at dksX7_parts_1 6 rfl rfl)
theorem dX7_parts_30 : decode cX7_parts 30 = .ok (.dup, 1) := dk_89 (dk_at dksX7_parts_1 7 rfl rfl)
theorem dX7_parts_31 : decode cX7_parts 31 = .ok (.getfield 15, 3) := dk_180 0 15 (dk_at dksX7_parts_1 8 rfl rfl)
theorem dX7_parts_34 : decode cX7_parts 34 = .ok (.iconst 1, 1) := dk_4 (dk_at dksX7_parts_1 11 rfl rfl)
theorem dX7_parts_35 : decode cX7_parts 35 = .ok (.iadd, 1) := dk_96 (dk_at dksX7_parts_1 12 rfl rfl)
theorem dX7_parts_36 : decode cX7_parts 36 = .ok (.putfield 15, 3) := dk_181 0 15 (dk_at dksX7_parts_1 13 rfl rfl)
theorem dX7_parts_39 : decode cX7_parts 39 = .ok (.aload_n 1, 1) := dk_43 (dk_at dksX7_parts_1 16 rfl rfl)
theorem dX7_parts_40 : decode cX7_parts 40 = .ok (.getfield 126, 3) := dk_180 0 126 (dk_at dksX7_parts_1 17 rfl rfl)
theorem dX7_parts_43 : decode cX7_parts 43 = .ok (.aload_n 0, 1) := dk_42 (dk_at dksX7_parts_1 20 rfl rfl)
theorem dX7_parts_44 : decode cX7_parts 44 = .ok (.invokevirtual 129, 3) := dk_182 0 129 (dk_at dksX7_parts_1 21 rfl rfl)
theorem dX7_parts_47 : decode cX7_parts 47 = .ok (.invokevirtual 133, 3) := dk_182 0 133 (dk_at dksX7_parts_2 0 rfl rfl)
theorem dX7_parts_50 : decode cX7_parts 50 = .ok (.pop, 1) := dk_87 (dk_at dksX7_parts_2 3 rfl rfl)
theorem dX7_parts_51 : decode cX7_parts 51 = .ok (.goto (-31), 3) := dk_167 255 225 (dk_at dksX7_parts_2 4 rfl rfl)
theorem dX7_parts_54 : decode cX7_parts 54 = .ok (.aload_n 1, 1) := dk_43 (dk_at dksX7_parts_2 7 rfl rfl)
theorem dX7_parts_55 : decode cX7_parts 55 = .ok (.areturn, 1) := dk_176 (dk_at dksX7_parts_2 8 rfl rfl)
abbrev cX7_part : ByteArray := prog_13_method_12_code
def yX7_part : MethodName := ⟨RX7, "part", "()LBranchNames$Part;"⟩
def dkwX7_part_4 : List UInt8 := [181, 0, 52, 43, 42, 182, 0, 120, 181, 0, 123, 43, 176]
abbrev dktX7_part_4 : List UInt8 := dkwX7_part_4 ++ []
def dkwX7_part_3 : List UInt8 := [180, 0, 114, 182, 0, 65, 61, 28, 155, 0, 18, 43, 28, 5, 96, 181, 0, 117, 42, 42, 180, 0, 15]
abbrev dktX7_part_3 : List UInt8 := dkwX7_part_3 ++ dktX7_part_4
def dkwX7_part_2 : List UInt8 := [167, 255, 229, 42, 16, 45, 182, 0, 80, 42, 42, 180, 0, 15, 181, 0, 52, 42, 42, 180, 0, 3]
abbrev dktX7_part_2 : List UInt8 := dkwX7_part_2 ++ dktX7_part_3
def dkwX7_part_1 : List UInt8 := [182, 0, 30, 153, 0, 24, 42, 89, 180, 0, 15, 4, 96, 181, 0, 15, 43, 42, 182, 0, 108, 182, 0, 111]
abbrev dktX7_part_1 : List UInt8 := dkwX7_part_1 ++ dktX7_part_2
def dkwX7_part_0 : List UInt8 := [187, 0, 105, 89, 42, 180, 0, 15, 183, 0, 107, 76, 43, 42, 182, 0, 108, 182, 0, 111, 42, 16, 44]
abbrev dktX7_part_0 : List UInt8 := dkwX7_part_0 ++ dktX7_part_1
theorem dksX7_part_0 : cX7_part.data.toList.drop 0 = dktX7_part_0 := by decide +kernel
theorem dksX7_part_1 : cX7_part.data.toList.drop 23 = dktX7_part_1 := dk_seg dksX7_part_0 23 rfl rfl
theorem dksX7_part_2 : cX7_part.data.toList.drop 47 = dktX7_part_2 := dk_seg dksX7_part_1 24 rfl rfl
theorem dksX7_part_3 : cX7_part.data.toList.drop 69 = dktX7_part_3 := dk_seg dksX7_part_2 22 rfl rfl
theorem dksX7_part_4 : cX7_part.data.toList.drop 92 = dktX7_part_4 := dk_seg dksX7_part_3 23 rfl rfl
theorem dX7_part_0 : decode cX7_part 0 = .ok (.new 105, 3) := dk_187 0 105 (dk_at dksX7_part_0 0 rfl rfl)
theorem dX7_part_3 : decode cX7_part 3 = .ok (.dup, 1) := dk_89 (dk_at dksX7_part_0 3 rfl rfl)
theorem dX7_part_4 : decode cX7_part 4 = .ok (.aload_n 0, 1) := dk_42 (dk_at dksX7_part_0 4 rfl rfl)
theorem dX7_part_5 : decode cX7_part 5 = .ok (.getfield 15, 3) := dk_180 0 15 (dk_at dksX7_part_0 5 rfl rfl)
theorem dX7_part_8 : decode cX7_part 8 = .ok (.invokespecial 107, 3) := dk_183 0 107 (dk_at dksX7_part_0 8 rfl rfl)
theorem dX7_part_11 : decode cX7_part 11 = .ok (.astore_n 1, 1) := dk_76 (dk_at dksX7_part_0 11 rfl rfl)
theorem dX7_part_12 : decode cX7_part 12 = .ok (.aload_n 1, 1) := dk_43 (dk_at dksX7_part_0 12 rfl rfl)
theorem dX7_part_13 : decode cX7_part 13 = .ok (.aload_n 0, 1) := dk_42 (dk_at dksX7_part_0 13 rfl rfl)
theorem dX7_part_14 : decode cX7_part 14 = .ok (.invokevirtual 108, 3) := dk_182 0 108 (dk_at dksX7_part_0 14 rfl rfl)
theorem dX7_part_17 : decode cX7_part 17 = .ok (.invokevirtual 111, 3) := dk_182 0 111 (dk_at dksX7_part_0 17 rfl rfl)
theorem dX7_part_20 : decode cX7_part 20 = .ok (.aload_n 0, 1) := dk_42 (dk_at dksX7_part_0 20 rfl rfl)
theorem dX7_part_21 : decode cX7_part 21 = .ok (.bipush 44, 2) := dk_16 44 (dk_at dksX7_part_0 21 rfl rfl)
theorem dX7_part_23 : decode cX7_part 23 = .ok (.invokevirtual 30, 3) := dk_182 0 30 (dk_at dksX7_part_1 0 rfl rfl)
theorem dX7_part_26 : decode cX7_part 26 = .ok (.ifCond .eq 24, 3) := dk_153 0 24 (dk_at dksX7_part_1 3 rfl rfl)
theorem dX7_part_29 : decode cX7_part 29 = .ok (.aload_n 0, 1) := dk_42 (dk_at dksX7_part_1 6 rfl rfl)
theorem dX7_part_30 : decode cX7_part 30 = .ok (.dup, 1) := dk_89 (dk_at dksX7_part_1 7 rfl rfl)
theorem dX7_part_31 : decode cX7_part 31 = .ok (.getfield 15, 3) := dk_180 0 15 (dk_at dksX7_part_1 8 rfl rfl)
theorem dX7_part_34 : decode cX7_part 34 = .ok (.iconst 1, 1) := dk_4 (dk_at dksX7_part_1 11 rfl rfl)
theorem dX7_part_35 : decode cX7_part 35 = .ok (.iadd, 1) := dk_96 (dk_at dksX7_part_1 12 rfl rfl)
theorem dX7_part_36 : decode cX7_part 36 = .ok (.putfield 15, 3) := dk_181 0 15 (dk_at dksX7_part_1 13 rfl rfl)
theorem dX7_part_39 : decode cX7_part 39 = .ok (.aload_n 1, 1) := dk_43 (dk_at dksX7_part_1 16 rfl rfl)
theorem dX7_part_40 : decode cX7_part 40 = .ok (.aload_n 0, 1) := dk_42 (dk_at dksX7_part_1 17 rfl rfl)
theorem dX7_part_41 : decode cX7_part 41 = .ok (.invokevirtual 108, 3) := dk_182 0 108 (dk_at dksX7_part_1 18 rfl rfl)
theorem dX7_part_44 : decode cX7_part 44 = .ok (.invokevirtual 111, 3) := dk_182 0 111 (dk_at dksX7_part_1 21 rfl rfl)
theorem dX7_part_47 : decode cX7_part 47 = .ok (.goto (-27), 3) := dk_167 255 229 (dk_at dksX7_part_2 0 rfl rfl)
theorem dX7_part_50 : decode cX7_part 50 = .ok (.aload_n 0, 1) := dk_42 (dk_at dksX7_part_2 3 rfl rfl)
theorem dX7_part_51 : decode cX7_part 51 = .ok (.bipush 45, 2) := dk_16 45 (dk_at dksX7_part_2 4 rfl rfl)
theorem dX7_part_53 : decode cX7_part 53 = .ok (.invokevirtual 80, 3) := dk_182 0 80 (dk_at dksX7_part_2 6 rfl rfl)
theorem dX7_part_56 : decode cX7_part 56 = .ok (.aload_n 0, 1) := dk_42 (dk_at dksX7_part_2 9 rfl rfl)
theorem dX7_part_57 : decode cX7_part 57 = .ok (.aload_n 0, 1) := dk_42 (dk_at dksX7_part_2 10 rfl rfl)
theorem dX7_part_58 : decode cX7_part 58 = .ok (.getfield 15, 3) := dk_180 0 15 (dk_at dksX7_part_2 11 rfl rfl)
theorem dX7_part_61 : decode cX7_part 61 = .ok (.putfield 52, 3) := dk_181 0 52 (dk_at dksX7_part_2 14 rfl rfl)
theorem dX7_part_64 : decode cX7_part 64 = .ok (.aload_n 0, 1) := dk_42 (dk_at dksX7_part_2 17 rfl rfl)
theorem dX7_part_65 : decode cX7_part 65 = .ok (.aload_n 0, 1) := dk_42 (dk_at dksX7_part_2 18 rfl rfl)
theorem dX7_part_66 : decode cX7_part 66 = .ok (.getfield 3, 3) := dk_180 0 3 (dk_at dksX7_part_2 19 rfl rfl)
theorem dX7_part_69 : decode cX7_part 69 = .ok (.getfield 114, 3) := dk_180 0 114 (dk_at dksX7_part_3 0 rfl rfl)
theorem dX7_part_72 : decode cX7_part 72 = .ok (.invokevirtual 65, 3) := dk_182 0 65 (dk_at dksX7_part_3 3 rfl rfl)
theorem dX7_part_75 : decode cX7_part 75 = .ok (.istore_n 2, 1) := dk_61 (dk_at dksX7_part_3 6 rfl rfl)
theorem dX7_part_76 : decode cX7_part 76 = .ok (.iload_n 2, 1) := dk_28 (dk_at dksX7_part_3 7 rfl rfl)
theorem dX7_part_77 : decode cX7_part 77 = .ok (.ifCond .lt 18, 3) := dk_155 0 18 (dk_at dksX7_part_3 8 rfl rfl)
theorem dX7_part_80 : decode cX7_part 80 = .ok (.aload_n 1, 1) := dk_43 (dk_at dksX7_part_3 11 rfl rfl)
theorem dX7_part_81 : decode cX7_part 81 = .ok (.iload_n 2, 1) := dk_28 (dk_at dksX7_part_3 12 rfl rfl)
theorem dX7_part_82 : decode cX7_part 82 = .ok (.iconst 2, 1) := dk_5 (dk_at dksX7_part_3 13 rfl rfl)
theorem dX7_part_83 : decode cX7_part 83 = .ok (.iadd, 1) := dk_96 (dk_at dksX7_part_3 14 rfl rfl)
theorem dX7_part_84 : decode cX7_part 84 = .ok (.putfield 117, 3) := dk_181 0 117 (dk_at dksX7_part_3 15 rfl rfl)
theorem dX7_part_87 : decode cX7_part 87 = .ok (.aload_n 0, 1) := dk_42 (dk_at dksX7_part_3 18 rfl rfl)
theorem dX7_part_88 : decode cX7_part 88 = .ok (.aload_n 0, 1) := dk_42 (dk_at dksX7_part_3 19 rfl rfl)
theorem dX7_part_89 : decode cX7_part 89 = .ok (.getfield 15, 3) := dk_180 0 15 (dk_at dksX7_part_3 20 rfl rfl)
theorem dX7_part_92 : decode cX7_part 92 = .ok (.putfield 52, 3) := dk_181 0 52 (dk_at dksX7_part_4 0 rfl rfl)
theorem dX7_part_95 : decode cX7_part 95 = .ok (.aload_n 1, 1) := dk_43 (dk_at dksX7_part_4 3 rfl rfl)
theorem dX7_part_96 : decode cX7_part 96 = .ok (.aload_n 0, 1) := dk_42 (dk_at dksX7_part_4 4 rfl rfl)
theorem dX7_part_97 : decode cX7_part 97 = .ok (.invokevirtual 120, 3) := dk_182 0 120 (dk_at dksX7_part_4 5 rfl rfl)
theorem dX7_part_100 : decode cX7_part 100 = .ok (.putfield 123, 3) := dk_181 0 123 (dk_at dksX7_part_4 8 rfl rfl)
theorem dX7_part_103 : decode cX7_part 103 = .ok (.aload_n 1, 1) := dk_43 (dk_at dksX7_part_4 11 rfl rfl)
theorem dX7_part_104 : decode cX7_part 104 = .ok (.areturn, 1) := dk_176 (dk_at dksX7_part_4 12 rfl rfl)
abbrev cX7_number : ByteArray := prog_13_method_8_code
def yX7_number : MethodName := ⟨RX7, "number", "()I"⟩
def dkwX7_number_3 : List UInt8 := [16, 48, 100, 60, 42, 89, 180, 0, 15, 4, 96, 181, 0, 15, 27, 172]
abbrev dktX7_number_3 : List UInt8 := dkwX7_number_3 ++ []
def dkwX7_number_2 : List UInt8 := [181, 0, 15, 42, 182, 0, 26, 184, 0, 77, 154, 0, 5, 27, 172, 16, 10, 27, 104, 42, 182, 0, 26, 96]
abbrev dktX7_number_2 : List UInt8 := dkwX7_number_2 ++ dktX7_number_3
def dkwX7_number_1 : List UInt8 := [180, 0, 15, 183, 0, 36, 191, 42, 182, 0, 26, 16, 48, 100, 60, 42, 89, 180, 0, 15, 4, 96]
abbrev dktX7_number_1 : List UInt8 := dkwX7_number_1 ++ dktX7_number_2
def dkwX7_number_0 : List UInt8 := [42, 182, 0, 26, 133, 20, 0, 69, 20, 0, 71, 184, 0, 73, 154, 0, 15, 187, 0, 34, 89, 42]
abbrev dktX7_number_0 : List UInt8 := dkwX7_number_0 ++ dktX7_number_1
theorem dksX7_number_0 : cX7_number.data.toList.drop 0 = dktX7_number_0 := by decide +kernel
theorem dksX7_number_1 : cX7_number.data.toList.drop 22 = dktX7_number_1 := dk_seg dksX7_number_0 22 rfl rfl
theorem dksX7_number_2 : cX7_number.data.toList.drop 44 = dktX7_number_2 := dk_seg dksX7_number_1 22 rfl rfl
theorem dksX7_number_3 : cX7_number.data.toList.drop 68 = dktX7_number_3 := dk_seg dksX7_number_2 24 rfl rfl
theorem dX7_number_0 : decode cX7_number 0 = .ok (.aload_n 0, 1) := dk_42 (dk_at dksX7_number_0 0 rfl rfl)
theorem dX7_number_1 : decode cX7_number 1 = .ok (.invokevirtual 26, 3) := dk_182 0 26 (dk_at dksX7_number_0 1 rfl rfl)
theorem dX7_number_4 : decode cX7_number 4 = .ok (.i2l, 1) := dk_133 (dk_at dksX7_number_0 4 rfl rfl)
theorem dX7_number_5 : decode cX7_number 5 = .ok (.ldc2_w 69, 3) := dk_20 0 69 (dk_at dksX7_number_0 5 rfl rfl)
theorem dX7_number_8 : decode cX7_number 8 = .ok (.ldc2_w 71, 3) := dk_20 0 71 (dk_at dksX7_number_0 8 rfl rfl)
theorem dX7_number_11 : decode cX7_number 11 = .ok (.invokestatic 73, 3) := dk_184 0 73 (dk_at dksX7_number_0 11 rfl rfl)
theorem dX7_number_14 : decode cX7_number 14 = .ok (.ifCond .ne 15, 3) := dk_154 0 15 (dk_at dksX7_number_0 14 rfl rfl)
theorem dX7_number_17 : decode cX7_number 17 = .ok (.new 34, 3) := dk_187 0 34 (dk_at dksX7_number_0 17 rfl rfl)
theorem dX7_number_20 : decode cX7_number 20 = .ok (.dup, 1) := dk_89 (dk_at dksX7_number_0 20 rfl rfl)
theorem dX7_number_21 : decode cX7_number 21 = .ok (.aload_n 0, 1) := dk_42 (dk_at dksX7_number_0 21 rfl rfl)
theorem dX7_number_22 : decode cX7_number 22 = .ok (.getfield 15, 3) := dk_180 0 15 (dk_at dksX7_number_1 0 rfl rfl)
theorem dX7_number_25 : decode cX7_number 25 = .ok (.invokespecial 36, 3) := dk_183 0 36 (dk_at dksX7_number_1 3 rfl rfl)
theorem dX7_number_28 : decode cX7_number 28 = .ok (.athrow, 1) := dk_191 (dk_at dksX7_number_1 6 rfl rfl)
theorem dX7_number_29 : decode cX7_number 29 = .ok (.aload_n 0, 1) := dk_42 (dk_at dksX7_number_1 7 rfl rfl)
theorem dX7_number_30 : decode cX7_number 30 = .ok (.invokevirtual 26, 3) := dk_182 0 26 (dk_at dksX7_number_1 8 rfl rfl)
theorem dX7_number_33 : decode cX7_number 33 = .ok (.bipush 48, 2) := dk_16 48 (dk_at dksX7_number_1 11 rfl rfl)
theorem dX7_number_35 : decode cX7_number 35 = .ok (.isub, 1) := dk_100 (dk_at dksX7_number_1 13 rfl rfl)
theorem dX7_number_36 : decode cX7_number 36 = .ok (.istore_n 1, 1) := dk_60 (dk_at dksX7_number_1 14 rfl rfl)
theorem dX7_number_37 : decode cX7_number 37 = .ok (.aload_n 0, 1) := dk_42 (dk_at dksX7_number_1 15 rfl rfl)
theorem dX7_number_38 : decode cX7_number 38 = .ok (.dup, 1) := dk_89 (dk_at dksX7_number_1 16 rfl rfl)
theorem dX7_number_39 : decode cX7_number 39 = .ok (.getfield 15, 3) := dk_180 0 15 (dk_at dksX7_number_1 17 rfl rfl)
theorem dX7_number_42 : decode cX7_number 42 = .ok (.iconst 1, 1) := dk_4 (dk_at dksX7_number_1 20 rfl rfl)
theorem dX7_number_43 : decode cX7_number 43 = .ok (.iadd, 1) := dk_96 (dk_at dksX7_number_1 21 rfl rfl)
theorem dX7_number_44 : decode cX7_number 44 = .ok (.putfield 15, 3) := dk_181 0 15 (dk_at dksX7_number_2 0 rfl rfl)
theorem dX7_number_47 : decode cX7_number 47 = .ok (.aload_n 0, 1) := dk_42 (dk_at dksX7_number_2 3 rfl rfl)
theorem dX7_number_48 : decode cX7_number 48 = .ok (.invokevirtual 26, 3) := dk_182 0 26 (dk_at dksX7_number_2 4 rfl rfl)
theorem dX7_number_51 : decode cX7_number 51 = .ok (.invokestatic 77, 3) := dk_184 0 77 (dk_at dksX7_number_2 7 rfl rfl)
theorem dX7_number_54 : decode cX7_number 54 = .ok (.ifCond .ne 5, 3) := dk_154 0 5 (dk_at dksX7_number_2 10 rfl rfl)
theorem dX7_number_57 : decode cX7_number 57 = .ok (.iload_n 1, 1) := dk_27 (dk_at dksX7_number_2 13 rfl rfl)
theorem dX7_number_58 : decode cX7_number 58 = .ok (.ireturn, 1) := dk_172 (dk_at dksX7_number_2 14 rfl rfl)
theorem dX7_number_59 : decode cX7_number 59 = .ok (.bipush 10, 2) := dk_16 10 (dk_at dksX7_number_2 15 rfl rfl)
theorem dX7_number_61 : decode cX7_number 61 = .ok (.iload_n 1, 1) := dk_27 (dk_at dksX7_number_2 17 rfl rfl)
theorem dX7_number_62 : decode cX7_number 62 = .ok (.imul, 1) := dk_104 (dk_at dksX7_number_2 18 rfl rfl)
theorem dX7_number_63 : decode cX7_number 63 = .ok (.aload_n 0, 1) := dk_42 (dk_at dksX7_number_2 19 rfl rfl)
theorem dX7_number_64 : decode cX7_number 64 = .ok (.invokevirtual 26, 3) := dk_182 0 26 (dk_at dksX7_number_2 20 rfl rfl)
theorem dX7_number_67 : decode cX7_number 67 = .ok (.iadd, 1) := dk_96 (dk_at dksX7_number_2 23 rfl rfl)
theorem dX7_number_68 : decode cX7_number 68 = .ok (.bipush 48, 2) := dk_16 48 (dk_at dksX7_number_3 0 rfl rfl)
theorem dX7_number_70 : decode cX7_number 70 = .ok (.isub, 1) := dk_100 (dk_at dksX7_number_3 2 rfl rfl)
theorem dX7_number_71 : decode cX7_number 71 = .ok (.istore_n 1, 1) := dk_60 (dk_at dksX7_number_3 3 rfl rfl)
theorem dX7_number_72 : decode cX7_number 72 = .ok (.aload_n 0, 1) := dk_42 (dk_at dksX7_number_3 4 rfl rfl)
theorem dX7_number_73 : decode cX7_number 73 = .ok (.dup, 1) := dk_89 (dk_at dksX7_number_3 5 rfl rfl)
theorem dX7_number_74 : decode cX7_number 74 = .ok (.getfield 15, 3) := dk_180 0 15 (dk_at dksX7_number_3 6 rfl rfl)
theorem dX7_number_77 : decode cX7_number 77 = .ok (.iconst 1, 1) := dk_4 (dk_at dksX7_number_3 9 rfl rfl)
theorem dX7_number_78 : decode cX7_number 78 = .ok (.iadd, 1) := dk_96 (dk_at dksX7_number_3 10 rfl rfl)
theorem dX7_number_79 : decode cX7_number 79 = .ok (.putfield 15, 3) := dk_181 0 15 (dk_at dksX7_number_3 11 rfl rfl)
theorem dX7_number_82 : decode cX7_number 82 = .ok (.iload_n 1, 1) := dk_27 (dk_at dksX7_number_3 14 rfl rfl)
theorem dX7_number_83 : decode cX7_number 83 = .ok (.ireturn, 1) := dk_172 (dk_at dksX7_number_3 15 rfl rfl)
abbrev cX7_isSign : ByteArray := prog_13_method_3_code
def yX7_isSign : MethodName := ⟨RX7, "isSign", "(I)Z"⟩
def dkwX7_isSign_0 : List UInt8 := [42, 182, 0, 26, 27, 160, 0, 7, 4, 167, 0, 4, 3, 172]
abbrev dktX7_isSign_0 : List UInt8 := dkwX7_isSign_0 ++ []
theorem dksX7_isSign_0 : cX7_isSign.data.toList.drop 0 = dktX7_isSign_0 := by decide +kernel
theorem dX7_isSign_0 : decode cX7_isSign 0 = .ok (.aload_n 0, 1) := dk_42 (dk_at dksX7_isSign_0 0 rfl rfl)
theorem dX7_isSign_1 : decode cX7_isSign 1 = .ok (.invokevirtual 26, 3) := dk_182 0 26 (dk_at dksX7_isSign_0 1 rfl rfl)
theorem dX7_isSign_4 : decode cX7_isSign 4 = .ok (.iload_n 1, 1) := dk_27 (dk_at dksX7_isSign_0 4 rfl rfl)
theorem dX7_isSign_5 : decode cX7_isSign 5 = .ok (.if_icmp .ne 7, 3) := dk_160 0 7 (dk_at dksX7_isSign_0 5 rfl rfl)
theorem dX7_isSign_8 : decode cX7_isSign 8 = .ok (.iconst 1, 1) := dk_4 (dk_at dksX7_isSign_0 8 rfl rfl)
theorem dX7_isSign_9 : decode cX7_isSign 9 = .ok (.goto 4, 3) := dk_167 0 4 (dk_at dksX7_isSign_0 9 rfl rfl)
theorem dX7_isSign_12 : decode cX7_isSign 12 = .ok (.iconst 0, 1) := dk_3 (dk_at dksX7_isSign_0 12 rfl rfl)
theorem dX7_isSign_13 : decode cX7_isSign 13 = .ok (.ireturn, 1) := dk_172 (dk_at dksX7_isSign_0 13 rfl rfl)
abbrev cX7_must : ByteArray := prog_13_method_4_code
def yX7_must : MethodName := ⟨RX7, "must", "(I)V"⟩
def dkwX7_must_1 : List UInt8 := [180, 0, 15, 4, 96, 181, 0, 15, 177]
abbrev dktX7_must_1 : List UInt8 := dkwX7_must_1 ++ []
def dkwX7_must_0 : List UInt8 := [42, 27, 182, 0, 30, 154, 0, 15, 187, 0, 34, 89, 42, 180, 0, 15, 183, 0, 36, 191, 42, 89]
abbrev dktX7_must_0 : List UInt8 := dkwX7_must_0 ++ dktX7_must_1
theorem dksX7_must_0 : cX7_must.data.toList.drop 0 = dktX7_must_0 := by decide +kernel
theorem dksX7_must_1 : cX7_must.data.toList.drop 22 = dktX7_must_1 := dk_seg dksX7_must_0 22 rfl rfl
theorem dX7_must_0 : decode cX7_must 0 = .ok (.aload_n 0, 1) := dk_42 (dk_at dksX7_must_0 0 rfl rfl)
theorem dX7_must_1 : decode cX7_must 1 = .ok (.iload_n 1, 1) := dk_27 (dk_at dksX7_must_0 1 rfl rfl)
theorem dX7_must_2 : decode cX7_must 2 = .ok (.invokevirtual 30, 3) := dk_182 0 30 (dk_at dksX7_must_0 2 rfl rfl)
theorem dX7_must_5 : decode cX7_must 5 = .ok (.ifCond .ne 15, 3) := dk_154 0 15 (dk_at dksX7_must_0 5 rfl rfl)
theorem dX7_must_8 : decode cX7_must 8 = .ok (.new 34, 3) := dk_187 0 34 (dk_at dksX7_must_0 8 rfl rfl)
theorem dX7_must_11 : decode cX7_must 11 = .ok (.dup, 1) := dk_89 (dk_at dksX7_must_0 11 rfl rfl)
theorem dX7_must_12 : decode cX7_must 12 = .ok (.aload_n 0, 1) := dk_42 (dk_at dksX7_must_0 12 rfl rfl)
theorem dX7_must_13 : decode cX7_must 13 = .ok (.getfield 15, 3) := dk_180 0 15 (dk_at dksX7_must_0 13 rfl rfl)
theorem dX7_must_16 : decode cX7_must 16 = .ok (.invokespecial 36, 3) := dk_183 0 36 (dk_at dksX7_must_0 16 rfl rfl)
theorem dX7_must_19 : decode cX7_must 19 = .ok (.athrow, 1) := dk_191 (dk_at dksX7_must_0 19 rfl rfl)
theorem dX7_must_20 : decode cX7_must 20 = .ok (.aload_n 0, 1) := dk_42 (dk_at dksX7_must_0 20 rfl rfl)
theorem dX7_must_21 : decode cX7_must 21 = .ok (.dup, 1) := dk_89 (dk_at dksX7_must_0 21 rfl rfl)
theorem dX7_must_22 : decode cX7_must 22 = .ok (.getfield 15, 3) := dk_180 0 15 (dk_at dksX7_must_1 0 rfl rfl)
theorem dX7_must_25 : decode cX7_must 25 = .ok (.iconst 1, 1) := dk_4 (dk_at dksX7_must_1 3 rfl rfl)
theorem dX7_must_26 : decode cX7_must 26 = .ok (.iadd, 1) := dk_96 (dk_at dksX7_must_1 4 rfl rfl)
theorem dX7_must_27 : decode cX7_must 27 = .ok (.putfield 15, 3) := dk_181 0 15 (dk_at dksX7_must_1 5 rfl rfl)
theorem dX7_must_30 : decode cX7_must 30 = .ok (.return_, 1) := dk_177 (dk_at dksX7_must_1 8 rfl rfl)
abbrev cX7_wordOf : ByteArray := prog_13_method_6_code
def yX7_wordOf : MethodName := ⟨RX7, "wordOf", "([Ljava/lang/String;)I"⟩
def dkwX7_wordOf_2 : List UInt8 := [42, 89, 180, 0, 15, 29, 96, 181, 0, 15, 28, 172, 132, 2, 1, 167, 255, 197, 2, 172]
abbrev dktX7_wordOf_2 : List UInt8 := dkwX7_wordOf_2 ++ []
def dkwX7_wordOf_1 : List UInt8 := [180, 0, 15, 29, 96, 184, 0, 55, 181, 0, 52, 29, 43, 28, 50, 182, 0, 39, 162, 0, 6, 167, 0, 15]
abbrev dktX7_wordOf_1 : List UInt8 := dkwX7_wordOf_1 ++ dktX7_wordOf_2
def dkwX7_wordOf_0 : List UInt8 := [3, 61, 28, 43, 190, 162, 0, 59, 42, 43, 28, 50, 182, 0, 48, 62, 42, 42, 180, 0, 52, 42]
abbrev dktX7_wordOf_0 : List UInt8 := dkwX7_wordOf_0 ++ dktX7_wordOf_1
theorem dksX7_wordOf_0 : cX7_wordOf.data.toList.drop 0 = dktX7_wordOf_0 := by decide +kernel
theorem dksX7_wordOf_1 : cX7_wordOf.data.toList.drop 22 = dktX7_wordOf_1 := dk_seg dksX7_wordOf_0 22 rfl rfl
theorem dksX7_wordOf_2 : cX7_wordOf.data.toList.drop 46 = dktX7_wordOf_2 := dk_seg dksX7_wordOf_1 24 rfl rfl
theorem dX7_wordOf_0 : decode cX7_wordOf 0 = .ok (.iconst 0, 1) := dk_3 (dk_at dksX7_wordOf_0 0 rfl rfl)
theorem dX7_wordOf_1 : decode cX7_wordOf 1 = .ok (.istore_n 2, 1) := dk_61 (dk_at dksX7_wordOf_0 1 rfl rfl)
theorem dX7_wordOf_2 : decode cX7_wordOf 2 = .ok (.iload_n 2, 1) := dk_28 (dk_at dksX7_wordOf_0 2 rfl rfl)
theorem dX7_wordOf_3 : decode cX7_wordOf 3 = .ok (.aload_n 1, 1) := dk_43 (dk_at dksX7_wordOf_0 3 rfl rfl)
theorem dX7_wordOf_4 : decode cX7_wordOf 4 = .ok (.arraylength, 1) := dk_190 (dk_at dksX7_wordOf_0 4 rfl rfl)
theorem dX7_wordOf_5 : decode cX7_wordOf 5 = .ok (.if_icmp .ge 59, 3) := dk_162 0 59 (dk_at dksX7_wordOf_0 5 rfl rfl)
theorem dX7_wordOf_8 : decode cX7_wordOf 8 = .ok (.aload_n 0, 1) := dk_42 (dk_at dksX7_wordOf_0 8 rfl rfl)
theorem dX7_wordOf_9 : decode cX7_wordOf 9 = .ok (.aload_n 1, 1) := dk_43 (dk_at dksX7_wordOf_0 9 rfl rfl)
theorem dX7_wordOf_10 : decode cX7_wordOf 10 = .ok (.iload_n 2, 1) := dk_28 (dk_at dksX7_wordOf_0 10 rfl rfl)
theorem dX7_wordOf_11 : decode cX7_wordOf 11 = .ok (.aaload, 1) := dk_50 (dk_at dksX7_wordOf_0 11 rfl rfl)
theorem dX7_wordOf_12 : decode cX7_wordOf 12 = .ok (.invokevirtual 48, 3) := dk_182 0 48 (dk_at dksX7_wordOf_0 12 rfl rfl)
theorem dX7_wordOf_15 : decode cX7_wordOf 15 = .ok (.istore_n 3, 1) := dk_62 (dk_at dksX7_wordOf_0 15 rfl rfl)
theorem dX7_wordOf_16 : decode cX7_wordOf 16 = .ok (.aload_n 0, 1) := dk_42 (dk_at dksX7_wordOf_0 16 rfl rfl)
theorem dX7_wordOf_17 : decode cX7_wordOf 17 = .ok (.aload_n 0, 1) := dk_42 (dk_at dksX7_wordOf_0 17 rfl rfl)
theorem dX7_wordOf_18 : decode cX7_wordOf 18 = .ok (.getfield 52, 3) := dk_180 0 52 (dk_at dksX7_wordOf_0 18 rfl rfl)
theorem dX7_wordOf_21 : decode cX7_wordOf 21 = .ok (.aload_n 0, 1) := dk_42 (dk_at dksX7_wordOf_0 21 rfl rfl)
theorem dX7_wordOf_22 : decode cX7_wordOf 22 = .ok (.getfield 15, 3) := dk_180 0 15 (dk_at dksX7_wordOf_1 0 rfl rfl)
theorem dX7_wordOf_25 : decode cX7_wordOf 25 = .ok (.iload_n 3, 1) := dk_29 (dk_at dksX7_wordOf_1 3 rfl rfl)
theorem dX7_wordOf_26 : decode cX7_wordOf 26 = .ok (.iadd, 1) := dk_96 (dk_at dksX7_wordOf_1 4 rfl rfl)
theorem dX7_wordOf_27 : decode cX7_wordOf 27 = .ok (.invokestatic 55, 3) := dk_184 0 55 (dk_at dksX7_wordOf_1 5 rfl rfl)
theorem dX7_wordOf_30 : decode cX7_wordOf 30 = .ok (.putfield 52, 3) := dk_181 0 52 (dk_at dksX7_wordOf_1 8 rfl rfl)
theorem dX7_wordOf_33 : decode cX7_wordOf 33 = .ok (.iload_n 3, 1) := dk_29 (dk_at dksX7_wordOf_1 11 rfl rfl)
theorem dX7_wordOf_34 : decode cX7_wordOf 34 = .ok (.aload_n 1, 1) := dk_43 (dk_at dksX7_wordOf_1 12 rfl rfl)
theorem dX7_wordOf_35 : decode cX7_wordOf 35 = .ok (.iload_n 2, 1) := dk_28 (dk_at dksX7_wordOf_1 13 rfl rfl)
theorem dX7_wordOf_36 : decode cX7_wordOf 36 = .ok (.aaload, 1) := dk_50 (dk_at dksX7_wordOf_1 14 rfl rfl)
theorem dX7_wordOf_37 : decode cX7_wordOf 37 = .ok (.invokevirtual 39, 3) := dk_182 0 39 (dk_at dksX7_wordOf_1 15 rfl rfl)
theorem dX7_wordOf_40 : decode cX7_wordOf 40 = .ok (.if_icmp .ge 6, 3) := dk_162 0 6 (dk_at dksX7_wordOf_1 18 rfl rfl)
theorem dX7_wordOf_43 : decode cX7_wordOf 43 = .ok (.goto 15, 3) := dk_167 0 15 (dk_at dksX7_wordOf_1 21 rfl rfl)
theorem dX7_wordOf_46 : decode cX7_wordOf 46 = .ok (.aload_n 0, 1) := dk_42 (dk_at dksX7_wordOf_2 0 rfl rfl)
theorem dX7_wordOf_47 : decode cX7_wordOf 47 = .ok (.dup, 1) := dk_89 (dk_at dksX7_wordOf_2 1 rfl rfl)
theorem dX7_wordOf_48 : decode cX7_wordOf 48 = .ok (.getfield 15, 3) := dk_180 0 15 (dk_at dksX7_wordOf_2 2 rfl rfl)
theorem dX7_wordOf_51 : decode cX7_wordOf 51 = .ok (.iload_n 3, 1) := dk_29 (dk_at dksX7_wordOf_2 5 rfl rfl)
theorem dX7_wordOf_52 : decode cX7_wordOf 52 = .ok (.iadd, 1) := dk_96 (dk_at dksX7_wordOf_2 6 rfl rfl)
theorem dX7_wordOf_53 : decode cX7_wordOf 53 = .ok (.putfield 15, 3) := dk_181 0 15 (dk_at dksX7_wordOf_2 7 rfl rfl)
theorem dX7_wordOf_56 : decode cX7_wordOf 56 = .ok (.iload_n 2, 1) := dk_28 (dk_at dksX7_wordOf_2 10 rfl rfl)
theorem dX7_wordOf_57 : decode cX7_wordOf 57 = .ok (.ireturn, 1) := dk_172 (dk_at dksX7_wordOf_2 11 rfl rfl)
theorem dX7_wordOf_58 : decode cX7_wordOf 58 = .ok (.iinc 2 1, 3) := dk_132 2 1 (dk_at dksX7_wordOf_2 12 rfl rfl)
theorem dX7_wordOf_61 : decode cX7_wordOf 61 = .ok (.goto (-59), 3) := dk_167 255 197 (dk_at dksX7_wordOf_2 15 rfl rfl)
theorem dX7_wordOf_64 : decode cX7_wordOf 64 = .ok (.iconst (-1), 1) := dk_2 (dk_at dksX7_wordOf_2 18 rfl rfl)
theorem dX7_wordOf_65 : decode cX7_wordOf 65 = .ok (.ireturn, 1) := dk_172 (dk_at dksX7_wordOf_2 19 rfl rfl)
abbrev cX7_alongside : ByteArray := prog_13_method_5_code
def yX7_alongside : MethodName := ⟨RX7, "alongside", "(Ljava/lang/String;)I"⟩
def dkwX7_alongside_2 : List UInt8 := [160, 0, 9, 132, 2, 1, 167, 255, 207, 28, 172]
abbrev dktX7_alongside_2 : List UInt8 := dkwX7_alongside_2 ++ []
def dkwX7_alongside_1 : List UInt8 := [162, 0, 31, 42, 180, 0, 3, 180, 0, 22, 42, 180, 0, 15, 28, 96, 51, 43, 28, 182, 0, 44]
abbrev dktX7_alongside_1 : List UInt8 := dkwX7_alongside_1 ++ dktX7_alongside_2
def dkwX7_alongside_0 : List UInt8 := [3, 61, 28, 43, 182, 0, 39, 162, 0, 47, 42, 180, 0, 15, 28, 96, 42, 180, 0, 3, 180, 0, 19]
abbrev dktX7_alongside_0 : List UInt8 := dkwX7_alongside_0 ++ dktX7_alongside_1
theorem dksX7_alongside_0 : cX7_alongside.data.toList.drop 0 = dktX7_alongside_0 := by decide +kernel
theorem dksX7_alongside_1 : cX7_alongside.data.toList.drop 23 = dktX7_alongside_1 := dk_seg dksX7_alongside_0 23 rfl rfl
theorem dksX7_alongside_2 : cX7_alongside.data.toList.drop 45 = dktX7_alongside_2 := dk_seg dksX7_alongside_1 22 rfl rfl
theorem dX7_alongside_0 : decode cX7_alongside 0 = .ok (.iconst 0, 1) := dk_3 (dk_at dksX7_alongside_0 0 rfl rfl)
theorem dX7_alongside_1 : decode cX7_alongside 1 = .ok (.istore_n 2, 1) := dk_61 (dk_at dksX7_alongside_0 1 rfl rfl)
theorem dX7_alongside_2 : decode cX7_alongside 2 = .ok (.iload_n 2, 1) := dk_28 (dk_at dksX7_alongside_0 2 rfl rfl)
theorem dX7_alongside_3 : decode cX7_alongside 3 = .ok (.aload_n 1, 1) := dk_43 (dk_at dksX7_alongside_0 3 rfl rfl)
theorem dX7_alongside_4 : decode cX7_alongside 4 = .ok (.invokevirtual 39, 3) := dk_182 0 39 (dk_at dksX7_alongside_0 4 rfl rfl)
theorem dX7_alongside_7 : decode cX7_alongside 7 = .ok (.if_icmp .ge 47, 3) := dk_162 0 47 (dk_at dksX7_alongside_0 7 rfl rfl)
theorem dX7_alongside_10 : decode cX7_alongside 10 = .ok (.aload_n 0, 1) := dk_42 (dk_at dksX7_alongside_0 10 rfl rfl)
theorem dX7_alongside_11 : decode cX7_alongside 11 = .ok (.getfield 15, 3) := dk_180 0 15 (dk_at dksX7_alongside_0 11 rfl rfl)
theorem dX7_alongside_14 : decode cX7_alongside 14 = .ok (.iload_n 2, 1) := dk_28 (dk_at dksX7_alongside_0 14 rfl rfl)
theorem dX7_alongside_15 : decode cX7_alongside 15 = .ok (.iadd, 1) := dk_96 (dk_at dksX7_alongside_0 15 rfl rfl)
theorem dX7_alongside_16 : decode cX7_alongside 16 = .ok (.aload_n 0, 1) := dk_42 (dk_at dksX7_alongside_0 16 rfl rfl)
theorem dX7_alongside_17 : decode cX7_alongside 17 = .ok (.getfield 3, 3) := dk_180 0 3 (dk_at dksX7_alongside_0 17 rfl rfl)
theorem dX7_alongside_20 : decode cX7_alongside 20 = .ok (.getfield 19, 3) := dk_180 0 19 (dk_at dksX7_alongside_0 20 rfl rfl)
theorem dX7_alongside_23 : decode cX7_alongside 23 = .ok (.if_icmp .ge 31, 3) := dk_162 0 31 (dk_at dksX7_alongside_1 0 rfl rfl)
theorem dX7_alongside_26 : decode cX7_alongside 26 = .ok (.aload_n 0, 1) := dk_42 (dk_at dksX7_alongside_1 3 rfl rfl)
theorem dX7_alongside_27 : decode cX7_alongside 27 = .ok (.getfield 3, 3) := dk_180 0 3 (dk_at dksX7_alongside_1 4 rfl rfl)
theorem dX7_alongside_30 : decode cX7_alongside 30 = .ok (.getfield 22, 3) := dk_180 0 22 (dk_at dksX7_alongside_1 7 rfl rfl)
theorem dX7_alongside_33 : decode cX7_alongside 33 = .ok (.aload_n 0, 1) := dk_42 (dk_at dksX7_alongside_1 10 rfl rfl)
theorem dX7_alongside_34 : decode cX7_alongside 34 = .ok (.getfield 15, 3) := dk_180 0 15 (dk_at dksX7_alongside_1 11 rfl rfl)
theorem dX7_alongside_37 : decode cX7_alongside 37 = .ok (.iload_n 2, 1) := dk_28 (dk_at dksX7_alongside_1 14 rfl rfl)
theorem dX7_alongside_38 : decode cX7_alongside 38 = .ok (.iadd, 1) := dk_96 (dk_at dksX7_alongside_1 15 rfl rfl)
theorem dX7_alongside_39 : decode cX7_alongside 39 = .ok (.baload, 1) := dk_51 (dk_at dksX7_alongside_1 16 rfl rfl)
theorem dX7_alongside_40 : decode cX7_alongside 40 = .ok (.aload_n 1, 1) := dk_43 (dk_at dksX7_alongside_1 17 rfl rfl)
theorem dX7_alongside_41 : decode cX7_alongside 41 = .ok (.iload_n 2, 1) := dk_28 (dk_at dksX7_alongside_1 18 rfl rfl)
theorem dX7_alongside_42 : decode cX7_alongside 42 = .ok (.invokevirtual 44, 3) := dk_182 0 44 (dk_at dksX7_alongside_1 19 rfl rfl)
theorem dX7_alongside_45 : decode cX7_alongside 45 = .ok (.if_icmp .ne 9, 3) := dk_160 0 9 (dk_at dksX7_alongside_2 0 rfl rfl)
theorem dX7_alongside_48 : decode cX7_alongside 48 = .ok (.iinc 2 1, 3) := dk_132 2 1 (dk_at dksX7_alongside_2 3 rfl rfl)
theorem dX7_alongside_51 : decode cX7_alongside 51 = .ok (.goto (-49), 3) := dk_167 255 207 (dk_at dksX7_alongside_2 6 rfl rfl)
theorem dX7_alongside_54 : decode cX7_alongside 54 = .ok (.iload_n 2, 1) := dk_28 (dk_at dksX7_alongside_2 9 rfl rfl)
theorem dX7_alongside_55 : decode cX7_alongside 55 = .ok (.ireturn, 1) := dk_172 (dk_at dksX7_alongside_2 10 rfl rfl)
abbrev cX7_branch : ByteArray := prog_13_method_11_code
def yX7_branch : MethodName := ⟨RX7, "branch", "()LBranchNames$Branch;"⟩
def dkwX7_branch_1 : List UInt8 := [182, 0, 99, 181, 0, 96, 42, 16, 121, 182, 0, 80, 42, 16, 108, 182, 0, 80, 43, 176]
abbrev dktX7_branch_1 : List UInt8 := dkwX7_branch_1 ++ []
def dkwX7_branch_0 : List UInt8 := [42, 16, 40, 182, 0, 30, 153, 0, 8, 42, 182, 0, 101, 176, 187, 0, 88, 89, 183, 0, 104, 76, 43, 42]
abbrev dktX7_branch_0 : List UInt8 := dkwX7_branch_0 ++ dktX7_branch_1
theorem dksX7_branch_0 : cX7_branch.data.toList.drop 0 = dktX7_branch_0 := by decide +kernel
theorem dksX7_branch_1 : cX7_branch.data.toList.drop 24 = dktX7_branch_1 := dk_seg dksX7_branch_0 24 rfl rfl
theorem dX7_branch_0 : decode cX7_branch 0 = .ok (.aload_n 0, 1) := dk_42 (dk_at dksX7_branch_0 0 rfl rfl)
theorem dX7_branch_1 : decode cX7_branch 1 = .ok (.bipush 40, 2) := dk_16 40 (dk_at dksX7_branch_0 1 rfl rfl)
theorem dX7_branch_3 : decode cX7_branch 3 = .ok (.invokevirtual 30, 3) := dk_182 0 30 (dk_at dksX7_branch_0 3 rfl rfl)
theorem dX7_branch_6 : decode cX7_branch 6 = .ok (.ifCond .eq 8, 3) := dk_153 0 8 (dk_at dksX7_branch_0 6 rfl rfl)
theorem dX7_branch_9 : decode cX7_branch 9 = .ok (.aload_n 0, 1) := dk_42 (dk_at dksX7_branch_0 9 rfl rfl)
theorem dX7_branch_10 : decode cX7_branch 10 = .ok (.invokevirtual 101, 3) := dk_182 0 101 (dk_at dksX7_branch_0 10 rfl rfl)
theorem dX7_branch_13 : decode cX7_branch 13 = .ok (.areturn, 1) := dk_176 (dk_at dksX7_branch_0 13 rfl rfl)
theorem dX7_branch_14 : decode cX7_branch 14 = .ok (.new 88, 3) := dk_187 0 88 (dk_at dksX7_branch_0 14 rfl rfl)
theorem dX7_branch_17 : decode cX7_branch 17 = .ok (.dup, 1) := dk_89 (dk_at dksX7_branch_0 17 rfl rfl)
theorem dX7_branch_18 : decode cX7_branch 18 = .ok (.invokespecial 104, 3) := dk_183 0 104 (dk_at dksX7_branch_0 18 rfl rfl)
theorem dX7_branch_21 : decode cX7_branch 21 = .ok (.astore_n 1, 1) := dk_76 (dk_at dksX7_branch_0 21 rfl rfl)
theorem dX7_branch_22 : decode cX7_branch 22 = .ok (.aload_n 1, 1) := dk_43 (dk_at dksX7_branch_0 22 rfl rfl)
theorem dX7_branch_23 : decode cX7_branch 23 = .ok (.aload_n 0, 1) := dk_42 (dk_at dksX7_branch_0 23 rfl rfl)
theorem dX7_branch_24 : decode cX7_branch 24 = .ok (.invokevirtual 99, 3) := dk_182 0 99 (dk_at dksX7_branch_1 0 rfl rfl)
theorem dX7_branch_27 : decode cX7_branch 27 = .ok (.putfield 96, 3) := dk_181 0 96 (dk_at dksX7_branch_1 3 rfl rfl)
theorem dX7_branch_30 : decode cX7_branch 30 = .ok (.aload_n 0, 1) := dk_42 (dk_at dksX7_branch_1 6 rfl rfl)
theorem dX7_branch_31 : decode cX7_branch 31 = .ok (.bipush 121, 2) := dk_16 121 (dk_at dksX7_branch_1 7 rfl rfl)
theorem dX7_branch_33 : decode cX7_branch 33 = .ok (.invokevirtual 80, 3) := dk_182 0 80 (dk_at dksX7_branch_1 9 rfl rfl)
theorem dX7_branch_36 : decode cX7_branch 36 = .ok (.aload_n 0, 1) := dk_42 (dk_at dksX7_branch_1 12 rfl rfl)
theorem dX7_branch_37 : decode cX7_branch 37 = .ok (.bipush 108, 2) := dk_16 108 (dk_at dksX7_branch_1 13 rfl rfl)
theorem dX7_branch_39 : decode cX7_branch 39 = .ok (.invokevirtual 80, 3) := dk_182 0 80 (dk_at dksX7_branch_1 15 rfl rfl)
theorem dX7_branch_42 : decode cX7_branch 42 = .ok (.aload_n 1, 1) := dk_43 (dk_at dksX7_branch_1 18 rfl rfl)
theorem dX7_branch_43 : decode cX7_branch 43 = .ok (.areturn, 1) := dk_176 (dk_at dksX7_branch_1 19 rfl rfl)
abbrev cX7_bracket : ByteArray := prog_13_method_9_code
def yX7_bracket : MethodName := ⟨RX7, "bracket", "()LBranchNames$Branch;"⟩
def dkwX7_bracket_1 : List UInt8 := [42, 16, 121, 182, 0, 80, 42, 16, 108, 182, 0, 80, 42, 16, 41, 182, 0, 80, 43, 176]
abbrev dktX7_bracket_1 : List UInt8 := dkwX7_bracket_1 ++ []
def dkwX7_bracket_0 : List UInt8 := [42, 16, 40, 182, 0, 80, 42, 182, 0, 83, 76, 43, 4, 181, 0, 87, 43, 42, 182, 0, 93, 181, 0, 96]
abbrev dktX7_bracket_0 : List UInt8 := dkwX7_bracket_0 ++ dktX7_bracket_1
theorem dksX7_bracket_0 : cX7_bracket.data.toList.drop 0 = dktX7_bracket_0 := by decide +kernel
theorem dksX7_bracket_1 : cX7_bracket.data.toList.drop 24 = dktX7_bracket_1 := dk_seg dksX7_bracket_0 24 rfl rfl
theorem dX7_bracket_0 : decode cX7_bracket 0 = .ok (.aload_n 0, 1) := dk_42 (dk_at dksX7_bracket_0 0 rfl rfl)
theorem dX7_bracket_1 : decode cX7_bracket 1 = .ok (.bipush 40, 2) := dk_16 40 (dk_at dksX7_bracket_0 1 rfl rfl)
theorem dX7_bracket_3 : decode cX7_bracket 3 = .ok (.invokevirtual 80, 3) := dk_182 0 80 (dk_at dksX7_bracket_0 3 rfl rfl)
theorem dX7_bracket_6 : decode cX7_bracket 6 = .ok (.aload_n 0, 1) := dk_42 (dk_at dksX7_bracket_0 6 rfl rfl)
theorem dX7_bracket_7 : decode cX7_bracket 7 = .ok (.invokevirtual 83, 3) := dk_182 0 83 (dk_at dksX7_bracket_0 7 rfl rfl)
theorem dX7_bracket_10 : decode cX7_bracket 10 = .ok (.astore_n 1, 1) := dk_76 (dk_at dksX7_bracket_0 10 rfl rfl)
theorem dX7_bracket_11 : decode cX7_bracket 11 = .ok (.aload_n 1, 1) := dk_43 (dk_at dksX7_bracket_0 11 rfl rfl)
theorem dX7_bracket_12 : decode cX7_bracket 12 = .ok (.iconst 1, 1) := dk_4 (dk_at dksX7_bracket_0 12 rfl rfl)
theorem dX7_bracket_13 : decode cX7_bracket 13 = .ok (.putfield 87, 3) := dk_181 0 87 (dk_at dksX7_bracket_0 13 rfl rfl)
theorem dX7_bracket_16 : decode cX7_bracket 16 = .ok (.aload_n 1, 1) := dk_43 (dk_at dksX7_bracket_0 16 rfl rfl)
theorem dX7_bracket_17 : decode cX7_bracket 17 = .ok (.aload_n 0, 1) := dk_42 (dk_at dksX7_bracket_0 17 rfl rfl)
theorem dX7_bracket_18 : decode cX7_bracket 18 = .ok (.invokevirtual 93, 3) := dk_182 0 93 (dk_at dksX7_bracket_0 18 rfl rfl)
theorem dX7_bracket_21 : decode cX7_bracket 21 = .ok (.putfield 96, 3) := dk_181 0 96 (dk_at dksX7_bracket_0 21 rfl rfl)
theorem dX7_bracket_24 : decode cX7_bracket 24 = .ok (.aload_n 0, 1) := dk_42 (dk_at dksX7_bracket_1 0 rfl rfl)
theorem dX7_bracket_25 : decode cX7_bracket 25 = .ok (.bipush 121, 2) := dk_16 121 (dk_at dksX7_bracket_1 1 rfl rfl)
theorem dX7_bracket_27 : decode cX7_bracket 27 = .ok (.invokevirtual 80, 3) := dk_182 0 80 (dk_at dksX7_bracket_1 3 rfl rfl)
theorem dX7_bracket_30 : decode cX7_bracket 30 = .ok (.aload_n 0, 1) := dk_42 (dk_at dksX7_bracket_1 6 rfl rfl)
theorem dX7_bracket_31 : decode cX7_bracket 31 = .ok (.bipush 108, 2) := dk_16 108 (dk_at dksX7_bracket_1 7 rfl rfl)
theorem dX7_bracket_33 : decode cX7_bracket 33 = .ok (.invokevirtual 80, 3) := dk_182 0 80 (dk_at dksX7_bracket_1 9 rfl rfl)
theorem dX7_bracket_36 : decode cX7_bracket 36 = .ok (.aload_n 0, 1) := dk_42 (dk_at dksX7_bracket_1 12 rfl rfl)
theorem dX7_bracket_37 : decode cX7_bracket 37 = .ok (.bipush 41, 2) := dk_16 41 (dk_at dksX7_bracket_1 13 rfl rfl)
theorem dX7_bracket_39 : decode cX7_bracket 39 = .ok (.invokevirtual 80, 3) := dk_182 0 80 (dk_at dksX7_bracket_1 15 rfl rfl)
theorem dX7_bracket_42 : decode cX7_bracket 42 = .ok (.aload_n 1, 1) := dk_43 (dk_at dksX7_bracket_1 18 rfl rfl)
theorem dX7_bracket_43 : decode cX7_bracket 43 = .ok (.areturn, 1) := dk_176 (dk_at dksX7_bracket_1 19 rfl rfl)
abbrev cX7_stemBehind : ByteArray := prog_13_method_10_code
def yX7_stemBehind : MethodName := ⟨RX7, "stemBehind", "()I"⟩
def dkwX7_stemBehind_0 : List UInt8 := [42, 42, 180, 0, 15, 181, 0, 52, 42, 182, 0, 99, 172]
abbrev dktX7_stemBehind_0 : List UInt8 := dkwX7_stemBehind_0 ++ []
theorem dksX7_stemBehind_0 : cX7_stemBehind.data.toList.drop 0 = dktX7_stemBehind_0 := by decide +kernel
theorem dX7_stemBehind_0 : decode cX7_stemBehind 0 = .ok (.aload_n 0, 1) := dk_42 (dk_at dksX7_stemBehind_0 0 rfl rfl)
theorem dX7_stemBehind_1 : decode cX7_stemBehind 1 = .ok (.aload_n 0, 1) := dk_42 (dk_at dksX7_stemBehind_0 1 rfl rfl)
theorem dX7_stemBehind_2 : decode cX7_stemBehind 2 = .ok (.getfield 15, 3) := dk_180 0 15 (dk_at dksX7_stemBehind_0 2 rfl rfl)
theorem dX7_stemBehind_5 : decode cX7_stemBehind 5 = .ok (.putfield 52, 3) := dk_181 0 52 (dk_at dksX7_stemBehind_0 5 rfl rfl)
theorem dX7_stemBehind_8 : decode cX7_stemBehind 8 = .ok (.aload_n 0, 1) := dk_42 (dk_at dksX7_stemBehind_0 8 rfl rfl)
theorem dX7_stemBehind_9 : decode cX7_stemBehind 9 = .ok (.invokevirtual 99, 3) := dk_182 0 99 (dk_at dksX7_stemBehind_0 9 rfl rfl)
theorem dX7_stemBehind_12 : decode cX7_stemBehind 12 = .ok (.ireturn, 1) := dk_172 (dk_at dksX7_stemBehind_0 12 rfl rfl)
abbrev cX7_stem : ByteArray := prog_13_method_7_code
def yX7_stem : MethodName := ⟨RX7, "stem", "()I"⟩
def dkwX7_stem_1 : List UInt8 := [182, 0, 65, 60, 27, 156, 0, 15, 187, 0, 34, 89, 42, 180, 0, 52, 183, 0, 36, 191, 27, 4, 96, 172]
abbrev dktX7_stem_1 : List UInt8 := dkwX7_stem_1 ++ []
def dkwX7_stem_0 : List UInt8 := [42, 42, 180, 0, 52, 42, 180, 0, 15, 184, 0, 55, 181, 0, 52, 42, 42, 180, 0, 3, 180, 0, 61]
abbrev dktX7_stem_0 : List UInt8 := dkwX7_stem_0 ++ dktX7_stem_1
theorem dksX7_stem_0 : cX7_stem.data.toList.drop 0 = dktX7_stem_0 := by decide +kernel
theorem dksX7_stem_1 : cX7_stem.data.toList.drop 23 = dktX7_stem_1 := dk_seg dksX7_stem_0 23 rfl rfl
theorem dX7_stem_0 : decode cX7_stem 0 = .ok (.aload_n 0, 1) := dk_42 (dk_at dksX7_stem_0 0 rfl rfl)
theorem dX7_stem_1 : decode cX7_stem 1 = .ok (.aload_n 0, 1) := dk_42 (dk_at dksX7_stem_0 1 rfl rfl)
theorem dX7_stem_2 : decode cX7_stem 2 = .ok (.getfield 52, 3) := dk_180 0 52 (dk_at dksX7_stem_0 2 rfl rfl)
theorem dX7_stem_5 : decode cX7_stem 5 = .ok (.aload_n 0, 1) := dk_42 (dk_at dksX7_stem_0 5 rfl rfl)
theorem dX7_stem_6 : decode cX7_stem 6 = .ok (.getfield 15, 3) := dk_180 0 15 (dk_at dksX7_stem_0 6 rfl rfl)
theorem dX7_stem_9 : decode cX7_stem 9 = .ok (.invokestatic 55, 3) := dk_184 0 55 (dk_at dksX7_stem_0 9 rfl rfl)
theorem dX7_stem_12 : decode cX7_stem 12 = .ok (.putfield 52, 3) := dk_181 0 52 (dk_at dksX7_stem_0 12 rfl rfl)
theorem dX7_stem_15 : decode cX7_stem 15 = .ok (.aload_n 0, 1) := dk_42 (dk_at dksX7_stem_0 15 rfl rfl)
theorem dX7_stem_16 : decode cX7_stem 16 = .ok (.aload_n 0, 1) := dk_42 (dk_at dksX7_stem_0 16 rfl rfl)
theorem dX7_stem_17 : decode cX7_stem 17 = .ok (.getfield 3, 3) := dk_180 0 3 (dk_at dksX7_stem_0 17 rfl rfl)
theorem dX7_stem_20 : decode cX7_stem 20 = .ok (.getfield 61, 3) := dk_180 0 61 (dk_at dksX7_stem_0 20 rfl rfl)
theorem dX7_stem_23 : decode cX7_stem 23 = .ok (.invokevirtual 65, 3) := dk_182 0 65 (dk_at dksX7_stem_1 0 rfl rfl)
theorem dX7_stem_26 : decode cX7_stem 26 = .ok (.istore_n 1, 1) := dk_60 (dk_at dksX7_stem_1 3 rfl rfl)
theorem dX7_stem_27 : decode cX7_stem 27 = .ok (.iload_n 1, 1) := dk_27 (dk_at dksX7_stem_1 4 rfl rfl)
theorem dX7_stem_28 : decode cX7_stem 28 = .ok (.ifCond .ge 15, 3) := dk_156 0 15 (dk_at dksX7_stem_1 5 rfl rfl)
theorem dX7_stem_31 : decode cX7_stem 31 = .ok (.new 34, 3) := dk_187 0 34 (dk_at dksX7_stem_1 8 rfl rfl)
theorem dX7_stem_34 : decode cX7_stem 34 = .ok (.dup, 1) := dk_89 (dk_at dksX7_stem_1 11 rfl rfl)
theorem dX7_stem_35 : decode cX7_stem 35 = .ok (.aload_n 0, 1) := dk_42 (dk_at dksX7_stem_1 12 rfl rfl)
theorem dX7_stem_36 : decode cX7_stem 36 = .ok (.getfield 52, 3) := dk_180 0 52 (dk_at dksX7_stem_1 13 rfl rfl)
theorem dX7_stem_39 : decode cX7_stem 39 = .ok (.invokespecial 36, 3) := dk_183 0 36 (dk_at dksX7_stem_1 16 rfl rfl)
theorem dX7_stem_42 : decode cX7_stem 42 = .ok (.athrow, 1) := dk_191 (dk_at dksX7_stem_1 19 rfl rfl)
theorem dX7_stem_43 : decode cX7_stem 43 = .ok (.iload_n 1, 1) := dk_27 (dk_at dksX7_stem_1 20 rfl rfl)
theorem dX7_stem_44 : decode cX7_stem 44 = .ok (.iconst 1, 1) := dk_4 (dk_at dksX7_stem_1 21 rfl rfl)
theorem dX7_stem_45 : decode cX7_stem 45 = .ok (.iadd, 1) := dk_96 (dk_at dksX7_stem_1 22 rfl rfl)
theorem dX7_stem_46 : decode cX7_stem 46 = .ok (.ireturn, 1) := dk_172 (dk_at dksX7_stem_1 23 rfl rfl)
theorem q175 : (Jvm.Cond.initialized "BranchNames$Reader") ∈ lw_all := lw_g (lw_at lw_m1 24 rfl) rfl
theorem q775 : (Jvm.Cond.fieldLinkNest "BranchNames$Reader" (61 : Nat) "BranchNames" "stems" "[Ljava/lang/String;" "BranchNames") ∈ lw_tbl := lw_at lw_m3 144 rfl
theorem q777 : (Jvm.Cond.fieldLinkNest "BranchNames$Reader" (114 : Nat) "BranchNames" "manies" "[Ljava/lang/String;" "BranchNames") ∈ lw_tbl := lw_at lw_m3 146 rfl
theorem q784 : (Jvm.Cond.fieldLinkNest "BranchNames$Reader" (22 : Nat) "BranchNames" "tape" "[B" "BranchNames") ∈ lw_tbl := lw_at lw_m3 153 rfl
theorem q786 : (Jvm.Cond.fieldLinkNest "BranchNames$Reader" (19 : Nat) "BranchNames" "fed" "I" "BranchNames") ∈ lw_tbl := lw_at lw_m3 155 rfl
theorem q1152 : (Jvm.Cond.selects "BranchNames$Reader" ({ cls := "java/lang/Object", name := "getClass", desc := "()Ljava/lang/Class;" } : Jvm.MethodName) ({ cls := "java/lang/Object", name := "getClass", desc := "()Ljava/lang/Class;" } : Jvm.MethodName)) ∈ lw_all := lw_g (lw_at lw_m5 41 rfl) rfl
theorem q1301 : (Jvm.Cond.instantiable "BranchNames$Reader" (3 : Nat)) ∈ lw_all := lw_g (lw_at lw_m5 190 rfl) rfl
theorem q1303 : (Jvm.Cond.instanceMethod ({ cls := "BranchNames$Reader", name := "<init>", desc := "(LBranchNames;)V" } : Jvm.MethodName)) ∈ lw_all := lw_g (lw_at lw_m5 192 rfl) rfl
theorem q1304 : (Jvm.Cond.code ({ cls := "BranchNames$Reader", name := "<init>", desc := "(LBranchNames;)V" } : Jvm.MethodName) prog_13_method_1_code (2 : Nat) (Option.none : Option Jvm.ClassFile.FieldType)) ∈ lw_all := lw_g (lw_at lw_m5 193 rfl) rfl
theorem q1305 : (Jvm.Cond.methodLink "BranchNames$Reader" (9 : Nat) ({ cls := "java/lang/Object", name := "<init>", desc := "()V" } : Jvm.MethodName)) ∈ lw_all := lw_g (lw_at lw_m5 194 rfl) rfl
theorem q1306 : (Jvm.Cond.fieldLink "BranchNames$Reader" (15 : Nat) "BranchNames$Reader" "at" "I") ∈ lw_all := lw_g (lw_at lw_m5 195 rfl) rfl
theorem q1307 : (Jvm.Cond.fieldLink "BranchNames$Reader" (52 : Nat) "BranchNames$Reader" "reached" "I") ∈ lw_all := lw_g (lw_at lw_m5 196 rfl) rfl
theorem q1308 : (Jvm.Cond.fieldLink "BranchNames$Reader" (3 : Nat) "BranchNames$Reader" "this$0" "LBranchNames;") ∈ lw_all := lw_g (lw_at lw_m5 197 rfl) rfl
theorem q1309 : (Jvm.Cond.lays "BranchNames$Reader" "BranchNames$Reader" "at" "I") ∈ lw_all := lw_g (lw_at lw_m5 198 rfl) rfl
theorem q1310 : (Jvm.Cond.soleField "BranchNames$Reader" "at") ∈ lw_all := lw_g (lw_at lw_m5 199 rfl) rfl
theorem q1311 : (Jvm.Cond.lays "BranchNames$Reader" "BranchNames$Reader" "reached" "I") ∈ lw_all := lw_g (lw_at lw_m5 200 rfl) rfl
theorem q1312 : (Jvm.Cond.soleField "BranchNames$Reader" "reached") ∈ lw_all := lw_g (lw_at lw_m5 201 rfl) rfl
theorem q1313 : (Jvm.Cond.laysFinal "BranchNames$Reader" "BranchNames$Reader" "this$0" "LBranchNames;") ∈ lw_all := lw_g (lw_at lw_m5 202 rfl) rfl
theorem q1314 : (Jvm.Cond.soleField "BranchNames$Reader" "this$0") ∈ lw_all := lw_g (lw_at lw_m5 203 rfl) rfl
theorem q1315 : (Jvm.Cond.superclass "BranchNames$Reader" "java/lang/Object") ∈ lw_all := lw_g (lw_at lw_m5 204 rfl) rfl
theorem q1317 : (Jvm.Cond.instanceMethod ({ cls := "BranchNames$Reader", name := "whole", desc := "()LBranchNames$Branch;" } : Jvm.MethodName)) ∈ lw_all := lw_g (lw_at lw_m5 206 rfl) rfl
theorem q1318 : (Jvm.Cond.selects "BranchNames$Reader" ({ cls := "BranchNames$Reader", name := "whole", desc := "()LBranchNames$Branch;" } : Jvm.MethodName) ({ cls := "BranchNames$Reader", name := "whole", desc := "()LBranchNames$Branch;" } : Jvm.MethodName)) ∈ lw_all := lw_g (lw_at lw_m5 207 rfl) rfl
theorem q1319 : (Jvm.Cond.code ({ cls := "BranchNames$Reader", name := "whole", desc := "()LBranchNames$Branch;" } : Jvm.MethodName) prog_13_method_14_code (2 : Nat) (Option.some (Jvm.ClassFile.FieldType.object "BranchNames$Branch"))) ∈ lw_all := lw_g (lw_at lw_m5 208 rfl) rfl
theorem q1320 : (Jvm.Cond.methodLink "BranchNames$Reader" (26 : Nat) ({ cls := "BranchNames$Reader", name := "here", desc := "()I" } : Jvm.MethodName)) ∈ lw_all := lw_g (lw_at lw_m5 209 rfl) rfl
theorem q1321 : (Jvm.Cond.privateMethod ({ cls := "BranchNames$Reader", name := "here", desc := "()I" } : Jvm.MethodName)) ∈ lw_tbl := lw_at lw_m5 210 rfl
theorem q1322 : (Jvm.Cond.instanceMethod ({ cls := "BranchNames$Reader", name := "here", desc := "()I" } : Jvm.MethodName)) ∈ lw_all := lw_g (lw_at lw_m5 211 rfl) rfl
theorem q1323 : (Jvm.Cond.code ({ cls := "BranchNames$Reader", name := "here", desc := "()I" } : Jvm.MethodName) prog_13_method_2_code (1 : Nat) (Option.some Jvm.ClassFile.FieldType.int)) ∈ lw_all := lw_g (lw_at lw_m5 212 rfl) rfl
theorem q1324 : (Jvm.Cond.constantLong "BranchNames$Reader" (69 : Nat) (49 : Int64)) ∈ lw_all := lw_g (lw_at lw_m5 213 rfl) rfl
theorem q1325 : (Jvm.Cond.constantLong "BranchNames$Reader" (71 : Nat) (57 : Int64)) ∈ lw_all := lw_g (lw_at lw_m5 214 rfl) rfl
theorem q1326 : (Jvm.Cond.methodLinkNest "BranchNames$Reader" (73 : Nat) ({ cls := "BranchNames", name := "isIn", desc := "(JJJ)Z" } : Jvm.MethodName) "BranchNames") ∈ lw_tbl := lw_at lw_m5 215 rfl
theorem q1327 : (Jvm.Cond.methodLink "BranchNames$Reader" (83 : Nat) ({ cls := "BranchNames$Reader", name := "parts", desc := "()LBranchNames$Branch;" } : Jvm.MethodName)) ∈ lw_all := lw_g (lw_at lw_m5 216 rfl) rfl
theorem q1328 : (Jvm.Cond.privateMethod ({ cls := "BranchNames$Reader", name := "parts", desc := "()LBranchNames$Branch;" } : Jvm.MethodName)) ∈ lw_tbl := lw_at lw_m5 217 rfl
theorem q1329 : (Jvm.Cond.instanceMethod ({ cls := "BranchNames$Reader", name := "parts", desc := "()LBranchNames$Branch;" } : Jvm.MethodName)) ∈ lw_all := lw_g (lw_at lw_m5 218 rfl) rfl
theorem q1330 : (Jvm.Cond.code ({ cls := "BranchNames$Reader", name := "parts", desc := "()LBranchNames$Branch;" } : Jvm.MethodName) prog_13_method_13_code (2 : Nat) (Option.some (Jvm.ClassFile.FieldType.object "BranchNames$Branch"))) ∈ lw_all := lw_g (lw_at lw_m5 219 rfl) rfl
theorem q1331 : (Jvm.Cond.classLink "BranchNames$Reader" (88 : Nat) "BranchNames$Branch") ∈ lw_all := lw_g (lw_at lw_m5 220 rfl) rfl
theorem q1333 : (Jvm.Cond.methodLinkNest "BranchNames$Reader" (104 : Nat) ({ cls := "BranchNames$Branch", name := "<init>", desc := "()V" } : Jvm.MethodName) "BranchNames") ∈ lw_tbl := lw_at lw_m5 222 rfl
theorem q1340 : (Jvm.Cond.fieldLinkNest "BranchNames$Reader" (126 : Nat) "BranchNames$Branch" "parts" "Ljava/util/ArrayList;" "BranchNames") ∈ lw_tbl := lw_at lw_m5 229 rfl
theorem q1342 : (Jvm.Cond.fieldLinkNest "BranchNames$Reader" (96 : Nat) "BranchNames$Branch" "stem" "I" "BranchNames") ∈ lw_tbl := lw_at lw_m5 231 rfl
theorem q1344 : (Jvm.Cond.fieldLinkNest "BranchNames$Reader" (87 : Nat) "BranchNames$Branch" "isBracketed" "Z" "BranchNames") ∈ lw_tbl := lw_at lw_m5 233 rfl
theorem q1353 : (Jvm.Cond.methodLink "BranchNames$Reader" (129 : Nat) ({ cls := "BranchNames$Reader", name := "part", desc := "()LBranchNames$Part;" } : Jvm.MethodName)) ∈ lw_all := lw_g (lw_at lw_m6 2 rfl) rfl
theorem q1354 : (Jvm.Cond.privateMethod ({ cls := "BranchNames$Reader", name := "part", desc := "()LBranchNames$Part;" } : Jvm.MethodName)) ∈ lw_tbl := lw_at lw_m6 3 rfl
theorem q1355 : (Jvm.Cond.instanceMethod ({ cls := "BranchNames$Reader", name := "part", desc := "()LBranchNames$Part;" } : Jvm.MethodName)) ∈ lw_all := lw_g (lw_at lw_m6 4 rfl) rfl
theorem q1356 : (Jvm.Cond.code ({ cls := "BranchNames$Reader", name := "part", desc := "()LBranchNames$Part;" } : Jvm.MethodName) prog_13_method_12_code (3 : Nat) (Option.some (Jvm.ClassFile.FieldType.object "BranchNames$Part"))) ∈ lw_all := lw_g (lw_at lw_m6 5 rfl) rfl
theorem q1357 : (Jvm.Cond.classLink "BranchNames$Reader" (105 : Nat) "BranchNames$Part") ∈ lw_all := lw_g (lw_at lw_m6 6 rfl) rfl
theorem q1359 : (Jvm.Cond.methodLink "BranchNames$Reader" (107 : Nat) ({ cls := "BranchNames$Part", name := "<init>", desc := "(I)V" } : Jvm.MethodName)) ∈ lw_all := lw_g (lw_at lw_m6 8 rfl) rfl
theorem q1370 : (Jvm.Cond.fieldLinkNest "BranchNames$Reader" (117 : Nat) "BranchNames$Part" "many" "I" "BranchNames") ∈ lw_tbl := lw_at lw_m6 19 rfl
theorem q1372 : (Jvm.Cond.fieldLinkNest "BranchNames$Reader" (123 : Nat) "BranchNames$Part" "branch" "LBranchNames$Branch;" "BranchNames") ∈ lw_tbl := lw_at lw_m6 21 rfl
theorem q1385 : (Jvm.Cond.methodLink "BranchNames$Reader" (108 : Nat) ({ cls := "BranchNames$Reader", name := "number", desc := "()I" } : Jvm.MethodName)) ∈ lw_all := lw_g (lw_at lw_m6 34 rfl) rfl
theorem q1386 : (Jvm.Cond.privateMethod ({ cls := "BranchNames$Reader", name := "number", desc := "()I" } : Jvm.MethodName)) ∈ lw_tbl := lw_at lw_m6 35 rfl
theorem q1387 : (Jvm.Cond.instanceMethod ({ cls := "BranchNames$Reader", name := "number", desc := "()I" } : Jvm.MethodName)) ∈ lw_all := lw_g (lw_at lw_m6 36 rfl) rfl
theorem q1388 : (Jvm.Cond.code ({ cls := "BranchNames$Reader", name := "number", desc := "()I" } : Jvm.MethodName) prog_13_method_8_code (2 : Nat) (Option.some Jvm.ClassFile.FieldType.int)) ∈ lw_all := lw_g (lw_at lw_m6 37 rfl) rfl
theorem q1389 : (Jvm.Cond.classLink "BranchNames$Reader" (34 : Nat) "BranchNames$Unread") ∈ lw_all := lw_g (lw_at lw_m6 38 rfl) rfl
theorem q1427 : (Jvm.Cond.methodLink "BranchNames$Reader" (36 : Nat) ({ cls := "BranchNames$Unread", name := "<init>", desc := "(I)V" } : Jvm.MethodName)) ∈ lw_all := lw_g (lw_at lw_m6 76 rfl) rfl
theorem q1455 : (Jvm.Cond.methodLinkNest "BranchNames$Reader" (77 : Nat) ({ cls := "BranchNames", name := "isDigit", desc := "(I)Z" } : Jvm.MethodName) "BranchNames") ∈ lw_tbl := lw_at lw_m6 104 rfl
theorem q1456 : (Jvm.Cond.methodLink "BranchNames$Reader" (111 : Nat) ({ cls := "BranchNames$Part", name := "comes", desc := "(I)V" } : Jvm.MethodName)) ∈ lw_all := lw_g (lw_at lw_m6 105 rfl) rfl
theorem q1460 : (Jvm.Cond.methodLink "BranchNames$Reader" (30 : Nat) ({ cls := "BranchNames$Reader", name := "isSign", desc := "(I)Z" } : Jvm.MethodName)) ∈ lw_all := lw_g (lw_at lw_m6 109 rfl) rfl
theorem q1461 : (Jvm.Cond.privateMethod ({ cls := "BranchNames$Reader", name := "isSign", desc := "(I)Z" } : Jvm.MethodName)) ∈ lw_tbl := lw_at lw_m6 110 rfl
theorem q1462 : (Jvm.Cond.instanceMethod ({ cls := "BranchNames$Reader", name := "isSign", desc := "(I)Z" } : Jvm.MethodName)) ∈ lw_all := lw_g (lw_at lw_m6 111 rfl) rfl
theorem q1463 : (Jvm.Cond.code ({ cls := "BranchNames$Reader", name := "isSign", desc := "(I)Z" } : Jvm.MethodName) prog_13_method_3_code (2 : Nat) (Option.some Jvm.ClassFile.FieldType.boolean)) ∈ lw_all := lw_g (lw_at lw_m6 112 rfl) rfl
theorem q1464 : (Jvm.Cond.methodLink "BranchNames$Reader" (80 : Nat) ({ cls := "BranchNames$Reader", name := "must", desc := "(I)V" } : Jvm.MethodName)) ∈ lw_all := lw_g (lw_at lw_m6 113 rfl) rfl
theorem q1465 : (Jvm.Cond.privateMethod ({ cls := "BranchNames$Reader", name := "must", desc := "(I)V" } : Jvm.MethodName)) ∈ lw_tbl := lw_at lw_m6 114 rfl
theorem q1466 : (Jvm.Cond.instanceMethod ({ cls := "BranchNames$Reader", name := "must", desc := "(I)V" } : Jvm.MethodName)) ∈ lw_all := lw_g (lw_at lw_m6 115 rfl) rfl
theorem q1467 : (Jvm.Cond.code ({ cls := "BranchNames$Reader", name := "must", desc := "(I)V" } : Jvm.MethodName) prog_13_method_4_code (2 : Nat) (Option.none : Option Jvm.ClassFile.FieldType)) ∈ lw_all := lw_g (lw_at lw_m6 116 rfl) rfl
theorem q1468 : (Jvm.Cond.methodLink "BranchNames$Reader" (65 : Nat) ({ cls := "BranchNames$Reader", name := "wordOf", desc := "([Ljava/lang/String;)I" } : Jvm.MethodName)) ∈ lw_all := lw_g (lw_at lw_m6 117 rfl) rfl
theorem q1469 : (Jvm.Cond.privateMethod ({ cls := "BranchNames$Reader", name := "wordOf", desc := "([Ljava/lang/String;)I" } : Jvm.MethodName)) ∈ lw_tbl := lw_at lw_m6 118 rfl
theorem q1470 : (Jvm.Cond.instanceMethod ({ cls := "BranchNames$Reader", name := "wordOf", desc := "([Ljava/lang/String;)I" } : Jvm.MethodName)) ∈ lw_all := lw_g (lw_at lw_m6 119 rfl) rfl
theorem q1471 : (Jvm.Cond.code ({ cls := "BranchNames$Reader", name := "wordOf", desc := "([Ljava/lang/String;)I" } : Jvm.MethodName) prog_13_method_6_code (4 : Nat) (Option.some Jvm.ClassFile.FieldType.int)) ∈ lw_all := lw_g (lw_at lw_m6 120 rfl) rfl
theorem q1472 : (Jvm.Cond.methodLink "BranchNames$Reader" (48 : Nat) ({ cls := "BranchNames$Reader", name := "alongside", desc := "(Ljava/lang/String;)I" } : Jvm.MethodName)) ∈ lw_all := lw_g (lw_at lw_m6 121 rfl) rfl
theorem q1473 : (Jvm.Cond.privateMethod ({ cls := "BranchNames$Reader", name := "alongside", desc := "(Ljava/lang/String;)I" } : Jvm.MethodName)) ∈ lw_tbl := lw_at lw_m6 122 rfl
theorem q1474 : (Jvm.Cond.instanceMethod ({ cls := "BranchNames$Reader", name := "alongside", desc := "(Ljava/lang/String;)I" } : Jvm.MethodName)) ∈ lw_all := lw_g (lw_at lw_m6 123 rfl) rfl
theorem q1475 : (Jvm.Cond.code ({ cls := "BranchNames$Reader", name := "alongside", desc := "(Ljava/lang/String;)I" } : Jvm.MethodName) prog_13_method_5_code (3 : Nat) (Option.some Jvm.ClassFile.FieldType.int)) ∈ lw_all := lw_g (lw_at lw_m6 124 rfl) rfl
theorem q1476 : (Jvm.Cond.methodLink "BranchNames$Reader" (39 : Nat) ({ cls := "java/lang/String", name := "length", desc := "()I" } : Jvm.MethodName)) ∈ lw_all := lw_g (lw_at lw_m6 125 rfl) rfl
theorem q1477 : (Jvm.Cond.methodLink "BranchNames$Reader" (44 : Nat) ({ cls := "java/lang/String", name := "charAt", desc := "(I)C" } : Jvm.MethodName)) ∈ lw_all := lw_g (lw_at lw_m6 126 rfl) rfl
theorem q1478 : (Jvm.Cond.methodLink "BranchNames$Reader" (55 : Nat) ({ cls := "java/lang/Math", name := "max", desc := "(II)I" } : Jvm.MethodName)) ∈ lw_all := lw_g (lw_at lw_m6 127 rfl) rfl
theorem q1479 : (Jvm.Cond.methodLink "BranchNames$Reader" (120 : Nat) ({ cls := "BranchNames$Reader", name := "branch", desc := "()LBranchNames$Branch;" } : Jvm.MethodName)) ∈ lw_all := lw_g (lw_at lw_m6 128 rfl) rfl
theorem q1480 : (Jvm.Cond.privateMethod ({ cls := "BranchNames$Reader", name := "branch", desc := "()LBranchNames$Branch;" } : Jvm.MethodName)) ∈ lw_tbl := lw_at lw_m6 129 rfl
theorem q1481 : (Jvm.Cond.instanceMethod ({ cls := "BranchNames$Reader", name := "branch", desc := "()LBranchNames$Branch;" } : Jvm.MethodName)) ∈ lw_all := lw_g (lw_at lw_m6 130 rfl) rfl
theorem q1482 : (Jvm.Cond.code ({ cls := "BranchNames$Reader", name := "branch", desc := "()LBranchNames$Branch;" } : Jvm.MethodName) prog_13_method_11_code (2 : Nat) (Option.some (Jvm.ClassFile.FieldType.object "BranchNames$Branch"))) ∈ lw_all := lw_g (lw_at lw_m6 131 rfl) rfl
theorem q1483 : (Jvm.Cond.methodLink "BranchNames$Reader" (101 : Nat) ({ cls := "BranchNames$Reader", name := "bracket", desc := "()LBranchNames$Branch;" } : Jvm.MethodName)) ∈ lw_all := lw_g (lw_at lw_m6 132 rfl) rfl
theorem q1484 : (Jvm.Cond.privateMethod ({ cls := "BranchNames$Reader", name := "bracket", desc := "()LBranchNames$Branch;" } : Jvm.MethodName)) ∈ lw_tbl := lw_at lw_m6 133 rfl
theorem q1485 : (Jvm.Cond.instanceMethod ({ cls := "BranchNames$Reader", name := "bracket", desc := "()LBranchNames$Branch;" } : Jvm.MethodName)) ∈ lw_all := lw_g (lw_at lw_m6 134 rfl) rfl
theorem q1486 : (Jvm.Cond.code ({ cls := "BranchNames$Reader", name := "bracket", desc := "()LBranchNames$Branch;" } : Jvm.MethodName) prog_13_method_9_code (2 : Nat) (Option.some (Jvm.ClassFile.FieldType.object "BranchNames$Branch"))) ∈ lw_all := lw_g (lw_at lw_m6 135 rfl) rfl
theorem q1487 : (Jvm.Cond.methodLink "BranchNames$Reader" (93 : Nat) ({ cls := "BranchNames$Reader", name := "stemBehind", desc := "()I" } : Jvm.MethodName)) ∈ lw_all := lw_g (lw_at lw_m6 136 rfl) rfl
theorem q1488 : (Jvm.Cond.privateMethod ({ cls := "BranchNames$Reader", name := "stemBehind", desc := "()I" } : Jvm.MethodName)) ∈ lw_tbl := lw_at lw_m6 137 rfl
theorem q1489 : (Jvm.Cond.instanceMethod ({ cls := "BranchNames$Reader", name := "stemBehind", desc := "()I" } : Jvm.MethodName)) ∈ lw_all := lw_g (lw_at lw_m6 138 rfl) rfl
theorem q1490 : (Jvm.Cond.code ({ cls := "BranchNames$Reader", name := "stemBehind", desc := "()I" } : Jvm.MethodName) prog_13_method_10_code (1 : Nat) (Option.some Jvm.ClassFile.FieldType.int)) ∈ lw_all := lw_g (lw_at lw_m6 139 rfl) rfl
theorem q1491 : (Jvm.Cond.methodLink "BranchNames$Reader" (99 : Nat) ({ cls := "BranchNames$Reader", name := "stem", desc := "()I" } : Jvm.MethodName)) ∈ lw_all := lw_g (lw_at lw_m6 140 rfl) rfl
theorem q1492 : (Jvm.Cond.privateMethod ({ cls := "BranchNames$Reader", name := "stem", desc := "()I" } : Jvm.MethodName)) ∈ lw_tbl := lw_at lw_m6 141 rfl
theorem q1493 : (Jvm.Cond.instanceMethod ({ cls := "BranchNames$Reader", name := "stem", desc := "()I" } : Jvm.MethodName)) ∈ lw_all := lw_g (lw_at lw_m6 142 rfl) rfl
theorem q1494 : (Jvm.Cond.code ({ cls := "BranchNames$Reader", name := "stem", desc := "()I" } : Jvm.MethodName) prog_13_method_7_code (2 : Nat) (Option.some Jvm.ClassFile.FieldType.int)) ∈ lw_all := lw_g (lw_at lw_m6 143 rfl) rfl
theorem q1495 : (Jvm.Cond.methodLink "BranchNames$Reader" (133 : Nat) ({ cls := "java/util/ArrayList", name := "add", desc := "(Ljava/lang/Object;)Z" } : Jvm.MethodName)) ∈ lw_all := lw_g (lw_at lw_m6 144 rfl) rfl
theorem q2441 : (Jvm.Cond.castable "BranchNames$Reader" "java/lang/Object") ∈ lw_tbl := lw_at lw_m10 130 rfl
theorem in_X7 : ∀ w ∈ wsX70, w ∈ lw_all := lw_in wsX70 [1309, 1311, 1313] (by decide +kernel) (by decide +kernel)
/-! BranchNames$Branch -/
set_option maxRecDepth 100000
def RX8 : String := "BranchNames$Branch"
def TX8 : u_T := fun k => match k with
  | 0 => ("BranchNames$Branch", "parts", "Ljava/util/ArrayList;", true)
  | 1 => ("BranchNames$Branch", "stem", "I", false)
  | _ => ("BranchNames$Branch", "isBracketed", "Z", false)
def tyX8 : Nat → FieldType := fun k => match k with
  | 0 => .object "java/util/ArrayList"
  | 1 => .int
  | _ => .boolean
abbrev wsX80 : List Cond := u_ws RX8 TX8 3
theorem nmX8 : ∀ a, a < 3 → ∀ b, b < 3 → a ≠ b → (TX8 a).2.1 ≠ (TX8 b).2.1 := by decide +kernel
theorem tyX8_ok : ∀ k, k < 3 → parseFieldDescriptor (TX8 k).2.2.1 = some (tyX8 k) := by decide +kernel
abbrev cX8_init : ByteArray := prog_6_method_1_code
def yX8_init : MethodName := ⟨RX8, "<init>", "()V"⟩
def dkwX8_init_0 : List UInt8 := [42, 183, 0, 1, 42, 187, 0, 7, 89, 183, 0, 9, 181, 0, 10, 177]
abbrev dktX8_init_0 : List UInt8 := dkwX8_init_0 ++ []
theorem dksX8_init_0 : cX8_init.data.toList.drop 0 = dktX8_init_0 := by decide +kernel
theorem dX8_init_0 : decode cX8_init 0 = .ok (.aload_n 0, 1) := dk_42 (dk_at dksX8_init_0 0 rfl rfl)
theorem dX8_init_1 : decode cX8_init 1 = .ok (.invokespecial 1, 3) := dk_183 0 1 (dk_at dksX8_init_0 1 rfl rfl)
theorem dX8_init_4 : decode cX8_init 4 = .ok (.aload_n 0, 1) := dk_42 (dk_at dksX8_init_0 4 rfl rfl)
theorem dX8_init_5 : decode cX8_init 5 = .ok (.new 7, 3) := dk_187 0 7 (dk_at dksX8_init_0 5 rfl rfl)
theorem dX8_init_8 : decode cX8_init 8 = .ok (.dup, 1) := dk_89 (dk_at dksX8_init_0 8 rfl rfl)
theorem dX8_init_9 : decode cX8_init 9 = .ok (.invokespecial 9, 3) := dk_183 0 9 (dk_at dksX8_init_0 9 rfl rfl)
theorem dX8_init_12 : decode cX8_init 12 = .ok (.putfield 10, 3) := dk_181 0 10 (dk_at dksX8_init_0 12 rfl rfl)
theorem dX8_init_15 : decode cX8_init 15 = .ok (.return_, 1) := dk_177 (dk_at dksX8_init_0 15 rfl rfl)
theorem q176 : (Jvm.Cond.initialized "BranchNames$Branch") ∈ lw_all := lw_g (lw_at lw_m1 25 rfl) rfl
theorem q1149 : (Jvm.Cond.selects "BranchNames$Branch" ({ cls := "java/lang/Object", name := "getClass", desc := "()Ljava/lang/Class;" } : Jvm.MethodName) ({ cls := "java/lang/Object", name := "getClass", desc := "()Ljava/lang/Class;" } : Jvm.MethodName)) ∈ lw_all := lw_g (lw_at lw_m5 38 rfl) rfl
theorem q1332 : (Jvm.Cond.instantiable "BranchNames$Branch" (3 : Nat)) ∈ lw_all := lw_g (lw_at lw_m5 221 rfl) rfl
theorem q1334 : (Jvm.Cond.instanceMethod ({ cls := "BranchNames$Branch", name := "<init>", desc := "()V" } : Jvm.MethodName)) ∈ lw_all := lw_g (lw_at lw_m5 223 rfl) rfl
theorem q1335 : (Jvm.Cond.code ({ cls := "BranchNames$Branch", name := "<init>", desc := "()V" } : Jvm.MethodName) prog_6_method_1_code (1 : Nat) (Option.none : Option Jvm.ClassFile.FieldType)) ∈ lw_all := lw_g (lw_at lw_m5 224 rfl) rfl
theorem q1336 : (Jvm.Cond.methodLink "BranchNames$Branch" (1 : Nat) ({ cls := "java/lang/Object", name := "<init>", desc := "()V" } : Jvm.MethodName)) ∈ lw_all := lw_g (lw_at lw_m5 225 rfl) rfl
theorem q1337 : (Jvm.Cond.classLink "BranchNames$Branch" (7 : Nat) "java/util/ArrayList") ∈ lw_all := lw_g (lw_at lw_m5 226 rfl) rfl
theorem q1338 : (Jvm.Cond.methodLink "BranchNames$Branch" (9 : Nat) ({ cls := "java/util/ArrayList", name := "<init>", desc := "()V" } : Jvm.MethodName)) ∈ lw_all := lw_g (lw_at lw_m5 227 rfl) rfl
theorem q1339 : (Jvm.Cond.fieldLink "BranchNames$Branch" (10 : Nat) "BranchNames$Branch" "parts" "Ljava/util/ArrayList;") ∈ lw_all := lw_g (lw_at lw_m5 228 rfl) rfl
theorem q1346 : (Jvm.Cond.laysFinal "BranchNames$Branch" "BranchNames$Branch" "parts" "Ljava/util/ArrayList;") ∈ lw_all := lw_g (lw_at lw_m5 235 rfl) rfl
theorem q1347 : (Jvm.Cond.soleField "BranchNames$Branch" "parts") ∈ lw_all := lw_g (lw_at lw_m5 236 rfl) rfl
theorem q1348 : (Jvm.Cond.lays "BranchNames$Branch" "BranchNames$Branch" "stem" "I") ∈ lw_all := lw_g (lw_at lw_m5 237 rfl) rfl
theorem q1349 : (Jvm.Cond.soleField "BranchNames$Branch" "stem") ∈ lw_all := lw_g (lw_at lw_m5 238 rfl) rfl
theorem q1350 : (Jvm.Cond.lays "BranchNames$Branch" "BranchNames$Branch" "isBracketed" "Z") ∈ lw_all := lw_g (lw_at lw_m5 239 rfl) rfl
theorem q1351 : (Jvm.Cond.soleField "BranchNames$Branch" "isBracketed") ∈ lw_all := lw_g (lw_at lw_m6 0 rfl) rfl
theorem q1352 : (Jvm.Cond.superclass "BranchNames$Branch" "java/lang/Object") ∈ lw_all := lw_g (lw_at lw_m6 1 rfl) rfl
theorem q2442 : (Jvm.Cond.castable "BranchNames$Branch" "java/lang/Object") ∈ lw_tbl := lw_at lw_m10 131 rfl
theorem in_X8 : ∀ w ∈ wsX80, w ∈ lw_all := lw_in wsX80 [1346, 1348, 1350] (by decide +kernel) (by decide +kernel)
/-! BranchNames$Part -/
set_option maxRecDepth 100000
def RX9 : String := "BranchNames$Part"
def TX9 : u_T := fun k => match k with
  | 0 => ("BranchNames$Part", "place", "I", true)
  | 1 => ("BranchNames$Part", "numbers", "[I", true)
  | 2 => ("BranchNames$Part", "told", "I", false)
  | 3 => ("BranchNames$Part", "many", "I", false)
  | _ => ("BranchNames$Part", "branch", "LBranchNames$Branch;", false)
def tyX9 : Nat → FieldType := fun k => match k with
  | 0 => .int
  | 1 => .array .int
  | 2 => .int
  | 3 => .int
  | _ => .object "BranchNames$Branch"
abbrev wsX90 : List Cond := u_ws RX9 TX9 5
theorem nmX9 : ∀ a, a < 5 → ∀ b, b < 5 → a ≠ b → (TX9 a).2.1 ≠ (TX9 b).2.1 := by decide +kernel
theorem tyX9_ok : ∀ k, k < 5 → parseFieldDescriptor (TX9 k).2.2.1 = some (tyX9 k) := by decide +kernel
abbrev cX9_init : ByteArray := prog_11_method_1_code
def yX9_init : MethodName := ⟨RX9, "<init>", "(I)V"⟩
def dkwX9_init_0 : List UInt8 := [42, 183, 0, 3, 42, 16, 80, 188, 10, 181, 0, 9, 42, 4, 181, 0, 15, 42, 27, 181, 0, 19, 177]
abbrev dktX9_init_0 : List UInt8 := dkwX9_init_0 ++ []
theorem dksX9_init_0 : cX9_init.data.toList.drop 0 = dktX9_init_0 := by decide +kernel
theorem dX9_init_0 : decode cX9_init 0 = .ok (.aload_n 0, 1) := dk_42 (dk_at dksX9_init_0 0 rfl rfl)
theorem dX9_init_1 : decode cX9_init 1 = .ok (.invokespecial 3, 3) := dk_183 0 3 (dk_at dksX9_init_0 1 rfl rfl)
theorem dX9_init_4 : decode cX9_init 4 = .ok (.aload_n 0, 1) := dk_42 (dk_at dksX9_init_0 4 rfl rfl)
theorem dX9_init_5 : decode cX9_init 5 = .ok (.bipush 80, 2) := dk_16 80 (dk_at dksX9_init_0 5 rfl rfl)
theorem dX9_init_7 : decode cX9_init 7 = .ok (.newarray .int, 2) := dk_188_10 (dk_at dksX9_init_0 7 rfl rfl)
theorem dX9_init_9 : decode cX9_init 9 = .ok (.putfield 9, 3) := dk_181 0 9 (dk_at dksX9_init_0 9 rfl rfl)
theorem dX9_init_12 : decode cX9_init 12 = .ok (.aload_n 0, 1) := dk_42 (dk_at dksX9_init_0 12 rfl rfl)
theorem dX9_init_13 : decode cX9_init 13 = .ok (.iconst 1, 1) := dk_4 (dk_at dksX9_init_0 13 rfl rfl)
theorem dX9_init_14 : decode cX9_init 14 = .ok (.putfield 15, 3) := dk_181 0 15 (dk_at dksX9_init_0 14 rfl rfl)
theorem dX9_init_17 : decode cX9_init 17 = .ok (.aload_n 0, 1) := dk_42 (dk_at dksX9_init_0 17 rfl rfl)
theorem dX9_init_18 : decode cX9_init 18 = .ok (.iload_n 1, 1) := dk_27 (dk_at dksX9_init_0 18 rfl rfl)
theorem dX9_init_19 : decode cX9_init 19 = .ok (.putfield 19, 3) := dk_181 0 19 (dk_at dksX9_init_0 19 rfl rfl)
theorem dX9_init_22 : decode cX9_init 22 = .ok (.return_, 1) := dk_177 (dk_at dksX9_init_0 22 rfl rfl)
abbrev cX9_comes : ByteArray := prog_11_method_2_code
def yX9_comes : MethodName := ⟨RX9, "comes", "(I)V"⟩
def dkwX9_comes_0 : List UInt8 := [42, 180, 0, 9, 42, 180, 0, 22, 27, 79, 42, 89, 180, 0, 22, 4, 96, 181, 0, 22, 177]
abbrev dktX9_comes_0 : List UInt8 := dkwX9_comes_0 ++ []
theorem dksX9_comes_0 : cX9_comes.data.toList.drop 0 = dktX9_comes_0 := by decide +kernel
theorem dX9_comes_0 : decode cX9_comes 0 = .ok (.aload_n 0, 1) := dk_42 (dk_at dksX9_comes_0 0 rfl rfl)
theorem dX9_comes_1 : decode cX9_comes 1 = .ok (.getfield 9, 3) := dk_180 0 9 (dk_at dksX9_comes_0 1 rfl rfl)
theorem dX9_comes_4 : decode cX9_comes 4 = .ok (.aload_n 0, 1) := dk_42 (dk_at dksX9_comes_0 4 rfl rfl)
theorem dX9_comes_5 : decode cX9_comes 5 = .ok (.getfield 22, 3) := dk_180 0 22 (dk_at dksX9_comes_0 5 rfl rfl)
theorem dX9_comes_8 : decode cX9_comes 8 = .ok (.iload_n 1, 1) := dk_27 (dk_at dksX9_comes_0 8 rfl rfl)
theorem dX9_comes_9 : decode cX9_comes 9 = .ok (.iastore, 1) := dk_79 (dk_at dksX9_comes_0 9 rfl rfl)
theorem dX9_comes_10 : decode cX9_comes 10 = .ok (.aload_n 0, 1) := dk_42 (dk_at dksX9_comes_0 10 rfl rfl)
theorem dX9_comes_11 : decode cX9_comes 11 = .ok (.dup, 1) := dk_89 (dk_at dksX9_comes_0 11 rfl rfl)
theorem dX9_comes_12 : decode cX9_comes 12 = .ok (.getfield 22, 3) := dk_180 0 22 (dk_at dksX9_comes_0 12 rfl rfl)
theorem dX9_comes_15 : decode cX9_comes 15 = .ok (.iconst 1, 1) := dk_4 (dk_at dksX9_comes_0 15 rfl rfl)
theorem dX9_comes_16 : decode cX9_comes 16 = .ok (.iadd, 1) := dk_96 (dk_at dksX9_comes_0 16 rfl rfl)
theorem dX9_comes_17 : decode cX9_comes 17 = .ok (.putfield 22, 3) := dk_181 0 22 (dk_at dksX9_comes_0 17 rfl rfl)
theorem dX9_comes_20 : decode cX9_comes 20 = .ok (.return_, 1) := dk_177 (dk_at dksX9_comes_0 20 rfl rfl)
theorem q177 : (Jvm.Cond.initialized "BranchNames$Part") ∈ lw_all := lw_g (lw_at lw_m1 26 rfl) rfl
theorem q1151 : (Jvm.Cond.selects "BranchNames$Part" ({ cls := "java/lang/Object", name := "getClass", desc := "()Ljava/lang/Class;" } : Jvm.MethodName) ({ cls := "java/lang/Object", name := "getClass", desc := "()Ljava/lang/Class;" } : Jvm.MethodName)) ∈ lw_all := lw_g (lw_at lw_m5 40 rfl) rfl
theorem q1358 : (Jvm.Cond.instantiable "BranchNames$Part" (5 : Nat)) ∈ lw_all := lw_g (lw_at lw_m6 7 rfl) rfl
theorem q1360 : (Jvm.Cond.instanceMethod ({ cls := "BranchNames$Part", name := "<init>", desc := "(I)V" } : Jvm.MethodName)) ∈ lw_all := lw_g (lw_at lw_m6 9 rfl) rfl
theorem q1361 : (Jvm.Cond.code ({ cls := "BranchNames$Part", name := "<init>", desc := "(I)V" } : Jvm.MethodName) prog_11_method_1_code (2 : Nat) (Option.none : Option Jvm.ClassFile.FieldType)) ∈ lw_all := lw_g (lw_at lw_m6 10 rfl) rfl
theorem q1362 : (Jvm.Cond.methodLink "BranchNames$Part" (3 : Nat) ({ cls := "java/lang/Object", name := "<init>", desc := "()V" } : Jvm.MethodName)) ∈ lw_all := lw_g (lw_at lw_m6 11 rfl) rfl
theorem q1363 : (Jvm.Cond.fieldLink "BranchNames$Part" (19 : Nat) "BranchNames$Part" "place" "I") ∈ lw_all := lw_g (lw_at lw_m6 12 rfl) rfl
theorem q1365 : (Jvm.Cond.fieldLink "BranchNames$Part" (9 : Nat) "BranchNames$Part" "numbers" "[I") ∈ lw_all := lw_g (lw_at lw_m6 14 rfl) rfl
theorem q1367 : (Jvm.Cond.fieldLink "BranchNames$Part" (22 : Nat) "BranchNames$Part" "told" "I") ∈ lw_all := lw_g (lw_at lw_m6 16 rfl) rfl
theorem q1369 : (Jvm.Cond.fieldLink "BranchNames$Part" (15 : Nat) "BranchNames$Part" "many" "I") ∈ lw_all := lw_g (lw_at lw_m6 18 rfl) rfl
theorem q1374 : (Jvm.Cond.laysFinal "BranchNames$Part" "BranchNames$Part" "place" "I") ∈ lw_all := lw_g (lw_at lw_m6 23 rfl) rfl
theorem q1375 : (Jvm.Cond.soleField "BranchNames$Part" "place") ∈ lw_all := lw_g (lw_at lw_m6 24 rfl) rfl
theorem q1376 : (Jvm.Cond.laysFinal "BranchNames$Part" "BranchNames$Part" "numbers" "[I") ∈ lw_all := lw_g (lw_at lw_m6 25 rfl) rfl
theorem q1377 : (Jvm.Cond.soleField "BranchNames$Part" "numbers") ∈ lw_all := lw_g (lw_at lw_m6 26 rfl) rfl
theorem q1378 : (Jvm.Cond.lays "BranchNames$Part" "BranchNames$Part" "told" "I") ∈ lw_all := lw_g (lw_at lw_m6 27 rfl) rfl
theorem q1379 : (Jvm.Cond.soleField "BranchNames$Part" "told") ∈ lw_all := lw_g (lw_at lw_m6 28 rfl) rfl
theorem q1380 : (Jvm.Cond.lays "BranchNames$Part" "BranchNames$Part" "many" "I") ∈ lw_all := lw_g (lw_at lw_m6 29 rfl) rfl
theorem q1381 : (Jvm.Cond.soleField "BranchNames$Part" "many") ∈ lw_all := lw_g (lw_at lw_m6 30 rfl) rfl
theorem q1382 : (Jvm.Cond.lays "BranchNames$Part" "BranchNames$Part" "branch" "LBranchNames$Branch;") ∈ lw_all := lw_g (lw_at lw_m6 31 rfl) rfl
theorem q1383 : (Jvm.Cond.soleField "BranchNames$Part" "branch") ∈ lw_all := lw_g (lw_at lw_m6 32 rfl) rfl
theorem q1384 : (Jvm.Cond.superclass "BranchNames$Part" "java/lang/Object") ∈ lw_all := lw_g (lw_at lw_m6 33 rfl) rfl
theorem q1457 : (Jvm.Cond.instanceMethod ({ cls := "BranchNames$Part", name := "comes", desc := "(I)V" } : Jvm.MethodName)) ∈ lw_all := lw_g (lw_at lw_m6 106 rfl) rfl
theorem q1458 : (Jvm.Cond.selects "BranchNames$Part" ({ cls := "BranchNames$Part", name := "comes", desc := "(I)V" } : Jvm.MethodName) ({ cls := "BranchNames$Part", name := "comes", desc := "(I)V" } : Jvm.MethodName)) ∈ lw_all := lw_g (lw_at lw_m6 107 rfl) rfl
theorem q1459 : (Jvm.Cond.code ({ cls := "BranchNames$Part", name := "comes", desc := "(I)V" } : Jvm.MethodName) prog_11_method_2_code (2 : Nat) (Option.none : Option Jvm.ClassFile.FieldType)) ∈ lw_all := lw_g (lw_at lw_m6 108 rfl) rfl
theorem q2443 : (Jvm.Cond.castable "BranchNames$Part" "java/lang/Object") ∈ lw_tbl := lw_at lw_m10 132 rfl
theorem in_X9 : ∀ w ∈ wsX90, w ∈ lw_all := lw_in wsX90 [1374, 1376, 1378, 1380, 1382] (by decide +kernel) (by decide +kernel)
/-! the law's own entry -/
set_option maxRecDepth 100000
abbrev cL_law : ByteArray := code
def dkwL_law_42 : List UInt8 := [182, 0, 138, 44, 182, 0, 141, 159, 0, 5, 3, 172, 132, 3, 6, 167, 251, 195, 4, 172]
abbrev dktL_law_42 : List UInt8 := dkwL_law_42 ++ []
def dkwL_law_41 : List UInt8 := [182, 0, 133, 159, 0, 31, 3, 172, 43, 182, 0, 134, 44, 182, 0, 137, 159, 0, 18, 3, 172, 43]
abbrev dktL_law_41 : List UInt8 := dkwL_law_41 ++ dktL_law_42
def dkwL_law_40 : List UInt8 := [29, 4, 96, 46, 42, 29, 5, 96, 46, 42, 29, 6, 96, 46, 42, 29, 7, 96, 46, 42, 29, 8, 96, 46]
abbrev dktL_law_40 : List UInt8 := dkwL_law_40 ++ dktL_law_41
def dkwL_law_39 : List UInt8 := [29, 5, 96, 46, 42, 29, 6, 96, 46, 42, 29, 7, 96, 46, 42, 29, 8, 96, 46, 182, 0, 129, 44, 42]
abbrev dktL_law_39 : List UInt8 := dkwL_law_39 ++ dktL_law_40
def dkwL_law_38 : List UInt8 := [29, 4, 96, 46, 42, 29, 5, 96, 46, 182, 0, 128, 159, 0, 94, 3, 172, 43, 42, 29, 4, 96, 46, 42]
abbrev dktL_law_38 : List UInt8 := dkwL_law_38 ++ dktL_law_39
def dkwL_law_37 : List UInt8 := [182, 0, 124, 159, 0, 127, 3, 172, 43, 42, 29, 4, 96, 46, 42, 29, 5, 96, 46, 182, 0, 125, 44, 42]
abbrev dktL_law_37 : List UInt8 := dkwL_law_37 ++ dktL_law_38
def dkwL_law_36 : List UInt8 := [42, 29, 4, 96, 46, 42, 29, 5, 96, 46, 182, 0, 121, 44, 42, 29, 4, 96, 46, 42, 29, 5, 96, 46]
abbrev dktL_law_36 : List UInt8 := dkwL_law_36 ++ dktL_law_37
def dkwL_law_35 : List UInt8 := [182, 0, 117, 44, 42, 29, 4, 96, 46, 42, 29, 5, 96, 46, 182, 0, 120, 148, 153, 0, 160, 3, 172, 43]
abbrev dktL_law_35 : List UInt8 := dkwL_law_35 ++ dktL_law_36
def dkwL_law_34 : List UInt8 := [20, 0, 110, 127, 129, 182, 0, 116, 159, 0, 194, 3, 172, 43, 42, 29, 4, 96, 46, 42, 29, 5, 96, 46]
abbrev dktL_law_34 : List UInt8 := dkwL_law_34 ++ dktL_law_35
def dkwL_law_33 : List UInt8 := [29, 4, 96, 46, 42, 29, 5, 96, 46, 42, 29, 6, 96, 46, 133, 16, 32, 121, 42, 29, 7, 96, 46, 133]
abbrev dktL_law_33 : List UInt8 := dkwL_law_33 ++ dktL_law_34
def dkwL_law_32 : List UInt8 := [29, 6, 96, 46, 133, 16, 32, 121, 42, 29, 7, 96, 46, 133, 20, 0, 110, 127, 129, 182, 0, 112, 44, 42]
abbrev dktL_law_32 : List UInt8 := dkwL_law_32 ++ dktL_law_33
def dkwL_law_31 : List UInt8 := [29, 6, 96, 46, 182, 0, 109, 159, 1, 11, 3, 172, 43, 42, 29, 4, 96, 46, 42, 29, 5, 96, 46, 42]
abbrev dktL_law_31 : List UInt8 := dkwL_law_31 ++ dktL_law_32
def dkwL_law_30 : List UInt8 := [29, 5, 96, 46, 42, 29, 6, 96, 46, 182, 0, 106, 44, 42, 29, 4, 96, 46, 42, 29, 5, 96, 46, 42]
abbrev dktL_law_30 : List UInt8 := dkwL_law_30 ++ dktL_law_31
def dkwL_law_29 : List UInt8 := [182, 0, 102, 44, 42, 29, 4, 96, 46, 182, 0, 105, 159, 1, 54, 3, 172, 43, 42, 29, 4, 96, 46, 42]
abbrev dktL_law_29 : List UInt8 := dkwL_law_29 ++ dktL_law_30
def dkwL_law_28 : List UInt8 := [29, 4, 96, 46, 42, 29, 5, 96, 46, 182, 0, 101, 159, 1, 77, 3, 172, 43, 42, 29, 4, 96, 46]
abbrev dktL_law_28 : List UInt8 := dkwL_law_28 ++ dktL_law_29
def dkwL_law_27 : List UInt8 := [182, 0, 97, 159, 1, 110, 3, 172, 43, 42, 29, 4, 96, 46, 42, 29, 5, 96, 46, 182, 0, 98, 44, 42]
abbrev dktL_law_27 : List UInt8 := dkwL_law_27 ++ dktL_law_28
def dkwL_law_26 : List UInt8 := [159, 1, 136, 3, 172, 43, 182, 0, 89, 44, 182, 0, 93, 159, 1, 123, 3, 172, 43, 182, 0, 94, 44]
abbrev dktL_law_26 : List UInt8 := dkwL_law_26 ++ dktL_law_27
def dkwL_law_25 : List UInt8 := [159, 1, 159, 3, 172, 43, 42, 29, 4, 96, 46, 182, 0, 85, 44, 42, 29, 4, 96, 46, 182, 0, 88]
abbrev dktL_law_25 : List UInt8 := dkwL_law_25 ++ dktL_law_26
def dkwL_law_24 : List UInt8 := [159, 1, 182, 3, 172, 43, 42, 29, 4, 96, 46, 182, 0, 81, 44, 42, 29, 4, 96, 46, 182, 0, 84]
abbrev dktL_law_24 : List UInt8 := dkwL_law_24 ++ dktL_law_25
def dkwL_law_23 : List UInt8 := [182, 0, 77, 44, 42, 29, 4, 96, 46, 42, 29, 5, 96, 46, 42, 29, 6, 96, 46, 182, 0, 80]
abbrev dktL_law_23 : List UInt8 := dkwL_law_23 ++ dktL_law_24
def dkwL_law_22 : List UInt8 := [182, 0, 76, 159, 1, 225, 3, 172, 43, 42, 29, 4, 96, 46, 42, 29, 5, 96, 46, 42, 29, 6, 96, 46]
abbrev dktL_law_22 : List UInt8 := dkwL_law_22 ++ dktL_law_23
def dkwL_law_21 : List UInt8 := [182, 0, 72, 148, 153, 1, 248, 3, 172, 43, 42, 29, 4, 96, 46, 182, 0, 73, 44, 42, 29, 4, 96, 46]
abbrev dktL_law_21 : List UInt8 := dkwL_law_21 ++ dktL_law_22
def dkwL_law_20 : List UInt8 := [4, 96, 46, 42, 29, 5, 96, 46, 182, 0, 68, 44, 42, 29, 4, 96, 46, 42, 29, 5, 96, 46]
abbrev dktL_law_20 : List UInt8 := dkwL_law_20 ++ dktL_law_21
def dkwL_law_19 : List UInt8 := [4, 96, 46, 42, 29, 5, 96, 46, 42, 29, 6, 96, 46, 182, 0, 67, 159, 2, 26, 3, 172, 43, 42, 29]
abbrev dktL_law_19 : List UInt8 := dkwL_law_19 ++ dktL_law_20
def dkwL_law_18 : List UInt8 := [3, 172, 43, 42, 29, 4, 96, 46, 42, 29, 5, 96, 46, 42, 29, 6, 96, 46, 182, 0, 64, 44, 42, 29]
abbrev dktL_law_18 : List UInt8 := dkwL_law_18 ++ dktL_law_19
def dkwL_law_17 : List UInt8 := [29, 5, 96, 46, 182, 0, 60, 44, 42, 29, 4, 96, 46, 42, 29, 5, 96, 46, 182, 0, 63, 159, 2, 69]
abbrev dktL_law_17 : List UInt8 := dkwL_law_17 ++ dktL_law_18
def dkwL_law_16 : List UInt8 := [182, 0, 56, 44, 42, 29, 4, 96, 46, 182, 0, 59, 159, 2, 102, 3, 172, 43, 42, 29, 4, 96, 46, 42]
abbrev dktL_law_16 : List UInt8 := dkwL_law_16 ++ dktL_law_17
def dkwL_law_15 : List UInt8 := [182, 0, 52, 44, 42, 29, 4, 96, 46, 182, 0, 55, 159, 2, 125, 3, 172, 43, 42, 29, 4, 96, 46]
abbrev dktL_law_15 : List UInt8 := dkwL_law_15 ++ dktL_law_16
def dkwL_law_14 : List UInt8 := [29, 5, 96, 46, 42, 29, 6, 96, 46, 182, 0, 51, 159, 2, 148, 3, 172, 43, 42, 29, 4, 96, 46]
abbrev dktL_law_14 : List UInt8 := dkwL_law_14 ++ dktL_law_15
def dkwL_law_13 : List UInt8 := [29, 4, 96, 46, 42, 29, 5, 96, 46, 42, 29, 6, 96, 46, 182, 0, 47, 44, 42, 29, 4, 96, 46, 42]
abbrev dktL_law_13 : List UInt8 := dkwL_law_13 ++ dktL_law_14
def dkwL_law_12 : List UInt8 := [182, 0, 43, 44, 42, 29, 4, 96, 46, 42, 29, 5, 96, 46, 182, 0, 46, 159, 2, 191, 3, 172, 43, 42]
abbrev dktL_law_12 : List UInt8 := dkwL_law_12 ++ dktL_law_13
def dkwL_law_11 : List UInt8 := [5, 96, 46, 182, 0, 42, 159, 2, 224, 3, 172, 43, 42, 29, 4, 96, 46, 42, 29, 5, 96, 46]
abbrev dktL_law_11 : List UInt8 := dkwL_law_11 ++ dktL_law_12
def dkwL_law_10 : List UInt8 := [3, 172, 43, 42, 29, 4, 96, 46, 42, 29, 5, 96, 46, 182, 0, 39, 44, 42, 29, 4, 96, 46, 42, 29]
abbrev dktL_law_10 : List UInt8 := dkwL_law_10 ++ dktL_law_11
def dkwL_law_9 : List UInt8 := [29, 5, 96, 46, 182, 0, 35, 44, 42, 29, 4, 96, 46, 42, 29, 5, 96, 46, 182, 0, 38, 159, 3, 1]
abbrev dktL_law_9 : List UInt8 := dkwL_law_9 ++ dktL_law_10
def dkwL_law_8 : List UInt8 := [182, 0, 31, 44, 42, 29, 4, 96, 46, 182, 0, 34, 159, 3, 34, 3, 172, 43, 42, 29, 4, 96, 46, 42]
abbrev dktL_law_8 : List UInt8 := dkwL_law_8 ++ dktL_law_9
def dkwL_law_7 : List UInt8 := [29, 4, 96, 46, 42, 29, 5, 96, 46, 182, 0, 30, 159, 3, 57, 3, 172, 43, 42, 29, 4, 96, 46]
abbrev dktL_law_7 : List UInt8 := dkwL_law_7 ++ dktL_law_8
def dkwL_law_6 : List UInt8 := [182, 0, 26, 159, 3, 90, 3, 172, 43, 42, 29, 4, 96, 46, 42, 29, 5, 96, 46, 182, 0, 27, 44, 42]
abbrev dktL_law_6 : List UInt8 := dkwL_law_6 ++ dktL_law_7
def dkwL_law_5 : List UInt8 := [29, 4, 96, 46, 42, 29, 5, 96, 46, 182, 0, 22, 44, 42, 29, 4, 96, 46, 42, 29, 5, 96, 46]
abbrev dktL_law_5 : List UInt8 := dkwL_law_5 ++ dktL_law_6
def dkwL_law_4 : List UInt8 := [42, 29, 4, 96, 46, 182, 0, 18, 44, 42, 29, 4, 96, 46, 182, 0, 21, 159, 3, 123, 3, 172, 43, 42]
abbrev dktL_law_4 : List UInt8 := dkwL_law_4 ++ dktL_law_5
def dkwL_law_3 : List UInt8 := [43, 42, 29, 4, 96, 46, 182, 0, 13, 44, 42, 29, 4, 96, 46, 182, 0, 17, 159, 3, 146, 3, 172, 43]
abbrev dktL_law_3 : List UInt8 := dkwL_law_3 ++ dktL_law_4
def dkwL_law_2 : List UInt8 := [170, 0, 0, 0, 0, 4, 43, 0, 0, 0, 0, 0, 0, 0, 29, 0, 0, 0, 135, 0, 0, 0, 158, 0, 0, 0, 181, 0, 0, 0, 214, 0, 0, 0, 247, 0, 0, 1, 14, 0, 0, 1, 47, 0, 0, 1, 80, 0, 0, 1, 113, 0, 0, 1, 156, 0, 0, 1, 179, 0, 0, 1, 202, 0, 0, 1, 235, 0, 0, 2, 22, 0, 0, 2, 56, 0, 0, 2, 79, 0, 0, 2, 122, 0, 0, 2, 145, 0, 0, 2, 168, 0, 0, 2, 181, 0, 0, 2, 194, 0, 0, 2, 227, 0, 0, 2, 250, 0, 0, 3, 37, 0, 0, 3, 110, 0, 0, 3, 144, 0, 0, 3, 177, 0, 0, 3, 210, 0, 0, 4, 17, 0, 0, 4, 30]
abbrev dktL_law_2 : List UInt8 := dkwL_law_2 ++ dktL_law_3
def dkwL_law_1 : List UInt8 := [163, 4, 58, 42, 29, 46, 16, 31, 126]
abbrev dktL_law_1 : List UInt8 := dkwL_law_1 ++ dktL_law_2
def dkwL_law_0 : List UInt8 := [187, 0, 7, 89, 183, 0, 9, 76, 187, 0, 10, 89, 183, 0, 12, 77, 3, 62, 29, 42, 190, 16, 6, 100]
abbrev dktL_law_0 : List UInt8 := dkwL_law_0 ++ dktL_law_1
theorem dksL_law_0 : cL_law.data.toList.drop 0 = dktL_law_0 := by decide +kernel
theorem dksL_law_1 : cL_law.data.toList.drop 24 = dktL_law_1 := dk_seg dksL_law_0 24 rfl rfl
theorem dksL_law_2 : cL_law.data.toList.drop 33 = dktL_law_2 := dk_seg dksL_law_1 9 rfl rfl
theorem dksL_law_3 : cL_law.data.toList.drop 168 = dktL_law_3 := dk_seg dksL_law_2 135 rfl rfl
theorem dksL_law_4 : cL_law.data.toList.drop 192 = dktL_law_4 := dk_seg dksL_law_3 24 rfl rfl
theorem dksL_law_5 : cL_law.data.toList.drop 216 = dktL_law_5 := dk_seg dksL_law_4 24 rfl rfl
theorem dksL_law_6 : cL_law.data.toList.drop 239 = dktL_law_6 := dk_seg dksL_law_5 23 rfl rfl
theorem dksL_law_7 : cL_law.data.toList.drop 263 = dktL_law_7 := dk_seg dksL_law_6 24 rfl rfl
theorem dksL_law_8 : cL_law.data.toList.drop 286 = dktL_law_8 := dk_seg dksL_law_7 23 rfl rfl
theorem dksL_law_9 : cL_law.data.toList.drop 310 = dktL_law_9 := dk_seg dksL_law_8 24 rfl rfl
theorem dksL_law_10 : cL_law.data.toList.drop 334 = dktL_law_10 := dk_seg dksL_law_9 24 rfl rfl
theorem dksL_law_11 : cL_law.data.toList.drop 358 = dktL_law_11 := dk_seg dksL_law_10 24 rfl rfl
theorem dksL_law_12 : cL_law.data.toList.drop 380 = dktL_law_12 := dk_seg dksL_law_11 22 rfl rfl
theorem dksL_law_13 : cL_law.data.toList.drop 404 = dktL_law_13 := dk_seg dksL_law_12 24 rfl rfl
theorem dksL_law_14 : cL_law.data.toList.drop 428 = dktL_law_14 := dk_seg dksL_law_13 24 rfl rfl
theorem dksL_law_15 : cL_law.data.toList.drop 451 = dktL_law_15 := dk_seg dksL_law_14 23 rfl rfl
theorem dksL_law_16 : cL_law.data.toList.drop 474 = dktL_law_16 := dk_seg dksL_law_15 23 rfl rfl
theorem dksL_law_17 : cL_law.data.toList.drop 498 = dktL_law_17 := dk_seg dksL_law_16 24 rfl rfl
theorem dksL_law_18 : cL_law.data.toList.drop 522 = dktL_law_18 := dk_seg dksL_law_17 24 rfl rfl
theorem dksL_law_19 : cL_law.data.toList.drop 546 = dktL_law_19 := dk_seg dksL_law_18 24 rfl rfl
theorem dksL_law_20 : cL_law.data.toList.drop 570 = dktL_law_20 := dk_seg dksL_law_19 24 rfl rfl
theorem dksL_law_21 : cL_law.data.toList.drop 592 = dktL_law_21 := dk_seg dksL_law_20 22 rfl rfl
theorem dksL_law_22 : cL_law.data.toList.drop 616 = dktL_law_22 := dk_seg dksL_law_21 24 rfl rfl
theorem dksL_law_23 : cL_law.data.toList.drop 640 = dktL_law_23 := dk_seg dksL_law_22 24 rfl rfl
theorem dksL_law_24 : cL_law.data.toList.drop 662 = dktL_law_24 := dk_seg dksL_law_23 22 rfl rfl
theorem dksL_law_25 : cL_law.data.toList.drop 685 = dktL_law_25 := dk_seg dksL_law_24 23 rfl rfl
theorem dksL_law_26 : cL_law.data.toList.drop 708 = dktL_law_26 := dk_seg dksL_law_25 23 rfl rfl
theorem dksL_law_27 : cL_law.data.toList.drop 731 = dktL_law_27 := dk_seg dksL_law_26 23 rfl rfl
theorem dksL_law_28 : cL_law.data.toList.drop 755 = dktL_law_28 := dk_seg dksL_law_27 24 rfl rfl
theorem dksL_law_29 : cL_law.data.toList.drop 778 = dktL_law_29 := dk_seg dksL_law_28 23 rfl rfl
theorem dksL_law_30 : cL_law.data.toList.drop 802 = dktL_law_30 := dk_seg dksL_law_29 24 rfl rfl
theorem dksL_law_31 : cL_law.data.toList.drop 826 = dktL_law_31 := dk_seg dksL_law_30 24 rfl rfl
theorem dksL_law_32 : cL_law.data.toList.drop 850 = dktL_law_32 := dk_seg dksL_law_31 24 rfl rfl
theorem dksL_law_33 : cL_law.data.toList.drop 874 = dktL_law_33 := dk_seg dksL_law_32 24 rfl rfl
theorem dksL_law_34 : cL_law.data.toList.drop 898 = dktL_law_34 := dk_seg dksL_law_33 24 rfl rfl
theorem dksL_law_35 : cL_law.data.toList.drop 922 = dktL_law_35 := dk_seg dksL_law_34 24 rfl rfl
theorem dksL_law_36 : cL_law.data.toList.drop 946 = dktL_law_36 := dk_seg dksL_law_35 24 rfl rfl
theorem dksL_law_37 : cL_law.data.toList.drop 970 = dktL_law_37 := dk_seg dksL_law_36 24 rfl rfl
theorem dksL_law_38 : cL_law.data.toList.drop 994 = dktL_law_38 := dk_seg dksL_law_37 24 rfl rfl
theorem dksL_law_39 : cL_law.data.toList.drop 1018 = dktL_law_39 := dk_seg dksL_law_38 24 rfl rfl
theorem dksL_law_40 : cL_law.data.toList.drop 1042 = dktL_law_40 := dk_seg dksL_law_39 24 rfl rfl
theorem dksL_law_41 : cL_law.data.toList.drop 1066 = dktL_law_41 := dk_seg dksL_law_40 24 rfl rfl
theorem dksL_law_42 : cL_law.data.toList.drop 1088 = dktL_law_42 := dk_seg dksL_law_41 22 rfl rfl
theorem dL_law_0 : decode cL_law 0 = .ok (.new 7, 3) := dk_187 0 7 (dk_at dksL_law_0 0 rfl rfl)
theorem dL_law_3 : decode cL_law 3 = .ok (.dup, 1) := dk_89 (dk_at dksL_law_0 3 rfl rfl)
theorem dL_law_4 : decode cL_law 4 = .ok (.invokespecial 9, 3) := dk_183 0 9 (dk_at dksL_law_0 4 rfl rfl)
theorem dL_law_7 : decode cL_law 7 = .ok (.astore_n 1, 1) := dk_76 (dk_at dksL_law_0 7 rfl rfl)
theorem dL_law_8 : decode cL_law 8 = .ok (.new 10, 3) := dk_187 0 10 (dk_at dksL_law_0 8 rfl rfl)
theorem dL_law_11 : decode cL_law 11 = .ok (.dup, 1) := dk_89 (dk_at dksL_law_0 11 rfl rfl)
theorem dL_law_12 : decode cL_law 12 = .ok (.invokespecial 12, 3) := dk_183 0 12 (dk_at dksL_law_0 12 rfl rfl)
theorem dL_law_15 : decode cL_law 15 = .ok (.astore_n 2, 1) := dk_77 (dk_at dksL_law_0 15 rfl rfl)
theorem dL_law_16 : decode cL_law 16 = .ok (.iconst 0, 1) := dk_3 (dk_at dksL_law_0 16 rfl rfl)
theorem dL_law_17 : decode cL_law 17 = .ok (.istore_n 3, 1) := dk_62 (dk_at dksL_law_0 17 rfl rfl)
theorem dL_law_18 : decode cL_law 18 = .ok (.iload_n 3, 1) := dk_29 (dk_at dksL_law_0 18 rfl rfl)
theorem dL_law_19 : decode cL_law 19 = .ok (.aload_n 0, 1) := dk_42 (dk_at dksL_law_0 19 rfl rfl)
theorem dL_law_20 : decode cL_law 20 = .ok (.arraylength, 1) := dk_190 (dk_at dksL_law_0 20 rfl rfl)
theorem dL_law_21 : decode cL_law 21 = .ok (.bipush 6, 2) := dk_16 6 (dk_at dksL_law_0 21 rfl rfl)
theorem dL_law_23 : decode cL_law 23 = .ok (.isub, 1) := dk_100 (dk_at dksL_law_0 23 rfl rfl)
theorem dL_law_24 : decode cL_law 24 = .ok (.if_icmp .gt 1082, 3) := dk_163 4 58 (dk_at dksL_law_1 0 rfl rfl)
theorem dL_law_27 : decode cL_law 27 = .ok (.aload_n 0, 1) := dk_42 (dk_at dksL_law_1 3 rfl rfl)
theorem dL_law_28 : decode cL_law 28 = .ok (.iload_n 3, 1) := dk_29 (dk_at dksL_law_1 4 rfl rfl)
theorem dL_law_29 : decode cL_law 29 = .ok (.iaload, 1) := dk_46 (dk_at dksL_law_1 5 rfl rfl)
theorem dL_law_30 : decode cL_law 30 = .ok (.bipush 31, 2) := dk_16 31 (dk_at dksL_law_1 6 rfl rfl)
theorem dL_law_32 : decode cL_law 32 = .ok (.iand, 1) := dk_126 (dk_at dksL_law_1 8 rfl rfl)
theorem dL_law_33 : decode cL_law 33 = .ok (.tableswitch 1067 0 29 #[135, 158, 181, 214, 247, 270, 303, 336, 369, 412, 435, 458, 491, 534, 568, 591, 634, 657, 680, 693, 706, 739, 762, 805, 878, 912, 945, 978, 1041, 1054], 135) := by decide +kernel
theorem dL_law_168 : decode cL_law 168 = .ok (.aload_n 1, 1) := dk_43 (dk_at dksL_law_3 0 rfl rfl)
theorem dL_law_169 : decode cL_law 169 = .ok (.aload_n 0, 1) := dk_42 (dk_at dksL_law_3 1 rfl rfl)
theorem dL_law_170 : decode cL_law 170 = .ok (.iload_n 3, 1) := dk_29 (dk_at dksL_law_3 2 rfl rfl)
theorem dL_law_171 : decode cL_law 171 = .ok (.iconst 1, 1) := dk_4 (dk_at dksL_law_3 3 rfl rfl)
theorem dL_law_172 : decode cL_law 172 = .ok (.iadd, 1) := dk_96 (dk_at dksL_law_3 4 rfl rfl)
theorem dL_law_173 : decode cL_law 173 = .ok (.iaload, 1) := dk_46 (dk_at dksL_law_3 5 rfl rfl)
theorem dL_law_174 : decode cL_law 174 = .ok (.invokevirtual 13, 3) := dk_182 0 13 (dk_at dksL_law_3 6 rfl rfl)
theorem dL_law_177 : decode cL_law 177 = .ok (.aload_n 2, 1) := dk_44 (dk_at dksL_law_3 9 rfl rfl)
theorem dL_law_178 : decode cL_law 178 = .ok (.aload_n 0, 1) := dk_42 (dk_at dksL_law_3 10 rfl rfl)
theorem dL_law_179 : decode cL_law 179 = .ok (.iload_n 3, 1) := dk_29 (dk_at dksL_law_3 11 rfl rfl)
theorem dL_law_180 : decode cL_law 180 = .ok (.iconst 1, 1) := dk_4 (dk_at dksL_law_3 12 rfl rfl)
theorem dL_law_181 : decode cL_law 181 = .ok (.iadd, 1) := dk_96 (dk_at dksL_law_3 13 rfl rfl)
theorem dL_law_182 : decode cL_law 182 = .ok (.iaload, 1) := dk_46 (dk_at dksL_law_3 14 rfl rfl)
theorem dL_law_183 : decode cL_law 183 = .ok (.invokevirtual 17, 3) := dk_182 0 17 (dk_at dksL_law_3 15 rfl rfl)
theorem dL_law_186 : decode cL_law 186 = .ok (.if_icmp .eq 914, 3) := dk_159 3 146 (dk_at dksL_law_3 18 rfl rfl)
theorem dL_law_189 : decode cL_law 189 = .ok (.iconst 0, 1) := dk_3 (dk_at dksL_law_3 21 rfl rfl)
theorem dL_law_190 : decode cL_law 190 = .ok (.ireturn, 1) := dk_172 (dk_at dksL_law_3 22 rfl rfl)
theorem dL_law_191 : decode cL_law 191 = .ok (.aload_n 1, 1) := dk_43 (dk_at dksL_law_3 23 rfl rfl)
theorem dL_law_192 : decode cL_law 192 = .ok (.aload_n 0, 1) := dk_42 (dk_at dksL_law_4 0 rfl rfl)
theorem dL_law_193 : decode cL_law 193 = .ok (.iload_n 3, 1) := dk_29 (dk_at dksL_law_4 1 rfl rfl)
theorem dL_law_194 : decode cL_law 194 = .ok (.iconst 1, 1) := dk_4 (dk_at dksL_law_4 2 rfl rfl)
theorem dL_law_195 : decode cL_law 195 = .ok (.iadd, 1) := dk_96 (dk_at dksL_law_4 3 rfl rfl)
theorem dL_law_196 : decode cL_law 196 = .ok (.iaload, 1) := dk_46 (dk_at dksL_law_4 4 rfl rfl)
theorem dL_law_197 : decode cL_law 197 = .ok (.invokevirtual 18, 3) := dk_182 0 18 (dk_at dksL_law_4 5 rfl rfl)
theorem dL_law_200 : decode cL_law 200 = .ok (.aload_n 2, 1) := dk_44 (dk_at dksL_law_4 8 rfl rfl)
theorem dL_law_201 : decode cL_law 201 = .ok (.aload_n 0, 1) := dk_42 (dk_at dksL_law_4 9 rfl rfl)
theorem dL_law_202 : decode cL_law 202 = .ok (.iload_n 3, 1) := dk_29 (dk_at dksL_law_4 10 rfl rfl)
theorem dL_law_203 : decode cL_law 203 = .ok (.iconst 1, 1) := dk_4 (dk_at dksL_law_4 11 rfl rfl)
theorem dL_law_204 : decode cL_law 204 = .ok (.iadd, 1) := dk_96 (dk_at dksL_law_4 12 rfl rfl)
theorem dL_law_205 : decode cL_law 205 = .ok (.iaload, 1) := dk_46 (dk_at dksL_law_4 13 rfl rfl)
theorem dL_law_206 : decode cL_law 206 = .ok (.invokevirtual 21, 3) := dk_182 0 21 (dk_at dksL_law_4 14 rfl rfl)
theorem dL_law_209 : decode cL_law 209 = .ok (.if_icmp .eq 891, 3) := dk_159 3 123 (dk_at dksL_law_4 17 rfl rfl)
theorem dL_law_212 : decode cL_law 212 = .ok (.iconst 0, 1) := dk_3 (dk_at dksL_law_4 20 rfl rfl)
theorem dL_law_213 : decode cL_law 213 = .ok (.ireturn, 1) := dk_172 (dk_at dksL_law_4 21 rfl rfl)
theorem dL_law_214 : decode cL_law 214 = .ok (.aload_n 1, 1) := dk_43 (dk_at dksL_law_4 22 rfl rfl)
theorem dL_law_215 : decode cL_law 215 = .ok (.aload_n 0, 1) := dk_42 (dk_at dksL_law_4 23 rfl rfl)
theorem dL_law_216 : decode cL_law 216 = .ok (.iload_n 3, 1) := dk_29 (dk_at dksL_law_5 0 rfl rfl)
theorem dL_law_217 : decode cL_law 217 = .ok (.iconst 1, 1) := dk_4 (dk_at dksL_law_5 1 rfl rfl)
theorem dL_law_218 : decode cL_law 218 = .ok (.iadd, 1) := dk_96 (dk_at dksL_law_5 2 rfl rfl)
theorem dL_law_219 : decode cL_law 219 = .ok (.iaload, 1) := dk_46 (dk_at dksL_law_5 3 rfl rfl)
theorem dL_law_220 : decode cL_law 220 = .ok (.aload_n 0, 1) := dk_42 (dk_at dksL_law_5 4 rfl rfl)
theorem dL_law_221 : decode cL_law 221 = .ok (.iload_n 3, 1) := dk_29 (dk_at dksL_law_5 5 rfl rfl)
theorem dL_law_222 : decode cL_law 222 = .ok (.iconst 2, 1) := dk_5 (dk_at dksL_law_5 6 rfl rfl)
theorem dL_law_223 : decode cL_law 223 = .ok (.iadd, 1) := dk_96 (dk_at dksL_law_5 7 rfl rfl)
theorem dL_law_224 : decode cL_law 224 = .ok (.iaload, 1) := dk_46 (dk_at dksL_law_5 8 rfl rfl)
theorem dL_law_225 : decode cL_law 225 = .ok (.invokevirtual 22, 3) := dk_182 0 22 (dk_at dksL_law_5 9 rfl rfl)
theorem dL_law_228 : decode cL_law 228 = .ok (.aload_n 2, 1) := dk_44 (dk_at dksL_law_5 12 rfl rfl)
theorem dL_law_229 : decode cL_law 229 = .ok (.aload_n 0, 1) := dk_42 (dk_at dksL_law_5 13 rfl rfl)
theorem dL_law_230 : decode cL_law 230 = .ok (.iload_n 3, 1) := dk_29 (dk_at dksL_law_5 14 rfl rfl)
theorem dL_law_231 : decode cL_law 231 = .ok (.iconst 1, 1) := dk_4 (dk_at dksL_law_5 15 rfl rfl)
theorem dL_law_232 : decode cL_law 232 = .ok (.iadd, 1) := dk_96 (dk_at dksL_law_5 16 rfl rfl)
theorem dL_law_233 : decode cL_law 233 = .ok (.iaload, 1) := dk_46 (dk_at dksL_law_5 17 rfl rfl)
theorem dL_law_234 : decode cL_law 234 = .ok (.aload_n 0, 1) := dk_42 (dk_at dksL_law_5 18 rfl rfl)
theorem dL_law_235 : decode cL_law 235 = .ok (.iload_n 3, 1) := dk_29 (dk_at dksL_law_5 19 rfl rfl)
theorem dL_law_236 : decode cL_law 236 = .ok (.iconst 2, 1) := dk_5 (dk_at dksL_law_5 20 rfl rfl)
theorem dL_law_237 : decode cL_law 237 = .ok (.iadd, 1) := dk_96 (dk_at dksL_law_5 21 rfl rfl)
theorem dL_law_238 : decode cL_law 238 = .ok (.iaload, 1) := dk_46 (dk_at dksL_law_5 22 rfl rfl)
theorem dL_law_239 : decode cL_law 239 = .ok (.invokevirtual 26, 3) := dk_182 0 26 (dk_at dksL_law_6 0 rfl rfl)
theorem dL_law_242 : decode cL_law 242 = .ok (.if_icmp .eq 858, 3) := dk_159 3 90 (dk_at dksL_law_6 3 rfl rfl)
theorem dL_law_245 : decode cL_law 245 = .ok (.iconst 0, 1) := dk_3 (dk_at dksL_law_6 6 rfl rfl)
theorem dL_law_246 : decode cL_law 246 = .ok (.ireturn, 1) := dk_172 (dk_at dksL_law_6 7 rfl rfl)
theorem dL_law_247 : decode cL_law 247 = .ok (.aload_n 1, 1) := dk_43 (dk_at dksL_law_6 8 rfl rfl)
theorem dL_law_248 : decode cL_law 248 = .ok (.aload_n 0, 1) := dk_42 (dk_at dksL_law_6 9 rfl rfl)
theorem dL_law_249 : decode cL_law 249 = .ok (.iload_n 3, 1) := dk_29 (dk_at dksL_law_6 10 rfl rfl)
theorem dL_law_250 : decode cL_law 250 = .ok (.iconst 1, 1) := dk_4 (dk_at dksL_law_6 11 rfl rfl)
theorem dL_law_251 : decode cL_law 251 = .ok (.iadd, 1) := dk_96 (dk_at dksL_law_6 12 rfl rfl)
theorem dL_law_252 : decode cL_law 252 = .ok (.iaload, 1) := dk_46 (dk_at dksL_law_6 13 rfl rfl)
theorem dL_law_253 : decode cL_law 253 = .ok (.aload_n 0, 1) := dk_42 (dk_at dksL_law_6 14 rfl rfl)
theorem dL_law_254 : decode cL_law 254 = .ok (.iload_n 3, 1) := dk_29 (dk_at dksL_law_6 15 rfl rfl)
theorem dL_law_255 : decode cL_law 255 = .ok (.iconst 2, 1) := dk_5 (dk_at dksL_law_6 16 rfl rfl)
theorem dL_law_256 : decode cL_law 256 = .ok (.iadd, 1) := dk_96 (dk_at dksL_law_6 17 rfl rfl)
theorem dL_law_257 : decode cL_law 257 = .ok (.iaload, 1) := dk_46 (dk_at dksL_law_6 18 rfl rfl)
theorem dL_law_258 : decode cL_law 258 = .ok (.invokevirtual 27, 3) := dk_182 0 27 (dk_at dksL_law_6 19 rfl rfl)
theorem dL_law_261 : decode cL_law 261 = .ok (.aload_n 2, 1) := dk_44 (dk_at dksL_law_6 22 rfl rfl)
theorem dL_law_262 : decode cL_law 262 = .ok (.aload_n 0, 1) := dk_42 (dk_at dksL_law_6 23 rfl rfl)
theorem dL_law_263 : decode cL_law 263 = .ok (.iload_n 3, 1) := dk_29 (dk_at dksL_law_7 0 rfl rfl)
theorem dL_law_264 : decode cL_law 264 = .ok (.iconst 1, 1) := dk_4 (dk_at dksL_law_7 1 rfl rfl)
theorem dL_law_265 : decode cL_law 265 = .ok (.iadd, 1) := dk_96 (dk_at dksL_law_7 2 rfl rfl)
theorem dL_law_266 : decode cL_law 266 = .ok (.iaload, 1) := dk_46 (dk_at dksL_law_7 3 rfl rfl)
theorem dL_law_267 : decode cL_law 267 = .ok (.aload_n 0, 1) := dk_42 (dk_at dksL_law_7 4 rfl rfl)
theorem dL_law_268 : decode cL_law 268 = .ok (.iload_n 3, 1) := dk_29 (dk_at dksL_law_7 5 rfl rfl)
theorem dL_law_269 : decode cL_law 269 = .ok (.iconst 2, 1) := dk_5 (dk_at dksL_law_7 6 rfl rfl)
theorem dL_law_270 : decode cL_law 270 = .ok (.iadd, 1) := dk_96 (dk_at dksL_law_7 7 rfl rfl)
theorem dL_law_271 : decode cL_law 271 = .ok (.iaload, 1) := dk_46 (dk_at dksL_law_7 8 rfl rfl)
theorem dL_law_272 : decode cL_law 272 = .ok (.invokevirtual 30, 3) := dk_182 0 30 (dk_at dksL_law_7 9 rfl rfl)
theorem dL_law_275 : decode cL_law 275 = .ok (.if_icmp .eq 825, 3) := dk_159 3 57 (dk_at dksL_law_7 12 rfl rfl)
theorem dL_law_278 : decode cL_law 278 = .ok (.iconst 0, 1) := dk_3 (dk_at dksL_law_7 15 rfl rfl)
theorem dL_law_279 : decode cL_law 279 = .ok (.ireturn, 1) := dk_172 (dk_at dksL_law_7 16 rfl rfl)
theorem dL_law_280 : decode cL_law 280 = .ok (.aload_n 1, 1) := dk_43 (dk_at dksL_law_7 17 rfl rfl)
theorem dL_law_281 : decode cL_law 281 = .ok (.aload_n 0, 1) := dk_42 (dk_at dksL_law_7 18 rfl rfl)
theorem dL_law_282 : decode cL_law 282 = .ok (.iload_n 3, 1) := dk_29 (dk_at dksL_law_7 19 rfl rfl)
theorem dL_law_283 : decode cL_law 283 = .ok (.iconst 1, 1) := dk_4 (dk_at dksL_law_7 20 rfl rfl)
theorem dL_law_284 : decode cL_law 284 = .ok (.iadd, 1) := dk_96 (dk_at dksL_law_7 21 rfl rfl)
theorem dL_law_285 : decode cL_law 285 = .ok (.iaload, 1) := dk_46 (dk_at dksL_law_7 22 rfl rfl)
theorem dL_law_286 : decode cL_law 286 = .ok (.invokevirtual 31, 3) := dk_182 0 31 (dk_at dksL_law_8 0 rfl rfl)
theorem dL_law_289 : decode cL_law 289 = .ok (.aload_n 2, 1) := dk_44 (dk_at dksL_law_8 3 rfl rfl)
theorem dL_law_290 : decode cL_law 290 = .ok (.aload_n 0, 1) := dk_42 (dk_at dksL_law_8 4 rfl rfl)
theorem dL_law_291 : decode cL_law 291 = .ok (.iload_n 3, 1) := dk_29 (dk_at dksL_law_8 5 rfl rfl)
theorem dL_law_292 : decode cL_law 292 = .ok (.iconst 1, 1) := dk_4 (dk_at dksL_law_8 6 rfl rfl)
theorem dL_law_293 : decode cL_law 293 = .ok (.iadd, 1) := dk_96 (dk_at dksL_law_8 7 rfl rfl)
theorem dL_law_294 : decode cL_law 294 = .ok (.iaload, 1) := dk_46 (dk_at dksL_law_8 8 rfl rfl)
theorem dL_law_295 : decode cL_law 295 = .ok (.invokevirtual 34, 3) := dk_182 0 34 (dk_at dksL_law_8 9 rfl rfl)
theorem dL_law_298 : decode cL_law 298 = .ok (.if_icmp .eq 802, 3) := dk_159 3 34 (dk_at dksL_law_8 12 rfl rfl)
theorem dL_law_301 : decode cL_law 301 = .ok (.iconst 0, 1) := dk_3 (dk_at dksL_law_8 15 rfl rfl)
theorem dL_law_302 : decode cL_law 302 = .ok (.ireturn, 1) := dk_172 (dk_at dksL_law_8 16 rfl rfl)
theorem dL_law_303 : decode cL_law 303 = .ok (.aload_n 1, 1) := dk_43 (dk_at dksL_law_8 17 rfl rfl)
theorem dL_law_304 : decode cL_law 304 = .ok (.aload_n 0, 1) := dk_42 (dk_at dksL_law_8 18 rfl rfl)
theorem dL_law_305 : decode cL_law 305 = .ok (.iload_n 3, 1) := dk_29 (dk_at dksL_law_8 19 rfl rfl)
theorem dL_law_306 : decode cL_law 306 = .ok (.iconst 1, 1) := dk_4 (dk_at dksL_law_8 20 rfl rfl)
theorem dL_law_307 : decode cL_law 307 = .ok (.iadd, 1) := dk_96 (dk_at dksL_law_8 21 rfl rfl)
theorem dL_law_308 : decode cL_law 308 = .ok (.iaload, 1) := dk_46 (dk_at dksL_law_8 22 rfl rfl)
theorem dL_law_309 : decode cL_law 309 = .ok (.aload_n 0, 1) := dk_42 (dk_at dksL_law_8 23 rfl rfl)
theorem dL_law_310 : decode cL_law 310 = .ok (.iload_n 3, 1) := dk_29 (dk_at dksL_law_9 0 rfl rfl)
theorem dL_law_311 : decode cL_law 311 = .ok (.iconst 2, 1) := dk_5 (dk_at dksL_law_9 1 rfl rfl)
theorem dL_law_312 : decode cL_law 312 = .ok (.iadd, 1) := dk_96 (dk_at dksL_law_9 2 rfl rfl)
theorem dL_law_313 : decode cL_law 313 = .ok (.iaload, 1) := dk_46 (dk_at dksL_law_9 3 rfl rfl)
theorem dL_law_314 : decode cL_law 314 = .ok (.invokevirtual 35, 3) := dk_182 0 35 (dk_at dksL_law_9 4 rfl rfl)
theorem dL_law_317 : decode cL_law 317 = .ok (.aload_n 2, 1) := dk_44 (dk_at dksL_law_9 7 rfl rfl)
theorem dL_law_318 : decode cL_law 318 = .ok (.aload_n 0, 1) := dk_42 (dk_at dksL_law_9 8 rfl rfl)
theorem dL_law_319 : decode cL_law 319 = .ok (.iload_n 3, 1) := dk_29 (dk_at dksL_law_9 9 rfl rfl)
theorem dL_law_320 : decode cL_law 320 = .ok (.iconst 1, 1) := dk_4 (dk_at dksL_law_9 10 rfl rfl)
theorem dL_law_321 : decode cL_law 321 = .ok (.iadd, 1) := dk_96 (dk_at dksL_law_9 11 rfl rfl)
theorem dL_law_322 : decode cL_law 322 = .ok (.iaload, 1) := dk_46 (dk_at dksL_law_9 12 rfl rfl)
theorem dL_law_323 : decode cL_law 323 = .ok (.aload_n 0, 1) := dk_42 (dk_at dksL_law_9 13 rfl rfl)
theorem dL_law_324 : decode cL_law 324 = .ok (.iload_n 3, 1) := dk_29 (dk_at dksL_law_9 14 rfl rfl)
theorem dL_law_325 : decode cL_law 325 = .ok (.iconst 2, 1) := dk_5 (dk_at dksL_law_9 15 rfl rfl)
theorem dL_law_326 : decode cL_law 326 = .ok (.iadd, 1) := dk_96 (dk_at dksL_law_9 16 rfl rfl)
theorem dL_law_327 : decode cL_law 327 = .ok (.iaload, 1) := dk_46 (dk_at dksL_law_9 17 rfl rfl)
theorem dL_law_328 : decode cL_law 328 = .ok (.invokevirtual 38, 3) := dk_182 0 38 (dk_at dksL_law_9 18 rfl rfl)
theorem dL_law_331 : decode cL_law 331 = .ok (.if_icmp .eq 769, 3) := dk_159 3 1 (dk_at dksL_law_9 21 rfl rfl)
theorem dL_law_334 : decode cL_law 334 = .ok (.iconst 0, 1) := dk_3 (dk_at dksL_law_10 0 rfl rfl)
theorem dL_law_335 : decode cL_law 335 = .ok (.ireturn, 1) := dk_172 (dk_at dksL_law_10 1 rfl rfl)
theorem dL_law_336 : decode cL_law 336 = .ok (.aload_n 1, 1) := dk_43 (dk_at dksL_law_10 2 rfl rfl)
theorem dL_law_337 : decode cL_law 337 = .ok (.aload_n 0, 1) := dk_42 (dk_at dksL_law_10 3 rfl rfl)
theorem dL_law_338 : decode cL_law 338 = .ok (.iload_n 3, 1) := dk_29 (dk_at dksL_law_10 4 rfl rfl)
theorem dL_law_339 : decode cL_law 339 = .ok (.iconst 1, 1) := dk_4 (dk_at dksL_law_10 5 rfl rfl)
theorem dL_law_340 : decode cL_law 340 = .ok (.iadd, 1) := dk_96 (dk_at dksL_law_10 6 rfl rfl)
theorem dL_law_341 : decode cL_law 341 = .ok (.iaload, 1) := dk_46 (dk_at dksL_law_10 7 rfl rfl)
theorem dL_law_342 : decode cL_law 342 = .ok (.aload_n 0, 1) := dk_42 (dk_at dksL_law_10 8 rfl rfl)
theorem dL_law_343 : decode cL_law 343 = .ok (.iload_n 3, 1) := dk_29 (dk_at dksL_law_10 9 rfl rfl)
theorem dL_law_344 : decode cL_law 344 = .ok (.iconst 2, 1) := dk_5 (dk_at dksL_law_10 10 rfl rfl)
theorem dL_law_345 : decode cL_law 345 = .ok (.iadd, 1) := dk_96 (dk_at dksL_law_10 11 rfl rfl)
theorem dL_law_346 : decode cL_law 346 = .ok (.iaload, 1) := dk_46 (dk_at dksL_law_10 12 rfl rfl)
theorem dL_law_347 : decode cL_law 347 = .ok (.invokevirtual 39, 3) := dk_182 0 39 (dk_at dksL_law_10 13 rfl rfl)
theorem dL_law_350 : decode cL_law 350 = .ok (.aload_n 2, 1) := dk_44 (dk_at dksL_law_10 16 rfl rfl)
theorem dL_law_351 : decode cL_law 351 = .ok (.aload_n 0, 1) := dk_42 (dk_at dksL_law_10 17 rfl rfl)
theorem dL_law_352 : decode cL_law 352 = .ok (.iload_n 3, 1) := dk_29 (dk_at dksL_law_10 18 rfl rfl)
theorem dL_law_353 : decode cL_law 353 = .ok (.iconst 1, 1) := dk_4 (dk_at dksL_law_10 19 rfl rfl)
theorem dL_law_354 : decode cL_law 354 = .ok (.iadd, 1) := dk_96 (dk_at dksL_law_10 20 rfl rfl)
theorem dL_law_355 : decode cL_law 355 = .ok (.iaload, 1) := dk_46 (dk_at dksL_law_10 21 rfl rfl)
theorem dL_law_356 : decode cL_law 356 = .ok (.aload_n 0, 1) := dk_42 (dk_at dksL_law_10 22 rfl rfl)
theorem dL_law_357 : decode cL_law 357 = .ok (.iload_n 3, 1) := dk_29 (dk_at dksL_law_10 23 rfl rfl)
theorem dL_law_358 : decode cL_law 358 = .ok (.iconst 2, 1) := dk_5 (dk_at dksL_law_11 0 rfl rfl)
theorem dL_law_359 : decode cL_law 359 = .ok (.iadd, 1) := dk_96 (dk_at dksL_law_11 1 rfl rfl)
theorem dL_law_360 : decode cL_law 360 = .ok (.iaload, 1) := dk_46 (dk_at dksL_law_11 2 rfl rfl)
theorem dL_law_361 : decode cL_law 361 = .ok (.invokevirtual 42, 3) := dk_182 0 42 (dk_at dksL_law_11 3 rfl rfl)
theorem dL_law_364 : decode cL_law 364 = .ok (.if_icmp .eq 736, 3) := dk_159 2 224 (dk_at dksL_law_11 6 rfl rfl)
theorem dL_law_367 : decode cL_law 367 = .ok (.iconst 0, 1) := dk_3 (dk_at dksL_law_11 9 rfl rfl)
theorem dL_law_368 : decode cL_law 368 = .ok (.ireturn, 1) := dk_172 (dk_at dksL_law_11 10 rfl rfl)
theorem dL_law_369 : decode cL_law 369 = .ok (.aload_n 1, 1) := dk_43 (dk_at dksL_law_11 11 rfl rfl)
theorem dL_law_370 : decode cL_law 370 = .ok (.aload_n 0, 1) := dk_42 (dk_at dksL_law_11 12 rfl rfl)
theorem dL_law_371 : decode cL_law 371 = .ok (.iload_n 3, 1) := dk_29 (dk_at dksL_law_11 13 rfl rfl)
theorem dL_law_372 : decode cL_law 372 = .ok (.iconst 1, 1) := dk_4 (dk_at dksL_law_11 14 rfl rfl)
theorem dL_law_373 : decode cL_law 373 = .ok (.iadd, 1) := dk_96 (dk_at dksL_law_11 15 rfl rfl)
theorem dL_law_374 : decode cL_law 374 = .ok (.iaload, 1) := dk_46 (dk_at dksL_law_11 16 rfl rfl)
theorem dL_law_375 : decode cL_law 375 = .ok (.aload_n 0, 1) := dk_42 (dk_at dksL_law_11 17 rfl rfl)
theorem dL_law_376 : decode cL_law 376 = .ok (.iload_n 3, 1) := dk_29 (dk_at dksL_law_11 18 rfl rfl)
theorem dL_law_377 : decode cL_law 377 = .ok (.iconst 2, 1) := dk_5 (dk_at dksL_law_11 19 rfl rfl)
theorem dL_law_378 : decode cL_law 378 = .ok (.iadd, 1) := dk_96 (dk_at dksL_law_11 20 rfl rfl)
theorem dL_law_379 : decode cL_law 379 = .ok (.iaload, 1) := dk_46 (dk_at dksL_law_11 21 rfl rfl)
theorem dL_law_380 : decode cL_law 380 = .ok (.invokevirtual 43, 3) := dk_182 0 43 (dk_at dksL_law_12 0 rfl rfl)
theorem dL_law_383 : decode cL_law 383 = .ok (.aload_n 2, 1) := dk_44 (dk_at dksL_law_12 3 rfl rfl)
theorem dL_law_384 : decode cL_law 384 = .ok (.aload_n 0, 1) := dk_42 (dk_at dksL_law_12 4 rfl rfl)
theorem dL_law_385 : decode cL_law 385 = .ok (.iload_n 3, 1) := dk_29 (dk_at dksL_law_12 5 rfl rfl)
theorem dL_law_386 : decode cL_law 386 = .ok (.iconst 1, 1) := dk_4 (dk_at dksL_law_12 6 rfl rfl)
theorem dL_law_387 : decode cL_law 387 = .ok (.iadd, 1) := dk_96 (dk_at dksL_law_12 7 rfl rfl)
theorem dL_law_388 : decode cL_law 388 = .ok (.iaload, 1) := dk_46 (dk_at dksL_law_12 8 rfl rfl)
theorem dL_law_389 : decode cL_law 389 = .ok (.aload_n 0, 1) := dk_42 (dk_at dksL_law_12 9 rfl rfl)
theorem dL_law_390 : decode cL_law 390 = .ok (.iload_n 3, 1) := dk_29 (dk_at dksL_law_12 10 rfl rfl)
theorem dL_law_391 : decode cL_law 391 = .ok (.iconst 2, 1) := dk_5 (dk_at dksL_law_12 11 rfl rfl)
theorem dL_law_392 : decode cL_law 392 = .ok (.iadd, 1) := dk_96 (dk_at dksL_law_12 12 rfl rfl)
theorem dL_law_393 : decode cL_law 393 = .ok (.iaload, 1) := dk_46 (dk_at dksL_law_12 13 rfl rfl)
theorem dL_law_394 : decode cL_law 394 = .ok (.invokevirtual 46, 3) := dk_182 0 46 (dk_at dksL_law_12 14 rfl rfl)
theorem dL_law_397 : decode cL_law 397 = .ok (.if_icmp .eq 703, 3) := dk_159 2 191 (dk_at dksL_law_12 17 rfl rfl)
theorem dL_law_400 : decode cL_law 400 = .ok (.iconst 0, 1) := dk_3 (dk_at dksL_law_12 20 rfl rfl)
theorem dL_law_401 : decode cL_law 401 = .ok (.ireturn, 1) := dk_172 (dk_at dksL_law_12 21 rfl rfl)
theorem dL_law_402 : decode cL_law 402 = .ok (.aload_n 1, 1) := dk_43 (dk_at dksL_law_12 22 rfl rfl)
theorem dL_law_403 : decode cL_law 403 = .ok (.aload_n 0, 1) := dk_42 (dk_at dksL_law_12 23 rfl rfl)
theorem dL_law_404 : decode cL_law 404 = .ok (.iload_n 3, 1) := dk_29 (dk_at dksL_law_13 0 rfl rfl)
theorem dL_law_405 : decode cL_law 405 = .ok (.iconst 1, 1) := dk_4 (dk_at dksL_law_13 1 rfl rfl)
theorem dL_law_406 : decode cL_law 406 = .ok (.iadd, 1) := dk_96 (dk_at dksL_law_13 2 rfl rfl)
theorem dL_law_407 : decode cL_law 407 = .ok (.iaload, 1) := dk_46 (dk_at dksL_law_13 3 rfl rfl)
theorem dL_law_408 : decode cL_law 408 = .ok (.aload_n 0, 1) := dk_42 (dk_at dksL_law_13 4 rfl rfl)
theorem dL_law_409 : decode cL_law 409 = .ok (.iload_n 3, 1) := dk_29 (dk_at dksL_law_13 5 rfl rfl)
theorem dL_law_410 : decode cL_law 410 = .ok (.iconst 2, 1) := dk_5 (dk_at dksL_law_13 6 rfl rfl)
theorem dL_law_411 : decode cL_law 411 = .ok (.iadd, 1) := dk_96 (dk_at dksL_law_13 7 rfl rfl)
theorem dL_law_412 : decode cL_law 412 = .ok (.iaload, 1) := dk_46 (dk_at dksL_law_13 8 rfl rfl)
theorem dL_law_413 : decode cL_law 413 = .ok (.aload_n 0, 1) := dk_42 (dk_at dksL_law_13 9 rfl rfl)
theorem dL_law_414 : decode cL_law 414 = .ok (.iload_n 3, 1) := dk_29 (dk_at dksL_law_13 10 rfl rfl)
theorem dL_law_415 : decode cL_law 415 = .ok (.iconst 3, 1) := dk_6 (dk_at dksL_law_13 11 rfl rfl)
theorem dL_law_416 : decode cL_law 416 = .ok (.iadd, 1) := dk_96 (dk_at dksL_law_13 12 rfl rfl)
theorem dL_law_417 : decode cL_law 417 = .ok (.iaload, 1) := dk_46 (dk_at dksL_law_13 13 rfl rfl)
theorem dL_law_418 : decode cL_law 418 = .ok (.invokevirtual 47, 3) := dk_182 0 47 (dk_at dksL_law_13 14 rfl rfl)
theorem dL_law_421 : decode cL_law 421 = .ok (.aload_n 2, 1) := dk_44 (dk_at dksL_law_13 17 rfl rfl)
theorem dL_law_422 : decode cL_law 422 = .ok (.aload_n 0, 1) := dk_42 (dk_at dksL_law_13 18 rfl rfl)
theorem dL_law_423 : decode cL_law 423 = .ok (.iload_n 3, 1) := dk_29 (dk_at dksL_law_13 19 rfl rfl)
theorem dL_law_424 : decode cL_law 424 = .ok (.iconst 1, 1) := dk_4 (dk_at dksL_law_13 20 rfl rfl)
theorem dL_law_425 : decode cL_law 425 = .ok (.iadd, 1) := dk_96 (dk_at dksL_law_13 21 rfl rfl)
theorem dL_law_426 : decode cL_law 426 = .ok (.iaload, 1) := dk_46 (dk_at dksL_law_13 22 rfl rfl)
theorem dL_law_427 : decode cL_law 427 = .ok (.aload_n 0, 1) := dk_42 (dk_at dksL_law_13 23 rfl rfl)
theorem dL_law_428 : decode cL_law 428 = .ok (.iload_n 3, 1) := dk_29 (dk_at dksL_law_14 0 rfl rfl)
theorem dL_law_429 : decode cL_law 429 = .ok (.iconst 2, 1) := dk_5 (dk_at dksL_law_14 1 rfl rfl)
theorem dL_law_430 : decode cL_law 430 = .ok (.iadd, 1) := dk_96 (dk_at dksL_law_14 2 rfl rfl)
theorem dL_law_431 : decode cL_law 431 = .ok (.iaload, 1) := dk_46 (dk_at dksL_law_14 3 rfl rfl)
theorem dL_law_432 : decode cL_law 432 = .ok (.aload_n 0, 1) := dk_42 (dk_at dksL_law_14 4 rfl rfl)
theorem dL_law_433 : decode cL_law 433 = .ok (.iload_n 3, 1) := dk_29 (dk_at dksL_law_14 5 rfl rfl)
theorem dL_law_434 : decode cL_law 434 = .ok (.iconst 3, 1) := dk_6 (dk_at dksL_law_14 6 rfl rfl)
theorem dL_law_435 : decode cL_law 435 = .ok (.iadd, 1) := dk_96 (dk_at dksL_law_14 7 rfl rfl)
theorem dL_law_436 : decode cL_law 436 = .ok (.iaload, 1) := dk_46 (dk_at dksL_law_14 8 rfl rfl)
theorem dL_law_437 : decode cL_law 437 = .ok (.invokevirtual 51, 3) := dk_182 0 51 (dk_at dksL_law_14 9 rfl rfl)
theorem dL_law_440 : decode cL_law 440 = .ok (.if_icmp .eq 660, 3) := dk_159 2 148 (dk_at dksL_law_14 12 rfl rfl)
theorem dL_law_443 : decode cL_law 443 = .ok (.iconst 0, 1) := dk_3 (dk_at dksL_law_14 15 rfl rfl)
theorem dL_law_444 : decode cL_law 444 = .ok (.ireturn, 1) := dk_172 (dk_at dksL_law_14 16 rfl rfl)
theorem dL_law_445 : decode cL_law 445 = .ok (.aload_n 1, 1) := dk_43 (dk_at dksL_law_14 17 rfl rfl)
theorem dL_law_446 : decode cL_law 446 = .ok (.aload_n 0, 1) := dk_42 (dk_at dksL_law_14 18 rfl rfl)
theorem dL_law_447 : decode cL_law 447 = .ok (.iload_n 3, 1) := dk_29 (dk_at dksL_law_14 19 rfl rfl)
theorem dL_law_448 : decode cL_law 448 = .ok (.iconst 1, 1) := dk_4 (dk_at dksL_law_14 20 rfl rfl)
theorem dL_law_449 : decode cL_law 449 = .ok (.iadd, 1) := dk_96 (dk_at dksL_law_14 21 rfl rfl)
theorem dL_law_450 : decode cL_law 450 = .ok (.iaload, 1) := dk_46 (dk_at dksL_law_14 22 rfl rfl)
theorem dL_law_451 : decode cL_law 451 = .ok (.invokevirtual 52, 3) := dk_182 0 52 (dk_at dksL_law_15 0 rfl rfl)
theorem dL_law_454 : decode cL_law 454 = .ok (.aload_n 2, 1) := dk_44 (dk_at dksL_law_15 3 rfl rfl)
theorem dL_law_455 : decode cL_law 455 = .ok (.aload_n 0, 1) := dk_42 (dk_at dksL_law_15 4 rfl rfl)
theorem dL_law_456 : decode cL_law 456 = .ok (.iload_n 3, 1) := dk_29 (dk_at dksL_law_15 5 rfl rfl)
theorem dL_law_457 : decode cL_law 457 = .ok (.iconst 1, 1) := dk_4 (dk_at dksL_law_15 6 rfl rfl)
theorem dL_law_458 : decode cL_law 458 = .ok (.iadd, 1) := dk_96 (dk_at dksL_law_15 7 rfl rfl)
theorem dL_law_459 : decode cL_law 459 = .ok (.iaload, 1) := dk_46 (dk_at dksL_law_15 8 rfl rfl)
theorem dL_law_460 : decode cL_law 460 = .ok (.invokevirtual 55, 3) := dk_182 0 55 (dk_at dksL_law_15 9 rfl rfl)
theorem dL_law_463 : decode cL_law 463 = .ok (.if_icmp .eq 637, 3) := dk_159 2 125 (dk_at dksL_law_15 12 rfl rfl)
theorem dL_law_466 : decode cL_law 466 = .ok (.iconst 0, 1) := dk_3 (dk_at dksL_law_15 15 rfl rfl)
theorem dL_law_467 : decode cL_law 467 = .ok (.ireturn, 1) := dk_172 (dk_at dksL_law_15 16 rfl rfl)
theorem dL_law_468 : decode cL_law 468 = .ok (.aload_n 1, 1) := dk_43 (dk_at dksL_law_15 17 rfl rfl)
theorem dL_law_469 : decode cL_law 469 = .ok (.aload_n 0, 1) := dk_42 (dk_at dksL_law_15 18 rfl rfl)
theorem dL_law_470 : decode cL_law 470 = .ok (.iload_n 3, 1) := dk_29 (dk_at dksL_law_15 19 rfl rfl)
theorem dL_law_471 : decode cL_law 471 = .ok (.iconst 1, 1) := dk_4 (dk_at dksL_law_15 20 rfl rfl)
theorem dL_law_472 : decode cL_law 472 = .ok (.iadd, 1) := dk_96 (dk_at dksL_law_15 21 rfl rfl)
theorem dL_law_473 : decode cL_law 473 = .ok (.iaload, 1) := dk_46 (dk_at dksL_law_15 22 rfl rfl)
theorem dL_law_474 : decode cL_law 474 = .ok (.invokevirtual 56, 3) := dk_182 0 56 (dk_at dksL_law_16 0 rfl rfl)
theorem dL_law_477 : decode cL_law 477 = .ok (.aload_n 2, 1) := dk_44 (dk_at dksL_law_16 3 rfl rfl)
theorem dL_law_478 : decode cL_law 478 = .ok (.aload_n 0, 1) := dk_42 (dk_at dksL_law_16 4 rfl rfl)
theorem dL_law_479 : decode cL_law 479 = .ok (.iload_n 3, 1) := dk_29 (dk_at dksL_law_16 5 rfl rfl)
theorem dL_law_480 : decode cL_law 480 = .ok (.iconst 1, 1) := dk_4 (dk_at dksL_law_16 6 rfl rfl)
theorem dL_law_481 : decode cL_law 481 = .ok (.iadd, 1) := dk_96 (dk_at dksL_law_16 7 rfl rfl)
theorem dL_law_482 : decode cL_law 482 = .ok (.iaload, 1) := dk_46 (dk_at dksL_law_16 8 rfl rfl)
theorem dL_law_483 : decode cL_law 483 = .ok (.invokevirtual 59, 3) := dk_182 0 59 (dk_at dksL_law_16 9 rfl rfl)
theorem dL_law_486 : decode cL_law 486 = .ok (.if_icmp .eq 614, 3) := dk_159 2 102 (dk_at dksL_law_16 12 rfl rfl)
theorem dL_law_489 : decode cL_law 489 = .ok (.iconst 0, 1) := dk_3 (dk_at dksL_law_16 15 rfl rfl)
theorem dL_law_490 : decode cL_law 490 = .ok (.ireturn, 1) := dk_172 (dk_at dksL_law_16 16 rfl rfl)
theorem dL_law_491 : decode cL_law 491 = .ok (.aload_n 1, 1) := dk_43 (dk_at dksL_law_16 17 rfl rfl)
theorem dL_law_492 : decode cL_law 492 = .ok (.aload_n 0, 1) := dk_42 (dk_at dksL_law_16 18 rfl rfl)
theorem dL_law_493 : decode cL_law 493 = .ok (.iload_n 3, 1) := dk_29 (dk_at dksL_law_16 19 rfl rfl)
theorem dL_law_494 : decode cL_law 494 = .ok (.iconst 1, 1) := dk_4 (dk_at dksL_law_16 20 rfl rfl)
theorem dL_law_495 : decode cL_law 495 = .ok (.iadd, 1) := dk_96 (dk_at dksL_law_16 21 rfl rfl)
theorem dL_law_496 : decode cL_law 496 = .ok (.iaload, 1) := dk_46 (dk_at dksL_law_16 22 rfl rfl)
theorem dL_law_497 : decode cL_law 497 = .ok (.aload_n 0, 1) := dk_42 (dk_at dksL_law_16 23 rfl rfl)
theorem dL_law_498 : decode cL_law 498 = .ok (.iload_n 3, 1) := dk_29 (dk_at dksL_law_17 0 rfl rfl)
theorem dL_law_499 : decode cL_law 499 = .ok (.iconst 2, 1) := dk_5 (dk_at dksL_law_17 1 rfl rfl)
theorem dL_law_500 : decode cL_law 500 = .ok (.iadd, 1) := dk_96 (dk_at dksL_law_17 2 rfl rfl)
theorem dL_law_501 : decode cL_law 501 = .ok (.iaload, 1) := dk_46 (dk_at dksL_law_17 3 rfl rfl)
theorem dL_law_502 : decode cL_law 502 = .ok (.invokevirtual 60, 3) := dk_182 0 60 (dk_at dksL_law_17 4 rfl rfl)
theorem dL_law_505 : decode cL_law 505 = .ok (.aload_n 2, 1) := dk_44 (dk_at dksL_law_17 7 rfl rfl)
theorem dL_law_506 : decode cL_law 506 = .ok (.aload_n 0, 1) := dk_42 (dk_at dksL_law_17 8 rfl rfl)
theorem dL_law_507 : decode cL_law 507 = .ok (.iload_n 3, 1) := dk_29 (dk_at dksL_law_17 9 rfl rfl)
theorem dL_law_508 : decode cL_law 508 = .ok (.iconst 1, 1) := dk_4 (dk_at dksL_law_17 10 rfl rfl)
theorem dL_law_509 : decode cL_law 509 = .ok (.iadd, 1) := dk_96 (dk_at dksL_law_17 11 rfl rfl)
theorem dL_law_510 : decode cL_law 510 = .ok (.iaload, 1) := dk_46 (dk_at dksL_law_17 12 rfl rfl)
theorem dL_law_511 : decode cL_law 511 = .ok (.aload_n 0, 1) := dk_42 (dk_at dksL_law_17 13 rfl rfl)
theorem dL_law_512 : decode cL_law 512 = .ok (.iload_n 3, 1) := dk_29 (dk_at dksL_law_17 14 rfl rfl)
theorem dL_law_513 : decode cL_law 513 = .ok (.iconst 2, 1) := dk_5 (dk_at dksL_law_17 15 rfl rfl)
theorem dL_law_514 : decode cL_law 514 = .ok (.iadd, 1) := dk_96 (dk_at dksL_law_17 16 rfl rfl)
theorem dL_law_515 : decode cL_law 515 = .ok (.iaload, 1) := dk_46 (dk_at dksL_law_17 17 rfl rfl)
theorem dL_law_516 : decode cL_law 516 = .ok (.invokevirtual 63, 3) := dk_182 0 63 (dk_at dksL_law_17 18 rfl rfl)
theorem dL_law_519 : decode cL_law 519 = .ok (.if_icmp .eq 581, 3) := dk_159 2 69 (dk_at dksL_law_17 21 rfl rfl)
theorem dL_law_522 : decode cL_law 522 = .ok (.iconst 0, 1) := dk_3 (dk_at dksL_law_18 0 rfl rfl)
theorem dL_law_523 : decode cL_law 523 = .ok (.ireturn, 1) := dk_172 (dk_at dksL_law_18 1 rfl rfl)
theorem dL_law_524 : decode cL_law 524 = .ok (.aload_n 1, 1) := dk_43 (dk_at dksL_law_18 2 rfl rfl)
theorem dL_law_525 : decode cL_law 525 = .ok (.aload_n 0, 1) := dk_42 (dk_at dksL_law_18 3 rfl rfl)
theorem dL_law_526 : decode cL_law 526 = .ok (.iload_n 3, 1) := dk_29 (dk_at dksL_law_18 4 rfl rfl)
theorem dL_law_527 : decode cL_law 527 = .ok (.iconst 1, 1) := dk_4 (dk_at dksL_law_18 5 rfl rfl)
theorem dL_law_528 : decode cL_law 528 = .ok (.iadd, 1) := dk_96 (dk_at dksL_law_18 6 rfl rfl)
theorem dL_law_529 : decode cL_law 529 = .ok (.iaload, 1) := dk_46 (dk_at dksL_law_18 7 rfl rfl)
theorem dL_law_530 : decode cL_law 530 = .ok (.aload_n 0, 1) := dk_42 (dk_at dksL_law_18 8 rfl rfl)
theorem dL_law_531 : decode cL_law 531 = .ok (.iload_n 3, 1) := dk_29 (dk_at dksL_law_18 9 rfl rfl)
theorem dL_law_532 : decode cL_law 532 = .ok (.iconst 2, 1) := dk_5 (dk_at dksL_law_18 10 rfl rfl)
theorem dL_law_533 : decode cL_law 533 = .ok (.iadd, 1) := dk_96 (dk_at dksL_law_18 11 rfl rfl)
theorem dL_law_534 : decode cL_law 534 = .ok (.iaload, 1) := dk_46 (dk_at dksL_law_18 12 rfl rfl)
theorem dL_law_535 : decode cL_law 535 = .ok (.aload_n 0, 1) := dk_42 (dk_at dksL_law_18 13 rfl rfl)
theorem dL_law_536 : decode cL_law 536 = .ok (.iload_n 3, 1) := dk_29 (dk_at dksL_law_18 14 rfl rfl)
theorem dL_law_537 : decode cL_law 537 = .ok (.iconst 3, 1) := dk_6 (dk_at dksL_law_18 15 rfl rfl)
theorem dL_law_538 : decode cL_law 538 = .ok (.iadd, 1) := dk_96 (dk_at dksL_law_18 16 rfl rfl)
theorem dL_law_539 : decode cL_law 539 = .ok (.iaload, 1) := dk_46 (dk_at dksL_law_18 17 rfl rfl)
theorem dL_law_540 : decode cL_law 540 = .ok (.invokevirtual 64, 3) := dk_182 0 64 (dk_at dksL_law_18 18 rfl rfl)
theorem dL_law_543 : decode cL_law 543 = .ok (.aload_n 2, 1) := dk_44 (dk_at dksL_law_18 21 rfl rfl)
theorem dL_law_544 : decode cL_law 544 = .ok (.aload_n 0, 1) := dk_42 (dk_at dksL_law_18 22 rfl rfl)
theorem dL_law_545 : decode cL_law 545 = .ok (.iload_n 3, 1) := dk_29 (dk_at dksL_law_18 23 rfl rfl)
theorem dL_law_546 : decode cL_law 546 = .ok (.iconst 1, 1) := dk_4 (dk_at dksL_law_19 0 rfl rfl)
theorem dL_law_547 : decode cL_law 547 = .ok (.iadd, 1) := dk_96 (dk_at dksL_law_19 1 rfl rfl)
theorem dL_law_548 : decode cL_law 548 = .ok (.iaload, 1) := dk_46 (dk_at dksL_law_19 2 rfl rfl)
theorem dL_law_549 : decode cL_law 549 = .ok (.aload_n 0, 1) := dk_42 (dk_at dksL_law_19 3 rfl rfl)
theorem dL_law_550 : decode cL_law 550 = .ok (.iload_n 3, 1) := dk_29 (dk_at dksL_law_19 4 rfl rfl)
theorem dL_law_551 : decode cL_law 551 = .ok (.iconst 2, 1) := dk_5 (dk_at dksL_law_19 5 rfl rfl)
theorem dL_law_552 : decode cL_law 552 = .ok (.iadd, 1) := dk_96 (dk_at dksL_law_19 6 rfl rfl)
theorem dL_law_553 : decode cL_law 553 = .ok (.iaload, 1) := dk_46 (dk_at dksL_law_19 7 rfl rfl)
theorem dL_law_554 : decode cL_law 554 = .ok (.aload_n 0, 1) := dk_42 (dk_at dksL_law_19 8 rfl rfl)
theorem dL_law_555 : decode cL_law 555 = .ok (.iload_n 3, 1) := dk_29 (dk_at dksL_law_19 9 rfl rfl)
theorem dL_law_556 : decode cL_law 556 = .ok (.iconst 3, 1) := dk_6 (dk_at dksL_law_19 10 rfl rfl)
theorem dL_law_557 : decode cL_law 557 = .ok (.iadd, 1) := dk_96 (dk_at dksL_law_19 11 rfl rfl)
theorem dL_law_558 : decode cL_law 558 = .ok (.iaload, 1) := dk_46 (dk_at dksL_law_19 12 rfl rfl)
theorem dL_law_559 : decode cL_law 559 = .ok (.invokevirtual 67, 3) := dk_182 0 67 (dk_at dksL_law_19 13 rfl rfl)
theorem dL_law_562 : decode cL_law 562 = .ok (.if_icmp .eq 538, 3) := dk_159 2 26 (dk_at dksL_law_19 16 rfl rfl)
theorem dL_law_565 : decode cL_law 565 = .ok (.iconst 0, 1) := dk_3 (dk_at dksL_law_19 19 rfl rfl)
theorem dL_law_566 : decode cL_law 566 = .ok (.ireturn, 1) := dk_172 (dk_at dksL_law_19 20 rfl rfl)
theorem dL_law_567 : decode cL_law 567 = .ok (.aload_n 1, 1) := dk_43 (dk_at dksL_law_19 21 rfl rfl)
theorem dL_law_568 : decode cL_law 568 = .ok (.aload_n 0, 1) := dk_42 (dk_at dksL_law_19 22 rfl rfl)
theorem dL_law_569 : decode cL_law 569 = .ok (.iload_n 3, 1) := dk_29 (dk_at dksL_law_19 23 rfl rfl)
theorem dL_law_570 : decode cL_law 570 = .ok (.iconst 1, 1) := dk_4 (dk_at dksL_law_20 0 rfl rfl)
theorem dL_law_571 : decode cL_law 571 = .ok (.iadd, 1) := dk_96 (dk_at dksL_law_20 1 rfl rfl)
theorem dL_law_572 : decode cL_law 572 = .ok (.iaload, 1) := dk_46 (dk_at dksL_law_20 2 rfl rfl)
theorem dL_law_573 : decode cL_law 573 = .ok (.aload_n 0, 1) := dk_42 (dk_at dksL_law_20 3 rfl rfl)
theorem dL_law_574 : decode cL_law 574 = .ok (.iload_n 3, 1) := dk_29 (dk_at dksL_law_20 4 rfl rfl)
theorem dL_law_575 : decode cL_law 575 = .ok (.iconst 2, 1) := dk_5 (dk_at dksL_law_20 5 rfl rfl)
theorem dL_law_576 : decode cL_law 576 = .ok (.iadd, 1) := dk_96 (dk_at dksL_law_20 6 rfl rfl)
theorem dL_law_577 : decode cL_law 577 = .ok (.iaload, 1) := dk_46 (dk_at dksL_law_20 7 rfl rfl)
theorem dL_law_578 : decode cL_law 578 = .ok (.invokevirtual 68, 3) := dk_182 0 68 (dk_at dksL_law_20 8 rfl rfl)
theorem dL_law_581 : decode cL_law 581 = .ok (.aload_n 2, 1) := dk_44 (dk_at dksL_law_20 11 rfl rfl)
theorem dL_law_582 : decode cL_law 582 = .ok (.aload_n 0, 1) := dk_42 (dk_at dksL_law_20 12 rfl rfl)
theorem dL_law_583 : decode cL_law 583 = .ok (.iload_n 3, 1) := dk_29 (dk_at dksL_law_20 13 rfl rfl)
theorem dL_law_584 : decode cL_law 584 = .ok (.iconst 1, 1) := dk_4 (dk_at dksL_law_20 14 rfl rfl)
theorem dL_law_585 : decode cL_law 585 = .ok (.iadd, 1) := dk_96 (dk_at dksL_law_20 15 rfl rfl)
theorem dL_law_586 : decode cL_law 586 = .ok (.iaload, 1) := dk_46 (dk_at dksL_law_20 16 rfl rfl)
theorem dL_law_587 : decode cL_law 587 = .ok (.aload_n 0, 1) := dk_42 (dk_at dksL_law_20 17 rfl rfl)
theorem dL_law_588 : decode cL_law 588 = .ok (.iload_n 3, 1) := dk_29 (dk_at dksL_law_20 18 rfl rfl)
theorem dL_law_589 : decode cL_law 589 = .ok (.iconst 2, 1) := dk_5 (dk_at dksL_law_20 19 rfl rfl)
theorem dL_law_590 : decode cL_law 590 = .ok (.iadd, 1) := dk_96 (dk_at dksL_law_20 20 rfl rfl)
theorem dL_law_591 : decode cL_law 591 = .ok (.iaload, 1) := dk_46 (dk_at dksL_law_20 21 rfl rfl)
theorem dL_law_592 : decode cL_law 592 = .ok (.invokevirtual 72, 3) := dk_182 0 72 (dk_at dksL_law_21 0 rfl rfl)
theorem dL_law_595 : decode cL_law 595 = .ok (.lcmp, 1) := dk_148 (dk_at dksL_law_21 3 rfl rfl)
theorem dL_law_596 : decode cL_law 596 = .ok (.ifCond .eq 504, 3) := dk_153 1 248 (dk_at dksL_law_21 4 rfl rfl)
theorem dL_law_599 : decode cL_law 599 = .ok (.iconst 0, 1) := dk_3 (dk_at dksL_law_21 7 rfl rfl)
theorem dL_law_600 : decode cL_law 600 = .ok (.ireturn, 1) := dk_172 (dk_at dksL_law_21 8 rfl rfl)
theorem dL_law_601 : decode cL_law 601 = .ok (.aload_n 1, 1) := dk_43 (dk_at dksL_law_21 9 rfl rfl)
theorem dL_law_602 : decode cL_law 602 = .ok (.aload_n 0, 1) := dk_42 (dk_at dksL_law_21 10 rfl rfl)
theorem dL_law_603 : decode cL_law 603 = .ok (.iload_n 3, 1) := dk_29 (dk_at dksL_law_21 11 rfl rfl)
theorem dL_law_604 : decode cL_law 604 = .ok (.iconst 1, 1) := dk_4 (dk_at dksL_law_21 12 rfl rfl)
theorem dL_law_605 : decode cL_law 605 = .ok (.iadd, 1) := dk_96 (dk_at dksL_law_21 13 rfl rfl)
theorem dL_law_606 : decode cL_law 606 = .ok (.iaload, 1) := dk_46 (dk_at dksL_law_21 14 rfl rfl)
theorem dL_law_607 : decode cL_law 607 = .ok (.invokevirtual 73, 3) := dk_182 0 73 (dk_at dksL_law_21 15 rfl rfl)
theorem dL_law_610 : decode cL_law 610 = .ok (.aload_n 2, 1) := dk_44 (dk_at dksL_law_21 18 rfl rfl)
theorem dL_law_611 : decode cL_law 611 = .ok (.aload_n 0, 1) := dk_42 (dk_at dksL_law_21 19 rfl rfl)
theorem dL_law_612 : decode cL_law 612 = .ok (.iload_n 3, 1) := dk_29 (dk_at dksL_law_21 20 rfl rfl)
theorem dL_law_613 : decode cL_law 613 = .ok (.iconst 1, 1) := dk_4 (dk_at dksL_law_21 21 rfl rfl)
theorem dL_law_614 : decode cL_law 614 = .ok (.iadd, 1) := dk_96 (dk_at dksL_law_21 22 rfl rfl)
theorem dL_law_615 : decode cL_law 615 = .ok (.iaload, 1) := dk_46 (dk_at dksL_law_21 23 rfl rfl)
theorem dL_law_616 : decode cL_law 616 = .ok (.invokevirtual 76, 3) := dk_182 0 76 (dk_at dksL_law_22 0 rfl rfl)
theorem dL_law_619 : decode cL_law 619 = .ok (.if_icmp .eq 481, 3) := dk_159 1 225 (dk_at dksL_law_22 3 rfl rfl)
theorem dL_law_622 : decode cL_law 622 = .ok (.iconst 0, 1) := dk_3 (dk_at dksL_law_22 6 rfl rfl)
theorem dL_law_623 : decode cL_law 623 = .ok (.ireturn, 1) := dk_172 (dk_at dksL_law_22 7 rfl rfl)
theorem dL_law_624 : decode cL_law 624 = .ok (.aload_n 1, 1) := dk_43 (dk_at dksL_law_22 8 rfl rfl)
theorem dL_law_625 : decode cL_law 625 = .ok (.aload_n 0, 1) := dk_42 (dk_at dksL_law_22 9 rfl rfl)
theorem dL_law_626 : decode cL_law 626 = .ok (.iload_n 3, 1) := dk_29 (dk_at dksL_law_22 10 rfl rfl)
theorem dL_law_627 : decode cL_law 627 = .ok (.iconst 1, 1) := dk_4 (dk_at dksL_law_22 11 rfl rfl)
theorem dL_law_628 : decode cL_law 628 = .ok (.iadd, 1) := dk_96 (dk_at dksL_law_22 12 rfl rfl)
theorem dL_law_629 : decode cL_law 629 = .ok (.iaload, 1) := dk_46 (dk_at dksL_law_22 13 rfl rfl)
theorem dL_law_630 : decode cL_law 630 = .ok (.aload_n 0, 1) := dk_42 (dk_at dksL_law_22 14 rfl rfl)
theorem dL_law_631 : decode cL_law 631 = .ok (.iload_n 3, 1) := dk_29 (dk_at dksL_law_22 15 rfl rfl)
theorem dL_law_632 : decode cL_law 632 = .ok (.iconst 2, 1) := dk_5 (dk_at dksL_law_22 16 rfl rfl)
theorem dL_law_633 : decode cL_law 633 = .ok (.iadd, 1) := dk_96 (dk_at dksL_law_22 17 rfl rfl)
theorem dL_law_634 : decode cL_law 634 = .ok (.iaload, 1) := dk_46 (dk_at dksL_law_22 18 rfl rfl)
theorem dL_law_635 : decode cL_law 635 = .ok (.aload_n 0, 1) := dk_42 (dk_at dksL_law_22 19 rfl rfl)
theorem dL_law_636 : decode cL_law 636 = .ok (.iload_n 3, 1) := dk_29 (dk_at dksL_law_22 20 rfl rfl)
theorem dL_law_637 : decode cL_law 637 = .ok (.iconst 3, 1) := dk_6 (dk_at dksL_law_22 21 rfl rfl)
theorem dL_law_638 : decode cL_law 638 = .ok (.iadd, 1) := dk_96 (dk_at dksL_law_22 22 rfl rfl)
theorem dL_law_639 : decode cL_law 639 = .ok (.iaload, 1) := dk_46 (dk_at dksL_law_22 23 rfl rfl)
theorem dL_law_640 : decode cL_law 640 = .ok (.invokevirtual 77, 3) := dk_182 0 77 (dk_at dksL_law_23 0 rfl rfl)
theorem dL_law_643 : decode cL_law 643 = .ok (.aload_n 2, 1) := dk_44 (dk_at dksL_law_23 3 rfl rfl)
theorem dL_law_644 : decode cL_law 644 = .ok (.aload_n 0, 1) := dk_42 (dk_at dksL_law_23 4 rfl rfl)
theorem dL_law_645 : decode cL_law 645 = .ok (.iload_n 3, 1) := dk_29 (dk_at dksL_law_23 5 rfl rfl)
theorem dL_law_646 : decode cL_law 646 = .ok (.iconst 1, 1) := dk_4 (dk_at dksL_law_23 6 rfl rfl)
theorem dL_law_647 : decode cL_law 647 = .ok (.iadd, 1) := dk_96 (dk_at dksL_law_23 7 rfl rfl)
theorem dL_law_648 : decode cL_law 648 = .ok (.iaload, 1) := dk_46 (dk_at dksL_law_23 8 rfl rfl)
theorem dL_law_649 : decode cL_law 649 = .ok (.aload_n 0, 1) := dk_42 (dk_at dksL_law_23 9 rfl rfl)
theorem dL_law_650 : decode cL_law 650 = .ok (.iload_n 3, 1) := dk_29 (dk_at dksL_law_23 10 rfl rfl)
theorem dL_law_651 : decode cL_law 651 = .ok (.iconst 2, 1) := dk_5 (dk_at dksL_law_23 11 rfl rfl)
theorem dL_law_652 : decode cL_law 652 = .ok (.iadd, 1) := dk_96 (dk_at dksL_law_23 12 rfl rfl)
theorem dL_law_653 : decode cL_law 653 = .ok (.iaload, 1) := dk_46 (dk_at dksL_law_23 13 rfl rfl)
theorem dL_law_654 : decode cL_law 654 = .ok (.aload_n 0, 1) := dk_42 (dk_at dksL_law_23 14 rfl rfl)
theorem dL_law_655 : decode cL_law 655 = .ok (.iload_n 3, 1) := dk_29 (dk_at dksL_law_23 15 rfl rfl)
theorem dL_law_656 : decode cL_law 656 = .ok (.iconst 3, 1) := dk_6 (dk_at dksL_law_23 16 rfl rfl)
theorem dL_law_657 : decode cL_law 657 = .ok (.iadd, 1) := dk_96 (dk_at dksL_law_23 17 rfl rfl)
theorem dL_law_658 : decode cL_law 658 = .ok (.iaload, 1) := dk_46 (dk_at dksL_law_23 18 rfl rfl)
theorem dL_law_659 : decode cL_law 659 = .ok (.invokevirtual 80, 3) := dk_182 0 80 (dk_at dksL_law_23 19 rfl rfl)
theorem dL_law_662 : decode cL_law 662 = .ok (.if_icmp .eq 438, 3) := dk_159 1 182 (dk_at dksL_law_24 0 rfl rfl)
theorem dL_law_665 : decode cL_law 665 = .ok (.iconst 0, 1) := dk_3 (dk_at dksL_law_24 3 rfl rfl)
theorem dL_law_666 : decode cL_law 666 = .ok (.ireturn, 1) := dk_172 (dk_at dksL_law_24 4 rfl rfl)
theorem dL_law_667 : decode cL_law 667 = .ok (.aload_n 1, 1) := dk_43 (dk_at dksL_law_24 5 rfl rfl)
theorem dL_law_668 : decode cL_law 668 = .ok (.aload_n 0, 1) := dk_42 (dk_at dksL_law_24 6 rfl rfl)
theorem dL_law_669 : decode cL_law 669 = .ok (.iload_n 3, 1) := dk_29 (dk_at dksL_law_24 7 rfl rfl)
theorem dL_law_670 : decode cL_law 670 = .ok (.iconst 1, 1) := dk_4 (dk_at dksL_law_24 8 rfl rfl)
theorem dL_law_671 : decode cL_law 671 = .ok (.iadd, 1) := dk_96 (dk_at dksL_law_24 9 rfl rfl)
theorem dL_law_672 : decode cL_law 672 = .ok (.iaload, 1) := dk_46 (dk_at dksL_law_24 10 rfl rfl)
theorem dL_law_673 : decode cL_law 673 = .ok (.invokevirtual 81, 3) := dk_182 0 81 (dk_at dksL_law_24 11 rfl rfl)
theorem dL_law_676 : decode cL_law 676 = .ok (.aload_n 2, 1) := dk_44 (dk_at dksL_law_24 14 rfl rfl)
theorem dL_law_677 : decode cL_law 677 = .ok (.aload_n 0, 1) := dk_42 (dk_at dksL_law_24 15 rfl rfl)
theorem dL_law_678 : decode cL_law 678 = .ok (.iload_n 3, 1) := dk_29 (dk_at dksL_law_24 16 rfl rfl)
theorem dL_law_679 : decode cL_law 679 = .ok (.iconst 1, 1) := dk_4 (dk_at dksL_law_24 17 rfl rfl)
theorem dL_law_680 : decode cL_law 680 = .ok (.iadd, 1) := dk_96 (dk_at dksL_law_24 18 rfl rfl)
theorem dL_law_681 : decode cL_law 681 = .ok (.iaload, 1) := dk_46 (dk_at dksL_law_24 19 rfl rfl)
theorem dL_law_682 : decode cL_law 682 = .ok (.invokevirtual 84, 3) := dk_182 0 84 (dk_at dksL_law_24 20 rfl rfl)
theorem dL_law_685 : decode cL_law 685 = .ok (.if_icmp .eq 415, 3) := dk_159 1 159 (dk_at dksL_law_25 0 rfl rfl)
theorem dL_law_688 : decode cL_law 688 = .ok (.iconst 0, 1) := dk_3 (dk_at dksL_law_25 3 rfl rfl)
theorem dL_law_689 : decode cL_law 689 = .ok (.ireturn, 1) := dk_172 (dk_at dksL_law_25 4 rfl rfl)
theorem dL_law_690 : decode cL_law 690 = .ok (.aload_n 1, 1) := dk_43 (dk_at dksL_law_25 5 rfl rfl)
theorem dL_law_691 : decode cL_law 691 = .ok (.aload_n 0, 1) := dk_42 (dk_at dksL_law_25 6 rfl rfl)
theorem dL_law_692 : decode cL_law 692 = .ok (.iload_n 3, 1) := dk_29 (dk_at dksL_law_25 7 rfl rfl)
theorem dL_law_693 : decode cL_law 693 = .ok (.iconst 1, 1) := dk_4 (dk_at dksL_law_25 8 rfl rfl)
theorem dL_law_694 : decode cL_law 694 = .ok (.iadd, 1) := dk_96 (dk_at dksL_law_25 9 rfl rfl)
theorem dL_law_695 : decode cL_law 695 = .ok (.iaload, 1) := dk_46 (dk_at dksL_law_25 10 rfl rfl)
theorem dL_law_696 : decode cL_law 696 = .ok (.invokevirtual 85, 3) := dk_182 0 85 (dk_at dksL_law_25 11 rfl rfl)
theorem dL_law_699 : decode cL_law 699 = .ok (.aload_n 2, 1) := dk_44 (dk_at dksL_law_25 14 rfl rfl)
theorem dL_law_700 : decode cL_law 700 = .ok (.aload_n 0, 1) := dk_42 (dk_at dksL_law_25 15 rfl rfl)
theorem dL_law_701 : decode cL_law 701 = .ok (.iload_n 3, 1) := dk_29 (dk_at dksL_law_25 16 rfl rfl)
theorem dL_law_702 : decode cL_law 702 = .ok (.iconst 1, 1) := dk_4 (dk_at dksL_law_25 17 rfl rfl)
theorem dL_law_703 : decode cL_law 703 = .ok (.iadd, 1) := dk_96 (dk_at dksL_law_25 18 rfl rfl)
theorem dL_law_704 : decode cL_law 704 = .ok (.iaload, 1) := dk_46 (dk_at dksL_law_25 19 rfl rfl)
theorem dL_law_705 : decode cL_law 705 = .ok (.invokevirtual 88, 3) := dk_182 0 88 (dk_at dksL_law_25 20 rfl rfl)
theorem dL_law_708 : decode cL_law 708 = .ok (.if_icmp .eq 392, 3) := dk_159 1 136 (dk_at dksL_law_26 0 rfl rfl)
theorem dL_law_711 : decode cL_law 711 = .ok (.iconst 0, 1) := dk_3 (dk_at dksL_law_26 3 rfl rfl)
theorem dL_law_712 : decode cL_law 712 = .ok (.ireturn, 1) := dk_172 (dk_at dksL_law_26 4 rfl rfl)
theorem dL_law_713 : decode cL_law 713 = .ok (.aload_n 1, 1) := dk_43 (dk_at dksL_law_26 5 rfl rfl)
theorem dL_law_714 : decode cL_law 714 = .ok (.invokevirtual 89, 3) := dk_182 0 89 (dk_at dksL_law_26 6 rfl rfl)
theorem dL_law_717 : decode cL_law 717 = .ok (.aload_n 2, 1) := dk_44 (dk_at dksL_law_26 9 rfl rfl)
theorem dL_law_718 : decode cL_law 718 = .ok (.invokevirtual 93, 3) := dk_182 0 93 (dk_at dksL_law_26 10 rfl rfl)
theorem dL_law_721 : decode cL_law 721 = .ok (.if_icmp .eq 379, 3) := dk_159 1 123 (dk_at dksL_law_26 13 rfl rfl)
theorem dL_law_724 : decode cL_law 724 = .ok (.iconst 0, 1) := dk_3 (dk_at dksL_law_26 16 rfl rfl)
theorem dL_law_725 : decode cL_law 725 = .ok (.ireturn, 1) := dk_172 (dk_at dksL_law_26 17 rfl rfl)
theorem dL_law_726 : decode cL_law 726 = .ok (.aload_n 1, 1) := dk_43 (dk_at dksL_law_26 18 rfl rfl)
theorem dL_law_727 : decode cL_law 727 = .ok (.invokevirtual 94, 3) := dk_182 0 94 (dk_at dksL_law_26 19 rfl rfl)
theorem dL_law_730 : decode cL_law 730 = .ok (.aload_n 2, 1) := dk_44 (dk_at dksL_law_26 22 rfl rfl)
theorem dL_law_731 : decode cL_law 731 = .ok (.invokevirtual 97, 3) := dk_182 0 97 (dk_at dksL_law_27 0 rfl rfl)
theorem dL_law_734 : decode cL_law 734 = .ok (.if_icmp .eq 366, 3) := dk_159 1 110 (dk_at dksL_law_27 3 rfl rfl)
theorem dL_law_737 : decode cL_law 737 = .ok (.iconst 0, 1) := dk_3 (dk_at dksL_law_27 6 rfl rfl)
theorem dL_law_738 : decode cL_law 738 = .ok (.ireturn, 1) := dk_172 (dk_at dksL_law_27 7 rfl rfl)
theorem dL_law_739 : decode cL_law 739 = .ok (.aload_n 1, 1) := dk_43 (dk_at dksL_law_27 8 rfl rfl)
theorem dL_law_740 : decode cL_law 740 = .ok (.aload_n 0, 1) := dk_42 (dk_at dksL_law_27 9 rfl rfl)
theorem dL_law_741 : decode cL_law 741 = .ok (.iload_n 3, 1) := dk_29 (dk_at dksL_law_27 10 rfl rfl)
theorem dL_law_742 : decode cL_law 742 = .ok (.iconst 1, 1) := dk_4 (dk_at dksL_law_27 11 rfl rfl)
theorem dL_law_743 : decode cL_law 743 = .ok (.iadd, 1) := dk_96 (dk_at dksL_law_27 12 rfl rfl)
theorem dL_law_744 : decode cL_law 744 = .ok (.iaload, 1) := dk_46 (dk_at dksL_law_27 13 rfl rfl)
theorem dL_law_745 : decode cL_law 745 = .ok (.aload_n 0, 1) := dk_42 (dk_at dksL_law_27 14 rfl rfl)
theorem dL_law_746 : decode cL_law 746 = .ok (.iload_n 3, 1) := dk_29 (dk_at dksL_law_27 15 rfl rfl)
theorem dL_law_747 : decode cL_law 747 = .ok (.iconst 2, 1) := dk_5 (dk_at dksL_law_27 16 rfl rfl)
theorem dL_law_748 : decode cL_law 748 = .ok (.iadd, 1) := dk_96 (dk_at dksL_law_27 17 rfl rfl)
theorem dL_law_749 : decode cL_law 749 = .ok (.iaload, 1) := dk_46 (dk_at dksL_law_27 18 rfl rfl)
theorem dL_law_750 : decode cL_law 750 = .ok (.invokevirtual 98, 3) := dk_182 0 98 (dk_at dksL_law_27 19 rfl rfl)
theorem dL_law_753 : decode cL_law 753 = .ok (.aload_n 2, 1) := dk_44 (dk_at dksL_law_27 22 rfl rfl)
theorem dL_law_754 : decode cL_law 754 = .ok (.aload_n 0, 1) := dk_42 (dk_at dksL_law_27 23 rfl rfl)
theorem dL_law_755 : decode cL_law 755 = .ok (.iload_n 3, 1) := dk_29 (dk_at dksL_law_28 0 rfl rfl)
theorem dL_law_756 : decode cL_law 756 = .ok (.iconst 1, 1) := dk_4 (dk_at dksL_law_28 1 rfl rfl)
theorem dL_law_757 : decode cL_law 757 = .ok (.iadd, 1) := dk_96 (dk_at dksL_law_28 2 rfl rfl)
theorem dL_law_758 : decode cL_law 758 = .ok (.iaload, 1) := dk_46 (dk_at dksL_law_28 3 rfl rfl)
theorem dL_law_759 : decode cL_law 759 = .ok (.aload_n 0, 1) := dk_42 (dk_at dksL_law_28 4 rfl rfl)
theorem dL_law_760 : decode cL_law 760 = .ok (.iload_n 3, 1) := dk_29 (dk_at dksL_law_28 5 rfl rfl)
theorem dL_law_761 : decode cL_law 761 = .ok (.iconst 2, 1) := dk_5 (dk_at dksL_law_28 6 rfl rfl)
theorem dL_law_762 : decode cL_law 762 = .ok (.iadd, 1) := dk_96 (dk_at dksL_law_28 7 rfl rfl)
theorem dL_law_763 : decode cL_law 763 = .ok (.iaload, 1) := dk_46 (dk_at dksL_law_28 8 rfl rfl)
theorem dL_law_764 : decode cL_law 764 = .ok (.invokevirtual 101, 3) := dk_182 0 101 (dk_at dksL_law_28 9 rfl rfl)
theorem dL_law_767 : decode cL_law 767 = .ok (.if_icmp .eq 333, 3) := dk_159 1 77 (dk_at dksL_law_28 12 rfl rfl)
theorem dL_law_770 : decode cL_law 770 = .ok (.iconst 0, 1) := dk_3 (dk_at dksL_law_28 15 rfl rfl)
theorem dL_law_771 : decode cL_law 771 = .ok (.ireturn, 1) := dk_172 (dk_at dksL_law_28 16 rfl rfl)
theorem dL_law_772 : decode cL_law 772 = .ok (.aload_n 1, 1) := dk_43 (dk_at dksL_law_28 17 rfl rfl)
theorem dL_law_773 : decode cL_law 773 = .ok (.aload_n 0, 1) := dk_42 (dk_at dksL_law_28 18 rfl rfl)
theorem dL_law_774 : decode cL_law 774 = .ok (.iload_n 3, 1) := dk_29 (dk_at dksL_law_28 19 rfl rfl)
theorem dL_law_775 : decode cL_law 775 = .ok (.iconst 1, 1) := dk_4 (dk_at dksL_law_28 20 rfl rfl)
theorem dL_law_776 : decode cL_law 776 = .ok (.iadd, 1) := dk_96 (dk_at dksL_law_28 21 rfl rfl)
theorem dL_law_777 : decode cL_law 777 = .ok (.iaload, 1) := dk_46 (dk_at dksL_law_28 22 rfl rfl)
theorem dL_law_778 : decode cL_law 778 = .ok (.invokevirtual 102, 3) := dk_182 0 102 (dk_at dksL_law_29 0 rfl rfl)
theorem dL_law_781 : decode cL_law 781 = .ok (.aload_n 2, 1) := dk_44 (dk_at dksL_law_29 3 rfl rfl)
theorem dL_law_782 : decode cL_law 782 = .ok (.aload_n 0, 1) := dk_42 (dk_at dksL_law_29 4 rfl rfl)
theorem dL_law_783 : decode cL_law 783 = .ok (.iload_n 3, 1) := dk_29 (dk_at dksL_law_29 5 rfl rfl)
theorem dL_law_784 : decode cL_law 784 = .ok (.iconst 1, 1) := dk_4 (dk_at dksL_law_29 6 rfl rfl)
theorem dL_law_785 : decode cL_law 785 = .ok (.iadd, 1) := dk_96 (dk_at dksL_law_29 7 rfl rfl)
theorem dL_law_786 : decode cL_law 786 = .ok (.iaload, 1) := dk_46 (dk_at dksL_law_29 8 rfl rfl)
theorem dL_law_787 : decode cL_law 787 = .ok (.invokevirtual 105, 3) := dk_182 0 105 (dk_at dksL_law_29 9 rfl rfl)
theorem dL_law_790 : decode cL_law 790 = .ok (.if_icmp .eq 310, 3) := dk_159 1 54 (dk_at dksL_law_29 12 rfl rfl)
theorem dL_law_793 : decode cL_law 793 = .ok (.iconst 0, 1) := dk_3 (dk_at dksL_law_29 15 rfl rfl)
theorem dL_law_794 : decode cL_law 794 = .ok (.ireturn, 1) := dk_172 (dk_at dksL_law_29 16 rfl rfl)
theorem dL_law_795 : decode cL_law 795 = .ok (.aload_n 1, 1) := dk_43 (dk_at dksL_law_29 17 rfl rfl)
theorem dL_law_796 : decode cL_law 796 = .ok (.aload_n 0, 1) := dk_42 (dk_at dksL_law_29 18 rfl rfl)
theorem dL_law_797 : decode cL_law 797 = .ok (.iload_n 3, 1) := dk_29 (dk_at dksL_law_29 19 rfl rfl)
theorem dL_law_798 : decode cL_law 798 = .ok (.iconst 1, 1) := dk_4 (dk_at dksL_law_29 20 rfl rfl)
theorem dL_law_799 : decode cL_law 799 = .ok (.iadd, 1) := dk_96 (dk_at dksL_law_29 21 rfl rfl)
theorem dL_law_800 : decode cL_law 800 = .ok (.iaload, 1) := dk_46 (dk_at dksL_law_29 22 rfl rfl)
theorem dL_law_801 : decode cL_law 801 = .ok (.aload_n 0, 1) := dk_42 (dk_at dksL_law_29 23 rfl rfl)
theorem dL_law_802 : decode cL_law 802 = .ok (.iload_n 3, 1) := dk_29 (dk_at dksL_law_30 0 rfl rfl)
theorem dL_law_803 : decode cL_law 803 = .ok (.iconst 2, 1) := dk_5 (dk_at dksL_law_30 1 rfl rfl)
theorem dL_law_804 : decode cL_law 804 = .ok (.iadd, 1) := dk_96 (dk_at dksL_law_30 2 rfl rfl)
theorem dL_law_805 : decode cL_law 805 = .ok (.iaload, 1) := dk_46 (dk_at dksL_law_30 3 rfl rfl)
theorem dL_law_806 : decode cL_law 806 = .ok (.aload_n 0, 1) := dk_42 (dk_at dksL_law_30 4 rfl rfl)
theorem dL_law_807 : decode cL_law 807 = .ok (.iload_n 3, 1) := dk_29 (dk_at dksL_law_30 5 rfl rfl)
theorem dL_law_808 : decode cL_law 808 = .ok (.iconst 3, 1) := dk_6 (dk_at dksL_law_30 6 rfl rfl)
theorem dL_law_809 : decode cL_law 809 = .ok (.iadd, 1) := dk_96 (dk_at dksL_law_30 7 rfl rfl)
theorem dL_law_810 : decode cL_law 810 = .ok (.iaload, 1) := dk_46 (dk_at dksL_law_30 8 rfl rfl)
theorem dL_law_811 : decode cL_law 811 = .ok (.invokevirtual 106, 3) := dk_182 0 106 (dk_at dksL_law_30 9 rfl rfl)
theorem dL_law_814 : decode cL_law 814 = .ok (.aload_n 2, 1) := dk_44 (dk_at dksL_law_30 12 rfl rfl)
theorem dL_law_815 : decode cL_law 815 = .ok (.aload_n 0, 1) := dk_42 (dk_at dksL_law_30 13 rfl rfl)
theorem dL_law_816 : decode cL_law 816 = .ok (.iload_n 3, 1) := dk_29 (dk_at dksL_law_30 14 rfl rfl)
theorem dL_law_817 : decode cL_law 817 = .ok (.iconst 1, 1) := dk_4 (dk_at dksL_law_30 15 rfl rfl)
theorem dL_law_818 : decode cL_law 818 = .ok (.iadd, 1) := dk_96 (dk_at dksL_law_30 16 rfl rfl)
theorem dL_law_819 : decode cL_law 819 = .ok (.iaload, 1) := dk_46 (dk_at dksL_law_30 17 rfl rfl)
theorem dL_law_820 : decode cL_law 820 = .ok (.aload_n 0, 1) := dk_42 (dk_at dksL_law_30 18 rfl rfl)
theorem dL_law_821 : decode cL_law 821 = .ok (.iload_n 3, 1) := dk_29 (dk_at dksL_law_30 19 rfl rfl)
theorem dL_law_822 : decode cL_law 822 = .ok (.iconst 2, 1) := dk_5 (dk_at dksL_law_30 20 rfl rfl)
theorem dL_law_823 : decode cL_law 823 = .ok (.iadd, 1) := dk_96 (dk_at dksL_law_30 21 rfl rfl)
theorem dL_law_824 : decode cL_law 824 = .ok (.iaload, 1) := dk_46 (dk_at dksL_law_30 22 rfl rfl)
theorem dL_law_825 : decode cL_law 825 = .ok (.aload_n 0, 1) := dk_42 (dk_at dksL_law_30 23 rfl rfl)
theorem dL_law_826 : decode cL_law 826 = .ok (.iload_n 3, 1) := dk_29 (dk_at dksL_law_31 0 rfl rfl)
theorem dL_law_827 : decode cL_law 827 = .ok (.iconst 3, 1) := dk_6 (dk_at dksL_law_31 1 rfl rfl)
theorem dL_law_828 : decode cL_law 828 = .ok (.iadd, 1) := dk_96 (dk_at dksL_law_31 2 rfl rfl)
theorem dL_law_829 : decode cL_law 829 = .ok (.iaload, 1) := dk_46 (dk_at dksL_law_31 3 rfl rfl)
theorem dL_law_830 : decode cL_law 830 = .ok (.invokevirtual 109, 3) := dk_182 0 109 (dk_at dksL_law_31 4 rfl rfl)
theorem dL_law_833 : decode cL_law 833 = .ok (.if_icmp .eq 267, 3) := dk_159 1 11 (dk_at dksL_law_31 7 rfl rfl)
theorem dL_law_836 : decode cL_law 836 = .ok (.iconst 0, 1) := dk_3 (dk_at dksL_law_31 10 rfl rfl)
theorem dL_law_837 : decode cL_law 837 = .ok (.ireturn, 1) := dk_172 (dk_at dksL_law_31 11 rfl rfl)
theorem dL_law_838 : decode cL_law 838 = .ok (.aload_n 1, 1) := dk_43 (dk_at dksL_law_31 12 rfl rfl)
theorem dL_law_839 : decode cL_law 839 = .ok (.aload_n 0, 1) := dk_42 (dk_at dksL_law_31 13 rfl rfl)
theorem dL_law_840 : decode cL_law 840 = .ok (.iload_n 3, 1) := dk_29 (dk_at dksL_law_31 14 rfl rfl)
theorem dL_law_841 : decode cL_law 841 = .ok (.iconst 1, 1) := dk_4 (dk_at dksL_law_31 15 rfl rfl)
theorem dL_law_842 : decode cL_law 842 = .ok (.iadd, 1) := dk_96 (dk_at dksL_law_31 16 rfl rfl)
theorem dL_law_843 : decode cL_law 843 = .ok (.iaload, 1) := dk_46 (dk_at dksL_law_31 17 rfl rfl)
theorem dL_law_844 : decode cL_law 844 = .ok (.aload_n 0, 1) := dk_42 (dk_at dksL_law_31 18 rfl rfl)
theorem dL_law_845 : decode cL_law 845 = .ok (.iload_n 3, 1) := dk_29 (dk_at dksL_law_31 19 rfl rfl)
theorem dL_law_846 : decode cL_law 846 = .ok (.iconst 2, 1) := dk_5 (dk_at dksL_law_31 20 rfl rfl)
theorem dL_law_847 : decode cL_law 847 = .ok (.iadd, 1) := dk_96 (dk_at dksL_law_31 21 rfl rfl)
theorem dL_law_848 : decode cL_law 848 = .ok (.iaload, 1) := dk_46 (dk_at dksL_law_31 22 rfl rfl)
theorem dL_law_849 : decode cL_law 849 = .ok (.aload_n 0, 1) := dk_42 (dk_at dksL_law_31 23 rfl rfl)
theorem dL_law_850 : decode cL_law 850 = .ok (.iload_n 3, 1) := dk_29 (dk_at dksL_law_32 0 rfl rfl)
theorem dL_law_851 : decode cL_law 851 = .ok (.iconst 3, 1) := dk_6 (dk_at dksL_law_32 1 rfl rfl)
theorem dL_law_852 : decode cL_law 852 = .ok (.iadd, 1) := dk_96 (dk_at dksL_law_32 2 rfl rfl)
theorem dL_law_853 : decode cL_law 853 = .ok (.iaload, 1) := dk_46 (dk_at dksL_law_32 3 rfl rfl)
theorem dL_law_854 : decode cL_law 854 = .ok (.i2l, 1) := dk_133 (dk_at dksL_law_32 4 rfl rfl)
theorem dL_law_855 : decode cL_law 855 = .ok (.bipush 32, 2) := dk_16 32 (dk_at dksL_law_32 5 rfl rfl)
theorem dL_law_857 : decode cL_law 857 = .ok (.lshl, 1) := dk_121 (dk_at dksL_law_32 7 rfl rfl)
theorem dL_law_858 : decode cL_law 858 = .ok (.aload_n 0, 1) := dk_42 (dk_at dksL_law_32 8 rfl rfl)
theorem dL_law_859 : decode cL_law 859 = .ok (.iload_n 3, 1) := dk_29 (dk_at dksL_law_32 9 rfl rfl)
theorem dL_law_860 : decode cL_law 860 = .ok (.iconst 4, 1) := dk_7 (dk_at dksL_law_32 10 rfl rfl)
theorem dL_law_861 : decode cL_law 861 = .ok (.iadd, 1) := dk_96 (dk_at dksL_law_32 11 rfl rfl)
theorem dL_law_862 : decode cL_law 862 = .ok (.iaload, 1) := dk_46 (dk_at dksL_law_32 12 rfl rfl)
theorem dL_law_863 : decode cL_law 863 = .ok (.i2l, 1) := dk_133 (dk_at dksL_law_32 13 rfl rfl)
theorem dL_law_864 : decode cL_law 864 = .ok (.ldc2_w 110, 3) := dk_20 0 110 (dk_at dksL_law_32 14 rfl rfl)
theorem dL_law_867 : decode cL_law 867 = .ok (.land, 1) := dk_127 (dk_at dksL_law_32 17 rfl rfl)
theorem dL_law_868 : decode cL_law 868 = .ok (.lor, 1) := dk_129 (dk_at dksL_law_32 18 rfl rfl)
theorem dL_law_869 : decode cL_law 869 = .ok (.invokevirtual 112, 3) := dk_182 0 112 (dk_at dksL_law_32 19 rfl rfl)
theorem dL_law_872 : decode cL_law 872 = .ok (.aload_n 2, 1) := dk_44 (dk_at dksL_law_32 22 rfl rfl)
theorem dL_law_873 : decode cL_law 873 = .ok (.aload_n 0, 1) := dk_42 (dk_at dksL_law_32 23 rfl rfl)
theorem dL_law_874 : decode cL_law 874 = .ok (.iload_n 3, 1) := dk_29 (dk_at dksL_law_33 0 rfl rfl)
theorem dL_law_875 : decode cL_law 875 = .ok (.iconst 1, 1) := dk_4 (dk_at dksL_law_33 1 rfl rfl)
theorem dL_law_876 : decode cL_law 876 = .ok (.iadd, 1) := dk_96 (dk_at dksL_law_33 2 rfl rfl)
theorem dL_law_877 : decode cL_law 877 = .ok (.iaload, 1) := dk_46 (dk_at dksL_law_33 3 rfl rfl)
theorem dL_law_878 : decode cL_law 878 = .ok (.aload_n 0, 1) := dk_42 (dk_at dksL_law_33 4 rfl rfl)
theorem dL_law_879 : decode cL_law 879 = .ok (.iload_n 3, 1) := dk_29 (dk_at dksL_law_33 5 rfl rfl)
theorem dL_law_880 : decode cL_law 880 = .ok (.iconst 2, 1) := dk_5 (dk_at dksL_law_33 6 rfl rfl)
theorem dL_law_881 : decode cL_law 881 = .ok (.iadd, 1) := dk_96 (dk_at dksL_law_33 7 rfl rfl)
theorem dL_law_882 : decode cL_law 882 = .ok (.iaload, 1) := dk_46 (dk_at dksL_law_33 8 rfl rfl)
theorem dL_law_883 : decode cL_law 883 = .ok (.aload_n 0, 1) := dk_42 (dk_at dksL_law_33 9 rfl rfl)
theorem dL_law_884 : decode cL_law 884 = .ok (.iload_n 3, 1) := dk_29 (dk_at dksL_law_33 10 rfl rfl)
theorem dL_law_885 : decode cL_law 885 = .ok (.iconst 3, 1) := dk_6 (dk_at dksL_law_33 11 rfl rfl)
theorem dL_law_886 : decode cL_law 886 = .ok (.iadd, 1) := dk_96 (dk_at dksL_law_33 12 rfl rfl)
theorem dL_law_887 : decode cL_law 887 = .ok (.iaload, 1) := dk_46 (dk_at dksL_law_33 13 rfl rfl)
theorem dL_law_888 : decode cL_law 888 = .ok (.i2l, 1) := dk_133 (dk_at dksL_law_33 14 rfl rfl)
theorem dL_law_889 : decode cL_law 889 = .ok (.bipush 32, 2) := dk_16 32 (dk_at dksL_law_33 15 rfl rfl)
theorem dL_law_891 : decode cL_law 891 = .ok (.lshl, 1) := dk_121 (dk_at dksL_law_33 17 rfl rfl)
theorem dL_law_892 : decode cL_law 892 = .ok (.aload_n 0, 1) := dk_42 (dk_at dksL_law_33 18 rfl rfl)
theorem dL_law_893 : decode cL_law 893 = .ok (.iload_n 3, 1) := dk_29 (dk_at dksL_law_33 19 rfl rfl)
theorem dL_law_894 : decode cL_law 894 = .ok (.iconst 4, 1) := dk_7 (dk_at dksL_law_33 20 rfl rfl)
theorem dL_law_895 : decode cL_law 895 = .ok (.iadd, 1) := dk_96 (dk_at dksL_law_33 21 rfl rfl)
theorem dL_law_896 : decode cL_law 896 = .ok (.iaload, 1) := dk_46 (dk_at dksL_law_33 22 rfl rfl)
theorem dL_law_897 : decode cL_law 897 = .ok (.i2l, 1) := dk_133 (dk_at dksL_law_33 23 rfl rfl)
theorem dL_law_898 : decode cL_law 898 = .ok (.ldc2_w 110, 3) := dk_20 0 110 (dk_at dksL_law_34 0 rfl rfl)
theorem dL_law_901 : decode cL_law 901 = .ok (.land, 1) := dk_127 (dk_at dksL_law_34 3 rfl rfl)
theorem dL_law_902 : decode cL_law 902 = .ok (.lor, 1) := dk_129 (dk_at dksL_law_34 4 rfl rfl)
theorem dL_law_903 : decode cL_law 903 = .ok (.invokevirtual 116, 3) := dk_182 0 116 (dk_at dksL_law_34 5 rfl rfl)
theorem dL_law_906 : decode cL_law 906 = .ok (.if_icmp .eq 194, 3) := dk_159 0 194 (dk_at dksL_law_34 8 rfl rfl)
theorem dL_law_909 : decode cL_law 909 = .ok (.iconst 0, 1) := dk_3 (dk_at dksL_law_34 11 rfl rfl)
theorem dL_law_910 : decode cL_law 910 = .ok (.ireturn, 1) := dk_172 (dk_at dksL_law_34 12 rfl rfl)
theorem dL_law_911 : decode cL_law 911 = .ok (.aload_n 1, 1) := dk_43 (dk_at dksL_law_34 13 rfl rfl)
theorem dL_law_912 : decode cL_law 912 = .ok (.aload_n 0, 1) := dk_42 (dk_at dksL_law_34 14 rfl rfl)
theorem dL_law_913 : decode cL_law 913 = .ok (.iload_n 3, 1) := dk_29 (dk_at dksL_law_34 15 rfl rfl)
theorem dL_law_914 : decode cL_law 914 = .ok (.iconst 1, 1) := dk_4 (dk_at dksL_law_34 16 rfl rfl)
theorem dL_law_915 : decode cL_law 915 = .ok (.iadd, 1) := dk_96 (dk_at dksL_law_34 17 rfl rfl)
theorem dL_law_916 : decode cL_law 916 = .ok (.iaload, 1) := dk_46 (dk_at dksL_law_34 18 rfl rfl)
theorem dL_law_917 : decode cL_law 917 = .ok (.aload_n 0, 1) := dk_42 (dk_at dksL_law_34 19 rfl rfl)
theorem dL_law_918 : decode cL_law 918 = .ok (.iload_n 3, 1) := dk_29 (dk_at dksL_law_34 20 rfl rfl)
theorem dL_law_919 : decode cL_law 919 = .ok (.iconst 2, 1) := dk_5 (dk_at dksL_law_34 21 rfl rfl)
theorem dL_law_920 : decode cL_law 920 = .ok (.iadd, 1) := dk_96 (dk_at dksL_law_34 22 rfl rfl)
theorem dL_law_921 : decode cL_law 921 = .ok (.iaload, 1) := dk_46 (dk_at dksL_law_34 23 rfl rfl)
theorem dL_law_922 : decode cL_law 922 = .ok (.invokevirtual 117, 3) := dk_182 0 117 (dk_at dksL_law_35 0 rfl rfl)
theorem dL_law_925 : decode cL_law 925 = .ok (.aload_n 2, 1) := dk_44 (dk_at dksL_law_35 3 rfl rfl)
theorem dL_law_926 : decode cL_law 926 = .ok (.aload_n 0, 1) := dk_42 (dk_at dksL_law_35 4 rfl rfl)
theorem dL_law_927 : decode cL_law 927 = .ok (.iload_n 3, 1) := dk_29 (dk_at dksL_law_35 5 rfl rfl)
theorem dL_law_928 : decode cL_law 928 = .ok (.iconst 1, 1) := dk_4 (dk_at dksL_law_35 6 rfl rfl)
theorem dL_law_929 : decode cL_law 929 = .ok (.iadd, 1) := dk_96 (dk_at dksL_law_35 7 rfl rfl)
theorem dL_law_930 : decode cL_law 930 = .ok (.iaload, 1) := dk_46 (dk_at dksL_law_35 8 rfl rfl)
theorem dL_law_931 : decode cL_law 931 = .ok (.aload_n 0, 1) := dk_42 (dk_at dksL_law_35 9 rfl rfl)
theorem dL_law_932 : decode cL_law 932 = .ok (.iload_n 3, 1) := dk_29 (dk_at dksL_law_35 10 rfl rfl)
theorem dL_law_933 : decode cL_law 933 = .ok (.iconst 2, 1) := dk_5 (dk_at dksL_law_35 11 rfl rfl)
theorem dL_law_934 : decode cL_law 934 = .ok (.iadd, 1) := dk_96 (dk_at dksL_law_35 12 rfl rfl)
theorem dL_law_935 : decode cL_law 935 = .ok (.iaload, 1) := dk_46 (dk_at dksL_law_35 13 rfl rfl)
theorem dL_law_936 : decode cL_law 936 = .ok (.invokevirtual 120, 3) := dk_182 0 120 (dk_at dksL_law_35 14 rfl rfl)
theorem dL_law_939 : decode cL_law 939 = .ok (.lcmp, 1) := dk_148 (dk_at dksL_law_35 17 rfl rfl)
theorem dL_law_940 : decode cL_law 940 = .ok (.ifCond .eq 160, 3) := dk_153 0 160 (dk_at dksL_law_35 18 rfl rfl)
theorem dL_law_943 : decode cL_law 943 = .ok (.iconst 0, 1) := dk_3 (dk_at dksL_law_35 21 rfl rfl)
theorem dL_law_944 : decode cL_law 944 = .ok (.ireturn, 1) := dk_172 (dk_at dksL_law_35 22 rfl rfl)
theorem dL_law_945 : decode cL_law 945 = .ok (.aload_n 1, 1) := dk_43 (dk_at dksL_law_35 23 rfl rfl)
theorem dL_law_946 : decode cL_law 946 = .ok (.aload_n 0, 1) := dk_42 (dk_at dksL_law_36 0 rfl rfl)
theorem dL_law_947 : decode cL_law 947 = .ok (.iload_n 3, 1) := dk_29 (dk_at dksL_law_36 1 rfl rfl)
theorem dL_law_948 : decode cL_law 948 = .ok (.iconst 1, 1) := dk_4 (dk_at dksL_law_36 2 rfl rfl)
theorem dL_law_949 : decode cL_law 949 = .ok (.iadd, 1) := dk_96 (dk_at dksL_law_36 3 rfl rfl)
theorem dL_law_950 : decode cL_law 950 = .ok (.iaload, 1) := dk_46 (dk_at dksL_law_36 4 rfl rfl)
theorem dL_law_951 : decode cL_law 951 = .ok (.aload_n 0, 1) := dk_42 (dk_at dksL_law_36 5 rfl rfl)
theorem dL_law_952 : decode cL_law 952 = .ok (.iload_n 3, 1) := dk_29 (dk_at dksL_law_36 6 rfl rfl)
theorem dL_law_953 : decode cL_law 953 = .ok (.iconst 2, 1) := dk_5 (dk_at dksL_law_36 7 rfl rfl)
theorem dL_law_954 : decode cL_law 954 = .ok (.iadd, 1) := dk_96 (dk_at dksL_law_36 8 rfl rfl)
theorem dL_law_955 : decode cL_law 955 = .ok (.iaload, 1) := dk_46 (dk_at dksL_law_36 9 rfl rfl)
theorem dL_law_956 : decode cL_law 956 = .ok (.invokevirtual 121, 3) := dk_182 0 121 (dk_at dksL_law_36 10 rfl rfl)
theorem dL_law_959 : decode cL_law 959 = .ok (.aload_n 2, 1) := dk_44 (dk_at dksL_law_36 13 rfl rfl)
theorem dL_law_960 : decode cL_law 960 = .ok (.aload_n 0, 1) := dk_42 (dk_at dksL_law_36 14 rfl rfl)
theorem dL_law_961 : decode cL_law 961 = .ok (.iload_n 3, 1) := dk_29 (dk_at dksL_law_36 15 rfl rfl)
theorem dL_law_962 : decode cL_law 962 = .ok (.iconst 1, 1) := dk_4 (dk_at dksL_law_36 16 rfl rfl)
theorem dL_law_963 : decode cL_law 963 = .ok (.iadd, 1) := dk_96 (dk_at dksL_law_36 17 rfl rfl)
theorem dL_law_964 : decode cL_law 964 = .ok (.iaload, 1) := dk_46 (dk_at dksL_law_36 18 rfl rfl)
theorem dL_law_965 : decode cL_law 965 = .ok (.aload_n 0, 1) := dk_42 (dk_at dksL_law_36 19 rfl rfl)
theorem dL_law_966 : decode cL_law 966 = .ok (.iload_n 3, 1) := dk_29 (dk_at dksL_law_36 20 rfl rfl)
theorem dL_law_967 : decode cL_law 967 = .ok (.iconst 2, 1) := dk_5 (dk_at dksL_law_36 21 rfl rfl)
theorem dL_law_968 : decode cL_law 968 = .ok (.iadd, 1) := dk_96 (dk_at dksL_law_36 22 rfl rfl)
theorem dL_law_969 : decode cL_law 969 = .ok (.iaload, 1) := dk_46 (dk_at dksL_law_36 23 rfl rfl)
theorem dL_law_970 : decode cL_law 970 = .ok (.invokevirtual 124, 3) := dk_182 0 124 (dk_at dksL_law_37 0 rfl rfl)
theorem dL_law_973 : decode cL_law 973 = .ok (.if_icmp .eq 127, 3) := dk_159 0 127 (dk_at dksL_law_37 3 rfl rfl)
theorem dL_law_976 : decode cL_law 976 = .ok (.iconst 0, 1) := dk_3 (dk_at dksL_law_37 6 rfl rfl)
theorem dL_law_977 : decode cL_law 977 = .ok (.ireturn, 1) := dk_172 (dk_at dksL_law_37 7 rfl rfl)
theorem dL_law_978 : decode cL_law 978 = .ok (.aload_n 1, 1) := dk_43 (dk_at dksL_law_37 8 rfl rfl)
theorem dL_law_979 : decode cL_law 979 = .ok (.aload_n 0, 1) := dk_42 (dk_at dksL_law_37 9 rfl rfl)
theorem dL_law_980 : decode cL_law 980 = .ok (.iload_n 3, 1) := dk_29 (dk_at dksL_law_37 10 rfl rfl)
theorem dL_law_981 : decode cL_law 981 = .ok (.iconst 1, 1) := dk_4 (dk_at dksL_law_37 11 rfl rfl)
theorem dL_law_982 : decode cL_law 982 = .ok (.iadd, 1) := dk_96 (dk_at dksL_law_37 12 rfl rfl)
theorem dL_law_983 : decode cL_law 983 = .ok (.iaload, 1) := dk_46 (dk_at dksL_law_37 13 rfl rfl)
theorem dL_law_984 : decode cL_law 984 = .ok (.aload_n 0, 1) := dk_42 (dk_at dksL_law_37 14 rfl rfl)
theorem dL_law_985 : decode cL_law 985 = .ok (.iload_n 3, 1) := dk_29 (dk_at dksL_law_37 15 rfl rfl)
theorem dL_law_986 : decode cL_law 986 = .ok (.iconst 2, 1) := dk_5 (dk_at dksL_law_37 16 rfl rfl)
theorem dL_law_987 : decode cL_law 987 = .ok (.iadd, 1) := dk_96 (dk_at dksL_law_37 17 rfl rfl)
theorem dL_law_988 : decode cL_law 988 = .ok (.iaload, 1) := dk_46 (dk_at dksL_law_37 18 rfl rfl)
theorem dL_law_989 : decode cL_law 989 = .ok (.invokevirtual 125, 3) := dk_182 0 125 (dk_at dksL_law_37 19 rfl rfl)
theorem dL_law_992 : decode cL_law 992 = .ok (.aload_n 2, 1) := dk_44 (dk_at dksL_law_37 22 rfl rfl)
theorem dL_law_993 : decode cL_law 993 = .ok (.aload_n 0, 1) := dk_42 (dk_at dksL_law_37 23 rfl rfl)
theorem dL_law_994 : decode cL_law 994 = .ok (.iload_n 3, 1) := dk_29 (dk_at dksL_law_38 0 rfl rfl)
theorem dL_law_995 : decode cL_law 995 = .ok (.iconst 1, 1) := dk_4 (dk_at dksL_law_38 1 rfl rfl)
theorem dL_law_996 : decode cL_law 996 = .ok (.iadd, 1) := dk_96 (dk_at dksL_law_38 2 rfl rfl)
theorem dL_law_997 : decode cL_law 997 = .ok (.iaload, 1) := dk_46 (dk_at dksL_law_38 3 rfl rfl)
theorem dL_law_998 : decode cL_law 998 = .ok (.aload_n 0, 1) := dk_42 (dk_at dksL_law_38 4 rfl rfl)
theorem dL_law_999 : decode cL_law 999 = .ok (.iload_n 3, 1) := dk_29 (dk_at dksL_law_38 5 rfl rfl)
theorem dL_law_1000 : decode cL_law 1000 = .ok (.iconst 2, 1) := dk_5 (dk_at dksL_law_38 6 rfl rfl)
theorem dL_law_1001 : decode cL_law 1001 = .ok (.iadd, 1) := dk_96 (dk_at dksL_law_38 7 rfl rfl)
theorem dL_law_1002 : decode cL_law 1002 = .ok (.iaload, 1) := dk_46 (dk_at dksL_law_38 8 rfl rfl)
theorem dL_law_1003 : decode cL_law 1003 = .ok (.invokevirtual 128, 3) := dk_182 0 128 (dk_at dksL_law_38 9 rfl rfl)
theorem dL_law_1006 : decode cL_law 1006 = .ok (.if_icmp .eq 94, 3) := dk_159 0 94 (dk_at dksL_law_38 12 rfl rfl)
theorem dL_law_1009 : decode cL_law 1009 = .ok (.iconst 0, 1) := dk_3 (dk_at dksL_law_38 15 rfl rfl)
theorem dL_law_1010 : decode cL_law 1010 = .ok (.ireturn, 1) := dk_172 (dk_at dksL_law_38 16 rfl rfl)
theorem dL_law_1011 : decode cL_law 1011 = .ok (.aload_n 1, 1) := dk_43 (dk_at dksL_law_38 17 rfl rfl)
theorem dL_law_1012 : decode cL_law 1012 = .ok (.aload_n 0, 1) := dk_42 (dk_at dksL_law_38 18 rfl rfl)
theorem dL_law_1013 : decode cL_law 1013 = .ok (.iload_n 3, 1) := dk_29 (dk_at dksL_law_38 19 rfl rfl)
theorem dL_law_1014 : decode cL_law 1014 = .ok (.iconst 1, 1) := dk_4 (dk_at dksL_law_38 20 rfl rfl)
theorem dL_law_1015 : decode cL_law 1015 = .ok (.iadd, 1) := dk_96 (dk_at dksL_law_38 21 rfl rfl)
theorem dL_law_1016 : decode cL_law 1016 = .ok (.iaload, 1) := dk_46 (dk_at dksL_law_38 22 rfl rfl)
theorem dL_law_1017 : decode cL_law 1017 = .ok (.aload_n 0, 1) := dk_42 (dk_at dksL_law_38 23 rfl rfl)
theorem dL_law_1018 : decode cL_law 1018 = .ok (.iload_n 3, 1) := dk_29 (dk_at dksL_law_39 0 rfl rfl)
theorem dL_law_1019 : decode cL_law 1019 = .ok (.iconst 2, 1) := dk_5 (dk_at dksL_law_39 1 rfl rfl)
theorem dL_law_1020 : decode cL_law 1020 = .ok (.iadd, 1) := dk_96 (dk_at dksL_law_39 2 rfl rfl)
theorem dL_law_1021 : decode cL_law 1021 = .ok (.iaload, 1) := dk_46 (dk_at dksL_law_39 3 rfl rfl)
theorem dL_law_1022 : decode cL_law 1022 = .ok (.aload_n 0, 1) := dk_42 (dk_at dksL_law_39 4 rfl rfl)
theorem dL_law_1023 : decode cL_law 1023 = .ok (.iload_n 3, 1) := dk_29 (dk_at dksL_law_39 5 rfl rfl)
theorem dL_law_1024 : decode cL_law 1024 = .ok (.iconst 3, 1) := dk_6 (dk_at dksL_law_39 6 rfl rfl)
theorem dL_law_1025 : decode cL_law 1025 = .ok (.iadd, 1) := dk_96 (dk_at dksL_law_39 7 rfl rfl)
theorem dL_law_1026 : decode cL_law 1026 = .ok (.iaload, 1) := dk_46 (dk_at dksL_law_39 8 rfl rfl)
theorem dL_law_1027 : decode cL_law 1027 = .ok (.aload_n 0, 1) := dk_42 (dk_at dksL_law_39 9 rfl rfl)
theorem dL_law_1028 : decode cL_law 1028 = .ok (.iload_n 3, 1) := dk_29 (dk_at dksL_law_39 10 rfl rfl)
theorem dL_law_1029 : decode cL_law 1029 = .ok (.iconst 4, 1) := dk_7 (dk_at dksL_law_39 11 rfl rfl)
theorem dL_law_1030 : decode cL_law 1030 = .ok (.iadd, 1) := dk_96 (dk_at dksL_law_39 12 rfl rfl)
theorem dL_law_1031 : decode cL_law 1031 = .ok (.iaload, 1) := dk_46 (dk_at dksL_law_39 13 rfl rfl)
theorem dL_law_1032 : decode cL_law 1032 = .ok (.aload_n 0, 1) := dk_42 (dk_at dksL_law_39 14 rfl rfl)
theorem dL_law_1033 : decode cL_law 1033 = .ok (.iload_n 3, 1) := dk_29 (dk_at dksL_law_39 15 rfl rfl)
theorem dL_law_1034 : decode cL_law 1034 = .ok (.iconst 5, 1) := dk_8 (dk_at dksL_law_39 16 rfl rfl)
theorem dL_law_1035 : decode cL_law 1035 = .ok (.iadd, 1) := dk_96 (dk_at dksL_law_39 17 rfl rfl)
theorem dL_law_1036 : decode cL_law 1036 = .ok (.iaload, 1) := dk_46 (dk_at dksL_law_39 18 rfl rfl)
theorem dL_law_1037 : decode cL_law 1037 = .ok (.invokevirtual 129, 3) := dk_182 0 129 (dk_at dksL_law_39 19 rfl rfl)
theorem dL_law_1040 : decode cL_law 1040 = .ok (.aload_n 2, 1) := dk_44 (dk_at dksL_law_39 22 rfl rfl)
theorem dL_law_1041 : decode cL_law 1041 = .ok (.aload_n 0, 1) := dk_42 (dk_at dksL_law_39 23 rfl rfl)
theorem dL_law_1042 : decode cL_law 1042 = .ok (.iload_n 3, 1) := dk_29 (dk_at dksL_law_40 0 rfl rfl)
theorem dL_law_1043 : decode cL_law 1043 = .ok (.iconst 1, 1) := dk_4 (dk_at dksL_law_40 1 rfl rfl)
theorem dL_law_1044 : decode cL_law 1044 = .ok (.iadd, 1) := dk_96 (dk_at dksL_law_40 2 rfl rfl)
theorem dL_law_1045 : decode cL_law 1045 = .ok (.iaload, 1) := dk_46 (dk_at dksL_law_40 3 rfl rfl)
theorem dL_law_1046 : decode cL_law 1046 = .ok (.aload_n 0, 1) := dk_42 (dk_at dksL_law_40 4 rfl rfl)
theorem dL_law_1047 : decode cL_law 1047 = .ok (.iload_n 3, 1) := dk_29 (dk_at dksL_law_40 5 rfl rfl)
theorem dL_law_1048 : decode cL_law 1048 = .ok (.iconst 2, 1) := dk_5 (dk_at dksL_law_40 6 rfl rfl)
theorem dL_law_1049 : decode cL_law 1049 = .ok (.iadd, 1) := dk_96 (dk_at dksL_law_40 7 rfl rfl)
theorem dL_law_1050 : decode cL_law 1050 = .ok (.iaload, 1) := dk_46 (dk_at dksL_law_40 8 rfl rfl)
theorem dL_law_1051 : decode cL_law 1051 = .ok (.aload_n 0, 1) := dk_42 (dk_at dksL_law_40 9 rfl rfl)
theorem dL_law_1052 : decode cL_law 1052 = .ok (.iload_n 3, 1) := dk_29 (dk_at dksL_law_40 10 rfl rfl)
theorem dL_law_1053 : decode cL_law 1053 = .ok (.iconst 3, 1) := dk_6 (dk_at dksL_law_40 11 rfl rfl)
theorem dL_law_1054 : decode cL_law 1054 = .ok (.iadd, 1) := dk_96 (dk_at dksL_law_40 12 rfl rfl)
theorem dL_law_1055 : decode cL_law 1055 = .ok (.iaload, 1) := dk_46 (dk_at dksL_law_40 13 rfl rfl)
theorem dL_law_1056 : decode cL_law 1056 = .ok (.aload_n 0, 1) := dk_42 (dk_at dksL_law_40 14 rfl rfl)
theorem dL_law_1057 : decode cL_law 1057 = .ok (.iload_n 3, 1) := dk_29 (dk_at dksL_law_40 15 rfl rfl)
theorem dL_law_1058 : decode cL_law 1058 = .ok (.iconst 4, 1) := dk_7 (dk_at dksL_law_40 16 rfl rfl)
theorem dL_law_1059 : decode cL_law 1059 = .ok (.iadd, 1) := dk_96 (dk_at dksL_law_40 17 rfl rfl)
theorem dL_law_1060 : decode cL_law 1060 = .ok (.iaload, 1) := dk_46 (dk_at dksL_law_40 18 rfl rfl)
theorem dL_law_1061 : decode cL_law 1061 = .ok (.aload_n 0, 1) := dk_42 (dk_at dksL_law_40 19 rfl rfl)
theorem dL_law_1062 : decode cL_law 1062 = .ok (.iload_n 3, 1) := dk_29 (dk_at dksL_law_40 20 rfl rfl)
theorem dL_law_1063 : decode cL_law 1063 = .ok (.iconst 5, 1) := dk_8 (dk_at dksL_law_40 21 rfl rfl)
theorem dL_law_1064 : decode cL_law 1064 = .ok (.iadd, 1) := dk_96 (dk_at dksL_law_40 22 rfl rfl)
theorem dL_law_1065 : decode cL_law 1065 = .ok (.iaload, 1) := dk_46 (dk_at dksL_law_40 23 rfl rfl)
theorem dL_law_1066 : decode cL_law 1066 = .ok (.invokevirtual 133, 3) := dk_182 0 133 (dk_at dksL_law_41 0 rfl rfl)
theorem dL_law_1069 : decode cL_law 1069 = .ok (.if_icmp .eq 31, 3) := dk_159 0 31 (dk_at dksL_law_41 3 rfl rfl)
theorem dL_law_1072 : decode cL_law 1072 = .ok (.iconst 0, 1) := dk_3 (dk_at dksL_law_41 6 rfl rfl)
theorem dL_law_1073 : decode cL_law 1073 = .ok (.ireturn, 1) := dk_172 (dk_at dksL_law_41 7 rfl rfl)
theorem dL_law_1074 : decode cL_law 1074 = .ok (.aload_n 1, 1) := dk_43 (dk_at dksL_law_41 8 rfl rfl)
theorem dL_law_1075 : decode cL_law 1075 = .ok (.invokevirtual 134, 3) := dk_182 0 134 (dk_at dksL_law_41 9 rfl rfl)
theorem dL_law_1078 : decode cL_law 1078 = .ok (.aload_n 2, 1) := dk_44 (dk_at dksL_law_41 12 rfl rfl)
theorem dL_law_1079 : decode cL_law 1079 = .ok (.invokevirtual 137, 3) := dk_182 0 137 (dk_at dksL_law_41 13 rfl rfl)
theorem dL_law_1082 : decode cL_law 1082 = .ok (.if_icmp .eq 18, 3) := dk_159 0 18 (dk_at dksL_law_41 16 rfl rfl)
theorem dL_law_1085 : decode cL_law 1085 = .ok (.iconst 0, 1) := dk_3 (dk_at dksL_law_41 19 rfl rfl)
theorem dL_law_1086 : decode cL_law 1086 = .ok (.ireturn, 1) := dk_172 (dk_at dksL_law_41 20 rfl rfl)
theorem dL_law_1087 : decode cL_law 1087 = .ok (.aload_n 1, 1) := dk_43 (dk_at dksL_law_41 21 rfl rfl)
theorem dL_law_1088 : decode cL_law 1088 = .ok (.invokevirtual 138, 3) := dk_182 0 138 (dk_at dksL_law_42 0 rfl rfl)
theorem dL_law_1091 : decode cL_law 1091 = .ok (.aload_n 2, 1) := dk_44 (dk_at dksL_law_42 3 rfl rfl)
theorem dL_law_1092 : decode cL_law 1092 = .ok (.invokevirtual 141, 3) := dk_182 0 141 (dk_at dksL_law_42 4 rfl rfl)
theorem dL_law_1095 : decode cL_law 1095 = .ok (.if_icmp .eq 5, 3) := dk_159 0 5 (dk_at dksL_law_42 7 rfl rfl)
theorem dL_law_1098 : decode cL_law 1098 = .ok (.iconst 0, 1) := dk_3 (dk_at dksL_law_42 10 rfl rfl)
theorem dL_law_1099 : decode cL_law 1099 = .ok (.ireturn, 1) := dk_172 (dk_at dksL_law_42 11 rfl rfl)
theorem dL_law_1100 : decode cL_law 1100 = .ok (.iinc 3 6, 3) := dk_132 3 6 (dk_at dksL_law_42 12 rfl rfl)
theorem dL_law_1103 : decode cL_law 1103 = .ok (.goto (-1085), 3) := dk_167 251 195 (dk_at dksL_law_42 15 rfl rfl)
theorem dL_law_1106 : decode cL_law 1106 = .ok (.iconst 1, 1) := dk_4 (dk_at dksL_law_42 18 rfl rfl)
theorem dL_law_1107 : decode cL_law 1107 = .ok (.ireturn, 1) := dk_172 (dk_at dksL_law_42 19 rfl rfl)
