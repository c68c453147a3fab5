set_option maxRecDepth 100000
abbrev cX5_longest : ByteArray := prog_22_method_43_code
def yX5_longest : MethodName := ⟨RX5, "longest", "()I"⟩
def dkwX5_longest_1 : List UInt8 := [132, 2, 1, 167, 255, 234, 27, 4, 96, 172]
abbrev dktX5_longest_1 : List UInt8 := dkwX5_longest_1 ++ []
def dkwX5_longest_0 : List UInt8 := [3, 60, 3, 61, 28, 42, 180, 0, 145, 162, 0, 20, 27, 42, 28, 2, 182, 0, 184, 184, 0, 172, 60]
abbrev dktX5_longest_0 : List UInt8 := dkwX5_longest_0 ++ dktX5_longest_1
theorem dksX5_longest_0 : cX5_longest.data.toList.drop 0 = dktX5_longest_0 := by decide +kernel
theorem dksX5_longest_1 : cX5_longest.data.toList.drop 23 = dktX5_longest_1 := dk_seg dksX5_longest_0 23 rfl rfl
theorem dX5_longest_0 : decode cX5_longest 0 = .ok (.iconst 0, 1) := dk_3 (dk_at dksX5_longest_0 0 rfl rfl)
theorem dX5_longest_1 : decode cX5_longest 1 = .ok (.istore_n 1, 1) := dk_60 (dk_at dksX5_longest_0 1 rfl rfl)
theorem dX5_longest_2 : decode cX5_longest 2 = .ok (.iconst 0, 1) := dk_3 (dk_at dksX5_longest_0 2 rfl rfl)
theorem dX5_longest_3 : decode cX5_longest 3 = .ok (.istore_n 2, 1) := dk_61 (dk_at dksX5_longest_0 3 rfl rfl)
theorem dX5_longest_4 : decode cX5_longest 4 = .ok (.iload_n 2, 1) := dk_28 (dk_at dksX5_longest_0 4 rfl rfl)
theorem dX5_longest_5 : decode cX5_longest 5 = .ok (.aload_n 0, 1) := dk_42 (dk_at dksX5_longest_0 5 rfl rfl)
theorem dX5_longest_6 : decode cX5_longest 6 = .ok (.getfield 145, 3) := dk_180 0 145 (dk_at dksX5_longest_0 6 rfl rfl)
theorem dX5_longest_9 : decode cX5_longest 9 = .ok (.if_icmp .ge 20, 3) := dk_162 0 20 (dk_at dksX5_longest_0 9 rfl rfl)
theorem dX5_longest_12 : decode cX5_longest 12 = .ok (.iload_n 1, 1) := dk_27 (dk_at dksX5_longest_0 12 rfl rfl)
theorem dX5_longest_13 : decode cX5_longest 13 = .ok (.aload_n 0, 1) := dk_42 (dk_at dksX5_longest_0 13 rfl rfl)
theorem dX5_longest_14 : decode cX5_longest 14 = .ok (.iload_n 2, 1) := dk_28 (dk_at dksX5_longest_0 14 rfl rfl)
theorem dX5_longest_15 : decode cX5_longest 15 = .ok (.iconst (-1), 1) := dk_2 (dk_at dksX5_longest_0 15 rfl rfl)
theorem dX5_longest_16 : decode cX5_longest 16 = .ok (.invokevirtual 184, 3) := dk_182 0 184 (dk_at dksX5_longest_0 16 rfl rfl)
theorem dX5_longest_19 : decode cX5_longest 19 = .ok (.invokestatic 172, 3) := dk_184 0 172 (dk_at dksX5_longest_0 19 rfl rfl)
theorem dX5_longest_22 : decode cX5_longest 22 = .ok (.istore_n 1, 1) := dk_60 (dk_at dksX5_longest_0 22 rfl rfl)
theorem dX5_longest_23 : decode cX5_longest 23 = .ok (.iinc 2 1, 3) := dk_132 2 1 (dk_at dksX5_longest_1 0 rfl rfl)
theorem dX5_longest_26 : decode cX5_longest 26 = .ok (.goto (-22), 3) := dk_167 255 234 (dk_at dksX5_longest_1 3 rfl rfl)
theorem dX5_longest_29 : decode cX5_longest 29 = .ok (.iload_n 1, 1) := dk_27 (dk_at dksX5_longest_1 6 rfl rfl)
theorem dX5_longest_30 : decode cX5_longest 30 = .ok (.iconst 1, 1) := dk_4 (dk_at dksX5_longest_1 7 rfl rfl)
theorem dX5_longest_31 : decode cX5_longest 31 = .ok (.iadd, 1) := dk_96 (dk_at dksX5_longest_1 8 rfl rfl)
theorem dX5_longest_32 : decode cX5_longest 32 = .ok (.ireturn, 1) := dk_172 (dk_at dksX5_longest_1 9 rfl rfl)
abbrev cX5_mostBranches : ByteArray := prog_22_method_44_code
def yX5_mostBranches : MethodName := ⟨RX5, "mostBranches", "()I"⟩
def dkwX5_mostBranches_3 : List UInt8 := [167, 255, 194, 28, 172]
abbrev dktX5_mostBranches_3 : List UInt8 := dkwX5_mostBranches_3 ++ []
def dkwX5_mostBranches_2 : List UInt8 := [2, 182, 1, 26, 87, 28, 42, 2, 182, 1, 30, 184, 0, 172, 61, 132, 4, 1, 167, 255, 211, 132, 3, 1]
abbrev dktX5_mostBranches_2 : List UInt8 := dkwX5_mostBranches_2 ++ dktX5_mostBranches_3
def dkwX5_mostBranches_1 : List UInt8 := [180, 0, 145, 162, 0, 42, 42, 29, 21, 4, 2, 182, 0, 180, 27, 4, 100, 160, 0, 22, 42, 29, 21, 4]
abbrev dktX5_mostBranches_1 : List UInt8 := dkwX5_mostBranches_1 ++ dktX5_mostBranches_2
def dkwX5_mostBranches_0 : List UInt8 := [42, 182, 1, 23, 60, 3, 61, 3, 62, 29, 42, 180, 0, 145, 162, 0, 60, 3, 54, 4, 21, 4, 42]
abbrev dktX5_mostBranches_0 : List UInt8 := dkwX5_mostBranches_0 ++ dktX5_mostBranches_1
theorem dksX5_mostBranches_0 : cX5_mostBranches.data.toList.drop 0 = dktX5_mostBranches_0 := by decide +kernel
theorem dksX5_mostBranches_1 : cX5_mostBranches.data.toList.drop 23 = dktX5_mostBranches_1 := dk_seg dksX5_mostBranches_0 23 rfl rfl
theorem dksX5_mostBranches_2 : cX5_mostBranches.data.toList.drop 47 = dktX5_mostBranches_2 := dk_seg dksX5_mostBranches_1 24 rfl rfl
theorem dksX5_mostBranches_3 : cX5_mostBranches.data.toList.drop 71 = dktX5_mostBranches_3 := dk_seg dksX5_mostBranches_2 24 rfl rfl
theorem dX5_mostBranches_0 : decode cX5_mostBranches 0 = .ok (.aload_n 0, 1) := dk_42 (dk_at dksX5_mostBranches_0 0 rfl rfl)
theorem dX5_mostBranches_1 : decode cX5_mostBranches 1 = .ok (.invokevirtual 279, 3) := dk_182 1 23 (dk_at dksX5_mostBranches_0 1 rfl rfl)
theorem dX5_mostBranches_4 : decode cX5_mostBranches 4 = .ok (.istore_n 1, 1) := dk_60 (dk_at dksX5_mostBranches_0 4 rfl rfl)
theorem dX5_mostBranches_5 : decode cX5_mostBranches 5 = .ok (.iconst 0, 1) := dk_3 (dk_at dksX5_mostBranches_0 5 rfl rfl)
theorem dX5_mostBranches_6 : decode cX5_mostBranches 6 = .ok (.istore_n 2, 1) := dk_61 (dk_at dksX5_mostBranches_0 6 rfl rfl)
theorem dX5_mostBranches_7 : decode cX5_mostBranches 7 = .ok (.iconst 0, 1) := dk_3 (dk_at dksX5_mostBranches_0 7 rfl rfl)
theorem dX5_mostBranches_8 : decode cX5_mostBranches 8 = .ok (.istore_n 3, 1) := dk_62 (dk_at dksX5_mostBranches_0 8 rfl rfl)
theorem dX5_mostBranches_9 : decode cX5_mostBranches 9 = .ok (.iload_n 3, 1) := dk_29 (dk_at dksX5_mostBranches_0 9 rfl rfl)
theorem dX5_mostBranches_10 : decode cX5_mostBranches 10 = .ok (.aload_n 0, 1) := dk_42 (dk_at dksX5_mostBranches_0 10 rfl rfl)
theorem dX5_mostBranches_11 : decode cX5_mostBranches 11 = .ok (.getfield 145, 3) := dk_180 0 145 (dk_at dksX5_mostBranches_0 11 rfl rfl)
theorem dX5_mostBranches_14 : decode cX5_mostBranches 14 = .ok (.if_icmp .ge 60, 3) := dk_162 0 60 (dk_at dksX5_mostBranches_0 14 rfl rfl)
theorem dX5_mostBranches_17 : decode cX5_mostBranches 17 = .ok (.iconst 0, 1) := dk_3 (dk_at dksX5_mostBranches_0 17 rfl rfl)
theorem dX5_mostBranches_18 : decode cX5_mostBranches 18 = .ok (.istore 4, 2) := dk_54 4 (dk_at dksX5_mostBranches_0 18 rfl rfl)
theorem dX5_mostBranches_20 : decode cX5_mostBranches 20 = .ok (.iload 4, 2) := dk_21 4 (dk_at dksX5_mostBranches_0 20 rfl rfl)
theorem dX5_mostBranches_22 : decode cX5_mostBranches 22 = .ok (.aload_n 0, 1) := dk_42 (dk_at dksX5_mostBranches_0 22 rfl rfl)
theorem dX5_mostBranches_23 : decode cX5_mostBranches 23 = .ok (.getfield 145, 3) := dk_180 0 145 (dk_at dksX5_mostBranches_1 0 rfl rfl)
theorem dX5_mostBranches_26 : decode cX5_mostBranches 26 = .ok (.if_icmp .ge 42, 3) := dk_162 0 42 (dk_at dksX5_mostBranches_1 3 rfl rfl)
theorem dX5_mostBranches_29 : decode cX5_mostBranches 29 = .ok (.aload_n 0, 1) := dk_42 (dk_at dksX5_mostBranches_1 6 rfl rfl)
theorem dX5_mostBranches_30 : decode cX5_mostBranches 30 = .ok (.iload_n 3, 1) := dk_29 (dk_at dksX5_mostBranches_1 7 rfl rfl)
theorem dX5_mostBranches_31 : decode cX5_mostBranches 31 = .ok (.iload 4, 2) := dk_21 4 (dk_at dksX5_mostBranches_1 8 rfl rfl)
theorem dX5_mostBranches_33 : decode cX5_mostBranches 33 = .ok (.iconst (-1), 1) := dk_2 (dk_at dksX5_mostBranches_1 10 rfl rfl)
theorem dX5_mostBranches_34 : decode cX5_mostBranches 34 = .ok (.invokevirtual 180, 3) := dk_182 0 180 (dk_at dksX5_mostBranches_1 11 rfl rfl)
theorem dX5_mostBranches_37 : decode cX5_mostBranches 37 = .ok (.iload_n 1, 1) := dk_27 (dk_at dksX5_mostBranches_1 14 rfl rfl)
theorem dX5_mostBranches_38 : decode cX5_mostBranches 38 = .ok (.iconst 1, 1) := dk_4 (dk_at dksX5_mostBranches_1 15 rfl rfl)
theorem dX5_mostBranches_39 : decode cX5_mostBranches 39 = .ok (.isub, 1) := dk_100 (dk_at dksX5_mostBranches_1 16 rfl rfl)
theorem dX5_mostBranches_40 : decode cX5_mostBranches 40 = .ok (.if_icmp .ne 22, 3) := dk_160 0 22 (dk_at dksX5_mostBranches_1 17 rfl rfl)
theorem dX5_mostBranches_43 : decode cX5_mostBranches 43 = .ok (.aload_n 0, 1) := dk_42 (dk_at dksX5_mostBranches_1 20 rfl rfl)
theorem dX5_mostBranches_44 : decode cX5_mostBranches 44 = .ok (.iload_n 3, 1) := dk_29 (dk_at dksX5_mostBranches_1 21 rfl rfl)
theorem dX5_mostBranches_45 : decode cX5_mostBranches 45 = .ok (.iload 4, 2) := dk_21 4 (dk_at dksX5_mostBranches_1 22 rfl rfl)
theorem dX5_mostBranches_47 : decode cX5_mostBranches 47 = .ok (.iconst (-1), 1) := dk_2 (dk_at dksX5_mostBranches_2 0 rfl rfl)
theorem dX5_mostBranches_48 : decode cX5_mostBranches 48 = .ok (.invokevirtual 282, 3) := dk_182 1 26 (dk_at dksX5_mostBranches_2 1 rfl rfl)
theorem dX5_mostBranches_51 : decode cX5_mostBranches 51 = .ok (.pop, 1) := dk_87 (dk_at dksX5_mostBranches_2 4 rfl rfl)
theorem dX5_mostBranches_52 : decode cX5_mostBranches 52 = .ok (.iload_n 2, 1) := dk_28 (dk_at dksX5_mostBranches_2 5 rfl rfl)
theorem dX5_mostBranches_53 : decode cX5_mostBranches 53 = .ok (.aload_n 0, 1) := dk_42 (dk_at dksX5_mostBranches_2 6 rfl rfl)
theorem dX5_mostBranches_54 : decode cX5_mostBranches 54 = .ok (.iconst (-1), 1) := dk_2 (dk_at dksX5_mostBranches_2 7 rfl rfl)
theorem dX5_mostBranches_55 : decode cX5_mostBranches 55 = .ok (.invokevirtual 286, 3) := dk_182 1 30 (dk_at dksX5_mostBranches_2 8 rfl rfl)
theorem dX5_mostBranches_58 : decode cX5_mostBranches 58 = .ok (.invokestatic 172, 3) := dk_184 0 172 (dk_at dksX5_mostBranches_2 11 rfl rfl)
theorem dX5_mostBranches_61 : decode cX5_mostBranches 61 = .ok (.istore_n 2, 1) := dk_61 (dk_at dksX5_mostBranches_2 14 rfl rfl)
theorem dX5_mostBranches_62 : decode cX5_mostBranches 62 = .ok (.iinc 4 1, 3) := dk_132 4 1 (dk_at dksX5_mostBranches_2 15 rfl rfl)
theorem dX5_mostBranches_65 : decode cX5_mostBranches 65 = .ok (.goto (-45), 3) := dk_167 255 211 (dk_at dksX5_mostBranches_2 18 rfl rfl)
theorem dX5_mostBranches_68 : decode cX5_mostBranches 68 = .ok (.iinc 3 1, 3) := dk_132 3 1 (dk_at dksX5_mostBranches_2 21 rfl rfl)
theorem dX5_mostBranches_71 : decode cX5_mostBranches 71 = .ok (.goto (-62), 3) := dk_167 255 194 (dk_at dksX5_mostBranches_3 0 rfl rfl)
theorem dX5_mostBranches_74 : decode cX5_mostBranches 74 = .ok (.iload_n 2, 1) := dk_28 (dk_at dksX5_mostBranches_3 3 rfl rfl)
theorem dX5_mostBranches_75 : decode cX5_mostBranches 75 = .ok (.ireturn, 1) := dk_172 (dk_at dksX5_mostBranches_3 4 rfl rfl)
abbrev cX5_list : ByteArray := prog_22_method_47_code
def yX5_list : MethodName := ⟨RX5, "list", "(I)I"⟩
def dkwX5_list_0 : List UInt8 := [42, 27, 182, 0, 232, 153, 0, 12, 42, 180, 0, 28, 27, 46, 167, 0, 4, 2, 172]
abbrev dktX5_list_0 : List UInt8 := dkwX5_list_0 ++ []
theorem dksX5_list_0 : cX5_list.data.toList.drop 0 = dktX5_list_0 := by decide +kernel
theorem dX5_list_0 : decode cX5_list 0 = .ok (.aload_n 0, 1) := dk_42 (dk_at dksX5_list_0 0 rfl rfl)
theorem dX5_list_1 : decode cX5_list 1 = .ok (.iload_n 1, 1) := dk_27 (dk_at dksX5_list_0 1 rfl rfl)
theorem dX5_list_2 : decode cX5_list 2 = .ok (.invokevirtual 232, 3) := dk_182 0 232 (dk_at dksX5_list_0 2 rfl rfl)
theorem dX5_list_5 : decode cX5_list 5 = .ok (.ifCond .eq 12, 3) := dk_153 0 12 (dk_at dksX5_list_0 5 rfl rfl)
theorem dX5_list_8 : decode cX5_list 8 = .ok (.aload_n 0, 1) := dk_42 (dk_at dksX5_list_0 8 rfl rfl)
theorem dX5_list_9 : decode cX5_list 9 = .ok (.getfield 28, 3) := dk_180 0 28 (dk_at dksX5_list_0 9 rfl rfl)
theorem dX5_list_12 : decode cX5_list 12 = .ok (.iload_n 1, 1) := dk_27 (dk_at dksX5_list_0 12 rfl rfl)
theorem dX5_list_13 : decode cX5_list 13 = .ok (.iaload, 1) := dk_46 (dk_at dksX5_list_0 13 rfl rfl)
theorem dX5_list_14 : decode cX5_list 14 = .ok (.goto 4, 3) := dk_167 0 4 (dk_at dksX5_list_0 14 rfl rfl)
theorem dX5_list_17 : decode cX5_list 17 = .ok (.iconst (-1), 1) := dk_2 (dk_at dksX5_list_0 17 rfl rfl)
theorem dX5_list_18 : decode cX5_list 18 = .ok (.ireturn, 1) := dk_172 (dk_at dksX5_list_0 18 rfl rfl)
abbrev cX5_key : ByteArray := prog_22_method_48_code
def yX5_key : MethodName := ⟨RX5, "key", "(II)I"⟩
def dkwX5_key_0 : List UInt8 := [42, 27, 28, 182, 0, 253, 153, 0, 12, 42, 27, 28, 182, 0, 235, 167, 0, 4, 2, 172]
abbrev dktX5_key_0 : List UInt8 := dkwX5_key_0 ++ []
theorem dksX5_key_0 : cX5_key.data.toList.drop 0 = dktX5_key_0 := by decide +kernel
theorem dX5_key_0 : decode cX5_key 0 = .ok (.aload_n 0, 1) := dk_42 (dk_at dksX5_key_0 0 rfl rfl)
theorem dX5_key_1 : decode cX5_key 1 = .ok (.iload_n 1, 1) := dk_27 (dk_at dksX5_key_0 1 rfl rfl)
theorem dX5_key_2 : decode cX5_key 2 = .ok (.iload_n 2, 1) := dk_28 (dk_at dksX5_key_0 2 rfl rfl)
theorem dX5_key_3 : decode cX5_key 3 = .ok (.invokevirtual 253, 3) := dk_182 0 253 (dk_at dksX5_key_0 3 rfl rfl)
theorem dX5_key_6 : decode cX5_key 6 = .ok (.ifCond .eq 12, 3) := dk_153 0 12 (dk_at dksX5_key_0 6 rfl rfl)
theorem dX5_key_9 : decode cX5_key 9 = .ok (.aload_n 0, 1) := dk_42 (dk_at dksX5_key_0 9 rfl rfl)
theorem dX5_key_10 : decode cX5_key 10 = .ok (.iload_n 1, 1) := dk_27 (dk_at dksX5_key_0 10 rfl rfl)
theorem dX5_key_11 : decode cX5_key 11 = .ok (.iload_n 2, 1) := dk_28 (dk_at dksX5_key_0 11 rfl rfl)
theorem dX5_key_12 : decode cX5_key 12 = .ok (.invokevirtual 235, 3) := dk_182 0 235 (dk_at dksX5_key_0 12 rfl rfl)
theorem dX5_key_15 : decode cX5_key 15 = .ok (.goto 4, 3) := dk_167 0 4 (dk_at dksX5_key_0 15 rfl rfl)
theorem dX5_key_18 : decode cX5_key 18 = .ok (.iconst (-1), 1) := dk_2 (dk_at dksX5_key_0 18 rfl rfl)
theorem dX5_key_19 : decode cX5_key 19 = .ok (.ireturn, 1) := dk_172 (dk_at dksX5_key_0 19 rfl rfl)
abbrev cX5_ranked : ByteArray := prog_22_method_49_code
def yX5_ranked : MethodName := ⟨RX5, "ranked", "(III)I"⟩
def dkwX5_ranked_6 : List UInt8 := [132, 6, 1, 167, 255, 191, 21, 5, 29, 160, 0, 6, 21, 4, 172, 132, 4, 1, 167, 255, 159, 2, 172]
abbrev dktX5_ranked_6 : List UInt8 := dkwX5_ranked_6 ++ []
def dkwX5_ranked_5 : List UInt8 := [180, 0, 34, 21, 4, 46, 160, 0, 14, 21, 6, 21, 4, 162, 0, 7, 4, 167, 0, 4, 3, 96, 54, 5]
abbrev dktX5_ranked_5 : List UInt8 := dkwX5_ranked_5 ++ dktX5_ranked_6
def dkwX5_ranked_4 : List UInt8 := [180, 0, 34, 21, 6, 46, 42, 180, 0, 34, 21, 4, 46, 163, 0, 27, 42, 180, 0, 34, 21, 6, 46, 42]
abbrev dktX5_ranked_4 : List UInt8 := dkwX5_ranked_4 ++ dktX5_ranked_5
def dkwX5_ranked_3 : List UInt8 := [46, 162, 0, 92, 3, 54, 5, 3, 54, 6, 21, 6, 42, 180, 0, 28, 27, 46, 162, 0, 60, 21, 5, 42]
abbrev dktX5_ranked_3 : List UInt8 := dkwX5_ranked_3 ++ dktX5_ranked_4
def dkwX5_ranked_2 : List UInt8 := [21, 4, 42, 28, 182, 1, 48, 79, 132, 4, 1, 167, 255, 223, 3, 54, 4, 21, 4, 42, 180, 0, 28, 27]
abbrev dktX5_ranked_2 : List UInt8 := dkwX5_ranked_2 ++ dktX5_ranked_3
def dkwX5_ranked_1 : List UInt8 := [54, 4, 21, 4, 42, 180, 0, 28, 27, 46, 162, 0, 28, 42, 27, 21, 4, 182, 0, 255, 42, 180, 0, 34]
abbrev dktX5_ranked_1 : List UInt8 := dkwX5_ranked_1 ++ dktX5_ranked_2
def dkwX5_ranked_0 : List UInt8 := [42, 27, 29, 182, 0, 253, 153, 0, 15, 28, 133, 9, 20, 0, 230, 184, 0, 148, 154, 0, 5, 2, 172, 3]
abbrev dktX5_ranked_0 : List UInt8 := dkwX5_ranked_0 ++ dktX5_ranked_1
theorem dksX5_ranked_0 : cX5_ranked.data.toList.drop 0 = dktX5_ranked_0 := by decide +kernel
theorem dksX5_ranked_1 : cX5_ranked.data.toList.drop 24 = dktX5_ranked_1 := dk_seg dksX5_ranked_0 24 rfl rfl
theorem dksX5_ranked_2 : cX5_ranked.data.toList.drop 48 = dktX5_ranked_2 := dk_seg dksX5_ranked_1 24 rfl rfl
theorem dksX5_ranked_3 : cX5_ranked.data.toList.drop 72 = dktX5_ranked_3 := dk_seg dksX5_ranked_2 24 rfl rfl
theorem dksX5_ranked_4 : cX5_ranked.data.toList.drop 96 = dktX5_ranked_4 := dk_seg dksX5_ranked_3 24 rfl rfl
theorem dksX5_ranked_5 : cX5_ranked.data.toList.drop 120 = dktX5_ranked_5 := dk_seg dksX5_ranked_4 24 rfl rfl
theorem dksX5_ranked_6 : cX5_ranked.data.toList.drop 144 = dktX5_ranked_6 := dk_seg dksX5_ranked_5 24 rfl rfl
theorem dX5_ranked_0 : decode cX5_ranked 0 = .ok (.aload_n 0, 1) := dk_42 (dk_at dksX5_ranked_0 0 rfl rfl)
theorem dX5_ranked_1 : decode cX5_ranked 1 = .ok (.iload_n 1, 1) := dk_27 (dk_at dksX5_ranked_0 1 rfl rfl)
theorem dX5_ranked_2 : decode cX5_ranked 2 = .ok (.iload_n 3, 1) := dk_29 (dk_at dksX5_ranked_0 2 rfl rfl)
theorem dX5_ranked_3 : decode cX5_ranked 3 = .ok (.invokevirtual 253, 3) := dk_182 0 253 (dk_at dksX5_ranked_0 3 rfl rfl)
theorem dX5_ranked_6 : decode cX5_ranked 6 = .ok (.ifCond .eq 15, 3) := dk_153 0 15 (dk_at dksX5_ranked_0 6 rfl rfl)
theorem dX5_ranked_9 : decode cX5_ranked 9 = .ok (.iload_n 2, 1) := dk_28 (dk_at dksX5_ranked_0 9 rfl rfl)
theorem dX5_ranked_10 : decode cX5_ranked 10 = .ok (.i2l, 1) := dk_133 (dk_at dksX5_ranked_0 10 rfl rfl)
theorem dX5_ranked_11 : decode cX5_ranked 11 = .ok (.lconst 0, 1) := dk_9 (dk_at dksX5_ranked_0 11 rfl rfl)
theorem dX5_ranked_12 : decode cX5_ranked 12 = .ok (.ldc2_w 230, 3) := dk_20 0 230 (dk_at dksX5_ranked_0 12 rfl rfl)
theorem dX5_ranked_15 : decode cX5_ranked 15 = .ok (.invokestatic 148, 3) := dk_184 0 148 (dk_at dksX5_ranked_0 15 rfl rfl)
theorem dX5_ranked_18 : decode cX5_ranked 18 = .ok (.ifCond .ne 5, 3) := dk_154 0 5 (dk_at dksX5_ranked_0 18 rfl rfl)
theorem dX5_ranked_21 : decode cX5_ranked 21 = .ok (.iconst (-1), 1) := dk_2 (dk_at dksX5_ranked_0 21 rfl rfl)
theorem dX5_ranked_22 : decode cX5_ranked 22 = .ok (.ireturn, 1) := dk_172 (dk_at dksX5_ranked_0 22 rfl rfl)
theorem dX5_ranked_23 : decode cX5_ranked 23 = .ok (.iconst 0, 1) := dk_3 (dk_at dksX5_ranked_0 23 rfl rfl)
theorem dX5_ranked_24 : decode cX5_ranked 24 = .ok (.istore 4, 2) := dk_54 4 (dk_at dksX5_ranked_1 0 rfl rfl)
theorem dX5_ranked_26 : decode cX5_ranked 26 = .ok (.iload 4, 2) := dk_21 4 (dk_at dksX5_ranked_1 2 rfl rfl)
theorem dX5_ranked_28 : decode cX5_ranked 28 = .ok (.aload_n 0, 1) := dk_42 (dk_at dksX5_ranked_1 4 rfl rfl)
theorem dX5_ranked_29 : decode cX5_ranked 29 = .ok (.getfield 28, 3) := dk_180 0 28 (dk_at dksX5_ranked_1 5 rfl rfl)
theorem dX5_ranked_32 : decode cX5_ranked 32 = .ok (.iload_n 1, 1) := dk_27 (dk_at dksX5_ranked_1 8 rfl rfl)
theorem dX5_ranked_33 : decode cX5_ranked 33 = .ok (.iaload, 1) := dk_46 (dk_at dksX5_ranked_1 9 rfl rfl)
theorem dX5_ranked_34 : decode cX5_ranked 34 = .ok (.if_icmp .ge 28, 3) := dk_162 0 28 (dk_at dksX5_ranked_1 10 rfl rfl)
theorem dX5_ranked_37 : decode cX5_ranked 37 = .ok (.aload_n 0, 1) := dk_42 (dk_at dksX5_ranked_1 13 rfl rfl)
theorem dX5_ranked_38 : decode cX5_ranked 38 = .ok (.iload_n 1, 1) := dk_27 (dk_at dksX5_ranked_1 14 rfl rfl)
theorem dX5_ranked_39 : decode cX5_ranked 39 = .ok (.iload 4, 2) := dk_21 4 (dk_at dksX5_ranked_1 15 rfl rfl)
theorem dX5_ranked_41 : decode cX5_ranked 41 = .ok (.invokevirtual 255, 3) := dk_182 0 255 (dk_at dksX5_ranked_1 17 rfl rfl)
theorem dX5_ranked_44 : decode cX5_ranked 44 = .ok (.aload_n 0, 1) := dk_42 (dk_at dksX5_ranked_1 20 rfl rfl)
theorem dX5_ranked_45 : decode cX5_ranked 45 = .ok (.getfield 34, 3) := dk_180 0 34 (dk_at dksX5_ranked_1 21 rfl rfl)
theorem dX5_ranked_48 : decode cX5_ranked 48 = .ok (.iload 4, 2) := dk_21 4 (dk_at dksX5_ranked_2 0 rfl rfl)
theorem dX5_ranked_50 : decode cX5_ranked 50 = .ok (.aload_n 0, 1) := dk_42 (dk_at dksX5_ranked_2 2 rfl rfl)
theorem dX5_ranked_51 : decode cX5_ranked 51 = .ok (.iload_n 2, 1) := dk_28 (dk_at dksX5_ranked_2 3 rfl rfl)
theorem dX5_ranked_52 : decode cX5_ranked 52 = .ok (.invokevirtual 304, 3) := dk_182 1 48 (dk_at dksX5_ranked_2 4 rfl rfl)
theorem dX5_ranked_55 : decode cX5_ranked 55 = .ok (.iastore, 1) := dk_79 (dk_at dksX5_ranked_2 7 rfl rfl)
theorem dX5_ranked_56 : decode cX5_ranked 56 = .ok (.iinc 4 1, 3) := dk_132 4 1 (dk_at dksX5_ranked_2 8 rfl rfl)
theorem dX5_ranked_59 : decode cX5_ranked 59 = .ok (.goto (-33), 3) := dk_167 255 223 (dk_at dksX5_ranked_2 11 rfl rfl)
theorem dX5_ranked_62 : decode cX5_ranked 62 = .ok (.iconst 0, 1) := dk_3 (dk_at dksX5_ranked_2 14 rfl rfl)
theorem dX5_ranked_63 : decode cX5_ranked 63 = .ok (.istore 4, 2) := dk_54 4 (dk_at dksX5_ranked_2 15 rfl rfl)
theorem dX5_ranked_65 : decode cX5_ranked 65 = .ok (.iload 4, 2) := dk_21 4 (dk_at dksX5_ranked_2 17 rfl rfl)
theorem dX5_ranked_67 : decode cX5_ranked 67 = .ok (.aload_n 0, 1) := dk_42 (dk_at dksX5_ranked_2 19 rfl rfl)
theorem dX5_ranked_68 : decode cX5_ranked 68 = .ok (.getfield 28, 3) := dk_180 0 28 (dk_at dksX5_ranked_2 20 rfl rfl)
theorem dX5_ranked_71 : decode cX5_ranked 71 = .ok (.iload_n 1, 1) := dk_27 (dk_at dksX5_ranked_2 23 rfl rfl)
theorem dX5_ranked_72 : decode cX5_ranked 72 = .ok (.iaload, 1) := dk_46 (dk_at dksX5_ranked_3 0 rfl rfl)
theorem dX5_ranked_73 : decode cX5_ranked 73 = .ok (.if_icmp .ge 92, 3) := dk_162 0 92 (dk_at dksX5_ranked_3 1 rfl rfl)
theorem dX5_ranked_76 : decode cX5_ranked 76 = .ok (.iconst 0, 1) := dk_3 (dk_at dksX5_ranked_3 4 rfl rfl)
theorem dX5_ranked_77 : decode cX5_ranked 77 = .ok (.istore 5, 2) := dk_54 5 (dk_at dksX5_ranked_3 5 rfl rfl)
theorem dX5_ranked_79 : decode cX5_ranked 79 = .ok (.iconst 0, 1) := dk_3 (dk_at dksX5_ranked_3 7 rfl rfl)
theorem dX5_ranked_80 : decode cX5_ranked 80 = .ok (.istore 6, 2) := dk_54 6 (dk_at dksX5_ranked_3 8 rfl rfl)
theorem dX5_ranked_82 : decode cX5_ranked 82 = .ok (.iload 6, 2) := dk_21 6 (dk_at dksX5_ranked_3 10 rfl rfl)
theorem dX5_ranked_84 : decode cX5_ranked 84 = .ok (.aload_n 0, 1) := dk_42 (dk_at dksX5_ranked_3 12 rfl rfl)
theorem dX5_ranked_85 : decode cX5_ranked 85 = .ok (.getfield 28, 3) := dk_180 0 28 (dk_at dksX5_ranked_3 13 rfl rfl)
theorem dX5_ranked_88 : decode cX5_ranked 88 = .ok (.iload_n 1, 1) := dk_27 (dk_at dksX5_ranked_3 16 rfl rfl)
theorem dX5_ranked_89 : decode cX5_ranked 89 = .ok (.iaload, 1) := dk_46 (dk_at dksX5_ranked_3 17 rfl rfl)
theorem dX5_ranked_90 : decode cX5_ranked 90 = .ok (.if_icmp .ge 60, 3) := dk_162 0 60 (dk_at dksX5_ranked_3 18 rfl rfl)
theorem dX5_ranked_93 : decode cX5_ranked 93 = .ok (.iload 5, 2) := dk_21 5 (dk_at dksX5_ranked_3 21 rfl rfl)
theorem dX5_ranked_95 : decode cX5_ranked 95 = .ok (.aload_n 0, 1) := dk_42 (dk_at dksX5_ranked_3 23 rfl rfl)
theorem dX5_ranked_96 : decode cX5_ranked 96 = .ok (.getfield 34, 3) := dk_180 0 34 (dk_at dksX5_ranked_4 0 rfl rfl)
theorem dX5_ranked_99 : decode cX5_ranked 99 = .ok (.iload 6, 2) := dk_21 6 (dk_at dksX5_ranked_4 3 rfl rfl)
theorem dX5_ranked_101 : decode cX5_ranked 101 = .ok (.iaload, 1) := dk_46 (dk_at dksX5_ranked_4 5 rfl rfl)
theorem dX5_ranked_102 : decode cX5_ranked 102 = .ok (.aload_n 0, 1) := dk_42 (dk_at dksX5_ranked_4 6 rfl rfl)
theorem dX5_ranked_103 : decode cX5_ranked 103 = .ok (.getfield 34, 3) := dk_180 0 34 (dk_at dksX5_ranked_4 7 rfl rfl)
theorem dX5_ranked_106 : decode cX5_ranked 106 = .ok (.iload 4, 2) := dk_21 4 (dk_at dksX5_ranked_4 10 rfl rfl)
theorem dX5_ranked_108 : decode cX5_ranked 108 = .ok (.iaload, 1) := dk_46 (dk_at dksX5_ranked_4 12 rfl rfl)
theorem dX5_ranked_109 : decode cX5_ranked 109 = .ok (.if_icmp .gt 27, 3) := dk_163 0 27 (dk_at dksX5_ranked_4 13 rfl rfl)
theorem dX5_ranked_112 : decode cX5_ranked 112 = .ok (.aload_n 0, 1) := dk_42 (dk_at dksX5_ranked_4 16 rfl rfl)
theorem dX5_ranked_113 : decode cX5_ranked 113 = .ok (.getfield 34, 3) := dk_180 0 34 (dk_at dksX5_ranked_4 17 rfl rfl)
theorem dX5_ranked_116 : decode cX5_ranked 116 = .ok (.iload 6, 2) := dk_21 6 (dk_at dksX5_ranked_4 20 rfl rfl)
theorem dX5_ranked_118 : decode cX5_ranked 118 = .ok (.iaload, 1) := dk_46 (dk_at dksX5_ranked_4 22 rfl rfl)
theorem dX5_ranked_119 : decode cX5_ranked 119 = .ok (.aload_n 0, 1) := dk_42 (dk_at dksX5_ranked_4 23 rfl rfl)
theorem dX5_ranked_120 : decode cX5_ranked 120 = .ok (.getfield 34, 3) := dk_180 0 34 (dk_at dksX5_ranked_5 0 rfl rfl)
theorem dX5_ranked_123 : decode cX5_ranked 123 = .ok (.iload 4, 2) := dk_21 4 (dk_at dksX5_ranked_5 3 rfl rfl)
theorem dX5_ranked_125 : decode cX5_ranked 125 = .ok (.iaload, 1) := dk_46 (dk_at dksX5_ranked_5 5 rfl rfl)
theorem dX5_ranked_126 : decode cX5_ranked 126 = .ok (.if_icmp .ne 14, 3) := dk_160 0 14 (dk_at dksX5_ranked_5 6 rfl rfl)
theorem dX5_ranked_129 : decode cX5_ranked 129 = .ok (.iload 6, 2) := dk_21 6 (dk_at dksX5_ranked_5 9 rfl rfl)
theorem dX5_ranked_131 : decode cX5_ranked 131 = .ok (.iload 4, 2) := dk_21 4 (dk_at dksX5_ranked_5 11 rfl rfl)
theorem dX5_ranked_133 : decode cX5_ranked 133 = .ok (.if_icmp .ge 7, 3) := dk_162 0 7 (dk_at dksX5_ranked_5 13 rfl rfl)
theorem dX5_ranked_136 : decode cX5_ranked 136 = .ok (.iconst 1, 1) := dk_4 (dk_at dksX5_ranked_5 16 rfl rfl)
theorem dX5_ranked_137 : decode cX5_ranked 137 = .ok (.goto 4, 3) := dk_167 0 4 (dk_at dksX5_ranked_5 17 rfl rfl)
theorem dX5_ranked_140 : decode cX5_ranked 140 = .ok (.iconst 0, 1) := dk_3 (dk_at dksX5_ranked_5 20 rfl rfl)
theorem dX5_ranked_141 : decode cX5_ranked 141 = .ok (.iadd, 1) := dk_96 (dk_at dksX5_ranked_5 21 rfl rfl)
theorem dX5_ranked_142 : decode cX5_ranked 142 = .ok (.istore 5, 2) := dk_54 5 (dk_at dksX5_ranked_5 22 rfl rfl)
theorem dX5_ranked_144 : decode cX5_ranked 144 = .ok (.iinc 6 1, 3) := dk_132 6 1 (dk_at dksX5_ranked_6 0 rfl rfl)
theorem dX5_ranked_147 : decode cX5_ranked 147 = .ok (.goto (-65), 3) := dk_167 255 191 (dk_at dksX5_ranked_6 3 rfl rfl)
theorem dX5_ranked_150 : decode cX5_ranked 150 = .ok (.iload 5, 2) := dk_21 5 (dk_at dksX5_ranked_6 6 rfl rfl)
theorem dX5_ranked_152 : decode cX5_ranked 152 = .ok (.iload_n 3, 1) := dk_29 (dk_at dksX5_ranked_6 8 rfl rfl)
theorem dX5_ranked_153 : decode cX5_ranked 153 = .ok (.if_icmp .ne 6, 3) := dk_160 0 6 (dk_at dksX5_ranked_6 9 rfl rfl)
theorem dX5_ranked_156 : decode cX5_ranked 156 = .ok (.iload 4, 2) := dk_21 4 (dk_at dksX5_ranked_6 12 rfl rfl)
theorem dX5_ranked_158 : decode cX5_ranked 158 = .ok (.ireturn, 1) := dk_172 (dk_at dksX5_ranked_6 14 rfl rfl)
theorem dX5_ranked_159 : decode cX5_ranked 159 = .ok (.iinc 4 1, 3) := dk_132 4 1 (dk_at dksX5_ranked_6 15 rfl rfl)
theorem dX5_ranked_162 : decode cX5_ranked 162 = .ok (.goto (-97), 3) := dk_167 255 159 (dk_at dksX5_ranked_6 18 rfl rfl)
theorem dX5_ranked_165 : decode cX5_ranked 165 = .ok (.iconst (-1), 1) := dk_2 (dk_at dksX5_ranked_6 21 rfl rfl)
theorem dX5_ranked_166 : decode cX5_ranked 166 = .ok (.ireturn, 1) := dk_172 (dk_at dksX5_ranked_6 22 rfl rfl)
abbrev cX5_counted : ByteArray := prog_22_method_54_code
def yX5_counted : MethodName := ⟨RX5, "counted", "(II)J"⟩
def dkwX5_counted_5 : List UInt8 := [173, 42, 7, 3, 28, 4, 100, 182, 1, 55, 42, 28, 182, 1, 69, 101, 33, 97, 173]
abbrev dktX5_counted_5 : List UInt8 := dkwX5_counted_5 ++ []
def dkwX5_counted_4 : List UInt8 := [42, 180, 0, 37, 28, 47, 173, 42, 7, 3, 28, 4, 100, 182, 1, 55, 173, 42, 28, 182, 1, 69, 173, 33]
abbrev dktX5_counted_4 : List UInt8 := dkwX5_counted_4 ++ dktX5_counted_5
def dkwX5_counted_3 : List UInt8 := [170, 0, 0, 0, 0, 0, 56, 0, 0, 0, 0, 0, 0, 0, 3, 0, 0, 0, 31, 0, 0, 0, 38, 0, 0, 0, 48, 0, 0, 0, 54]
abbrev dktX5_counted_3 : List UInt8 := dkwX5_counted_3 ++ dktX5_counted_4
def dkwX5_counted_2 : List UInt8 := [167, 0, 4, 9, 66, 27]
abbrev dktX5_counted_2 : List UInt8 := dkwX5_counted_2 ++ dktX5_counted_3
def dkwX5_counted_1 : List UInt8 := [20, 1, 63, 173, 42, 28, 182, 1, 65, 28, 5, 112, 154, 0, 14, 42, 180, 0, 37, 28, 5, 108, 47]
abbrev dktX5_counted_1 : List UInt8 := dkwX5_counted_1 ++ dktX5_counted_2
def dkwX5_counted_0 : List UInt8 := [27, 133, 9, 20, 1, 59, 184, 0, 148, 153, 0, 15, 28, 133, 10, 20, 1, 61, 184, 0, 148, 154, 0, 7]
abbrev dktX5_counted_0 : List UInt8 := dkwX5_counted_0 ++ dktX5_counted_1
theorem dksX5_counted_0 : cX5_counted.data.toList.drop 0 = dktX5_counted_0 := by decide +kernel
theorem dksX5_counted_1 : cX5_counted.data.toList.drop 24 = dktX5_counted_1 := dk_seg dksX5_counted_0 24 rfl rfl
theorem dksX5_counted_2 : cX5_counted.data.toList.drop 47 = dktX5_counted_2 := dk_seg dksX5_counted_1 23 rfl rfl
theorem dksX5_counted_3 : cX5_counted.data.toList.drop 53 = dktX5_counted_3 := dk_seg dksX5_counted_2 6 rfl rfl
theorem dksX5_counted_4 : cX5_counted.data.toList.drop 84 = dktX5_counted_4 := dk_seg dksX5_counted_3 31 rfl rfl
theorem dksX5_counted_5 : cX5_counted.data.toList.drop 108 = dktX5_counted_5 := dk_seg dksX5_counted_4 24 rfl rfl
theorem dX5_counted_0 : decode cX5_counted 0 = .ok (.iload_n 1, 1) := dk_27 (dk_at dksX5_counted_0 0 rfl rfl)
theorem dX5_counted_1 : decode cX5_counted 1 = .ok (.i2l, 1) := dk_133 (dk_at dksX5_counted_0 1 rfl rfl)
theorem dX5_counted_2 : decode cX5_counted 2 = .ok (.lconst 0, 1) := dk_9 (dk_at dksX5_counted_0 2 rfl rfl)
theorem dX5_counted_3 : decode cX5_counted 3 = .ok (.ldc2_w 315, 3) := dk_20 1 59 (dk_at dksX5_counted_0 3 rfl rfl)
theorem dX5_counted_6 : decode cX5_counted 6 = .ok (.invokestatic 148, 3) := dk_184 0 148 (dk_at dksX5_counted_0 6 rfl rfl)
theorem dX5_counted_9 : decode cX5_counted 9 = .ok (.ifCond .eq 15, 3) := dk_153 0 15 (dk_at dksX5_counted_0 9 rfl rfl)
theorem dX5_counted_12 : decode cX5_counted 12 = .ok (.iload_n 2, 1) := dk_28 (dk_at dksX5_counted_0 12 rfl rfl)
theorem dX5_counted_13 : decode cX5_counted 13 = .ok (.i2l, 1) := dk_133 (dk_at dksX5_counted_0 13 rfl rfl)
theorem dX5_counted_14 : decode cX5_counted 14 = .ok (.lconst 1, 1) := dk_10 (dk_at dksX5_counted_0 14 rfl rfl)
theorem dX5_counted_15 : decode cX5_counted 15 = .ok (.ldc2_w 317, 3) := dk_20 1 61 (dk_at dksX5_counted_0 15 rfl rfl)
theorem dX5_counted_18 : decode cX5_counted 18 = .ok (.invokestatic 148, 3) := dk_184 0 148 (dk_at dksX5_counted_0 18 rfl rfl)
theorem dX5_counted_21 : decode cX5_counted 21 = .ok (.ifCond .ne 7, 3) := dk_154 0 7 (dk_at dksX5_counted_0 21 rfl rfl)
theorem dX5_counted_24 : decode cX5_counted 24 = .ok (.ldc2_w 319, 3) := dk_20 1 63 (dk_at dksX5_counted_1 0 rfl rfl)
theorem dX5_counted_27 : decode cX5_counted 27 = .ok (.lreturn, 1) := dk_173 (dk_at dksX5_counted_1 3 rfl rfl)
theorem dX5_counted_28 : decode cX5_counted 28 = .ok (.aload_n 0, 1) := dk_42 (dk_at dksX5_counted_1 4 rfl rfl)
theorem dX5_counted_29 : decode cX5_counted 29 = .ok (.iload_n 2, 1) := dk_28 (dk_at dksX5_counted_1 5 rfl rfl)
theorem dX5_counted_30 : decode cX5_counted 30 = .ok (.invokevirtual 321, 3) := dk_182 1 65 (dk_at dksX5_counted_1 6 rfl rfl)
theorem dX5_counted_33 : decode cX5_counted 33 = .ok (.iload_n 2, 1) := dk_28 (dk_at dksX5_counted_1 9 rfl rfl)
theorem dX5_counted_34 : decode cX5_counted 34 = .ok (.iconst 2, 1) := dk_5 (dk_at dksX5_counted_1 10 rfl rfl)
theorem dX5_counted_35 : decode cX5_counted 35 = .ok (.irem, 1) := dk_112 (dk_at dksX5_counted_1 11 rfl rfl)
theorem dX5_counted_36 : decode cX5_counted 36 = .ok (.ifCond .ne 14, 3) := dk_154 0 14 (dk_at dksX5_counted_1 12 rfl rfl)
theorem dX5_counted_39 : decode cX5_counted 39 = .ok (.aload_n 0, 1) := dk_42 (dk_at dksX5_counted_1 15 rfl rfl)
theorem dX5_counted_40 : decode cX5_counted 40 = .ok (.getfield 37, 3) := dk_180 0 37 (dk_at dksX5_counted_1 16 rfl rfl)
theorem dX5_counted_43 : decode cX5_counted 43 = .ok (.iload_n 2, 1) := dk_28 (dk_at dksX5_counted_1 19 rfl rfl)
theorem dX5_counted_44 : decode cX5_counted 44 = .ok (.iconst 2, 1) := dk_5 (dk_at dksX5_counted_1 20 rfl rfl)
theorem dX5_counted_45 : decode cX5_counted 45 = .ok (.idiv, 1) := dk_108 (dk_at dksX5_counted_1 21 rfl rfl)
theorem dX5_counted_46 : decode cX5_counted 46 = .ok (.laload, 1) := dk_47 (dk_at dksX5_counted_1 22 rfl rfl)
theorem dX5_counted_47 : decode cX5_counted 47 = .ok (.goto 4, 3) := dk_167 0 4 (dk_at dksX5_counted_2 0 rfl rfl)
theorem dX5_counted_50 : decode cX5_counted 50 = .ok (.lconst 0, 1) := dk_9 (dk_at dksX5_counted_2 3 rfl rfl)
theorem dX5_counted_51 : decode cX5_counted 51 = .ok (.lstore_n 3, 1) := dk_66 (dk_at dksX5_counted_2 4 rfl rfl)
theorem dX5_counted_52 : decode cX5_counted 52 = .ok (.iload_n 1, 1) := dk_27 (dk_at dksX5_counted_2 5 rfl rfl)
theorem dX5_counted_53 : decode cX5_counted 53 = .ok (.tableswitch 56 0 3 #[31, 38, 48, 54], 31) := by decide +kernel
theorem dX5_counted_84 : decode cX5_counted 84 = .ok (.aload_n 0, 1) := dk_42 (dk_at dksX5_counted_4 0 rfl rfl)
theorem dX5_counted_85 : decode cX5_counted 85 = .ok (.getfield 37, 3) := dk_180 0 37 (dk_at dksX5_counted_4 1 rfl rfl)
theorem dX5_counted_88 : decode cX5_counted 88 = .ok (.iload_n 2, 1) := dk_28 (dk_at dksX5_counted_4 4 rfl rfl)
theorem dX5_counted_89 : decode cX5_counted 89 = .ok (.laload, 1) := dk_47 (dk_at dksX5_counted_4 5 rfl rfl)
theorem dX5_counted_90 : decode cX5_counted 90 = .ok (.lreturn, 1) := dk_173 (dk_at dksX5_counted_4 6 rfl rfl)
theorem dX5_counted_91 : decode cX5_counted 91 = .ok (.aload_n 0, 1) := dk_42 (dk_at dksX5_counted_4 7 rfl rfl)
theorem dX5_counted_92 : decode cX5_counted 92 = .ok (.iconst 4, 1) := dk_7 (dk_at dksX5_counted_4 8 rfl rfl)
theorem dX5_counted_93 : decode cX5_counted 93 = .ok (.iconst 0, 1) := dk_3 (dk_at dksX5_counted_4 9 rfl rfl)
theorem dX5_counted_94 : decode cX5_counted 94 = .ok (.iload_n 2, 1) := dk_28 (dk_at dksX5_counted_4 10 rfl rfl)
theorem dX5_counted_95 : decode cX5_counted 95 = .ok (.iconst 1, 1) := dk_4 (dk_at dksX5_counted_4 11 rfl rfl)
theorem dX5_counted_96 : decode cX5_counted 96 = .ok (.isub, 1) := dk_100 (dk_at dksX5_counted_4 12 rfl rfl)
theorem dX5_counted_97 : decode cX5_counted 97 = .ok (.invokevirtual 311, 3) := dk_182 1 55 (dk_at dksX5_counted_4 13 rfl rfl)
theorem dX5_counted_100 : decode cX5_counted 100 = .ok (.lreturn, 1) := dk_173 (dk_at dksX5_counted_4 16 rfl rfl)
theorem dX5_counted_101 : decode cX5_counted 101 = .ok (.aload_n 0, 1) := dk_42 (dk_at dksX5_counted_4 17 rfl rfl)
theorem dX5_counted_102 : decode cX5_counted 102 = .ok (.iload_n 2, 1) := dk_28 (dk_at dksX5_counted_4 18 rfl rfl)
theorem dX5_counted_103 : decode cX5_counted 103 = .ok (.invokevirtual 325, 3) := dk_182 1 69 (dk_at dksX5_counted_4 19 rfl rfl)
theorem dX5_counted_106 : decode cX5_counted 106 = .ok (.lreturn, 1) := dk_173 (dk_at dksX5_counted_4 22 rfl rfl)
theorem dX5_counted_107 : decode cX5_counted 107 = .ok (.lload_n 3, 1) := dk_33 (dk_at dksX5_counted_4 23 rfl rfl)
theorem dX5_counted_108 : decode cX5_counted 108 = .ok (.lreturn, 1) := dk_173 (dk_at dksX5_counted_5 0 rfl rfl)
theorem dX5_counted_109 : decode cX5_counted 109 = .ok (.aload_n 0, 1) := dk_42 (dk_at dksX5_counted_5 1 rfl rfl)
theorem dX5_counted_110 : decode cX5_counted 110 = .ok (.iconst 4, 1) := dk_7 (dk_at dksX5_counted_5 2 rfl rfl)
theorem dX5_counted_111 : decode cX5_counted 111 = .ok (.iconst 0, 1) := dk_3 (dk_at dksX5_counted_5 3 rfl rfl)
theorem dX5_counted_112 : decode cX5_counted 112 = .ok (.iload_n 2, 1) := dk_28 (dk_at dksX5_counted_5 4 rfl rfl)
theorem dX5_counted_113 : decode cX5_counted 113 = .ok (.iconst 1, 1) := dk_4 (dk_at dksX5_counted_5 5 rfl rfl)
theorem dX5_counted_114 : decode cX5_counted 114 = .ok (.isub, 1) := dk_100 (dk_at dksX5_counted_5 6 rfl rfl)
theorem dX5_counted_115 : decode cX5_counted 115 = .ok (.invokevirtual 311, 3) := dk_182 1 55 (dk_at dksX5_counted_5 7 rfl rfl)
theorem dX5_counted_118 : decode cX5_counted 118 = .ok (.aload_n 0, 1) := dk_42 (dk_at dksX5_counted_5 10 rfl rfl)
theorem dX5_counted_119 : decode cX5_counted 119 = .ok (.iload_n 2, 1) := dk_28 (dk_at dksX5_counted_5 11 rfl rfl)
theorem dX5_counted_120 : decode cX5_counted 120 = .ok (.invokevirtual 325, 3) := dk_182 1 69 (dk_at dksX5_counted_5 12 rfl rfl)
theorem dX5_counted_123 : decode cX5_counted 123 = .ok (.lsub, 1) := dk_101 (dk_at dksX5_counted_5 15 rfl rfl)
theorem dX5_counted_124 : decode cX5_counted 124 = .ok (.lload_n 3, 1) := dk_33 (dk_at dksX5_counted_5 16 rfl rfl)
theorem dX5_counted_125 : decode cX5_counted 125 = .ok (.ladd, 1) := dk_97 (dk_at dksX5_counted_5 17 rfl rfl)
theorem dX5_counted_126 : decode cX5_counted 126 = .ok (.lreturn, 1) := dk_173 (dk_at dksX5_counted_5 18 rfl rfl)
abbrev cX5_countsTwigs : ByteArray := prog_22_method_52_code
def yX5_countsTwigs : MethodName := ⟨RX5, "countsTwigs", "(I)V"⟩
def dkwX5_countsTwigs_1 : List UInt8 := [100, 182, 1, 55, 80, 132, 2, 1, 167, 255, 233, 177]
abbrev dktX5_countsTwigs_1 : List UInt8 := dkwX5_countsTwigs_1 ++ []
def dkwX5_countsTwigs_0 : List UInt8 := [42, 180, 0, 37, 3, 10, 80, 4, 61, 28, 27, 163, 0, 24, 42, 180, 0, 37, 28, 42, 6, 3, 28, 4]
abbrev dktX5_countsTwigs_0 : List UInt8 := dkwX5_countsTwigs_0 ++ dktX5_countsTwigs_1
theorem dksX5_countsTwigs_0 : cX5_countsTwigs.data.toList.drop 0 = dktX5_countsTwigs_0 := by decide +kernel
theorem dksX5_countsTwigs_1 : cX5_countsTwigs.data.toList.drop 24 = dktX5_countsTwigs_1 := dk_seg dksX5_countsTwigs_0 24 rfl rfl
theorem dX5_countsTwigs_0 : decode cX5_countsTwigs 0 = .ok (.aload_n 0, 1) := dk_42 (dk_at dksX5_countsTwigs_0 0 rfl rfl)
theorem dX5_countsTwigs_1 : decode cX5_countsTwigs 1 = .ok (.getfield 37, 3) := dk_180 0 37 (dk_at dksX5_countsTwigs_0 1 rfl rfl)
theorem dX5_countsTwigs_4 : decode cX5_countsTwigs 4 = .ok (.iconst 0, 1) := dk_3 (dk_at dksX5_countsTwigs_0 4 rfl rfl)
theorem dX5_countsTwigs_5 : decode cX5_countsTwigs 5 = .ok (.lconst 1, 1) := dk_10 (dk_at dksX5_countsTwigs_0 5 rfl rfl)
theorem dX5_countsTwigs_6 : decode cX5_countsTwigs 6 = .ok (.lastore, 1) := dk_80 (dk_at dksX5_countsTwigs_0 6 rfl rfl)
theorem dX5_countsTwigs_7 : decode cX5_countsTwigs 7 = .ok (.iconst 1, 1) := dk_4 (dk_at dksX5_countsTwigs_0 7 rfl rfl)
theorem dX5_countsTwigs_8 : decode cX5_countsTwigs 8 = .ok (.istore_n 2, 1) := dk_61 (dk_at dksX5_countsTwigs_0 8 rfl rfl)
theorem dX5_countsTwigs_9 : decode cX5_countsTwigs 9 = .ok (.iload_n 2, 1) := dk_28 (dk_at dksX5_countsTwigs_0 9 rfl rfl)
theorem dX5_countsTwigs_10 : decode cX5_countsTwigs 10 = .ok (.iload_n 1, 1) := dk_27 (dk_at dksX5_countsTwigs_0 10 rfl rfl)
theorem dX5_countsTwigs_11 : decode cX5_countsTwigs 11 = .ok (.if_icmp .gt 24, 3) := dk_163 0 24 (dk_at dksX5_countsTwigs_0 11 rfl rfl)
theorem dX5_countsTwigs_14 : decode cX5_countsTwigs 14 = .ok (.aload_n 0, 1) := dk_42 (dk_at dksX5_countsTwigs_0 14 rfl rfl)
theorem dX5_countsTwigs_15 : decode cX5_countsTwigs 15 = .ok (.getfield 37, 3) := dk_180 0 37 (dk_at dksX5_countsTwigs_0 15 rfl rfl)
theorem dX5_countsTwigs_18 : decode cX5_countsTwigs 18 = .ok (.iload_n 2, 1) := dk_28 (dk_at dksX5_countsTwigs_0 18 rfl rfl)
theorem dX5_countsTwigs_19 : decode cX5_countsTwigs 19 = .ok (.aload_n 0, 1) := dk_42 (dk_at dksX5_countsTwigs_0 19 rfl rfl)
theorem dX5_countsTwigs_20 : decode cX5_countsTwigs 20 = .ok (.iconst 3, 1) := dk_6 (dk_at dksX5_countsTwigs_0 20 rfl rfl)
theorem dX5_countsTwigs_21 : decode cX5_countsTwigs 21 = .ok (.iconst 0, 1) := dk_3 (dk_at dksX5_countsTwigs_0 21 rfl rfl)
theorem dX5_countsTwigs_22 : decode cX5_countsTwigs 22 = .ok (.iload_n 2, 1) := dk_28 (dk_at dksX5_countsTwigs_0 22 rfl rfl)
theorem dX5_countsTwigs_23 : decode cX5_countsTwigs 23 = .ok (.iconst 1, 1) := dk_4 (dk_at dksX5_countsTwigs_0 23 rfl rfl)
theorem dX5_countsTwigs_24 : decode cX5_countsTwigs 24 = .ok (.isub, 1) := dk_100 (dk_at dksX5_countsTwigs_1 0 rfl rfl)
theorem dX5_countsTwigs_25 : decode cX5_countsTwigs 25 = .ok (.invokevirtual 311, 3) := dk_182 1 55 (dk_at dksX5_countsTwigs_1 1 rfl rfl)
theorem dX5_countsTwigs_28 : decode cX5_countsTwigs 28 = .ok (.lastore, 1) := dk_80 (dk_at dksX5_countsTwigs_1 4 rfl rfl)
theorem dX5_countsTwigs_29 : decode cX5_countsTwigs 29 = .ok (.iinc 2 1, 3) := dk_132 2 1 (dk_at dksX5_countsTwigs_1 5 rfl rfl)
theorem dX5_countsTwigs_32 : decode cX5_countsTwigs 32 = .ok (.goto (-23), 3) := dk_167 255 233 (dk_at dksX5_countsTwigs_1 8 rfl rfl)
theorem dX5_countsTwigs_35 : decode cX5_countsTwigs 35 = .ok (.return_, 1) := dk_177 (dk_at dksX5_countsTwigs_1 11 rfl rfl)
abbrev cX5_rowsOf : ByteArray := prog_22_method_51_code
def yX5_rowsOf : MethodName := ⟨RX5, "rowsOf", "(III)J"⟩
def dkwX5_rowsOf_4 : List UInt8 := [22, 4, 173]
abbrev dktX5_rowsOf_4 : List UInt8 := dkwX5_rowsOf_4 ++ []
def dkwX5_rowsOf_3 : List UInt8 := [21, 7, 104, 100, 182, 1, 55, 105, 97, 55, 4, 132, 7, 1, 167, 255, 201, 132, 6, 1, 167, 255, 184]
abbrev dktX5_rowsOf_3 : List UInt8 := dkwX5_rowsOf_3 ++ dktX5_rowsOf_4
def dkwX5_rowsOf_2 : List UInt8 := [42, 180, 0, 37, 21, 6, 47, 21, 7, 184, 1, 51, 42, 27, 21, 7, 100, 21, 6, 4, 96, 29, 21, 6]
abbrev dktX5_rowsOf_2 : List UInt8 := dkwX5_rowsOf_2 ++ dktX5_rowsOf_3
def dkwX5_rowsOf_1 : List UInt8 := [29, 163, 0, 70, 4, 54, 7, 21, 7, 27, 163, 0, 55, 21, 6, 21, 7, 104, 29, 163, 0, 46, 22, 4]
abbrev dktX5_rowsOf_1 : List UInt8 := dkwX5_rowsOf_1 ++ dktX5_rowsOf_2
def dkwX5_rowsOf_0 : List UInt8 := [27, 154, 0, 13, 29, 154, 0, 7, 10, 167, 0, 4, 9, 173, 9, 55, 4, 28, 54, 6, 21, 6, 27, 104]
abbrev dktX5_rowsOf_0 : List UInt8 := dkwX5_rowsOf_0 ++ dktX5_rowsOf_1
theorem dksX5_rowsOf_0 : cX5_rowsOf.data.toList.drop 0 = dktX5_rowsOf_0 := by decide +kernel
theorem dksX5_rowsOf_1 : cX5_rowsOf.data.toList.drop 24 = dktX5_rowsOf_1 := dk_seg dksX5_rowsOf_0 24 rfl rfl
theorem dksX5_rowsOf_2 : cX5_rowsOf.data.toList.drop 48 = dktX5_rowsOf_2 := dk_seg dksX5_rowsOf_1 24 rfl rfl
theorem dksX5_rowsOf_3 : cX5_rowsOf.data.toList.drop 72 = dktX5_rowsOf_3 := dk_seg dksX5_rowsOf_2 24 rfl rfl
theorem dksX5_rowsOf_4 : cX5_rowsOf.data.toList.drop 95 = dktX5_rowsOf_4 := dk_seg dksX5_rowsOf_3 23 rfl rfl
theorem dX5_rowsOf_0 : decode cX5_rowsOf 0 = .ok (.iload_n 1, 1) := dk_27 (dk_at dksX5_rowsOf_0 0 rfl rfl)
theorem dX5_rowsOf_1 : decode cX5_rowsOf 1 = .ok (.ifCond .ne 13, 3) := dk_154 0 13 (dk_at dksX5_rowsOf_0 1 rfl rfl)
theorem dX5_rowsOf_4 : decode cX5_rowsOf 4 = .ok (.iload_n 3, 1) := dk_29 (dk_at dksX5_rowsOf_0 4 rfl rfl)
theorem dX5_rowsOf_5 : decode cX5_rowsOf 5 = .ok (.ifCond .ne 7, 3) := dk_154 0 7 (dk_at dksX5_rowsOf_0 5 rfl rfl)
theorem dX5_rowsOf_8 : decode cX5_rowsOf 8 = .ok (.lconst 1, 1) := dk_10 (dk_at dksX5_rowsOf_0 8 rfl rfl)
theorem dX5_rowsOf_9 : decode cX5_rowsOf 9 = .ok (.goto 4, 3) := dk_167 0 4 (dk_at dksX5_rowsOf_0 9 rfl rfl)
theorem dX5_rowsOf_12 : decode cX5_rowsOf 12 = .ok (.lconst 0, 1) := dk_9 (dk_at dksX5_rowsOf_0 12 rfl rfl)
theorem dX5_rowsOf_13 : decode cX5_rowsOf 13 = .ok (.lreturn, 1) := dk_173 (dk_at dksX5_rowsOf_0 13 rfl rfl)
theorem dX5_rowsOf_14 : decode cX5_rowsOf 14 = .ok (.lconst 0, 1) := dk_9 (dk_at dksX5_rowsOf_0 14 rfl rfl)
theorem dX5_rowsOf_15 : decode cX5_rowsOf 15 = .ok (.lstore 4, 2) := dk_55 4 (dk_at dksX5_rowsOf_0 15 rfl rfl)
theorem dX5_rowsOf_17 : decode cX5_rowsOf 17 = .ok (.iload_n 2, 1) := dk_28 (dk_at dksX5_rowsOf_0 17 rfl rfl)
theorem dX5_rowsOf_18 : decode cX5_rowsOf 18 = .ok (.istore 6, 2) := dk_54 6 (dk_at dksX5_rowsOf_0 18 rfl rfl)
theorem dX5_rowsOf_20 : decode cX5_rowsOf 20 = .ok (.iload 6, 2) := dk_21 6 (dk_at dksX5_rowsOf_0 20 rfl rfl)
theorem dX5_rowsOf_22 : decode cX5_rowsOf 22 = .ok (.iload_n 1, 1) := dk_27 (dk_at dksX5_rowsOf_0 22 rfl rfl)
theorem dX5_rowsOf_23 : decode cX5_rowsOf 23 = .ok (.imul, 1) := dk_104 (dk_at dksX5_rowsOf_0 23 rfl rfl)
theorem dX5_rowsOf_24 : decode cX5_rowsOf 24 = .ok (.iload_n 3, 1) := dk_29 (dk_at dksX5_rowsOf_1 0 rfl rfl)
theorem dX5_rowsOf_25 : decode cX5_rowsOf 25 = .ok (.if_icmp .gt 70, 3) := dk_163 0 70 (dk_at dksX5_rowsOf_1 1 rfl rfl)
theorem dX5_rowsOf_28 : decode cX5_rowsOf 28 = .ok (.iconst 1, 1) := dk_4 (dk_at dksX5_rowsOf_1 4 rfl rfl)
theorem dX5_rowsOf_29 : decode cX5_rowsOf 29 = .ok (.istore 7, 2) := dk_54 7 (dk_at dksX5_rowsOf_1 5 rfl rfl)
theorem dX5_rowsOf_31 : decode cX5_rowsOf 31 = .ok (.iload 7, 2) := dk_21 7 (dk_at dksX5_rowsOf_1 7 rfl rfl)
theorem dX5_rowsOf_33 : decode cX5_rowsOf 33 = .ok (.iload_n 1, 1) := dk_27 (dk_at dksX5_rowsOf_1 9 rfl rfl)
theorem dX5_rowsOf_34 : decode cX5_rowsOf 34 = .ok (.if_icmp .gt 55, 3) := dk_163 0 55 (dk_at dksX5_rowsOf_1 10 rfl rfl)
theorem dX5_rowsOf_37 : decode cX5_rowsOf 37 = .ok (.iload 6, 2) := dk_21 6 (dk_at dksX5_rowsOf_1 13 rfl rfl)
theorem dX5_rowsOf_39 : decode cX5_rowsOf 39 = .ok (.iload 7, 2) := dk_21 7 (dk_at dksX5_rowsOf_1 15 rfl rfl)
theorem dX5_rowsOf_41 : decode cX5_rowsOf 41 = .ok (.imul, 1) := dk_104 (dk_at dksX5_rowsOf_1 17 rfl rfl)
theorem dX5_rowsOf_42 : decode cX5_rowsOf 42 = .ok (.iload_n 3, 1) := dk_29 (dk_at dksX5_rowsOf_1 18 rfl rfl)
theorem dX5_rowsOf_43 : decode cX5_rowsOf 43 = .ok (.if_icmp .gt 46, 3) := dk_163 0 46 (dk_at dksX5_rowsOf_1 19 rfl rfl)
theorem dX5_rowsOf_46 : decode cX5_rowsOf 46 = .ok (.lload 4, 2) := dk_22 4 (dk_at dksX5_rowsOf_1 22 rfl rfl)
theorem dX5_rowsOf_48 : decode cX5_rowsOf 48 = .ok (.aload_n 0, 1) := dk_42 (dk_at dksX5_rowsOf_2 0 rfl rfl)
theorem dX5_rowsOf_49 : decode cX5_rowsOf 49 = .ok (.getfield 37, 3) := dk_180 0 37 (dk_at dksX5_rowsOf_2 1 rfl rfl)
theorem dX5_rowsOf_52 : decode cX5_rowsOf 52 = .ok (.iload 6, 2) := dk_21 6 (dk_at dksX5_rowsOf_2 4 rfl rfl)
theorem dX5_rowsOf_54 : decode cX5_rowsOf 54 = .ok (.laload, 1) := dk_47 (dk_at dksX5_rowsOf_2 6 rfl rfl)
theorem dX5_rowsOf_55 : decode cX5_rowsOf 55 = .ok (.iload 7, 2) := dk_21 7 (dk_at dksX5_rowsOf_2 7 rfl rfl)
theorem dX5_rowsOf_57 : decode cX5_rowsOf 57 = .ok (.invokestatic 307, 3) := dk_184 1 51 (dk_at dksX5_rowsOf_2 9 rfl rfl)
theorem dX5_rowsOf_60 : decode cX5_rowsOf 60 = .ok (.aload_n 0, 1) := dk_42 (dk_at dksX5_rowsOf_2 12 rfl rfl)
theorem dX5_rowsOf_61 : decode cX5_rowsOf 61 = .ok (.iload_n 1, 1) := dk_27 (dk_at dksX5_rowsOf_2 13 rfl rfl)
theorem dX5_rowsOf_62 : decode cX5_rowsOf 62 = .ok (.iload 7, 2) := dk_21 7 (dk_at dksX5_rowsOf_2 14 rfl rfl)
theorem dX5_rowsOf_64 : decode cX5_rowsOf 64 = .ok (.isub, 1) := dk_100 (dk_at dksX5_rowsOf_2 16 rfl rfl)
theorem dX5_rowsOf_65 : decode cX5_rowsOf 65 = .ok (.iload 6, 2) := dk_21 6 (dk_at dksX5_rowsOf_2 17 rfl rfl)
theorem dX5_rowsOf_67 : decode cX5_rowsOf 67 = .ok (.iconst 1, 1) := dk_4 (dk_at dksX5_rowsOf_2 19 rfl rfl)
theorem dX5_rowsOf_68 : decode cX5_rowsOf 68 = .ok (.iadd, 1) := dk_96 (dk_at dksX5_rowsOf_2 20 rfl rfl)
theorem dX5_rowsOf_69 : decode cX5_rowsOf 69 = .ok (.iload_n 3, 1) := dk_29 (dk_at dksX5_rowsOf_2 21 rfl rfl)
theorem dX5_rowsOf_70 : decode cX5_rowsOf 70 = .ok (.iload 6, 2) := dk_21 6 (dk_at dksX5_rowsOf_2 22 rfl rfl)
theorem dX5_rowsOf_72 : decode cX5_rowsOf 72 = .ok (.iload 7, 2) := dk_21 7 (dk_at dksX5_rowsOf_3 0 rfl rfl)
theorem dX5_rowsOf_74 : decode cX5_rowsOf 74 = .ok (.imul, 1) := dk_104 (dk_at dksX5_rowsOf_3 2 rfl rfl)
theorem dX5_rowsOf_75 : decode cX5_rowsOf 75 = .ok (.isub, 1) := dk_100 (dk_at dksX5_rowsOf_3 3 rfl rfl)
theorem dX5_rowsOf_76 : decode cX5_rowsOf 76 = .ok (.invokevirtual 311, 3) := dk_182 1 55 (dk_at dksX5_rowsOf_3 4 rfl rfl)
theorem dX5_rowsOf_79 : decode cX5_rowsOf 79 = .ok (.lmul, 1) := dk_105 (dk_at dksX5_rowsOf_3 7 rfl rfl)
theorem dX5_rowsOf_80 : decode cX5_rowsOf 80 = .ok (.ladd, 1) := dk_97 (dk_at dksX5_rowsOf_3 8 rfl rfl)
theorem dX5_rowsOf_81 : decode cX5_rowsOf 81 = .ok (.lstore 4, 2) := dk_55 4 (dk_at dksX5_rowsOf_3 9 rfl rfl)
theorem dX5_rowsOf_83 : decode cX5_rowsOf 83 = .ok (.iinc 7 1, 3) := dk_132 7 1 (dk_at dksX5_rowsOf_3 11 rfl rfl)
theorem dX5_rowsOf_86 : decode cX5_rowsOf 86 = .ok (.goto (-55), 3) := dk_167 255 201 (dk_at dksX5_rowsOf_3 14 rfl rfl)
theorem dX5_rowsOf_89 : decode cX5_rowsOf 89 = .ok (.iinc 6 1, 3) := dk_132 6 1 (dk_at dksX5_rowsOf_3 17 rfl rfl)
theorem dX5_rowsOf_92 : decode cX5_rowsOf 92 = .ok (.goto (-72), 3) := dk_167 255 184 (dk_at dksX5_rowsOf_3 20 rfl rfl)
theorem dX5_rowsOf_95 : decode cX5_rowsOf 95 = .ok (.lload 4, 2) := dk_22 4 (dk_at dksX5_rowsOf_4 0 rfl rfl)
theorem dX5_rowsOf_97 : decode cX5_rowsOf 97 = .ok (.lreturn, 1) := dk_173 (dk_at dksX5_rowsOf_4 2 rfl rfl)
abbrev cX5_taken : ByteArray := prog_22_method_50_code
def yX5_taken : MethodName := ⟨RX5, "taken", "(JI)J"⟩
def dkwX5_taken_1 : List UInt8 := [66, 132, 5, 1, 167, 255, 233, 33, 173]
abbrev dktX5_taken_1 : List UInt8 := dkwX5_taken_1 ++ []
def dkwX5_taken_0 : List UInt8 := [10, 66, 3, 54, 5, 21, 5, 28, 162, 0, 23, 33, 30, 21, 5, 133, 97, 105, 21, 5, 4, 96, 133, 109]
abbrev dktX5_taken_0 : List UInt8 := dkwX5_taken_0 ++ dktX5_taken_1
theorem dksX5_taken_0 : cX5_taken.data.toList.drop 0 = dktX5_taken_0 := by decide +kernel
theorem dksX5_taken_1 : cX5_taken.data.toList.drop 24 = dktX5_taken_1 := dk_seg dksX5_taken_0 24 rfl rfl
theorem dX5_taken_0 : decode cX5_taken 0 = .ok (.lconst 1, 1) := dk_10 (dk_at dksX5_taken_0 0 rfl rfl)
theorem dX5_taken_1 : decode cX5_taken 1 = .ok (.lstore_n 3, 1) := dk_66 (dk_at dksX5_taken_0 1 rfl rfl)
theorem dX5_taken_2 : decode cX5_taken 2 = .ok (.iconst 0, 1) := dk_3 (dk_at dksX5_taken_0 2 rfl rfl)
theorem dX5_taken_3 : decode cX5_taken 3 = .ok (.istore 5, 2) := dk_54 5 (dk_at dksX5_taken_0 3 rfl rfl)
theorem dX5_taken_5 : decode cX5_taken 5 = .ok (.iload 5, 2) := dk_21 5 (dk_at dksX5_taken_0 5 rfl rfl)
theorem dX5_taken_7 : decode cX5_taken 7 = .ok (.iload_n 2, 1) := dk_28 (dk_at dksX5_taken_0 7 rfl rfl)
theorem dX5_taken_8 : decode cX5_taken 8 = .ok (.if_icmp .ge 23, 3) := dk_162 0 23 (dk_at dksX5_taken_0 8 rfl rfl)
theorem dX5_taken_11 : decode cX5_taken 11 = .ok (.lload_n 3, 1) := dk_33 (dk_at dksX5_taken_0 11 rfl rfl)
theorem dX5_taken_12 : decode cX5_taken 12 = .ok (.lload_n 0, 1) := dk_30 (dk_at dksX5_taken_0 12 rfl rfl)
theorem dX5_taken_13 : decode cX5_taken 13 = .ok (.iload 5, 2) := dk_21 5 (dk_at dksX5_taken_0 13 rfl rfl)
theorem dX5_taken_15 : decode cX5_taken 15 = .ok (.i2l, 1) := dk_133 (dk_at dksX5_taken_0 15 rfl rfl)
theorem dX5_taken_16 : decode cX5_taken 16 = .ok (.ladd, 1) := dk_97 (dk_at dksX5_taken_0 16 rfl rfl)
theorem dX5_taken_17 : decode cX5_taken 17 = .ok (.lmul, 1) := dk_105 (dk_at dksX5_taken_0 17 rfl rfl)
theorem dX5_taken_18 : decode cX5_taken 18 = .ok (.iload 5, 2) := dk_21 5 (dk_at dksX5_taken_0 18 rfl rfl)
theorem dX5_taken_20 : decode cX5_taken 20 = .ok (.iconst 1, 1) := dk_4 (dk_at dksX5_taken_0 20 rfl rfl)
theorem dX5_taken_21 : decode cX5_taken 21 = .ok (.iadd, 1) := dk_96 (dk_at dksX5_taken_0 21 rfl rfl)
theorem dX5_taken_22 : decode cX5_taken 22 = .ok (.i2l, 1) := dk_133 (dk_at dksX5_taken_0 22 rfl rfl)
theorem dX5_taken_23 : decode cX5_taken 23 = .ok (.ldiv, 1) := dk_109 (dk_at dksX5_taken_0 23 rfl rfl)
theorem dX5_taken_24 : decode cX5_taken 24 = .ok (.lstore_n 3, 1) := dk_66 (dk_at dksX5_taken_1 0 rfl rfl)
theorem dX5_taken_25 : decode cX5_taken 25 = .ok (.iinc 5 1, 3) := dk_132 5 1 (dk_at dksX5_taken_1 1 rfl rfl)
theorem dX5_taken_28 : decode cX5_taken 28 = .ok (.goto (-23), 3) := dk_167 255 233 (dk_at dksX5_taken_1 4 rfl rfl)
theorem dX5_taken_31 : decode cX5_taken 31 = .ok (.lload_n 3, 1) := dk_33 (dk_at dksX5_taken_1 7 rfl rfl)
theorem dX5_taken_32 : decode cX5_taken 32 = .ok (.lreturn, 1) := dk_173 (dk_at dksX5_taken_1 8 rfl rfl)
abbrev cX5_pairs : ByteArray := prog_22_method_53_code
def yX5_pairs : MethodName := ⟨RX5, "pairs", "(I)J"⟩
def dkwX5_pairs_2 : List UInt8 := [27, 21, 4, 100, 47, 105, 97, 65, 132, 4, 1, 167, 255, 203, 32, 173]
abbrev dktX5_pairs_2 : List UInt8 := dkwX5_pairs_2 ++ []
def dkwX5_pairs_1 : List UInt8 := [180, 0, 37, 21, 4, 47, 5, 184, 1, 51, 167, 0, 20, 42, 180, 0, 37, 21, 4, 47, 42, 180, 0, 37]
abbrev dktX5_pairs_1 : List UInt8 := dkwX5_pairs_1 ++ dktX5_pairs_2
def dkwX5_pairs_0 : List UInt8 := [9, 65, 4, 54, 4, 5, 21, 4, 104, 27, 163, 0, 51, 32, 5, 21, 4, 104, 27, 160, 0, 17, 42]
abbrev dktX5_pairs_0 : List UInt8 := dkwX5_pairs_0 ++ dktX5_pairs_1
theorem dksX5_pairs_0 : cX5_pairs.data.toList.drop 0 = dktX5_pairs_0 := by decide +kernel
theorem dksX5_pairs_1 : cX5_pairs.data.toList.drop 23 = dktX5_pairs_1 := dk_seg dksX5_pairs_0 23 rfl rfl
theorem dksX5_pairs_2 : cX5_pairs.data.toList.drop 47 = dktX5_pairs_2 := dk_seg dksX5_pairs_1 24 rfl rfl
theorem dX5_pairs_0 : decode cX5_pairs 0 = .ok (.lconst 0, 1) := dk_9 (dk_at dksX5_pairs_0 0 rfl rfl)
theorem dX5_pairs_1 : decode cX5_pairs 1 = .ok (.lstore_n 2, 1) := dk_65 (dk_at dksX5_pairs_0 1 rfl rfl)
theorem dX5_pairs_2 : decode cX5_pairs 2 = .ok (.iconst 1, 1) := dk_4 (dk_at dksX5_pairs_0 2 rfl rfl)
theorem dX5_pairs_3 : decode cX5_pairs 3 = .ok (.istore 4, 2) := dk_54 4 (dk_at dksX5_pairs_0 3 rfl rfl)
theorem dX5_pairs_5 : decode cX5_pairs 5 = .ok (.iconst 2, 1) := dk_5 (dk_at dksX5_pairs_0 5 rfl rfl)
theorem dX5_pairs_6 : decode cX5_pairs 6 = .ok (.iload 4, 2) := dk_21 4 (dk_at dksX5_pairs_0 6 rfl rfl)
theorem dX5_pairs_8 : decode cX5_pairs 8 = .ok (.imul, 1) := dk_104 (dk_at dksX5_pairs_0 8 rfl rfl)
theorem dX5_pairs_9 : decode cX5_pairs 9 = .ok (.iload_n 1, 1) := dk_27 (dk_at dksX5_pairs_0 9 rfl rfl)
theorem dX5_pairs_10 : decode cX5_pairs 10 = .ok (.if_icmp .gt 51, 3) := dk_163 0 51 (dk_at dksX5_pairs_0 10 rfl rfl)
theorem dX5_pairs_13 : decode cX5_pairs 13 = .ok (.lload_n 2, 1) := dk_32 (dk_at dksX5_pairs_0 13 rfl rfl)
theorem dX5_pairs_14 : decode cX5_pairs 14 = .ok (.iconst 2, 1) := dk_5 (dk_at dksX5_pairs_0 14 rfl rfl)
theorem dX5_pairs_15 : decode cX5_pairs 15 = .ok (.iload 4, 2) := dk_21 4 (dk_at dksX5_pairs_0 15 rfl rfl)
theorem dX5_pairs_17 : decode cX5_pairs 17 = .ok (.imul, 1) := dk_104 (dk_at dksX5_pairs_0 17 rfl rfl)
theorem dX5_pairs_18 : decode cX5_pairs 18 = .ok (.iload_n 1, 1) := dk_27 (dk_at dksX5_pairs_0 18 rfl rfl)
theorem dX5_pairs_19 : decode cX5_pairs 19 = .ok (.if_icmp .ne 17, 3) := dk_160 0 17 (dk_at dksX5_pairs_0 19 rfl rfl)
theorem dX5_pairs_22 : decode cX5_pairs 22 = .ok (.aload_n 0, 1) := dk_42 (dk_at dksX5_pairs_0 22 rfl rfl)
theorem dX5_pairs_23 : decode cX5_pairs 23 = .ok (.getfield 37, 3) := dk_180 0 37 (dk_at dksX5_pairs_1 0 rfl rfl)
theorem dX5_pairs_26 : decode cX5_pairs 26 = .ok (.iload 4, 2) := dk_21 4 (dk_at dksX5_pairs_1 3 rfl rfl)
theorem dX5_pairs_28 : decode cX5_pairs 28 = .ok (.laload, 1) := dk_47 (dk_at dksX5_pairs_1 5 rfl rfl)
theorem dX5_pairs_29 : decode cX5_pairs 29 = .ok (.iconst 2, 1) := dk_5 (dk_at dksX5_pairs_1 6 rfl rfl)
theorem dX5_pairs_30 : decode cX5_pairs 30 = .ok (.invokestatic 307, 3) := dk_184 1 51 (dk_at dksX5_pairs_1 7 rfl rfl)
theorem dX5_pairs_33 : decode cX5_pairs 33 = .ok (.goto 20, 3) := dk_167 0 20 (dk_at dksX5_pairs_1 10 rfl rfl)
theorem dX5_pairs_36 : decode cX5_pairs 36 = .ok (.aload_n 0, 1) := dk_42 (dk_at dksX5_pairs_1 13 rfl rfl)
theorem dX5_pairs_37 : decode cX5_pairs 37 = .ok (.getfield 37, 3) := dk_180 0 37 (dk_at dksX5_pairs_1 14 rfl rfl)
theorem dX5_pairs_40 : decode cX5_pairs 40 = .ok (.iload 4, 2) := dk_21 4 (dk_at dksX5_pairs_1 17 rfl rfl)
theorem dX5_pairs_42 : decode cX5_pairs 42 = .ok (.laload, 1) := dk_47 (dk_at dksX5_pairs_1 19 rfl rfl)
theorem dX5_pairs_43 : decode cX5_pairs 43 = .ok (.aload_n 0, 1) := dk_42 (dk_at dksX5_pairs_1 20 rfl rfl)
theorem dX5_pairs_44 : decode cX5_pairs 44 = .ok (.getfield 37, 3) := dk_180 0 37 (dk_at dksX5_pairs_1 21 rfl rfl)
theorem dX5_pairs_47 : decode cX5_pairs 47 = .ok (.iload_n 1, 1) := dk_27 (dk_at dksX5_pairs_2 0 rfl rfl)
theorem dX5_pairs_48 : decode cX5_pairs 48 = .ok (.iload 4, 2) := dk_21 4 (dk_at dksX5_pairs_2 1 rfl rfl)
theorem dX5_pairs_50 : decode cX5_pairs 50 = .ok (.isub, 1) := dk_100 (dk_at dksX5_pairs_2 3 rfl rfl)
theorem dX5_pairs_51 : decode cX5_pairs 51 = .ok (.laload, 1) := dk_47 (dk_at dksX5_pairs_2 4 rfl rfl)
theorem dX5_pairs_52 : decode cX5_pairs 52 = .ok (.lmul, 1) := dk_105 (dk_at dksX5_pairs_2 5 rfl rfl)
theorem dX5_pairs_53 : decode cX5_pairs 53 = .ok (.ladd, 1) := dk_97 (dk_at dksX5_pairs_2 6 rfl rfl)
theorem dX5_pairs_54 : decode cX5_pairs 54 = .ok (.lstore_n 2, 1) := dk_65 (dk_at dksX5_pairs_2 7 rfl rfl)
theorem dX5_pairs_55 : decode cX5_pairs 55 = .ok (.iinc 4 1, 3) := dk_132 4 1 (dk_at dksX5_pairs_2 8 rfl rfl)
theorem dX5_pairs_58 : decode cX5_pairs 58 = .ok (.goto (-53), 3) := dk_167 255 203 (dk_at dksX5_pairs_2 11 rfl rfl)
theorem dX5_pairs_61 : decode cX5_pairs 61 = .ok (.lload_n 2, 1) := dk_32 (dk_at dksX5_pairs_2 14 rfl rfl)
theorem dX5_pairs_62 : decode cX5_pairs 62 = .ok (.lreturn, 1) := dk_173 (dk_at dksX5_pairs_2 15 rfl rfl)
abbrev cX5_name : ByteArray := prog_22_method_80_code
def yX5_name : MethodName := ⟨RX5, "name", "(I)I"⟩
def dkwX5_name_1 : List UInt8 := [133, 184, 0, 148, 153, 0, 12, 42, 180, 0, 47, 27, 46, 167, 0, 4, 2, 172]
abbrev dktX5_name_1 : List UInt8 := dkwX5_name_1 ++ []
def dkwX5_name_0 : List UInt8 := [42, 182, 0, 241, 42, 182, 1, 156, 61, 27, 2, 160, 0, 7, 28, 167, 0, 26, 27, 133, 9, 28, 4, 100]
abbrev dktX5_name_0 : List UInt8 := dkwX5_name_0 ++ dktX5_name_1
theorem dksX5_name_0 : cX5_name.data.toList.drop 0 = dktX5_name_0 := by decide +kernel
theorem dksX5_name_1 : cX5_name.data.toList.drop 24 = dktX5_name_1 := dk_seg dksX5_name_0 24 rfl rfl
theorem dX5_name_0 : decode cX5_name 0 = .ok (.aload_n 0, 1) := dk_42 (dk_at dksX5_name_0 0 rfl rfl)
theorem dX5_name_1 : decode cX5_name 1 = .ok (.invokevirtual 241, 3) := dk_182 0 241 (dk_at dksX5_name_0 1 rfl rfl)
theorem dX5_name_4 : decode cX5_name 4 = .ok (.aload_n 0, 1) := dk_42 (dk_at dksX5_name_0 4 rfl rfl)
theorem dX5_name_5 : decode cX5_name 5 = .ok (.invokevirtual 412, 3) := dk_182 1 156 (dk_at dksX5_name_0 5 rfl rfl)
theorem dX5_name_8 : decode cX5_name 8 = .ok (.istore_n 2, 1) := dk_61 (dk_at dksX5_name_0 8 rfl rfl)
theorem dX5_name_9 : decode cX5_name 9 = .ok (.iload_n 1, 1) := dk_27 (dk_at dksX5_name_0 9 rfl rfl)
theorem dX5_name_10 : decode cX5_name 10 = .ok (.iconst (-1), 1) := dk_2 (dk_at dksX5_name_0 10 rfl rfl)
theorem dX5_name_11 : decode cX5_name 11 = .ok (.if_icmp .ne 7, 3) := dk_160 0 7 (dk_at dksX5_name_0 11 rfl rfl)
theorem dX5_name_14 : decode cX5_name 14 = .ok (.iload_n 2, 1) := dk_28 (dk_at dksX5_name_0 14 rfl rfl)
theorem dX5_name_15 : decode cX5_name 15 = .ok (.goto 26, 3) := dk_167 0 26 (dk_at dksX5_name_0 15 rfl rfl)
theorem dX5_name_18 : decode cX5_name 18 = .ok (.iload_n 1, 1) := dk_27 (dk_at dksX5_name_0 18 rfl rfl)
theorem dX5_name_19 : decode cX5_name 19 = .ok (.i2l, 1) := dk_133 (dk_at dksX5_name_0 19 rfl rfl)
theorem dX5_name_20 : decode cX5_name 20 = .ok (.lconst 0, 1) := dk_9 (dk_at dksX5_name_0 20 rfl rfl)
theorem dX5_name_21 : decode cX5_name 21 = .ok (.iload_n 2, 1) := dk_28 (dk_at dksX5_name_0 21 rfl rfl)
theorem dX5_name_22 : decode cX5_name 22 = .ok (.iconst 1, 1) := dk_4 (dk_at dksX5_name_0 22 rfl rfl)
theorem dX5_name_23 : decode cX5_name 23 = .ok (.isub, 1) := dk_100 (dk_at dksX5_name_0 23 rfl rfl)
theorem dX5_name_24 : decode cX5_name 24 = .ok (.i2l, 1) := dk_133 (dk_at dksX5_name_1 0 rfl rfl)
theorem dX5_name_25 : decode cX5_name 25 = .ok (.invokestatic 148, 3) := dk_184 0 148 (dk_at dksX5_name_1 1 rfl rfl)
theorem dX5_name_28 : decode cX5_name 28 = .ok (.ifCond .eq 12, 3) := dk_153 0 12 (dk_at dksX5_name_1 4 rfl rfl)
theorem dX5_name_31 : decode cX5_name 31 = .ok (.aload_n 0, 1) := dk_42 (dk_at dksX5_name_1 7 rfl rfl)
theorem dX5_name_32 : decode cX5_name 32 = .ok (.getfield 47, 3) := dk_180 0 47 (dk_at dksX5_name_1 8 rfl rfl)
theorem dX5_name_35 : decode cX5_name 35 = .ok (.iload_n 1, 1) := dk_27 (dk_at dksX5_name_1 11 rfl rfl)
theorem dX5_name_36 : decode cX5_name 36 = .ok (.iaload, 1) := dk_46 (dk_at dksX5_name_1 12 rfl rfl)
theorem dX5_name_37 : decode cX5_name 37 = .ok (.goto 4, 3) := dk_167 0 4 (dk_at dksX5_name_1 13 rfl rfl)
theorem dX5_name_40 : decode cX5_name 40 = .ok (.iconst (-1), 1) := dk_2 (dk_at dksX5_name_1 16 rfl rfl)
theorem dX5_name_41 : decode cX5_name 41 = .ok (.ireturn, 1) := dk_172 (dk_at dksX5_name_1 17 rfl rfl)
abbrev cX5_namesTree : ByteArray := prog_22_method_79_code
def yX5_namesTree : MethodName := ⟨RX5, "namesTree", "()I"⟩
def dkwX5_namesTree_0 : List UInt8 := [42, 3, 181, 1, 11, 42, 3, 181, 1, 14, 42, 3, 2, 182, 1, 17, 172]
abbrev dktX5_namesTree_0 : List UInt8 := dkwX5_namesTree_0 ++ []
theorem dksX5_namesTree_0 : cX5_namesTree.data.toList.drop 0 = dktX5_namesTree_0 := by decide +kernel
theorem dX5_namesTree_0 : decode cX5_namesTree 0 = .ok (.aload_n 0, 1) := dk_42 (dk_at dksX5_namesTree_0 0 rfl rfl)
theorem dX5_namesTree_1 : decode cX5_namesTree 1 = .ok (.iconst 0, 1) := dk_3 (dk_at dksX5_namesTree_0 1 rfl rfl)
theorem dX5_namesTree_2 : decode cX5_namesTree 2 = .ok (.putfield 267, 3) := dk_181 1 11 (dk_at dksX5_namesTree_0 2 rfl rfl)
theorem dX5_namesTree_5 : decode cX5_namesTree 5 = .ok (.aload_n 0, 1) := dk_42 (dk_at dksX5_namesTree_0 5 rfl rfl)
theorem dX5_namesTree_6 : decode cX5_namesTree 6 = .ok (.iconst 0, 1) := dk_3 (dk_at dksX5_namesTree_0 6 rfl rfl)
theorem dX5_namesTree_7 : decode cX5_namesTree 7 = .ok (.putfield 270, 3) := dk_181 1 14 (dk_at dksX5_namesTree_0 7 rfl rfl)
theorem dX5_namesTree_10 : decode cX5_namesTree 10 = .ok (.aload_n 0, 1) := dk_42 (dk_at dksX5_namesTree_0 10 rfl rfl)
theorem dX5_namesTree_11 : decode cX5_namesTree 11 = .ok (.iconst 0, 1) := dk_3 (dk_at dksX5_namesTree_0 11 rfl rfl)
theorem dX5_namesTree_12 : decode cX5_namesTree 12 = .ok (.iconst (-1), 1) := dk_2 (dk_at dksX5_namesTree_0 12 rfl rfl)
theorem dX5_namesTree_13 : decode cX5_namesTree 13 = .ok (.invokevirtual 273, 3) := dk_182 1 17 (dk_at dksX5_namesTree_0 13 rfl rfl)
theorem dX5_namesTree_16 : decode cX5_namesTree 16 = .ok (.ireturn, 1) := dk_172 (dk_at dksX5_namesTree_0 16 rfl rfl)
abbrev cX5_named : ByteArray := prog_22_method_81_code
def yX5_named : MethodName := ⟨RX5, "named", "(III)I"⟩
def dkwX5_named_2 : List UInt8 := [180, 0, 47, 29, 46, 167, 0, 4, 2, 172]
abbrev dktX5_named_2 : List UInt8 := dkwX5_named_2 ++ []
def dkwX5_named_1 : List UInt8 := [2, 160, 0, 8, 21, 4, 167, 0, 27, 29, 133, 9, 21, 4, 4, 100, 133, 184, 0, 148, 153, 0, 12, 42]
abbrev dktX5_named_1 : List UInt8 := dkwX5_named_1 ++ dktX5_named_2
def dkwX5_named_0 : List UInt8 := [42, 27, 28, 182, 0, 253, 154, 0, 5, 2, 172, 42, 27, 28, 182, 0, 255, 42, 182, 1, 156, 54, 4, 29]
abbrev dktX5_named_0 : List UInt8 := dkwX5_named_0 ++ dktX5_named_1
theorem dksX5_named_0 : cX5_named.data.toList.drop 0 = dktX5_named_0 := by decide +kernel
theorem dksX5_named_1 : cX5_named.data.toList.drop 24 = dktX5_named_1 := dk_seg dksX5_named_0 24 rfl rfl
theorem dksX5_named_2 : cX5_named.data.toList.drop 48 = dktX5_named_2 := dk_seg dksX5_named_1 24 rfl rfl
theorem dX5_named_0 : decode cX5_named 0 = .ok (.aload_n 0, 1) := dk_42 (dk_at dksX5_named_0 0 rfl rfl)
theorem dX5_named_1 : decode cX5_named 1 = .ok (.iload_n 1, 1) := dk_27 (dk_at dksX5_named_0 1 rfl rfl)
theorem dX5_named_2 : decode cX5_named 2 = .ok (.iload_n 2, 1) := dk_28 (dk_at dksX5_named_0 2 rfl rfl)
theorem dX5_named_3 : decode cX5_named 3 = .ok (.invokevirtual 253, 3) := dk_182 0 253 (dk_at dksX5_named_0 3 rfl rfl)
theorem dX5_named_6 : decode cX5_named 6 = .ok (.ifCond .ne 5, 3) := dk_154 0 5 (dk_at dksX5_named_0 6 rfl rfl)
theorem dX5_named_9 : decode cX5_named 9 = .ok (.iconst (-1), 1) := dk_2 (dk_at dksX5_named_0 9 rfl rfl)
theorem dX5_named_10 : decode cX5_named 10 = .ok (.ireturn, 1) := dk_172 (dk_at dksX5_named_0 10 rfl rfl)
theorem dX5_named_11 : decode cX5_named 11 = .ok (.aload_n 0, 1) := dk_42 (dk_at dksX5_named_0 11 rfl rfl)
theorem dX5_named_12 : decode cX5_named 12 = .ok (.iload_n 1, 1) := dk_27 (dk_at dksX5_named_0 12 rfl rfl)
theorem dX5_named_13 : decode cX5_named 13 = .ok (.iload_n 2, 1) := dk_28 (dk_at dksX5_named_0 13 rfl rfl)
theorem dX5_named_14 : decode cX5_named 14 = .ok (.invokevirtual 255, 3) := dk_182 0 255 (dk_at dksX5_named_0 14 rfl rfl)
theorem dX5_named_17 : decode cX5_named 17 = .ok (.aload_n 0, 1) := dk_42 (dk_at dksX5_named_0 17 rfl rfl)
theorem dX5_named_18 : decode cX5_named 18 = .ok (.invokevirtual 412, 3) := dk_182 1 156 (dk_at dksX5_named_0 18 rfl rfl)
theorem dX5_named_21 : decode cX5_named 21 = .ok (.istore 4, 2) := dk_54 4 (dk_at dksX5_named_0 21 rfl rfl)
theorem dX5_named_23 : decode cX5_named 23 = .ok (.iload_n 3, 1) := dk_29 (dk_at dksX5_named_0 23 rfl rfl)
theorem dX5_named_24 : decode cX5_named 24 = .ok (.iconst (-1), 1) := dk_2 (dk_at dksX5_named_1 0 rfl rfl)
theorem dX5_named_25 : decode cX5_named 25 = .ok (.if_icmp .ne 8, 3) := dk_160 0 8 (dk_at dksX5_named_1 1 rfl rfl)
theorem dX5_named_28 : decode cX5_named 28 = .ok (.iload 4, 2) := dk_21 4 (dk_at dksX5_named_1 4 rfl rfl)
theorem dX5_named_30 : decode cX5_named 30 = .ok (.goto 27, 3) := dk_167 0 27 (dk_at dksX5_named_1 6 rfl rfl)
theorem dX5_named_33 : decode cX5_named 33 = .ok (.iload_n 3, 1) := dk_29 (dk_at dksX5_named_1 9 rfl rfl)
theorem dX5_named_34 : decode cX5_named 34 = .ok (.i2l, 1) := dk_133 (dk_at dksX5_named_1 10 rfl rfl)
theorem dX5_named_35 : decode cX5_named 35 = .ok (.lconst 0, 1) := dk_9 (dk_at dksX5_named_1 11 rfl rfl)
theorem dX5_named_36 : decode cX5_named 36 = .ok (.iload 4, 2) := dk_21 4 (dk_at dksX5_named_1 12 rfl rfl)
theorem dX5_named_38 : decode cX5_named 38 = .ok (.iconst 1, 1) := dk_4 (dk_at dksX5_named_1 14 rfl rfl)
theorem dX5_named_39 : decode cX5_named 39 = .ok (.isub, 1) := dk_100 (dk_at dksX5_named_1 15 rfl rfl)
theorem dX5_named_40 : decode cX5_named 40 = .ok (.i2l, 1) := dk_133 (dk_at dksX5_named_1 16 rfl rfl)
theorem dX5_named_41 : decode cX5_named 41 = .ok (.invokestatic 148, 3) := dk_184 0 148 (dk_at dksX5_named_1 17 rfl rfl)
theorem dX5_named_44 : decode cX5_named 44 = .ok (.ifCond .eq 12, 3) := dk_153 0 12 (dk_at dksX5_named_1 20 rfl rfl)
theorem dX5_named_47 : decode cX5_named 47 = .ok (.aload_n 0, 1) := dk_42 (dk_at dksX5_named_1 23 rfl rfl)
theorem dX5_named_48 : decode cX5_named 48 = .ok (.getfield 47, 3) := dk_180 0 47 (dk_at dksX5_named_2 0 rfl rfl)
theorem dX5_named_51 : decode cX5_named 51 = .ok (.iload_n 3, 1) := dk_29 (dk_at dksX5_named_2 3 rfl rfl)
theorem dX5_named_52 : decode cX5_named 52 = .ok (.iaload, 1) := dk_46 (dk_at dksX5_named_2 4 rfl rfl)
theorem dX5_named_53 : decode cX5_named 53 = .ok (.goto 4, 3) := dk_167 0 4 (dk_at dksX5_named_2 5 rfl rfl)
theorem dX5_named_56 : decode cX5_named 56 = .ok (.iconst (-1), 1) := dk_2 (dk_at dksX5_named_2 8 rfl rfl)
theorem dX5_named_57 : decode cX5_named 57 = .ok (.ireturn, 1) := dk_172 (dk_at dksX5_named_2 9 rfl rfl)
abbrev cX5_chain : ByteArray := prog_22_method_82_code
def yX5_chain : MethodName := ⟨RX5, "chain", "(I)I"⟩
def dkwX5_chain_3 : List UInt8 := [16, 10, 100, 46, 167, 0, 4, 2, 172]
abbrev dktX5_chain_3 : List UInt8 := dkwX5_chain_3 ++ []
def dkwX5_chain_2 : List UInt8 := [16, 10, 161, 0, 28, 27, 16, 10, 100, 42, 180, 0, 76, 3, 46, 162, 0, 15, 42, 180, 0, 79, 27]
abbrev dktX5_chain_2 : List UInt8 := dkwX5_chain_2 ++ dktX5_chain_3
def dkwX5_chain_1 : List UInt8 := [153, 0, 23, 27, 154, 0, 12, 42, 180, 0, 73, 3, 46, 167, 0, 9, 42, 180, 0, 76, 3, 46, 172, 27]
abbrev dktX5_chain_1 : List UInt8 := dkwX5_chain_1 ++ dktX5_chain_2
def dkwX5_chain_0 : List UInt8 := [42, 182, 0, 241, 42, 3, 181, 1, 14, 42, 3, 2, 182, 1, 150, 27, 133, 9, 10, 184, 0, 148]
abbrev dktX5_chain_0 : List UInt8 := dkwX5_chain_0 ++ dktX5_chain_1
theorem dksX5_chain_0 : cX5_chain.data.toList.drop 0 = dktX5_chain_0 := by decide +kernel
theorem dksX5_chain_1 : cX5_chain.data.toList.drop 22 = dktX5_chain_1 := dk_seg dksX5_chain_0 22 rfl rfl
theorem dksX5_chain_2 : cX5_chain.data.toList.drop 46 = dktX5_chain_2 := dk_seg dksX5_chain_1 24 rfl rfl
theorem dksX5_chain_3 : cX5_chain.data.toList.drop 69 = dktX5_chain_3 := dk_seg dksX5_chain_2 23 rfl rfl
theorem dX5_chain_0 : decode cX5_chain 0 = .ok (.aload_n 0, 1) := dk_42 (dk_at dksX5_chain_0 0 rfl rfl)
theorem dX5_chain_1 : decode cX5_chain 1 = .ok (.invokevirtual 241, 3) := dk_182 0 241 (dk_at dksX5_chain_0 1 rfl rfl)
theorem dX5_chain_4 : decode cX5_chain 4 = .ok (.aload_n 0, 1) := dk_42 (dk_at dksX5_chain_0 4 rfl rfl)
theorem dX5_chain_5 : decode cX5_chain 5 = .ok (.iconst 0, 1) := dk_3 (dk_at dksX5_chain_0 5 rfl rfl)
theorem dX5_chain_6 : decode cX5_chain 6 = .ok (.putfield 270, 3) := dk_181 1 14 (dk_at dksX5_chain_0 6 rfl rfl)
theorem dX5_chain_9 : decode cX5_chain 9 = .ok (.aload_n 0, 1) := dk_42 (dk_at dksX5_chain_0 9 rfl rfl)
theorem dX5_chain_10 : decode cX5_chain 10 = .ok (.iconst 0, 1) := dk_3 (dk_at dksX5_chain_0 10 rfl rfl)
theorem dX5_chain_11 : decode cX5_chain 11 = .ok (.iconst (-1), 1) := dk_2 (dk_at dksX5_chain_0 11 rfl rfl)
theorem dX5_chain_12 : decode cX5_chain 12 = .ok (.invokevirtual 406, 3) := dk_182 1 150 (dk_at dksX5_chain_0 12 rfl rfl)
theorem dX5_chain_15 : decode cX5_chain 15 = .ok (.iload_n 1, 1) := dk_27 (dk_at dksX5_chain_0 15 rfl rfl)
theorem dX5_chain_16 : decode cX5_chain 16 = .ok (.i2l, 1) := dk_133 (dk_at dksX5_chain_0 16 rfl rfl)
theorem dX5_chain_17 : decode cX5_chain 17 = .ok (.lconst 0, 1) := dk_9 (dk_at dksX5_chain_0 17 rfl rfl)
theorem dX5_chain_18 : decode cX5_chain 18 = .ok (.lconst 1, 1) := dk_10 (dk_at dksX5_chain_0 18 rfl rfl)
theorem dX5_chain_19 : decode cX5_chain 19 = .ok (.invokestatic 148, 3) := dk_184 0 148 (dk_at dksX5_chain_0 19 rfl rfl)
theorem dX5_chain_22 : decode cX5_chain 22 = .ok (.ifCond .eq 23, 3) := dk_153 0 23 (dk_at dksX5_chain_1 0 rfl rfl)
theorem dX5_chain_25 : decode cX5_chain 25 = .ok (.iload_n 1, 1) := dk_27 (dk_at dksX5_chain_1 3 rfl rfl)
theorem dX5_chain_26 : decode cX5_chain 26 = .ok (.ifCond .ne 12, 3) := dk_154 0 12 (dk_at dksX5_chain_1 4 rfl rfl)
theorem dX5_chain_29 : decode cX5_chain 29 = .ok (.aload_n 0, 1) := dk_42 (dk_at dksX5_chain_1 7 rfl rfl)
theorem dX5_chain_30 : decode cX5_chain 30 = .ok (.getfield 73, 3) := dk_180 0 73 (dk_at dksX5_chain_1 8 rfl rfl)
theorem dX5_chain_33 : decode cX5_chain 33 = .ok (.iconst 0, 1) := dk_3 (dk_at dksX5_chain_1 11 rfl rfl)
theorem dX5_chain_34 : decode cX5_chain 34 = .ok (.iaload, 1) := dk_46 (dk_at dksX5_chain_1 12 rfl rfl)
theorem dX5_chain_35 : decode cX5_chain 35 = .ok (.goto 9, 3) := dk_167 0 9 (dk_at dksX5_chain_1 13 rfl rfl)
theorem dX5_chain_38 : decode cX5_chain 38 = .ok (.aload_n 0, 1) := dk_42 (dk_at dksX5_chain_1 16 rfl rfl)
theorem dX5_chain_39 : decode cX5_chain 39 = .ok (.getfield 76, 3) := dk_180 0 76 (dk_at dksX5_chain_1 17 rfl rfl)
theorem dX5_chain_42 : decode cX5_chain 42 = .ok (.iconst 0, 1) := dk_3 (dk_at dksX5_chain_1 20 rfl rfl)
theorem dX5_chain_43 : decode cX5_chain 43 = .ok (.iaload, 1) := dk_46 (dk_at dksX5_chain_1 21 rfl rfl)
theorem dX5_chain_44 : decode cX5_chain 44 = .ok (.ireturn, 1) := dk_172 (dk_at dksX5_chain_1 22 rfl rfl)
theorem dX5_chain_45 : decode cX5_chain 45 = .ok (.iload_n 1, 1) := dk_27 (dk_at dksX5_chain_1 23 rfl rfl)
theorem dX5_chain_46 : decode cX5_chain 46 = .ok (.bipush 10, 2) := dk_16 10 (dk_at dksX5_chain_2 0 rfl rfl)
theorem dX5_chain_48 : decode cX5_chain 48 = .ok (.if_icmp .lt 28, 3) := dk_161 0 28 (dk_at dksX5_chain_2 2 rfl rfl)
theorem dX5_chain_51 : decode cX5_chain 51 = .ok (.iload_n 1, 1) := dk_27 (dk_at dksX5_chain_2 5 rfl rfl)
theorem dX5_chain_52 : decode cX5_chain 52 = .ok (.bipush 10, 2) := dk_16 10 (dk_at dksX5_chain_2 6 rfl rfl)
theorem dX5_chain_54 : decode cX5_chain 54 = .ok (.isub, 1) := dk_100 (dk_at dksX5_chain_2 8 rfl rfl)
theorem dX5_chain_55 : decode cX5_chain 55 = .ok (.aload_n 0, 1) := dk_42 (dk_at dksX5_chain_2 9 rfl rfl)
theorem dX5_chain_56 : decode cX5_chain 56 = .ok (.getfield 76, 3) := dk_180 0 76 (dk_at dksX5_chain_2 10 rfl rfl)
theorem dX5_chain_59 : decode cX5_chain 59 = .ok (.iconst 0, 1) := dk_3 (dk_at dksX5_chain_2 13 rfl rfl)
theorem dX5_chain_60 : decode cX5_chain 60 = .ok (.iaload, 1) := dk_46 (dk_at dksX5_chain_2 14 rfl rfl)
theorem dX5_chain_61 : decode cX5_chain 61 = .ok (.if_icmp .ge 15, 3) := dk_162 0 15 (dk_at dksX5_chain_2 15 rfl rfl)
theorem dX5_chain_64 : decode cX5_chain 64 = .ok (.aload_n 0, 1) := dk_42 (dk_at dksX5_chain_2 18 rfl rfl)
theorem dX5_chain_65 : decode cX5_chain 65 = .ok (.getfield 79, 3) := dk_180 0 79 (dk_at dksX5_chain_2 19 rfl rfl)
theorem dX5_chain_68 : decode cX5_chain 68 = .ok (.iload_n 1, 1) := dk_27 (dk_at dksX5_chain_2 22 rfl rfl)
theorem dX5_chain_69 : decode cX5_chain 69 = .ok (.bipush 10, 2) := dk_16 10 (dk_at dksX5_chain_3 0 rfl rfl)
theorem dX5_chain_71 : decode cX5_chain 71 = .ok (.isub, 1) := dk_100 (dk_at dksX5_chain_3 2 rfl rfl)
theorem dX5_chain_72 : decode cX5_chain 72 = .ok (.iaload, 1) := dk_46 (dk_at dksX5_chain_3 3 rfl rfl)
theorem dX5_chain_73 : decode cX5_chain 73 = .ok (.goto 4, 3) := dk_167 0 4 (dk_at dksX5_chain_3 4 rfl rfl)
theorem dX5_chain_76 : decode cX5_chain 76 = .ok (.iconst (-1), 1) := dk_2 (dk_at dksX5_chain_3 7 rfl rfl)
theorem dX5_chain_77 : decode cX5_chain 77 = .ok (.ireturn, 1) := dk_172 (dk_at dksX5_chain_3 8 rfl rfl)
abbrev cX5_feed : ByteArray := prog_22_method_83_code
def yX5_feed : MethodName := ⟨RX5, "feed", "(I)I"⟩
def dkwX5_feed_2 : List UInt8 := [180, 1, 161, 172]
abbrev dktX5_feed_2 : List UInt8 := dkwX5_feed_2 ++ []
def dkwX5_feed_1 : List UInt8 := [16, 252, 172, 42, 180, 0, 82, 42, 180, 1, 161, 27, 79, 42, 89, 180, 1, 161, 4, 96, 181, 1, 161, 42]
abbrev dktX5_feed_1 : List UInt8 := dkwX5_feed_1 ++ dktX5_feed_2
def dkwX5_feed_0 : List UInt8 := [27, 133, 9, 20, 1, 159, 184, 0, 148, 154, 0, 6, 16, 254, 172, 42, 180, 1, 161, 16, 80, 160, 0, 6]
abbrev dktX5_feed_0 : List UInt8 := dkwX5_feed_0 ++ dktX5_feed_1
theorem dksX5_feed_0 : cX5_feed.data.toList.drop 0 = dktX5_feed_0 := by decide +kernel
theorem dksX5_feed_1 : cX5_feed.data.toList.drop 24 = dktX5_feed_1 := dk_seg dksX5_feed_0 24 rfl rfl
theorem dksX5_feed_2 : cX5_feed.data.toList.drop 48 = dktX5_feed_2 := dk_seg dksX5_feed_1 24 rfl rfl
theorem dX5_feed_0 : decode cX5_feed 0 = .ok (.iload_n 1, 1) := dk_27 (dk_at dksX5_feed_0 0 rfl rfl)
theorem dX5_feed_1 : decode cX5_feed 1 = .ok (.i2l, 1) := dk_133 (dk_at dksX5_feed_0 1 rfl rfl)
theorem dX5_feed_2 : decode cX5_feed 2 = .ok (.lconst 0, 1) := dk_9 (dk_at dksX5_feed_0 2 rfl rfl)
theorem dX5_feed_3 : decode cX5_feed 3 = .ok (.ldc2_w 415, 3) := dk_20 1 159 (dk_at dksX5_feed_0 3 rfl rfl)
theorem dX5_feed_6 : decode cX5_feed 6 = .ok (.invokestatic 148, 3) := dk_184 0 148 (dk_at dksX5_feed_0 6 rfl rfl)
theorem dX5_feed_9 : decode cX5_feed 9 = .ok (.ifCond .ne 6, 3) := dk_154 0 6 (dk_at dksX5_feed_0 9 rfl rfl)
theorem dX5_feed_12 : decode cX5_feed 12 = .ok (.bipush (-2), 2) := dk_16 254 (dk_at dksX5_feed_0 12 rfl rfl)
theorem dX5_feed_14 : decode cX5_feed 14 = .ok (.ireturn, 1) := dk_172 (dk_at dksX5_feed_0 14 rfl rfl)
theorem dX5_feed_15 : decode cX5_feed 15 = .ok (.aload_n 0, 1) := dk_42 (dk_at dksX5_feed_0 15 rfl rfl)
theorem dX5_feed_16 : decode cX5_feed 16 = .ok (.getfield 417, 3) := dk_180 1 161 (dk_at dksX5_feed_0 16 rfl rfl)
theorem dX5_feed_19 : decode cX5_feed 19 = .ok (.bipush 80, 2) := dk_16 80 (dk_at dksX5_feed_0 19 rfl rfl)
theorem dX5_feed_21 : decode cX5_feed 21 = .ok (.if_icmp .ne 6, 3) := dk_160 0 6 (dk_at dksX5_feed_0 21 rfl rfl)
theorem dX5_feed_24 : decode cX5_feed 24 = .ok (.bipush (-4), 2) := dk_16 252 (dk_at dksX5_feed_1 0 rfl rfl)
theorem dX5_feed_26 : decode cX5_feed 26 = .ok (.ireturn, 1) := dk_172 (dk_at dksX5_feed_1 2 rfl rfl)
theorem dX5_feed_27 : decode cX5_feed 27 = .ok (.aload_n 0, 1) := dk_42 (dk_at dksX5_feed_1 3 rfl rfl)
theorem dX5_feed_28 : decode cX5_feed 28 = .ok (.getfield 82, 3) := dk_180 0 82 (dk_at dksX5_feed_1 4 rfl rfl)
theorem dX5_feed_31 : decode cX5_feed 31 = .ok (.aload_n 0, 1) := dk_42 (dk_at dksX5_feed_1 7 rfl rfl)
theorem dX5_feed_32 : decode cX5_feed 32 = .ok (.getfield 417, 3) := dk_180 1 161 (dk_at dksX5_feed_1 8 rfl rfl)
theorem dX5_feed_35 : decode cX5_feed 35 = .ok (.iload_n 1, 1) := dk_27 (dk_at dksX5_feed_1 11 rfl rfl)
theorem dX5_feed_36 : decode cX5_feed 36 = .ok (.iastore, 1) := dk_79 (dk_at dksX5_feed_1 12 rfl rfl)
theorem dX5_feed_37 : decode cX5_feed 37 = .ok (.aload_n 0, 1) := dk_42 (dk_at dksX5_feed_1 13 rfl rfl)
theorem dX5_feed_38 : decode cX5_feed 38 = .ok (.dup, 1) := dk_89 (dk_at dksX5_feed_1 14 rfl rfl)
theorem dX5_feed_39 : decode cX5_feed 39 = .ok (.getfield 417, 3) := dk_180 1 161 (dk_at dksX5_feed_1 15 rfl rfl)
theorem dX5_feed_42 : decode cX5_feed 42 = .ok (.iconst 1, 1) := dk_4 (dk_at dksX5_feed_1 18 rfl rfl)
theorem dX5_feed_43 : decode cX5_feed 43 = .ok (.iadd, 1) := dk_96 (dk_at dksX5_feed_1 19 rfl rfl)
theorem dX5_feed_44 : decode cX5_feed 44 = .ok (.putfield 417, 3) := dk_181 1 161 (dk_at dksX5_feed_1 20 rfl rfl)
theorem dX5_feed_47 : decode cX5_feed 47 = .ok (.aload_n 0, 1) := dk_42 (dk_at dksX5_feed_1 23 rfl rfl)
theorem dX5_feed_48 : decode cX5_feed 48 = .ok (.getfield 417, 3) := dk_180 1 161 (dk_at dksX5_feed_2 0 rfl rfl)
theorem dX5_feed_51 : decode cX5_feed 51 = .ok (.ireturn, 1) := dk_172 (dk_at dksX5_feed_2 3 rfl rfl)
abbrev cX5_clear : ByteArray := prog_22_method_84_code
def yX5_clear : MethodName := ⟨RX5, "clear", "()I"⟩
def dkwX5_clear_0 : List UInt8 := [42, 180, 1, 161, 60, 42, 3, 181, 1, 161, 27, 172]
abbrev dktX5_clear_0 : List UInt8 := dkwX5_clear_0 ++ []
theorem dksX5_clear_0 : cX5_clear.data.toList.drop 0 = dktX5_clear_0 := by decide +kernel
theorem dX5_clear_0 : decode cX5_clear 0 = .ok (.aload_n 0, 1) := dk_42 (dk_at dksX5_clear_0 0 rfl rfl)
theorem dX5_clear_1 : decode cX5_clear 1 = .ok (.getfield 417, 3) := dk_180 1 161 (dk_at dksX5_clear_0 1 rfl rfl)
theorem dX5_clear_4 : decode cX5_clear 4 = .ok (.istore_n 1, 1) := dk_60 (dk_at dksX5_clear_0 4 rfl rfl)
theorem dX5_clear_5 : decode cX5_clear 5 = .ok (.aload_n 0, 1) := dk_42 (dk_at dksX5_clear_0 5 rfl rfl)
theorem dX5_clear_6 : decode cX5_clear 6 = .ok (.iconst 0, 1) := dk_3 (dk_at dksX5_clear_0 6 rfl rfl)
theorem dX5_clear_7 : decode cX5_clear 7 = .ok (.putfield 417, 3) := dk_181 1 161 (dk_at dksX5_clear_0 7 rfl rfl)
theorem dX5_clear_10 : decode cX5_clear 10 = .ok (.iload_n 1, 1) := dk_27 (dk_at dksX5_clear_0 10 rfl rfl)
theorem dX5_clear_11 : decode cX5_clear 11 = .ok (.ireturn, 1) := dk_172 (dk_at dksX5_clear_0 11 rfl rfl)
abbrev cX5_read : ByteArray := prog_22_method_104_code
def yX5_read : MethodName := ⟨RX5, "read", "()I"⟩
def dkwX5_read_6 : List UInt8 := [167, 0, 5, 16, 100, 96, 172]
abbrev dktX5_read_6 : List UInt8 := dkwX5_read_6 ++ []
def dkwX5_read_5 : List UInt8 := [181, 1, 161, 42, 89, 180, 2, 2, 4, 96, 181, 2, 2, 42, 180, 0, 145, 28, 153, 0, 7, 3]
abbrev dktX5_read_5 : List UInt8 := dkwX5_read_5 ++ dktX5_read_6
def dkwX5_read_4 : List UInt8 := [28, 46, 79, 132, 2, 1, 167, 255, 221, 16, 236, 172, 42, 182, 1, 252, 42, 27, 182, 1, 255, 61, 42, 3]
abbrev dktX5_read_4 : List UInt8 := dkwX5_read_4 ++ dktX5_read_5
def dkwX5_read_3 : List UInt8 := [162, 0, 33, 42, 180, 0, 127, 28, 42, 180, 0, 121, 28, 46, 79, 42, 180, 0, 130, 28, 42, 180, 0, 124]
abbrev dktX5_read_3 : List UInt8 := dkwX5_read_3 ++ dktX5_read_4
def dkwX5_read_2 : List UInt8 := [154, 0, 59, 42, 3, 181, 1, 161, 42, 42, 180, 1, 222, 181, 1, 249, 3, 61, 28, 42, 180, 1, 222]
abbrev dktX5_read_2 : List UInt8 := dkwX5_read_2 ++ dktX5_read_3
def dkwX5_read_1 : List UInt8 := [181, 1, 161, 16, 156, 42, 180, 1, 170, 100, 172, 42, 3, 181, 1, 222, 42, 3, 3, 182, 1, 231]
abbrev dktX5_read_1 : List UInt8 := dkwX5_read_1 ++ dktX5_read_2
def dkwX5_read_0 : List UInt8 := [42, 180, 1, 161, 60, 42, 89, 180, 1, 243, 4, 96, 181, 1, 243, 42, 182, 1, 246, 154, 0, 16, 42, 3]
abbrev dktX5_read_0 : List UInt8 := dkwX5_read_0 ++ dktX5_read_1
theorem dksX5_read_0 : cX5_read.data.toList.drop 0 = dktX5_read_0 := by decide +kernel
theorem dksX5_read_1 : cX5_read.data.toList.drop 24 = dktX5_read_1 := dk_seg dksX5_read_0 24 rfl rfl
theorem dksX5_read_2 : cX5_read.data.toList.drop 46 = dktX5_read_2 := dk_seg dksX5_read_1 22 rfl rfl
theorem dksX5_read_3 : cX5_read.data.toList.drop 69 = dktX5_read_3 := dk_seg dksX5_read_2 23 rfl rfl
theorem dksX5_read_4 : cX5_read.data.toList.drop 93 = dktX5_read_4 := dk_seg dksX5_read_3 24 rfl rfl
theorem dksX5_read_5 : cX5_read.data.toList.drop 117 = dktX5_read_5 := dk_seg dksX5_read_4 24 rfl rfl
theorem dksX5_read_6 : cX5_read.data.toList.drop 139 = dktX5_read_6 := dk_seg dksX5_read_5 22 rfl rfl
theorem dX5_read_0 : decode cX5_read 0 = .ok (.aload_n 0, 1) := dk_42 (dk_at dksX5_read_0 0 rfl rfl)
theorem dX5_read_1 : decode cX5_read 1 = .ok (.getfield 417, 3) := dk_180 1 161 (dk_at dksX5_read_0 1 rfl rfl)
theorem dX5_read_4 : decode cX5_read 4 = .ok (.istore_n 1, 1) := dk_60 (dk_at dksX5_read_0 4 rfl rfl)
theorem dX5_read_5 : decode cX5_read 5 = .ok (.aload_n 0, 1) := dk_42 (dk_at dksX5_read_0 5 rfl rfl)
theorem dX5_read_6 : decode cX5_read 6 = .ok (.dup, 1) := dk_89 (dk_at dksX5_read_0 6 rfl rfl)
theorem dX5_read_7 : decode cX5_read 7 = .ok (.getfield 499, 3) := dk_180 1 243 (dk_at dksX5_read_0 7 rfl rfl)
theorem dX5_read_10 : decode cX5_read 10 = .ok (.iconst 1, 1) := dk_4 (dk_at dksX5_read_0 10 rfl rfl)
theorem dX5_read_11 : decode cX5_read 11 = .ok (.iadd, 1) := dk_96 (dk_at dksX5_read_0 11 rfl rfl)
theorem dX5_read_12 : decode cX5_read 12 = .ok (.putfield 499, 3) := dk_181 1 243 (dk_at dksX5_read_0 12 rfl rfl)
theorem dX5_read_15 : decode cX5_read 15 = .ok (.aload_n 0, 1) := dk_42 (dk_at dksX5_read_0 15 rfl rfl)
theorem dX5_read_16 : decode cX5_read 16 = .ok (.invokevirtual 502, 3) := dk_182 1 246 (dk_at dksX5_read_0 16 rfl rfl)
theorem dX5_read_19 : decode cX5_read 19 = .ok (.ifCond .ne 16, 3) := dk_154 0 16 (dk_at dksX5_read_0 19 rfl rfl)
theorem dX5_read_22 : decode cX5_read 22 = .ok (.aload_n 0, 1) := dk_42 (dk_at dksX5_read_0 22 rfl rfl)
theorem dX5_read_23 : decode cX5_read 23 = .ok (.iconst 0, 1) := dk_3 (dk_at dksX5_read_0 23 rfl rfl)
theorem dX5_read_24 : decode cX5_read 24 = .ok (.putfield 417, 3) := dk_181 1 161 (dk_at dksX5_read_1 0 rfl rfl)
theorem dX5_read_27 : decode cX5_read 27 = .ok (.bipush (-100), 2) := dk_16 156 (dk_at dksX5_read_1 3 rfl rfl)
theorem dX5_read_29 : decode cX5_read 29 = .ok (.aload_n 0, 1) := dk_42 (dk_at dksX5_read_1 5 rfl rfl)
theorem dX5_read_30 : decode cX5_read 30 = .ok (.getfield 426, 3) := dk_180 1 170 (dk_at dksX5_read_1 6 rfl rfl)
theorem dX5_read_33 : decode cX5_read 33 = .ok (.isub, 1) := dk_100 (dk_at dksX5_read_1 9 rfl rfl)
theorem dX5_read_34 : decode cX5_read 34 = .ok (.ireturn, 1) := dk_172 (dk_at dksX5_read_1 10 rfl rfl)
theorem dX5_read_35 : decode cX5_read 35 = .ok (.aload_n 0, 1) := dk_42 (dk_at dksX5_read_1 11 rfl rfl)
theorem dX5_read_36 : decode cX5_read 36 = .ok (.iconst 0, 1) := dk_3 (dk_at dksX5_read_1 12 rfl rfl)
theorem dX5_read_37 : decode cX5_read 37 = .ok (.putfield 478, 3) := dk_181 1 222 (dk_at dksX5_read_1 13 rfl rfl)
theorem dX5_read_40 : decode cX5_read 40 = .ok (.aload_n 0, 1) := dk_42 (dk_at dksX5_read_1 16 rfl rfl)
theorem dX5_read_41 : decode cX5_read 41 = .ok (.iconst 0, 1) := dk_3 (dk_at dksX5_read_1 17 rfl rfl)
theorem dX5_read_42 : decode cX5_read 42 = .ok (.iconst 0, 1) := dk_3 (dk_at dksX5_read_1 18 rfl rfl)
theorem dX5_read_43 : decode cX5_read 43 = .ok (.invokevirtual 487, 3) := dk_182 1 231 (dk_at dksX5_read_1 19 rfl rfl)
theorem dX5_read_46 : decode cX5_read 46 = .ok (.ifCond .ne 59, 3) := dk_154 0 59 (dk_at dksX5_read_2 0 rfl rfl)
theorem dX5_read_49 : decode cX5_read 49 = .ok (.aload_n 0, 1) := dk_42 (dk_at dksX5_read_2 3 rfl rfl)
theorem dX5_read_50 : decode cX5_read 50 = .ok (.iconst 0, 1) := dk_3 (dk_at dksX5_read_2 4 rfl rfl)
theorem dX5_read_51 : decode cX5_read 51 = .ok (.putfield 417, 3) := dk_181 1 161 (dk_at dksX5_read_2 5 rfl rfl)
theorem dX5_read_54 : decode cX5_read 54 = .ok (.aload_n 0, 1) := dk_42 (dk_at dksX5_read_2 8 rfl rfl)
theorem dX5_read_55 : decode cX5_read 55 = .ok (.aload_n 0, 1) := dk_42 (dk_at dksX5_read_2 9 rfl rfl)
theorem dX5_read_56 : decode cX5_read 56 = .ok (.getfield 478, 3) := dk_180 1 222 (dk_at dksX5_read_2 10 rfl rfl)
theorem dX5_read_59 : decode cX5_read 59 = .ok (.putfield 505, 3) := dk_181 1 249 (dk_at dksX5_read_2 13 rfl rfl)
theorem dX5_read_62 : decode cX5_read 62 = .ok (.iconst 0, 1) := dk_3 (dk_at dksX5_read_2 16 rfl rfl)
theorem dX5_read_63 : decode cX5_read 63 = .ok (.istore_n 2, 1) := dk_61 (dk_at dksX5_read_2 17 rfl rfl)
theorem dX5_read_64 : decode cX5_read 64 = .ok (.iload_n 2, 1) := dk_28 (dk_at dksX5_read_2 18 rfl rfl)
theorem dX5_read_65 : decode cX5_read 65 = .ok (.aload_n 0, 1) := dk_42 (dk_at dksX5_read_2 19 rfl rfl)
theorem dX5_read_66 : decode cX5_read 66 = .ok (.getfield 478, 3) := dk_180 1 222 (dk_at dksX5_read_2 20 rfl rfl)
theorem dX5_read_69 : decode cX5_read 69 = .ok (.if_icmp .ge 33, 3) := dk_162 0 33 (dk_at dksX5_read_3 0 rfl rfl)
theorem dX5_read_72 : decode cX5_read 72 = .ok (.aload_n 0, 1) := dk_42 (dk_at dksX5_read_3 3 rfl rfl)
theorem dX5_read_73 : decode cX5_read 73 = .ok (.getfield 127, 3) := dk_180 0 127 (dk_at dksX5_read_3 4 rfl rfl)
theorem dX5_read_76 : decode cX5_read 76 = .ok (.iload_n 2, 1) := dk_28 (dk_at dksX5_read_3 7 rfl rfl)
theorem dX5_read_77 : decode cX5_read 77 = .ok (.aload_n 0, 1) := dk_42 (dk_at dksX5_read_3 8 rfl rfl)
theorem dX5_read_78 : decode cX5_read 78 = .ok (.getfield 121, 3) := dk_180 0 121 (dk_at dksX5_read_3 9 rfl rfl)
theorem dX5_read_81 : decode cX5_read 81 = .ok (.iload_n 2, 1) := dk_28 (dk_at dksX5_read_3 12 rfl rfl)
theorem dX5_read_82 : decode cX5_read 82 = .ok (.iaload, 1) := dk_46 (dk_at dksX5_read_3 13 rfl rfl)
theorem dX5_read_83 : decode cX5_read 83 = .ok (.iastore, 1) := dk_79 (dk_at dksX5_read_3 14 rfl rfl)
theorem dX5_read_84 : decode cX5_read 84 = .ok (.aload_n 0, 1) := dk_42 (dk_at dksX5_read_3 15 rfl rfl)
theorem dX5_read_85 : decode cX5_read 85 = .ok (.getfield 130, 3) := dk_180 0 130 (dk_at dksX5_read_3 16 rfl rfl)
theorem dX5_read_88 : decode cX5_read 88 = .ok (.iload_n 2, 1) := dk_28 (dk_at dksX5_read_3 19 rfl rfl)
theorem dX5_read_89 : decode cX5_read 89 = .ok (.aload_n 0, 1) := dk_42 (dk_at dksX5_read_3 20 rfl rfl)
theorem dX5_read_90 : decode cX5_read 90 = .ok (.getfield 124, 3) := dk_180 0 124 (dk_at dksX5_read_3 21 rfl rfl)
theorem dX5_read_93 : decode cX5_read 93 = .ok (.iload_n 2, 1) := dk_28 (dk_at dksX5_read_4 0 rfl rfl)
theorem dX5_read_94 : decode cX5_read 94 = .ok (.iaload, 1) := dk_46 (dk_at dksX5_read_4 1 rfl rfl)
theorem dX5_read_95 : decode cX5_read 95 = .ok (.iastore, 1) := dk_79 (dk_at dksX5_read_4 2 rfl rfl)
theorem dX5_read_96 : decode cX5_read 96 = .ok (.iinc 2 1, 3) := dk_132 2 1 (dk_at dksX5_read_4 3 rfl rfl)
theorem dX5_read_99 : decode cX5_read 99 = .ok (.goto (-35), 3) := dk_167 255 221 (dk_at dksX5_read_4 6 rfl rfl)
theorem dX5_read_102 : decode cX5_read 102 = .ok (.bipush (-20), 2) := dk_16 236 (dk_at dksX5_read_4 9 rfl rfl)
theorem dX5_read_104 : decode cX5_read 104 = .ok (.ireturn, 1) := dk_172 (dk_at dksX5_read_4 11 rfl rfl)
theorem dX5_read_105 : decode cX5_read 105 = .ok (.aload_n 0, 1) := dk_42 (dk_at dksX5_read_4 12 rfl rfl)
theorem dX5_read_106 : decode cX5_read 106 = .ok (.invokevirtual 508, 3) := dk_182 1 252 (dk_at dksX5_read_4 13 rfl rfl)
theorem dX5_read_109 : decode cX5_read 109 = .ok (.aload_n 0, 1) := dk_42 (dk_at dksX5_read_4 16 rfl rfl)
theorem dX5_read_110 : decode cX5_read 110 = .ok (.iload_n 1, 1) := dk_27 (dk_at dksX5_read_4 17 rfl rfl)
theorem dX5_read_111 : decode cX5_read 111 = .ok (.invokevirtual 511, 3) := dk_182 1 255 (dk_at dksX5_read_4 18 rfl rfl)
theorem dX5_read_114 : decode cX5_read 114 = .ok (.istore_n 2, 1) := dk_61 (dk_at dksX5_read_4 21 rfl rfl)
theorem dX5_read_115 : decode cX5_read 115 = .ok (.aload_n 0, 1) := dk_42 (dk_at dksX5_read_4 22 rfl rfl)
theorem dX5_read_116 : decode cX5_read 116 = .ok (.iconst 0, 1) := dk_3 (dk_at dksX5_read_4 23 rfl rfl)
theorem dX5_read_117 : decode cX5_read 117 = .ok (.putfield 417, 3) := dk_181 1 161 (dk_at dksX5_read_5 0 rfl rfl)
theorem dX5_read_120 : decode cX5_read 120 = .ok (.aload_n 0, 1) := dk_42 (dk_at dksX5_read_5 3 rfl rfl)
theorem dX5_read_121 : decode cX5_read 121 = .ok (.dup, 1) := dk_89 (dk_at dksX5_read_5 4 rfl rfl)
theorem dX5_read_122 : decode cX5_read 122 = .ok (.getfield 514, 3) := dk_180 2 2 (dk_at dksX5_read_5 5 rfl rfl)
theorem dX5_read_125 : decode cX5_read 125 = .ok (.iconst 1, 1) := dk_4 (dk_at dksX5_read_5 8 rfl rfl)
theorem dX5_read_126 : decode cX5_read 126 = .ok (.iadd, 1) := dk_96 (dk_at dksX5_read_5 9 rfl rfl)
theorem dX5_read_127 : decode cX5_read 127 = .ok (.putfield 514, 3) := dk_181 2 2 (dk_at dksX5_read_5 10 rfl rfl)
theorem dX5_read_130 : decode cX5_read 130 = .ok (.aload_n 0, 1) := dk_42 (dk_at dksX5_read_5 13 rfl rfl)
theorem dX5_read_131 : decode cX5_read 131 = .ok (.getfield 145, 3) := dk_180 0 145 (dk_at dksX5_read_5 14 rfl rfl)
theorem dX5_read_134 : decode cX5_read 134 = .ok (.iload_n 2, 1) := dk_28 (dk_at dksX5_read_5 17 rfl rfl)
theorem dX5_read_135 : decode cX5_read 135 = .ok (.ifCond .eq 7, 3) := dk_153 0 7 (dk_at dksX5_read_5 18 rfl rfl)
theorem dX5_read_138 : decode cX5_read 138 = .ok (.iconst 0, 1) := dk_3 (dk_at dksX5_read_5 21 rfl rfl)
theorem dX5_read_139 : decode cX5_read 139 = .ok (.goto 5, 3) := dk_167 0 5 (dk_at dksX5_read_6 0 rfl rfl)
theorem dX5_read_142 : decode cX5_read 142 = .ok (.bipush 100, 2) := dk_16 100 (dk_at dksX5_read_6 3 rfl rfl)
theorem dX5_read_144 : decode cX5_read 144 = .ok (.iadd, 1) := dk_96 (dk_at dksX5_read_6 5 rfl rfl)
theorem dX5_read_145 : decode cX5_read 145 = .ok (.ireturn, 1) := dk_172 (dk_at dksX5_read_6 6 rfl rfl)
abbrev cX5_takesName : ByteArray := prog_22_method_95_code
def yX5_takesName : MethodName := ⟨RX5, "takesName", "()Z"⟩
def dkwX5_takesName_3 : List UInt8 := [4, 167, 0, 4, 3, 172]
abbrev dktX5_takesName_3 : List UInt8 := dkwX5_takesName_3 ++ []
def dkwX5_takesName_2 : List UInt8 := [3, 172, 42, 3, 19, 1, 220, 182, 1, 197, 153, 0, 18, 42, 180, 1, 170, 42, 180, 1, 161, 160, 0, 7]
abbrev dktX5_takesName_2 : List UInt8 := dkwX5_takesName_2 ++ dktX5_takesName_3
def dkwX5_takesName_1 : List UInt8 := [182, 1, 164, 133, 20, 1, 216, 20, 1, 218, 184, 0, 148, 153, 0, 13, 42, 3, 182, 1, 192, 154, 0, 5]
abbrev dktX5_takesName_1 : List UInt8 := dkwX5_takesName_1 ++ dktX5_takesName_2
def dkwX5_takesName_0 : List UInt8 := [42, 3, 181, 1, 170, 42, 3, 181, 1, 201, 42, 3, 181, 1, 173, 42, 4, 181, 1, 189, 42, 3]
abbrev dktX5_takesName_0 : List UInt8 := dkwX5_takesName_0 ++ dktX5_takesName_1
theorem dksX5_takesName_0 : cX5_takesName.data.toList.drop 0 = dktX5_takesName_0 := by decide +kernel
theorem dksX5_takesName_1 : cX5_takesName.data.toList.drop 22 = dktX5_takesName_1 := dk_seg dksX5_takesName_0 22 rfl rfl
theorem dksX5_takesName_2 : cX5_takesName.data.toList.drop 46 = dktX5_takesName_2 := dk_seg dksX5_takesName_1 24 rfl rfl
theorem dksX5_takesName_3 : cX5_takesName.data.toList.drop 70 = dktX5_takesName_3 := dk_seg dksX5_takesName_2 24 rfl rfl
theorem dX5_takesName_0 : decode cX5_takesName 0 = .ok (.aload_n 0, 1) := dk_42 (dk_at dksX5_takesName_0 0 rfl rfl)
theorem dX5_takesName_1 : decode cX5_takesName 1 = .ok (.iconst 0, 1) := dk_3 (dk_at dksX5_takesName_0 1 rfl rfl)
theorem dX5_takesName_2 : decode cX5_takesName 2 = .ok (.putfield 426, 3) := dk_181 1 170 (dk_at dksX5_takesName_0 2 rfl rfl)
theorem dX5_takesName_5 : decode cX5_takesName 5 = .ok (.aload_n 0, 1) := dk_42 (dk_at dksX5_takesName_0 5 rfl rfl)
theorem dX5_takesName_6 : decode cX5_takesName 6 = .ok (.iconst 0, 1) := dk_3 (dk_at dksX5_takesName_0 6 rfl rfl)
theorem dX5_takesName_7 : decode cX5_takesName 7 = .ok (.putfield 457, 3) := dk_181 1 201 (dk_at dksX5_takesName_0 7 rfl rfl)
theorem dX5_takesName_10 : decode cX5_takesName 10 = .ok (.aload_n 0, 1) := dk_42 (dk_at dksX5_takesName_0 10 rfl rfl)
theorem dX5_takesName_11 : decode cX5_takesName 11 = .ok (.iconst 0, 1) := dk_3 (dk_at dksX5_takesName_0 11 rfl rfl)
theorem dX5_takesName_12 : decode cX5_takesName 12 = .ok (.putfield 429, 3) := dk_181 1 173 (dk_at dksX5_takesName_0 12 rfl rfl)
theorem dX5_takesName_15 : decode cX5_takesName 15 = .ok (.aload_n 0, 1) := dk_42 (dk_at dksX5_takesName_0 15 rfl rfl)
theorem dX5_takesName_16 : decode cX5_takesName 16 = .ok (.iconst 1, 1) := dk_4 (dk_at dksX5_takesName_0 16 rfl rfl)
theorem dX5_takesName_17 : decode cX5_takesName 17 = .ok (.putfield 445, 3) := dk_181 1 189 (dk_at dksX5_takesName_0 17 rfl rfl)
theorem dX5_takesName_20 : decode cX5_takesName 20 = .ok (.aload_n 0, 1) := dk_42 (dk_at dksX5_takesName_0 20 rfl rfl)
theorem dX5_takesName_21 : decode cX5_takesName 21 = .ok (.iconst 0, 1) := dk_3 (dk_at dksX5_takesName_0 21 rfl rfl)
theorem dX5_takesName_22 : decode cX5_takesName 22 = .ok (.invokevirtual 420, 3) := dk_182 1 164 (dk_at dksX5_takesName_1 0 rfl rfl)
theorem dX5_takesName_25 : decode cX5_takesName 25 = .ok (.i2l, 1) := dk_133 (dk_at dksX5_takesName_1 3 rfl rfl)
theorem dX5_takesName_26 : decode cX5_takesName 26 = .ok (.ldc2_w 472, 3) := dk_20 1 216 (dk_at dksX5_takesName_1 4 rfl rfl)
theorem dX5_takesName_29 : decode cX5_takesName 29 = .ok (.ldc2_w 474, 3) := dk_20 1 218 (dk_at dksX5_takesName_1 7 rfl rfl)
theorem dX5_takesName_32 : decode cX5_takesName 32 = .ok (.invokestatic 148, 3) := dk_184 0 148 (dk_at dksX5_takesName_1 10 rfl rfl)
theorem dX5_takesName_35 : decode cX5_takesName 35 = .ok (.ifCond .eq 13, 3) := dk_153 0 13 (dk_at dksX5_takesName_1 13 rfl rfl)
theorem dX5_takesName_38 : decode cX5_takesName 38 = .ok (.aload_n 0, 1) := dk_42 (dk_at dksX5_takesName_1 16 rfl rfl)
theorem dX5_takesName_39 : decode cX5_takesName 39 = .ok (.iconst 0, 1) := dk_3 (dk_at dksX5_takesName_1 17 rfl rfl)
theorem dX5_takesName_40 : decode cX5_takesName 40 = .ok (.invokevirtual 448, 3) := dk_182 1 192 (dk_at dksX5_takesName_1 18 rfl rfl)
theorem dX5_takesName_43 : decode cX5_takesName 43 = .ok (.ifCond .ne 5, 3) := dk_154 0 5 (dk_at dksX5_takesName_1 21 rfl rfl)
theorem dX5_takesName_46 : decode cX5_takesName 46 = .ok (.iconst 0, 1) := dk_3 (dk_at dksX5_takesName_2 0 rfl rfl)
theorem dX5_takesName_47 : decode cX5_takesName 47 = .ok (.ireturn, 1) := dk_172 (dk_at dksX5_takesName_2 1 rfl rfl)
theorem dX5_takesName_48 : decode cX5_takesName 48 = .ok (.aload_n 0, 1) := dk_42 (dk_at dksX5_takesName_2 2 rfl rfl)
theorem dX5_takesName_49 : decode cX5_takesName 49 = .ok (.iconst 0, 1) := dk_3 (dk_at dksX5_takesName_2 3 rfl rfl)
theorem dX5_takesName_50 : decode cX5_takesName 50 = .ok (.ldc_w 476, 3) := dk_19 1 220 (dk_at dksX5_takesName_2 4 rfl rfl)
theorem dX5_takesName_53 : decode cX5_takesName 53 = .ok (.invokevirtual 453, 3) := dk_182 1 197 (dk_at dksX5_takesName_2 7 rfl rfl)
theorem dX5_takesName_56 : decode cX5_takesName 56 = .ok (.ifCond .eq 18, 3) := dk_153 0 18 (dk_at dksX5_takesName_2 10 rfl rfl)
theorem dX5_takesName_59 : decode cX5_takesName 59 = .ok (.aload_n 0, 1) := dk_42 (dk_at dksX5_takesName_2 13 rfl rfl)
theorem dX5_takesName_60 : decode cX5_takesName 60 = .ok (.getfield 426, 3) := dk_180 1 170 (dk_at dksX5_takesName_2 14 rfl rfl)
theorem dX5_takesName_63 : decode cX5_takesName 63 = .ok (.aload_n 0, 1) := dk_42 (dk_at dksX5_takesName_2 17 rfl rfl)
theorem dX5_takesName_64 : decode cX5_takesName 64 = .ok (.getfield 417, 3) := dk_180 1 161 (dk_at dksX5_takesName_2 18 rfl rfl)
theorem dX5_takesName_67 : decode cX5_takesName 67 = .ok (.if_icmp .ne 7, 3) := dk_160 0 7 (dk_at dksX5_takesName_2 21 rfl rfl)
theorem dX5_takesName_70 : decode cX5_takesName 70 = .ok (.iconst 1, 1) := dk_4 (dk_at dksX5_takesName_3 0 rfl rfl)
theorem dX5_takesName_71 : decode cX5_takesName 71 = .ok (.goto 4, 3) := dk_167 0 4 (dk_at dksX5_takesName_3 1 rfl rfl)
theorem dX5_takesName_74 : decode cX5_takesName 74 = .ok (.iconst 0, 1) := dk_3 (dk_at dksX5_takesName_3 4 rfl rfl)
theorem dX5_takesName_75 : decode cX5_takesName 75 = .ok (.ireturn, 1) := dk_172 (dk_at dksX5_takesName_3 5 rfl rfl)
abbrev cX5_byteAt : ByteArray := prog_22_method_85_code
def yX5_byteAt : MethodName := ⟨RX5, "byteAt", "(I)I"⟩
def dkwX5_byteAt_0 : List UInt8 := [27, 42, 180, 1, 161, 162, 0, 12, 42, 180, 0, 82, 27, 46, 167, 0, 4, 2, 172]
abbrev dktX5_byteAt_0 : List UInt8 := dkwX5_byteAt_0 ++ []
theorem dksX5_byteAt_0 : cX5_byteAt.data.toList.drop 0 = dktX5_byteAt_0 := by decide +kernel
theorem dX5_byteAt_0 : decode cX5_byteAt 0 = .ok (.iload_n 1, 1) := dk_27 (dk_at dksX5_byteAt_0 0 rfl rfl)
theorem dX5_byteAt_1 : decode cX5_byteAt 1 = .ok (.aload_n 0, 1) := dk_42 (dk_at dksX5_byteAt_0 1 rfl rfl)
theorem dX5_byteAt_2 : decode cX5_byteAt 2 = .ok (.getfield 417, 3) := dk_180 1 161 (dk_at dksX5_byteAt_0 2 rfl rfl)
theorem dX5_byteAt_5 : decode cX5_byteAt 5 = .ok (.if_icmp .ge 12, 3) := dk_162 0 12 (dk_at dksX5_byteAt_0 5 rfl rfl)
theorem dX5_byteAt_8 : decode cX5_byteAt 8 = .ok (.aload_n 0, 1) := dk_42 (dk_at dksX5_byteAt_0 8 rfl rfl)
theorem dX5_byteAt_9 : decode cX5_byteAt 9 = .ok (.getfield 82, 3) := dk_180 0 82 (dk_at dksX5_byteAt_0 9 rfl rfl)
theorem dX5_byteAt_12 : decode cX5_byteAt 12 = .ok (.iload_n 1, 1) := dk_27 (dk_at dksX5_byteAt_0 12 rfl rfl)
theorem dX5_byteAt_13 : decode cX5_byteAt 13 = .ok (.iaload, 1) := dk_46 (dk_at dksX5_byteAt_0 13 rfl rfl)
theorem dX5_byteAt_14 : decode cX5_byteAt 14 = .ok (.goto 4, 3) := dk_167 0 4 (dk_at dksX5_byteAt_0 14 rfl rfl)
theorem dX5_byteAt_17 : decode cX5_byteAt 17 = .ok (.iconst (-1), 1) := dk_2 (dk_at dksX5_byteAt_0 17 rfl rfl)
theorem dX5_byteAt_18 : decode cX5_byteAt 18 = .ok (.ireturn, 1) := dk_172 (dk_at dksX5_byteAt_0 18 rfl rfl)
abbrev cX5_takesParts : ByteArray := prog_22_method_94_code
def yX5_takesParts : MethodName := ⟨RX5, "takesParts", "(I)Z"⟩
def dkwX5_takesParts_1 : List UInt8 := [89, 180, 1, 170, 4, 96, 181, 1, 170, 42, 27, 182, 1, 213, 154, 255, 228, 3, 172, 4, 172]
abbrev dktX5_takesParts_1 : List UInt8 := dkwX5_takesParts_1 ++ []
def dkwX5_takesParts_0 : List UInt8 := [42, 27, 182, 1, 213, 154, 0, 5, 3, 172, 42, 42, 180, 1, 170, 182, 1, 164, 16, 45, 160, 0, 23, 42]
abbrev dktX5_takesParts_0 : List UInt8 := dkwX5_takesParts_0 ++ dktX5_takesParts_1
theorem dksX5_takesParts_0 : cX5_takesParts.data.toList.drop 0 = dktX5_takesParts_0 := by decide +kernel
theorem dksX5_takesParts_1 : cX5_takesParts.data.toList.drop 24 = dktX5_takesParts_1 := dk_seg dksX5_takesParts_0 24 rfl rfl
theorem dX5_takesParts_0 : decode cX5_takesParts 0 = .ok (.aload_n 0, 1) := dk_42 (dk_at dksX5_takesParts_0 0 rfl rfl)
theorem dX5_takesParts_1 : decode cX5_takesParts 1 = .ok (.iload_n 1, 1) := dk_27 (dk_at dksX5_takesParts_0 1 rfl rfl)
theorem dX5_takesParts_2 : decode cX5_takesParts 2 = .ok (.invokevirtual 469, 3) := dk_182 1 213 (dk_at dksX5_takesParts_0 2 rfl rfl)
theorem dX5_takesParts_5 : decode cX5_takesParts 5 = .ok (.ifCond .ne 5, 3) := dk_154 0 5 (dk_at dksX5_takesParts_0 5 rfl rfl)
theorem dX5_takesParts_8 : decode cX5_takesParts 8 = .ok (.iconst 0, 1) := dk_3 (dk_at dksX5_takesParts_0 8 rfl rfl)
theorem dX5_takesParts_9 : decode cX5_takesParts 9 = .ok (.ireturn, 1) := dk_172 (dk_at dksX5_takesParts_0 9 rfl rfl)
theorem dX5_takesParts_10 : decode cX5_takesParts 10 = .ok (.aload_n 0, 1) := dk_42 (dk_at dksX5_takesParts_0 10 rfl rfl)
theorem dX5_takesParts_11 : decode cX5_takesParts 11 = .ok (.aload_n 0, 1) := dk_42 (dk_at dksX5_takesParts_0 11 rfl rfl)
theorem dX5_takesParts_12 : decode cX5_takesParts 12 = .ok (.getfield 426, 3) := dk_180 1 170 (dk_at dksX5_takesParts_0 12 rfl rfl)
theorem dX5_takesParts_15 : decode cX5_takesParts 15 = .ok (.invokevirtual 420, 3) := dk_182 1 164 (dk_at dksX5_takesParts_0 15 rfl rfl)
theorem dX5_takesParts_18 : decode cX5_takesParts 18 = .ok (.bipush 45, 2) := dk_16 45 (dk_at dksX5_takesParts_0 18 rfl rfl)
theorem dX5_takesParts_20 : decode cX5_takesParts 20 = .ok (.if_icmp .ne 23, 3) := dk_160 0 23 (dk_at dksX5_takesParts_0 20 rfl rfl)
theorem dX5_takesParts_23 : decode cX5_takesParts 23 = .ok (.aload_n 0, 1) := dk_42 (dk_at dksX5_takesParts_0 23 rfl rfl)
theorem dX5_takesParts_24 : decode cX5_takesParts 24 = .ok (.dup, 1) := dk_89 (dk_at dksX5_takesParts_1 0 rfl rfl)
theorem dX5_takesParts_25 : decode cX5_takesParts 25 = .ok (.getfield 426, 3) := dk_180 1 170 (dk_at dksX5_takesParts_1 1 rfl rfl)
theorem dX5_takesParts_28 : decode cX5_takesParts 28 = .ok (.iconst 1, 1) := dk_4 (dk_at dksX5_takesParts_1 4 rfl rfl)
theorem dX5_takesParts_29 : decode cX5_takesParts 29 = .ok (.iadd, 1) := dk_96 (dk_at dksX5_takesParts_1 5 rfl rfl)
theorem dX5_takesParts_30 : decode cX5_takesParts 30 = .ok (.putfield 426, 3) := dk_181 1 170 (dk_at dksX5_takesParts_1 6 rfl rfl)
theorem dX5_takesParts_33 : decode cX5_takesParts 33 = .ok (.aload_n 0, 1) := dk_42 (dk_at dksX5_takesParts_1 9 rfl rfl)
theorem dX5_takesParts_34 : decode cX5_takesParts 34 = .ok (.iload_n 1, 1) := dk_27 (dk_at dksX5_takesParts_1 10 rfl rfl)
theorem dX5_takesParts_35 : decode cX5_takesParts 35 = .ok (.invokevirtual 469, 3) := dk_182 1 213 (dk_at dksX5_takesParts_1 11 rfl rfl)
theorem dX5_takesParts_38 : decode cX5_takesParts 38 = .ok (.ifCond .ne (-28), 3) := dk_154 255 228 (dk_at dksX5_takesParts_1 14 rfl rfl)
theorem dX5_takesParts_41 : decode cX5_takesParts 41 = .ok (.iconst 0, 1) := dk_3 (dk_at dksX5_takesParts_1 17 rfl rfl)
theorem dX5_takesParts_42 : decode cX5_takesParts 42 = .ok (.ireturn, 1) := dk_172 (dk_at dksX5_takesParts_1 18 rfl rfl)
theorem dX5_takesParts_43 : decode cX5_takesParts 43 = .ok (.iconst 1, 1) := dk_4 (dk_at dksX5_takesParts_1 19 rfl rfl)
theorem dX5_takesParts_44 : decode cX5_takesParts 44 = .ok (.ireturn, 1) := dk_172 (dk_at dksX5_takesParts_1 20 rfl rfl)
abbrev cX5_takesPart : ByteArray := prog_22_method_93_code
def yX5_takesPart : MethodName := ⟨RX5, "takesPart", "(I)Z"⟩
def dkwX5_takesPart_5 : List UInt8 := [4, 167, 0, 4, 3, 172]
abbrev dktX5_takesPart_5 : List UInt8 := dkwX5_takesPart_5 ++ []
def dkwX5_takesPart_4 : List UInt8 := [180, 0, 100, 28, 46, 100, 79, 42, 16, 45, 182, 1, 207, 153, 0, 15, 42, 28, 182, 1, 210, 153, 0, 7]
abbrev dktX5_takesPart_4 : List UInt8 := dkwX5_takesPart_4 ++ dktX5_takesPart_5
def dkwX5_takesPart_3 : List UInt8 := [96, 181, 1, 170, 42, 182, 1, 204, 154, 255, 229, 3, 172, 42, 180, 0, 103, 28, 42, 180, 1, 173, 42]
abbrev dktX5_takesPart_3 : List UInt8 := dkwX5_takesPart_3 ++ dktX5_takesPart_4
def dkwX5_takesPart_2 : List UInt8 := [154, 0, 5, 3, 172, 42, 42, 180, 1, 170, 182, 1, 164, 16, 44, 160, 0, 22, 42, 89, 180, 1, 170, 4]
abbrev dktX5_takesPart_2 : List UInt8 := dkwX5_takesPart_2 ++ dktX5_takesPart_3
def dkwX5_takesPart_1 : List UInt8 := [180, 0, 88, 28, 42, 180, 1, 170, 79, 42, 180, 0, 100, 28, 42, 180, 1, 173, 79, 42, 182, 1, 204]
abbrev dktX5_takesPart_1 : List UInt8 := dkwX5_takesPart_1 ++ dktX5_takesPart_2
def dkwX5_takesPart_0 : List UInt8 := [42, 180, 1, 201, 61, 42, 89, 180, 1, 201, 4, 96, 181, 1, 201, 42, 180, 0, 85, 28, 27, 79, 42]
abbrev dktX5_takesPart_0 : List UInt8 := dkwX5_takesPart_0 ++ dktX5_takesPart_1
theorem dksX5_takesPart_0 : cX5_takesPart.data.toList.drop 0 = dktX5_takesPart_0 := by decide +kernel
theorem dksX5_takesPart_1 : cX5_takesPart.data.toList.drop 23 = dktX5_takesPart_1 := dk_seg dksX5_takesPart_0 23 rfl rfl
theorem dksX5_takesPart_2 : cX5_takesPart.data.toList.drop 46 = dktX5_takesPart_2 := dk_seg dksX5_takesPart_1 23 rfl rfl
theorem dksX5_takesPart_3 : cX5_takesPart.data.toList.drop 70 = dktX5_takesPart_3 := dk_seg dksX5_takesPart_2 24 rfl rfl
theorem dksX5_takesPart_4 : cX5_takesPart.data.toList.drop 93 = dktX5_takesPart_4 := dk_seg dksX5_takesPart_3 23 rfl rfl
theorem dksX5_takesPart_5 : cX5_takesPart.data.toList.drop 117 = dktX5_takesPart_5 := dk_seg dksX5_takesPart_4 24 rfl rfl
theorem dX5_takesPart_0 : decode cX5_takesPart 0 = .ok (.aload_n 0, 1) := dk_42 (dk_at dksX5_takesPart_0 0 rfl rfl)
theorem dX5_takesPart_1 : decode cX5_takesPart 1 = .ok (.getfield 457, 3) := dk_180 1 201 (dk_at dksX5_takesPart_0 1 rfl rfl)
theorem dX5_takesPart_4 : decode cX5_takesPart 4 = .ok (.istore_n 2, 1) := dk_61 (dk_at dksX5_takesPart_0 4 rfl rfl)
theorem dX5_takesPart_5 : decode cX5_takesPart 5 = .ok (.aload_n 0, 1) := dk_42 (dk_at dksX5_takesPart_0 5 rfl rfl)
theorem dX5_takesPart_6 : decode cX5_takesPart 6 = .ok (.dup, 1) := dk_89 (dk_at dksX5_takesPart_0 6 rfl rfl)
theorem dX5_takesPart_7 : decode cX5_takesPart 7 = .ok (.getfield 457, 3) := dk_180 1 201 (dk_at dksX5_takesPart_0 7 rfl rfl)
theorem dX5_takesPart_10 : decode cX5_takesPart 10 = .ok (.iconst 1, 1) := dk_4 (dk_at dksX5_takesPart_0 10 rfl rfl)
theorem dX5_takesPart_11 : decode cX5_takesPart 11 = .ok (.iadd, 1) := dk_96 (dk_at dksX5_takesPart_0 11 rfl rfl)
theorem dX5_takesPart_12 : decode cX5_takesPart 12 = .ok (.putfield 457, 3) := dk_181 1 201 (dk_at dksX5_takesPart_0 12 rfl rfl)
theorem dX5_takesPart_15 : decode cX5_takesPart 15 = .ok (.aload_n 0, 1) := dk_42 (dk_at dksX5_takesPart_0 15 rfl rfl)
theorem dX5_takesPart_16 : decode cX5_takesPart 16 = .ok (.getfield 85, 3) := dk_180 0 85 (dk_at dksX5_takesPart_0 16 rfl rfl)
theorem dX5_takesPart_19 : decode cX5_takesPart 19 = .ok (.iload_n 2, 1) := dk_28 (dk_at dksX5_takesPart_0 19 rfl rfl)
theorem dX5_takesPart_20 : decode cX5_takesPart 20 = .ok (.iload_n 1, 1) := dk_27 (dk_at dksX5_takesPart_0 20 rfl rfl)
theorem dX5_takesPart_21 : decode cX5_takesPart 21 = .ok (.iastore, 1) := dk_79 (dk_at dksX5_takesPart_0 21 rfl rfl)
theorem dX5_takesPart_22 : decode cX5_takesPart 22 = .ok (.aload_n 0, 1) := dk_42 (dk_at dksX5_takesPart_0 22 rfl rfl)
theorem dX5_takesPart_23 : decode cX5_takesPart 23 = .ok (.getfield 88, 3) := dk_180 0 88 (dk_at dksX5_takesPart_1 0 rfl rfl)
theorem dX5_takesPart_26 : decode cX5_takesPart 26 = .ok (.iload_n 2, 1) := dk_28 (dk_at dksX5_takesPart_1 3 rfl rfl)
theorem dX5_takesPart_27 : decode cX5_takesPart 27 = .ok (.aload_n 0, 1) := dk_42 (dk_at dksX5_takesPart_1 4 rfl rfl)
theorem dX5_takesPart_28 : decode cX5_takesPart 28 = .ok (.getfield 426, 3) := dk_180 1 170 (dk_at dksX5_takesPart_1 5 rfl rfl)
theorem dX5_takesPart_31 : decode cX5_takesPart 31 = .ok (.iastore, 1) := dk_79 (dk_at dksX5_takesPart_1 8 rfl rfl)
theorem dX5_takesPart_32 : decode cX5_takesPart 32 = .ok (.aload_n 0, 1) := dk_42 (dk_at dksX5_takesPart_1 9 rfl rfl)
theorem dX5_takesPart_33 : decode cX5_takesPart 33 = .ok (.getfield 100, 3) := dk_180 0 100 (dk_at dksX5_takesPart_1 10 rfl rfl)
theorem dX5_takesPart_36 : decode cX5_takesPart 36 = .ok (.iload_n 2, 1) := dk_28 (dk_at dksX5_takesPart_1 13 rfl rfl)
theorem dX5_takesPart_37 : decode cX5_takesPart 37 = .ok (.aload_n 0, 1) := dk_42 (dk_at dksX5_takesPart_1 14 rfl rfl)
theorem dX5_takesPart_38 : decode cX5_takesPart 38 = .ok (.getfield 429, 3) := dk_180 1 173 (dk_at dksX5_takesPart_1 15 rfl rfl)
theorem dX5_takesPart_41 : decode cX5_takesPart 41 = .ok (.iastore, 1) := dk_79 (dk_at dksX5_takesPart_1 18 rfl rfl)
theorem dX5_takesPart_42 : decode cX5_takesPart 42 = .ok (.aload_n 0, 1) := dk_42 (dk_at dksX5_takesPart_1 19 rfl rfl)
theorem dX5_takesPart_43 : decode cX5_takesPart 43 = .ok (.invokevirtual 460, 3) := dk_182 1 204 (dk_at dksX5_takesPart_1 20 rfl rfl)
theorem dX5_takesPart_46 : decode cX5_takesPart 46 = .ok (.ifCond .ne 5, 3) := dk_154 0 5 (dk_at dksX5_takesPart_2 0 rfl rfl)
theorem dX5_takesPart_49 : decode cX5_takesPart 49 = .ok (.iconst 0, 1) := dk_3 (dk_at dksX5_takesPart_2 3 rfl rfl)
theorem dX5_takesPart_50 : decode cX5_takesPart 50 = .ok (.ireturn, 1) := dk_172 (dk_at dksX5_takesPart_2 4 rfl rfl)
theorem dX5_takesPart_51 : decode cX5_takesPart 51 = .ok (.aload_n 0, 1) := dk_42 (dk_at dksX5_takesPart_2 5 rfl rfl)
theorem dX5_takesPart_52 : decode cX5_takesPart 52 = .ok (.aload_n 0, 1) := dk_42 (dk_at dksX5_takesPart_2 6 rfl rfl)
theorem dX5_takesPart_53 : decode cX5_takesPart 53 = .ok (.getfield 426, 3) := dk_180 1 170 (dk_at dksX5_takesPart_2 7 rfl rfl)
theorem dX5_takesPart_56 : decode cX5_takesPart 56 = .ok (.invokevirtual 420, 3) := dk_182 1 164 (dk_at dksX5_takesPart_2 10 rfl rfl)
theorem dX5_takesPart_59 : decode cX5_takesPart 59 = .ok (.bipush 44, 2) := dk_16 44 (dk_at dksX5_takesPart_2 13 rfl rfl)
theorem dX5_takesPart_61 : decode cX5_takesPart 61 = .ok (.if_icmp .ne 22, 3) := dk_160 0 22 (dk_at dksX5_takesPart_2 15 rfl rfl)
theorem dX5_takesPart_64 : decode cX5_takesPart 64 = .ok (.aload_n 0, 1) := dk_42 (dk_at dksX5_takesPart_2 18 rfl rfl)
theorem dX5_takesPart_65 : decode cX5_takesPart 65 = .ok (.dup, 1) := dk_89 (dk_at dksX5_takesPart_2 19 rfl rfl)
theorem dX5_takesPart_66 : decode cX5_takesPart 66 = .ok (.getfield 426, 3) := dk_180 1 170 (dk_at dksX5_takesPart_2 20 rfl rfl)
theorem dX5_takesPart_69 : decode cX5_takesPart 69 = .ok (.iconst 1, 1) := dk_4 (dk_at dksX5_takesPart_2 23 rfl rfl)
theorem dX5_takesPart_70 : decode cX5_takesPart 70 = .ok (.iadd, 1) := dk_96 (dk_at dksX5_takesPart_3 0 rfl rfl)
theorem dX5_takesPart_71 : decode cX5_takesPart 71 = .ok (.putfield 426, 3) := dk_181 1 170 (dk_at dksX5_takesPart_3 1 rfl rfl)
theorem dX5_takesPart_74 : decode cX5_takesPart 74 = .ok (.aload_n 0, 1) := dk_42 (dk_at dksX5_takesPart_3 4 rfl rfl)
theorem dX5_takesPart_75 : decode cX5_takesPart 75 = .ok (.invokevirtual 460, 3) := dk_182 1 204 (dk_at dksX5_takesPart_3 5 rfl rfl)
theorem dX5_takesPart_78 : decode cX5_takesPart 78 = .ok (.ifCond .ne (-27), 3) := dk_154 255 229 (dk_at dksX5_takesPart_3 8 rfl rfl)
theorem dX5_takesPart_81 : decode cX5_takesPart 81 = .ok (.iconst 0, 1) := dk_3 (dk_at dksX5_takesPart_3 11 rfl rfl)
theorem dX5_takesPart_82 : decode cX5_takesPart 82 = .ok (.ireturn, 1) := dk_172 (dk_at dksX5_takesPart_3 12 rfl rfl)
theorem dX5_takesPart_83 : decode cX5_takesPart 83 = .ok (.aload_n 0, 1) := dk_42 (dk_at dksX5_takesPart_3 13 rfl rfl)
theorem dX5_takesPart_84 : decode cX5_takesPart 84 = .ok (.getfield 103, 3) := dk_180 0 103 (dk_at dksX5_takesPart_3 14 rfl rfl)
theorem dX5_takesPart_87 : decode cX5_takesPart 87 = .ok (.iload_n 2, 1) := dk_28 (dk_at dksX5_takesPart_3 17 rfl rfl)
theorem dX5_takesPart_88 : decode cX5_takesPart 88 = .ok (.aload_n 0, 1) := dk_42 (dk_at dksX5_takesPart_3 18 rfl rfl)
theorem dX5_takesPart_89 : decode cX5_takesPart 89 = .ok (.getfield 429, 3) := dk_180 1 173 (dk_at dksX5_takesPart_3 19 rfl rfl)
theorem dX5_takesPart_92 : decode cX5_takesPart 92 = .ok (.aload_n 0, 1) := dk_42 (dk_at dksX5_takesPart_3 22 rfl rfl)
theorem dX5_takesPart_93 : decode cX5_takesPart 93 = .ok (.getfield 100, 3) := dk_180 0 100 (dk_at dksX5_takesPart_4 0 rfl rfl)
theorem dX5_takesPart_96 : decode cX5_takesPart 96 = .ok (.iload_n 2, 1) := dk_28 (dk_at dksX5_takesPart_4 3 rfl rfl)
theorem dX5_takesPart_97 : decode cX5_takesPart 97 = .ok (.iaload, 1) := dk_46 (dk_at dksX5_takesPart_4 4 rfl rfl)
theorem dX5_takesPart_98 : decode cX5_takesPart 98 = .ok (.isub, 1) := dk_100 (dk_at dksX5_takesPart_4 5 rfl rfl)
theorem dX5_takesPart_99 : decode cX5_takesPart 99 = .ok (.iastore, 1) := dk_79 (dk_at dksX5_takesPart_4 6 rfl rfl)
theorem dX5_takesPart_100 : decode cX5_takesPart 100 = .ok (.aload_n 0, 1) := dk_42 (dk_at dksX5_takesPart_4 7 rfl rfl)
theorem dX5_takesPart_101 : decode cX5_takesPart 101 = .ok (.bipush 45, 2) := dk_16 45 (dk_at dksX5_takesPart_4 8 rfl rfl)
theorem dX5_takesPart_103 : decode cX5_takesPart 103 = .ok (.invokevirtual 463, 3) := dk_182 1 207 (dk_at dksX5_takesPart_4 10 rfl rfl)
theorem dX5_takesPart_106 : decode cX5_takesPart 106 = .ok (.ifCond .eq 15, 3) := dk_153 0 15 (dk_at dksX5_takesPart_4 13 rfl rfl)
theorem dX5_takesPart_109 : decode cX5_takesPart 109 = .ok (.aload_n 0, 1) := dk_42 (dk_at dksX5_takesPart_4 16 rfl rfl)
theorem dX5_takesPart_110 : decode cX5_takesPart 110 = .ok (.iload_n 2, 1) := dk_28 (dk_at dksX5_takesPart_4 17 rfl rfl)
theorem dX5_takesPart_111 : decode cX5_takesPart 111 = .ok (.invokevirtual 466, 3) := dk_182 1 210 (dk_at dksX5_takesPart_4 18 rfl rfl)
theorem dX5_takesPart_114 : decode cX5_takesPart 114 = .ok (.ifCond .eq 7, 3) := dk_153 0 7 (dk_at dksX5_takesPart_4 21 rfl rfl)
theorem dX5_takesPart_117 : decode cX5_takesPart 117 = .ok (.iconst 1, 1) := dk_4 (dk_at dksX5_takesPart_5 0 rfl rfl)
theorem dX5_takesPart_118 : decode cX5_takesPart 118 = .ok (.goto 4, 3) := dk_167 0 4 (dk_at dksX5_takesPart_5 1 rfl rfl)
theorem dX5_takesPart_121 : decode cX5_takesPart 121 = .ok (.iconst 0, 1) := dk_3 (dk_at dksX5_takesPart_5 4 rfl rfl)
theorem dX5_takesPart_122 : decode cX5_takesPart 122 = .ok (.ireturn, 1) := dk_172 (dk_at dksX5_takesPart_5 5 rfl rfl)
abbrev cX5_takesNumber : ByteArray := prog_22_method_89_code
def yX5_takesNumber : MethodName := ⟨RX5, "takesNumber", "()Z"⟩
def dkwX5_takesNumber_4 : List UInt8 := [4, 96, 181, 1, 173, 4, 172]
abbrev dktX5_takesNumber_4 : List UInt8 := dkwX5_takesNumber_4 ++ []
def dkwX5_takesNumber_3 : List UInt8 := [89, 180, 1, 170, 4, 96, 181, 1, 170, 42, 180, 0, 106, 42, 180, 1, 173, 28, 79, 42, 89, 180, 1, 173]
abbrev dktX5_takesNumber_3 : List UInt8 := dkwX5_takesNumber_3 ++ dktX5_takesNumber_4
def dkwX5_takesNumber_2 : List UInt8 := [184, 1, 102, 153, 0, 30, 16, 10, 28, 104, 42, 42, 180, 1, 170, 182, 1, 164, 96, 16, 48, 100, 61, 42]
abbrev dktX5_takesNumber_2 : List UInt8 := dkwX5_takesNumber_2 ++ dktX5_takesNumber_3
def dkwX5_takesNumber_1 : List UInt8 := [89, 180, 1, 170, 4, 96, 181, 1, 170, 27, 16, 48, 100, 61, 42, 42, 180, 1, 170, 182, 1, 164]
abbrev dktX5_takesNumber_1 : List UInt8 := dkwX5_takesNumber_1 ++ dktX5_takesNumber_2
def dkwX5_takesNumber_0 : List UInt8 := [42, 42, 180, 1, 170, 182, 1, 164, 60, 27, 16, 49, 161, 0, 9, 27, 16, 57, 164, 0, 5, 3, 172, 42]
abbrev dktX5_takesNumber_0 : List UInt8 := dkwX5_takesNumber_0 ++ dktX5_takesNumber_1
theorem dksX5_takesNumber_0 : cX5_takesNumber.data.toList.drop 0 = dktX5_takesNumber_0 := by decide +kernel
theorem dksX5_takesNumber_1 : cX5_takesNumber.data.toList.drop 24 = dktX5_takesNumber_1 := dk_seg dksX5_takesNumber_0 24 rfl rfl
theorem dksX5_takesNumber_2 : cX5_takesNumber.data.toList.drop 46 = dktX5_takesNumber_2 := dk_seg dksX5_takesNumber_1 22 rfl rfl
theorem dksX5_takesNumber_3 : cX5_takesNumber.data.toList.drop 70 = dktX5_takesNumber_3 := dk_seg dksX5_takesNumber_2 24 rfl rfl
theorem dksX5_takesNumber_4 : cX5_takesNumber.data.toList.drop 94 = dktX5_takesNumber_4 := dk_seg dksX5_takesNumber_3 24 rfl rfl
theorem dX5_takesNumber_0 : decode cX5_takesNumber 0 = .ok (.aload_n 0, 1) := dk_42 (dk_at dksX5_takesNumber_0 0 rfl rfl)
theorem dX5_takesNumber_1 : decode cX5_takesNumber 1 = .ok (.aload_n 0, 1) := dk_42 (dk_at dksX5_takesNumber_0 1 rfl rfl)
theorem dX5_takesNumber_2 : decode cX5_takesNumber 2 = .ok (.getfield 426, 3) := dk_180 1 170 (dk_at dksX5_takesNumber_0 2 rfl rfl)
theorem dX5_takesNumber_5 : decode cX5_takesNumber 5 = .ok (.invokevirtual 420, 3) := dk_182 1 164 (dk_at dksX5_takesNumber_0 5 rfl rfl)
theorem dX5_takesNumber_8 : decode cX5_takesNumber 8 = .ok (.istore_n 1, 1) := dk_60 (dk_at dksX5_takesNumber_0 8 rfl rfl)
theorem dX5_takesNumber_9 : decode cX5_takesNumber 9 = .ok (.iload_n 1, 1) := dk_27 (dk_at dksX5_takesNumber_0 9 rfl rfl)
theorem dX5_takesNumber_10 : decode cX5_takesNumber 10 = .ok (.bipush 49, 2) := dk_16 49 (dk_at dksX5_takesNumber_0 10 rfl rfl)
theorem dX5_takesNumber_12 : decode cX5_takesNumber 12 = .ok (.if_icmp .lt 9, 3) := dk_161 0 9 (dk_at dksX5_takesNumber_0 12 rfl rfl)
theorem dX5_takesNumber_15 : decode cX5_takesNumber 15 = .ok (.iload_n 1, 1) := dk_27 (dk_at dksX5_takesNumber_0 15 rfl rfl)
theorem dX5_takesNumber_16 : decode cX5_takesNumber 16 = .ok (.bipush 57, 2) := dk_16 57 (dk_at dksX5_takesNumber_0 16 rfl rfl)
theorem dX5_takesNumber_18 : decode cX5_takesNumber 18 = .ok (.if_icmp .le 5, 3) := dk_164 0 5 (dk_at dksX5_takesNumber_0 18 rfl rfl)
theorem dX5_takesNumber_21 : decode cX5_takesNumber 21 = .ok (.iconst 0, 1) := dk_3 (dk_at dksX5_takesNumber_0 21 rfl rfl)
theorem dX5_takesNumber_22 : decode cX5_takesNumber 22 = .ok (.ireturn, 1) := dk_172 (dk_at dksX5_takesNumber_0 22 rfl rfl)
theorem dX5_takesNumber_23 : decode cX5_takesNumber 23 = .ok (.aload_n 0, 1) := dk_42 (dk_at dksX5_takesNumber_0 23 rfl rfl)
theorem dX5_takesNumber_24 : decode cX5_takesNumber 24 = .ok (.dup, 1) := dk_89 (dk_at dksX5_takesNumber_1 0 rfl rfl)
theorem dX5_takesNumber_25 : decode cX5_takesNumber 25 = .ok (.getfield 426, 3) := dk_180 1 170 (dk_at dksX5_takesNumber_1 1 rfl rfl)
theorem dX5_takesNumber_28 : decode cX5_takesNumber 28 = .ok (.iconst 1, 1) := dk_4 (dk_at dksX5_takesNumber_1 4 rfl rfl)
theorem dX5_takesNumber_29 : decode cX5_takesNumber 29 = .ok (.iadd, 1) := dk_96 (dk_at dksX5_takesNumber_1 5 rfl rfl)
theorem dX5_takesNumber_30 : decode cX5_takesNumber 30 = .ok (.putfield 426, 3) := dk_181 1 170 (dk_at dksX5_takesNumber_1 6 rfl rfl)
theorem dX5_takesNumber_33 : decode cX5_takesNumber 33 = .ok (.iload_n 1, 1) := dk_27 (dk_at dksX5_takesNumber_1 9 rfl rfl)
theorem dX5_takesNumber_34 : decode cX5_takesNumber 34 = .ok (.bipush 48, 2) := dk_16 48 (dk_at dksX5_takesNumber_1 10 rfl rfl)
theorem dX5_takesNumber_36 : decode cX5_takesNumber 36 = .ok (.isub, 1) := dk_100 (dk_at dksX5_takesNumber_1 12 rfl rfl)
theorem dX5_takesNumber_37 : decode cX5_takesNumber 37 = .ok (.istore_n 2, 1) := dk_61 (dk_at dksX5_takesNumber_1 13 rfl rfl)
theorem dX5_takesNumber_38 : decode cX5_takesNumber 38 = .ok (.aload_n 0, 1) := dk_42 (dk_at dksX5_takesNumber_1 14 rfl rfl)
theorem dX5_takesNumber_39 : decode cX5_takesNumber 39 = .ok (.aload_n 0, 1) := dk_42 (dk_at dksX5_takesNumber_1 15 rfl rfl)
theorem dX5_takesNumber_40 : decode cX5_takesNumber 40 = .ok (.getfield 426, 3) := dk_180 1 170 (dk_at dksX5_takesNumber_1 16 rfl rfl)
theorem dX5_takesNumber_43 : decode cX5_takesNumber 43 = .ok (.invokevirtual 420, 3) := dk_182 1 164 (dk_at dksX5_takesNumber_1 19 rfl rfl)
theorem dX5_takesNumber_46 : decode cX5_takesNumber 46 = .ok (.invokestatic 358, 3) := dk_184 1 102 (dk_at dksX5_takesNumber_2 0 rfl rfl)
theorem dX5_takesNumber_49 : decode cX5_takesNumber 49 = .ok (.ifCond .eq 30, 3) := dk_153 0 30 (dk_at dksX5_takesNumber_2 3 rfl rfl)
theorem dX5_takesNumber_52 : decode cX5_takesNumber 52 = .ok (.bipush 10, 2) := dk_16 10 (dk_at dksX5_takesNumber_2 6 rfl rfl)
theorem dX5_takesNumber_54 : decode cX5_takesNumber 54 = .ok (.iload_n 2, 1) := dk_28 (dk_at dksX5_takesNumber_2 8 rfl rfl)
theorem dX5_takesNumber_55 : decode cX5_takesNumber 55 = .ok (.imul, 1) := dk_104 (dk_at dksX5_takesNumber_2 9 rfl rfl)
theorem dX5_takesNumber_56 : decode cX5_takesNumber 56 = .ok (.aload_n 0, 1) := dk_42 (dk_at dksX5_takesNumber_2 10 rfl rfl)
theorem dX5_takesNumber_57 : decode cX5_takesNumber 57 = .ok (.aload_n 0, 1) := dk_42 (dk_at dksX5_takesNumber_2 11 rfl rfl)
theorem dX5_takesNumber_58 : decode cX5_takesNumber 58 = .ok (.getfield 426, 3) := dk_180 1 170 (dk_at dksX5_takesNumber_2 12 rfl rfl)
theorem dX5_takesNumber_61 : decode cX5_takesNumber 61 = .ok (.invokevirtual 420, 3) := dk_182 1 164 (dk_at dksX5_takesNumber_2 15 rfl rfl)
theorem dX5_takesNumber_64 : decode cX5_takesNumber 64 = .ok (.iadd, 1) := dk_96 (dk_at dksX5_takesNumber_2 18 rfl rfl)
theorem dX5_takesNumber_65 : decode cX5_takesNumber 65 = .ok (.bipush 48, 2) := dk_16 48 (dk_at dksX5_takesNumber_2 19 rfl rfl)
theorem dX5_takesNumber_67 : decode cX5_takesNumber 67 = .ok (.isub, 1) := dk_100 (dk_at dksX5_takesNumber_2 21 rfl rfl)
theorem dX5_takesNumber_68 : decode cX5_takesNumber 68 = .ok (.istore_n 2, 1) := dk_61 (dk_at dksX5_takesNumber_2 22 rfl rfl)
theorem dX5_takesNumber_69 : decode cX5_takesNumber 69 = .ok (.aload_n 0, 1) := dk_42 (dk_at dksX5_takesNumber_2 23 rfl rfl)
theorem dX5_takesNumber_70 : decode cX5_takesNumber 70 = .ok (.dup, 1) := dk_89 (dk_at dksX5_takesNumber_3 0 rfl rfl)
theorem dX5_takesNumber_71 : decode cX5_takesNumber 71 = .ok (.getfield 426, 3) := dk_180 1 170 (dk_at dksX5_takesNumber_3 1 rfl rfl)
theorem dX5_takesNumber_74 : decode cX5_takesNumber 74 = .ok (.iconst 1, 1) := dk_4 (dk_at dksX5_takesNumber_3 4 rfl rfl)
theorem dX5_takesNumber_75 : decode cX5_takesNumber 75 = .ok (.iadd, 1) := dk_96 (dk_at dksX5_takesNumber_3 5 rfl rfl)
theorem dX5_takesNumber_76 : decode cX5_takesNumber 76 = .ok (.putfield 426, 3) := dk_181 1 170 (dk_at dksX5_takesNumber_3 6 rfl rfl)
theorem dX5_takesNumber_79 : decode cX5_takesNumber 79 = .ok (.aload_n 0, 1) := dk_42 (dk_at dksX5_takesNumber_3 9 rfl rfl)
theorem dX5_takesNumber_80 : decode cX5_takesNumber 80 = .ok (.getfield 106, 3) := dk_180 0 106 (dk_at dksX5_takesNumber_3 10 rfl rfl)
theorem dX5_takesNumber_83 : decode cX5_takesNumber 83 = .ok (.aload_n 0, 1) := dk_42 (dk_at dksX5_takesNumber_3 13 rfl rfl)
theorem dX5_takesNumber_84 : decode cX5_takesNumber 84 = .ok (.getfield 429, 3) := dk_180 1 173 (dk_at dksX5_takesNumber_3 14 rfl rfl)
theorem dX5_takesNumber_87 : decode cX5_takesNumber 87 = .ok (.iload_n 2, 1) := dk_28 (dk_at dksX5_takesNumber_3 17 rfl rfl)
theorem dX5_takesNumber_88 : decode cX5_takesNumber 88 = .ok (.iastore, 1) := dk_79 (dk_at dksX5_takesNumber_3 18 rfl rfl)
theorem dX5_takesNumber_89 : decode cX5_takesNumber 89 = .ok (.aload_n 0, 1) := dk_42 (dk_at dksX5_takesNumber_3 19 rfl rfl)
theorem dX5_takesNumber_90 : decode cX5_takesNumber 90 = .ok (.dup, 1) := dk_89 (dk_at dksX5_takesNumber_3 20 rfl rfl)
theorem dX5_takesNumber_91 : decode cX5_takesNumber 91 = .ok (.getfield 429, 3) := dk_180 1 173 (dk_at dksX5_takesNumber_3 21 rfl rfl)
theorem dX5_takesNumber_94 : decode cX5_takesNumber 94 = .ok (.iconst 1, 1) := dk_4 (dk_at dksX5_takesNumber_4 0 rfl rfl)
theorem dX5_takesNumber_95 : decode cX5_takesNumber 95 = .ok (.iadd, 1) := dk_96 (dk_at dksX5_takesNumber_4 1 rfl rfl)
theorem dX5_takesNumber_96 : decode cX5_takesNumber 96 = .ok (.putfield 429, 3) := dk_181 1 173 (dk_at dksX5_takesNumber_4 2 rfl rfl)
theorem dX5_takesNumber_99 : decode cX5_takesNumber 99 = .ok (.iconst 1, 1) := dk_4 (dk_at dksX5_takesNumber_4 5 rfl rfl)
theorem dX5_takesNumber_100 : decode cX5_takesNumber 100 = .ok (.ireturn, 1) := dk_172 (dk_at dksX5_takesNumber_4 6 rfl rfl)
abbrev cX5_takes : ByteArray := prog_22_method_88_code
def yX5_takes : MethodName := ⟨RX5, "takes", "(I)Z"⟩
def dkwX5_takes_1 : List UInt8 := [4, 172]
abbrev dktX5_takes_1 : List UInt8 := dkwX5_takes_1 ++ []
def dkwX5_takes_0 : List UInt8 := [42, 42, 180, 1, 170, 182, 1, 164, 27, 159, 0, 5, 3, 172, 42, 89, 180, 1, 170, 4, 96, 181, 1, 170]
abbrev dktX5_takes_0 : List UInt8 := dkwX5_takes_0 ++ dktX5_takes_1
theorem dksX5_takes_0 : cX5_takes.data.toList.drop 0 = dktX5_takes_0 := by decide +kernel
theorem dksX5_takes_1 : cX5_takes.data.toList.drop 24 = dktX5_takes_1 := dk_seg dksX5_takes_0 24 rfl rfl
theorem dX5_takes_0 : decode cX5_takes 0 = .ok (.aload_n 0, 1) := dk_42 (dk_at dksX5_takes_0 0 rfl rfl)
theorem dX5_takes_1 : decode cX5_takes 1 = .ok (.aload_n 0, 1) := dk_42 (dk_at dksX5_takes_0 1 rfl rfl)
theorem dX5_takes_2 : decode cX5_takes 2 = .ok (.getfield 426, 3) := dk_180 1 170 (dk_at dksX5_takes_0 2 rfl rfl)
theorem dX5_takes_5 : decode cX5_takes 5 = .ok (.invokevirtual 420, 3) := dk_182 1 164 (dk_at dksX5_takes_0 5 rfl rfl)
theorem dX5_takes_8 : decode cX5_takes 8 = .ok (.iload_n 1, 1) := dk_27 (dk_at dksX5_takes_0 8 rfl rfl)
theorem dX5_takes_9 : decode cX5_takes 9 = .ok (.if_icmp .eq 5, 3) := dk_159 0 5 (dk_at dksX5_takes_0 9 rfl rfl)
theorem dX5_takes_12 : decode cX5_takes 12 = .ok (.iconst 0, 1) := dk_3 (dk_at dksX5_takes_0 12 rfl rfl)
theorem dX5_takes_13 : decode cX5_takes 13 = .ok (.ireturn, 1) := dk_172 (dk_at dksX5_takes_0 13 rfl rfl)
theorem dX5_takes_14 : decode cX5_takes 14 = .ok (.aload_n 0, 1) := dk_42 (dk_at dksX5_takes_0 14 rfl rfl)
theorem dX5_takes_15 : decode cX5_takes 15 = .ok (.dup, 1) := dk_89 (dk_at dksX5_takes_0 15 rfl rfl)
theorem dX5_takes_16 : decode cX5_takes 16 = .ok (.getfield 426, 3) := dk_180 1 170 (dk_at dksX5_takes_0 16 rfl rfl)
theorem dX5_takes_19 : decode cX5_takes 19 = .ok (.iconst 1, 1) := dk_4 (dk_at dksX5_takes_0 19 rfl rfl)
theorem dX5_takes_20 : decode cX5_takes 20 = .ok (.iadd, 1) := dk_96 (dk_at dksX5_takes_0 20 rfl rfl)
theorem dX5_takes_21 : decode cX5_takes 21 = .ok (.putfield 426, 3) := dk_181 1 170 (dk_at dksX5_takes_0 21 rfl rfl)
theorem dX5_takes_24 : decode cX5_takes 24 = .ok (.iconst 1, 1) := dk_4 (dk_at dksX5_takes_1 0 rfl rfl)
theorem dX5_takes_25 : decode cX5_takes 25 = .ok (.ireturn, 1) := dk_172 (dk_at dksX5_takes_1 1 rfl rfl)
abbrev cX5_takesWord : ByteArray := prog_22_method_92_code
def yX5_takesWord : MethodName := ⟨RX5, "takesWord", "(I)Z"⟩
def dkwX5_takesWord_7 : List UInt8 := [182, 1, 180, 172]
abbrev dktX5_takesWord_7 : List UInt8 := dkwX5_takesWord_7 ++ []
def dkwX5_takesWord_6 : List UInt8 := [19, 1, 195, 182, 1, 197, 153, 0, 7, 4, 167, 0, 4, 3, 172, 132, 3, 1, 167, 255, 116, 42]
abbrev dktX5_takesWord_6 : List UInt8 := dkwX5_takesWord_6 ++ dktX5_takesWord_7
def dkwX5_takesWord_5 : List UInt8 := [181, 1, 189, 42, 42, 180, 0, 97, 27, 46, 182, 1, 192, 153, 0, 23, 42, 42, 180, 0, 97, 27, 46]
abbrev dktX5_takesWord_5 : List UInt8 := dkwX5_takesWord_5 ++ dktX5_takesWord_6
def dkwX5_takesWord_4 : List UInt8 := [180, 0, 94, 27, 2, 79, 42, 180, 0, 97, 27, 42, 180, 1, 189, 79, 42, 89, 180, 1, 189, 4, 96]
abbrev dktX5_takesWord_4 : List UInt8 := dkwX5_takesWord_4 ++ dktX5_takesWord_5
def dkwX5_takesWord_3 : List UInt8 := [182, 1, 164, 16, 40, 160, 0, 80, 42, 21, 4, 4, 96, 181, 1, 170, 42, 180, 0, 91, 27, 29, 79, 42]
abbrev dktX5_takesWord_3 : List UInt8 := dkwX5_takesWord_3 ++ dktX5_takesWord_4
def dkwX5_takesWord_2 : List UInt8 := [160, 0, 6, 167, 0, 104, 42, 27, 29, 21, 4, 182, 1, 186, 153, 0, 5, 4, 172, 42, 21, 4]
abbrev dktX5_takesWord_2 : List UInt8 := dkwX5_takesWord_2 ++ dktX5_takesWord_3
def dkwX5_takesWord_1 : List UInt8 := [160, 0, 7, 28, 167, 0, 13, 42, 18, 56, 29, 5, 100, 28, 182, 1, 176, 54, 4, 21, 4, 2]
abbrev dktX5_takesWord_1 : List UInt8 := dkwX5_takesWord_1 ++ dktX5_takesWord_2
def dkwX5_takesWord_0 : List UInt8 := [42, 42, 180, 1, 170, 181, 1, 167, 42, 180, 1, 170, 61, 4, 62, 29, 16, 8, 163, 0, 140, 29, 4]
abbrev dktX5_takesWord_0 : List UInt8 := dkwX5_takesWord_0 ++ dktX5_takesWord_1
theorem dksX5_takesWord_0 : cX5_takesWord.data.toList.drop 0 = dktX5_takesWord_0 := by decide +kernel
theorem dksX5_takesWord_1 : cX5_takesWord.data.toList.drop 23 = dktX5_takesWord_1 := dk_seg dksX5_takesWord_0 23 rfl rfl
theorem dksX5_takesWord_2 : cX5_takesWord.data.toList.drop 45 = dktX5_takesWord_2 := dk_seg dksX5_takesWord_1 22 rfl rfl
theorem dksX5_takesWord_3 : cX5_takesWord.data.toList.drop 67 = dktX5_takesWord_3 := dk_seg dksX5_takesWord_2 22 rfl rfl
theorem dksX5_takesWord_4 : cX5_takesWord.data.toList.drop 91 = dktX5_takesWord_4 := dk_seg dksX5_takesWord_3 24 rfl rfl
theorem dksX5_takesWord_5 : cX5_takesWord.data.toList.drop 114 = dktX5_takesWord_5 := dk_seg dksX5_takesWord_4 23 rfl rfl
theorem dksX5_takesWord_6 : cX5_takesWord.data.toList.drop 137 = dktX5_takesWord_6 := dk_seg dksX5_takesWord_5 23 rfl rfl
theorem dksX5_takesWord_7 : cX5_takesWord.data.toList.drop 159 = dktX5_takesWord_7 := dk_seg dksX5_takesWord_6 22 rfl rfl
theorem dX5_takesWord_0 : decode cX5_takesWord 0 = .ok (.aload_n 0, 1) := dk_42 (dk_at dksX5_takesWord_0 0 rfl rfl)
theorem dX5_takesWord_1 : decode cX5_takesWord 1 = .ok (.aload_n 0, 1) := dk_42 (dk_at dksX5_takesWord_0 1 rfl rfl)
theorem dX5_takesWord_2 : decode cX5_takesWord 2 = .ok (.getfield 426, 3) := dk_180 1 170 (dk_at dksX5_takesWord_0 2 rfl rfl)
theorem dX5_takesWord_5 : decode cX5_takesWord 5 = .ok (.putfield 423, 3) := dk_181 1 167 (dk_at dksX5_takesWord_0 5 rfl rfl)
theorem dX5_takesWord_8 : decode cX5_takesWord 8 = .ok (.aload_n 0, 1) := dk_42 (dk_at dksX5_takesWord_0 8 rfl rfl)
theorem dX5_takesWord_9 : decode cX5_takesWord 9 = .ok (.getfield 426, 3) := dk_180 1 170 (dk_at dksX5_takesWord_0 9 rfl rfl)
theorem dX5_takesWord_12 : decode cX5_takesWord 12 = .ok (.istore_n 2, 1) := dk_61 (dk_at dksX5_takesWord_0 12 rfl rfl)
theorem dX5_takesWord_13 : decode cX5_takesWord 13 = .ok (.iconst 1, 1) := dk_4 (dk_at dksX5_takesWord_0 13 rfl rfl)
theorem dX5_takesWord_14 : decode cX5_takesWord 14 = .ok (.istore_n 3, 1) := dk_62 (dk_at dksX5_takesWord_0 14 rfl rfl)
theorem dX5_takesWord_15 : decode cX5_takesWord 15 = .ok (.iload_n 3, 1) := dk_29 (dk_at dksX5_takesWord_0 15 rfl rfl)
theorem dX5_takesWord_16 : decode cX5_takesWord 16 = .ok (.bipush 8, 2) := dk_16 8 (dk_at dksX5_takesWord_0 16 rfl rfl)
theorem dX5_takesWord_18 : decode cX5_takesWord 18 = .ok (.if_icmp .gt 140, 3) := dk_163 0 140 (dk_at dksX5_takesWord_0 18 rfl rfl)
theorem dX5_takesWord_21 : decode cX5_takesWord 21 = .ok (.iload_n 3, 1) := dk_29 (dk_at dksX5_takesWord_0 21 rfl rfl)
theorem dX5_takesWord_22 : decode cX5_takesWord 22 = .ok (.iconst 1, 1) := dk_4 (dk_at dksX5_takesWord_0 22 rfl rfl)
theorem dX5_takesWord_23 : decode cX5_takesWord 23 = .ok (.if_icmp .ne 7, 3) := dk_160 0 7 (dk_at dksX5_takesWord_1 0 rfl rfl)
theorem dX5_takesWord_26 : decode cX5_takesWord 26 = .ok (.iload_n 2, 1) := dk_28 (dk_at dksX5_takesWord_1 3 rfl rfl)
theorem dX5_takesWord_27 : decode cX5_takesWord 27 = .ok (.goto 13, 3) := dk_167 0 13 (dk_at dksX5_takesWord_1 4 rfl rfl)
theorem dX5_takesWord_30 : decode cX5_takesWord 30 = .ok (.aload_n 0, 1) := dk_42 (dk_at dksX5_takesWord_1 7 rfl rfl)
theorem dX5_takesWord_31 : decode cX5_takesWord 31 = .ok (.ldc 56, 2) := dk_18 56 (dk_at dksX5_takesWord_1 8 rfl rfl)
theorem dX5_takesWord_33 : decode cX5_takesWord 33 = .ok (.iload_n 3, 1) := dk_29 (dk_at dksX5_takesWord_1 10 rfl rfl)
theorem dX5_takesWord_34 : decode cX5_takesWord 34 = .ok (.iconst 2, 1) := dk_5 (dk_at dksX5_takesWord_1 11 rfl rfl)
theorem dX5_takesWord_35 : decode cX5_takesWord 35 = .ok (.isub, 1) := dk_100 (dk_at dksX5_takesWord_1 12 rfl rfl)
theorem dX5_takesWord_36 : decode cX5_takesWord 36 = .ok (.iload_n 2, 1) := dk_28 (dk_at dksX5_takesWord_1 13 rfl rfl)
theorem dX5_takesWord_37 : decode cX5_takesWord 37 = .ok (.invokevirtual 432, 3) := dk_182 1 176 (dk_at dksX5_takesWord_1 14 rfl rfl)
theorem dX5_takesWord_40 : decode cX5_takesWord 40 = .ok (.istore 4, 2) := dk_54 4 (dk_at dksX5_takesWord_1 17 rfl rfl)
theorem dX5_takesWord_42 : decode cX5_takesWord 42 = .ok (.iload 4, 2) := dk_21 4 (dk_at dksX5_takesWord_1 19 rfl rfl)
theorem dX5_takesWord_44 : decode cX5_takesWord 44 = .ok (.iconst (-1), 1) := dk_2 (dk_at dksX5_takesWord_1 21 rfl rfl)
theorem dX5_takesWord_45 : decode cX5_takesWord 45 = .ok (.if_icmp .ne 6, 3) := dk_160 0 6 (dk_at dksX5_takesWord_2 0 rfl rfl)
theorem dX5_takesWord_48 : decode cX5_takesWord 48 = .ok (.goto 104, 3) := dk_167 0 104 (dk_at dksX5_takesWord_2 3 rfl rfl)
theorem dX5_takesWord_51 : decode cX5_takesWord 51 = .ok (.aload_n 0, 1) := dk_42 (dk_at dksX5_takesWord_2 6 rfl rfl)
theorem dX5_takesWord_52 : decode cX5_takesWord 52 = .ok (.iload_n 1, 1) := dk_27 (dk_at dksX5_takesWord_2 7 rfl rfl)
theorem dX5_takesWord_53 : decode cX5_takesWord 53 = .ok (.iload_n 3, 1) := dk_29 (dk_at dksX5_takesWord_2 8 rfl rfl)
theorem dX5_takesWord_54 : decode cX5_takesWord 54 = .ok (.iload 4, 2) := dk_21 4 (dk_at dksX5_takesWord_2 9 rfl rfl)
theorem dX5_takesWord_56 : decode cX5_takesWord 56 = .ok (.invokevirtual 442, 3) := dk_182 1 186 (dk_at dksX5_takesWord_2 11 rfl rfl)
theorem dX5_takesWord_59 : decode cX5_takesWord 59 = .ok (.ifCond .eq 5, 3) := dk_153 0 5 (dk_at dksX5_takesWord_2 14 rfl rfl)
theorem dX5_takesWord_62 : decode cX5_takesWord 62 = .ok (.iconst 1, 1) := dk_4 (dk_at dksX5_takesWord_2 17 rfl rfl)
theorem dX5_takesWord_63 : decode cX5_takesWord 63 = .ok (.ireturn, 1) := dk_172 (dk_at dksX5_takesWord_2 18 rfl rfl)
theorem dX5_takesWord_64 : decode cX5_takesWord 64 = .ok (.aload_n 0, 1) := dk_42 (dk_at dksX5_takesWord_2 19 rfl rfl)
theorem dX5_takesWord_65 : decode cX5_takesWord 65 = .ok (.iload 4, 2) := dk_21 4 (dk_at dksX5_takesWord_2 20 rfl rfl)
theorem dX5_takesWord_67 : decode cX5_takesWord 67 = .ok (.invokevirtual 420, 3) := dk_182 1 164 (dk_at dksX5_takesWord_3 0 rfl rfl)
theorem dX5_takesWord_70 : decode cX5_takesWord 70 = .ok (.bipush 40, 2) := dk_16 40 (dk_at dksX5_takesWord_3 3 rfl rfl)
theorem dX5_takesWord_72 : decode cX5_takesWord 72 = .ok (.if_icmp .ne 80, 3) := dk_160 0 80 (dk_at dksX5_takesWord_3 5 rfl rfl)
theorem dX5_takesWord_75 : decode cX5_takesWord 75 = .ok (.aload_n 0, 1) := dk_42 (dk_at dksX5_takesWord_3 8 rfl rfl)
theorem dX5_takesWord_76 : decode cX5_takesWord 76 = .ok (.iload 4, 2) := dk_21 4 (dk_at dksX5_takesWord_3 9 rfl rfl)
theorem dX5_takesWord_78 : decode cX5_takesWord 78 = .ok (.iconst 1, 1) := dk_4 (dk_at dksX5_takesWord_3 11 rfl rfl)
theorem dX5_takesWord_79 : decode cX5_takesWord 79 = .ok (.iadd, 1) := dk_96 (dk_at dksX5_takesWord_3 12 rfl rfl)
theorem dX5_takesWord_80 : decode cX5_takesWord 80 = .ok (.putfield 426, 3) := dk_181 1 170 (dk_at dksX5_takesWord_3 13 rfl rfl)
theorem dX5_takesWord_83 : decode cX5_takesWord 83 = .ok (.aload_n 0, 1) := dk_42 (dk_at dksX5_takesWord_3 16 rfl rfl)
theorem dX5_takesWord_84 : decode cX5_takesWord 84 = .ok (.getfield 91, 3) := dk_180 0 91 (dk_at dksX5_takesWord_3 17 rfl rfl)
theorem dX5_takesWord_87 : decode cX5_takesWord 87 = .ok (.iload_n 1, 1) := dk_27 (dk_at dksX5_takesWord_3 20 rfl rfl)
theorem dX5_takesWord_88 : decode cX5_takesWord 88 = .ok (.iload_n 3, 1) := dk_29 (dk_at dksX5_takesWord_3 21 rfl rfl)
theorem dX5_takesWord_89 : decode cX5_takesWord 89 = .ok (.iastore, 1) := dk_79 (dk_at dksX5_takesWord_3 22 rfl rfl)
theorem dX5_takesWord_90 : decode cX5_takesWord 90 = .ok (.aload_n 0, 1) := dk_42 (dk_at dksX5_takesWord_3 23 rfl rfl)
theorem dX5_takesWord_91 : decode cX5_takesWord 91 = .ok (.getfield 94, 3) := dk_180 0 94 (dk_at dksX5_takesWord_4 0 rfl rfl)
theorem dX5_takesWord_94 : decode cX5_takesWord 94 = .ok (.iload_n 1, 1) := dk_27 (dk_at dksX5_takesWord_4 3 rfl rfl)
theorem dX5_takesWord_95 : decode cX5_takesWord 95 = .ok (.iconst (-1), 1) := dk_2 (dk_at dksX5_takesWord_4 4 rfl rfl)
theorem dX5_takesWord_96 : decode cX5_takesWord 96 = .ok (.iastore, 1) := dk_79 (dk_at dksX5_takesWord_4 5 rfl rfl)
theorem dX5_takesWord_97 : decode cX5_takesWord 97 = .ok (.aload_n 0, 1) := dk_42 (dk_at dksX5_takesWord_4 6 rfl rfl)
theorem dX5_takesWord_98 : decode cX5_takesWord 98 = .ok (.getfield 97, 3) := dk_180 0 97 (dk_at dksX5_takesWord_4 7 rfl rfl)
theorem dX5_takesWord_101 : decode cX5_takesWord 101 = .ok (.iload_n 1, 1) := dk_27 (dk_at dksX5_takesWord_4 10 rfl rfl)
theorem dX5_takesWord_102 : decode cX5_takesWord 102 = .ok (.aload_n 0, 1) := dk_42 (dk_at dksX5_takesWord_4 11 rfl rfl)
theorem dX5_takesWord_103 : decode cX5_takesWord 103 = .ok (.getfield 445, 3) := dk_180 1 189 (dk_at dksX5_takesWord_4 12 rfl rfl)
theorem dX5_takesWord_106 : decode cX5_takesWord 106 = .ok (.iastore, 1) := dk_79 (dk_at dksX5_takesWord_4 15 rfl rfl)
theorem dX5_takesWord_107 : decode cX5_takesWord 107 = .ok (.aload_n 0, 1) := dk_42 (dk_at dksX5_takesWord_4 16 rfl rfl)
theorem dX5_takesWord_108 : decode cX5_takesWord 108 = .ok (.dup, 1) := dk_89 (dk_at dksX5_takesWord_4 17 rfl rfl)
theorem dX5_takesWord_109 : decode cX5_takesWord 109 = .ok (.getfield 445, 3) := dk_180 1 189 (dk_at dksX5_takesWord_4 18 rfl rfl)
theorem dX5_takesWord_112 : decode cX5_takesWord 112 = .ok (.iconst 1, 1) := dk_4 (dk_at dksX5_takesWord_4 21 rfl rfl)
theorem dX5_takesWord_113 : decode cX5_takesWord 113 = .ok (.iadd, 1) := dk_96 (dk_at dksX5_takesWord_4 22 rfl rfl)
theorem dX5_takesWord_114 : decode cX5_takesWord 114 = .ok (.putfield 445, 3) := dk_181 1 189 (dk_at dksX5_takesWord_5 0 rfl rfl)
theorem dX5_takesWord_117 : decode cX5_takesWord 117 = .ok (.aload_n 0, 1) := dk_42 (dk_at dksX5_takesWord_5 3 rfl rfl)
theorem dX5_takesWord_118 : decode cX5_takesWord 118 = .ok (.aload_n 0, 1) := dk_42 (dk_at dksX5_takesWord_5 4 rfl rfl)
theorem dX5_takesWord_119 : decode cX5_takesWord 119 = .ok (.getfield 97, 3) := dk_180 0 97 (dk_at dksX5_takesWord_5 5 rfl rfl)
theorem dX5_takesWord_122 : decode cX5_takesWord 122 = .ok (.iload_n 1, 1) := dk_27 (dk_at dksX5_takesWord_5 8 rfl rfl)
theorem dX5_takesWord_123 : decode cX5_takesWord 123 = .ok (.iaload, 1) := dk_46 (dk_at dksX5_takesWord_5 9 rfl rfl)
theorem dX5_takesWord_124 : decode cX5_takesWord 124 = .ok (.invokevirtual 448, 3) := dk_182 1 192 (dk_at dksX5_takesWord_5 10 rfl rfl)
theorem dX5_takesWord_127 : decode cX5_takesWord 127 = .ok (.ifCond .eq 23, 3) := dk_153 0 23 (dk_at dksX5_takesWord_5 13 rfl rfl)
theorem dX5_takesWord_130 : decode cX5_takesWord 130 = .ok (.aload_n 0, 1) := dk_42 (dk_at dksX5_takesWord_5 16 rfl rfl)
theorem dX5_takesWord_131 : decode cX5_takesWord 131 = .ok (.aload_n 0, 1) := dk_42 (dk_at dksX5_takesWord_5 17 rfl rfl)
theorem dX5_takesWord_132 : decode cX5_takesWord 132 = .ok (.getfield 97, 3) := dk_180 0 97 (dk_at dksX5_takesWord_5 18 rfl rfl)
theorem dX5_takesWord_135 : decode cX5_takesWord 135 = .ok (.iload_n 1, 1) := dk_27 (dk_at dksX5_takesWord_5 21 rfl rfl)
theorem dX5_takesWord_136 : decode cX5_takesWord 136 = .ok (.iaload, 1) := dk_46 (dk_at dksX5_takesWord_5 22 rfl rfl)
theorem dX5_takesWord_137 : decode cX5_takesWord 137 = .ok (.ldc_w 451, 3) := dk_19 1 195 (dk_at dksX5_takesWord_6 0 rfl rfl)
theorem dX5_takesWord_140 : decode cX5_takesWord 140 = .ok (.invokevirtual 453, 3) := dk_182 1 197 (dk_at dksX5_takesWord_6 3 rfl rfl)
theorem dX5_takesWord_143 : decode cX5_takesWord 143 = .ok (.ifCond .eq 7, 3) := dk_153 0 7 (dk_at dksX5_takesWord_6 6 rfl rfl)
theorem dX5_takesWord_146 : decode cX5_takesWord 146 = .ok (.iconst 1, 1) := dk_4 (dk_at dksX5_takesWord_6 9 rfl rfl)
theorem dX5_takesWord_147 : decode cX5_takesWord 147 = .ok (.goto 4, 3) := dk_167 0 4 (dk_at dksX5_takesWord_6 10 rfl rfl)
theorem dX5_takesWord_150 : decode cX5_takesWord 150 = .ok (.iconst 0, 1) := dk_3 (dk_at dksX5_takesWord_6 13 rfl rfl)
theorem dX5_takesWord_151 : decode cX5_takesWord 151 = .ok (.ireturn, 1) := dk_172 (dk_at dksX5_takesWord_6 14 rfl rfl)
theorem dX5_takesWord_152 : decode cX5_takesWord 152 = .ok (.iinc 3 1, 3) := dk_132 3 1 (dk_at dksX5_takesWord_6 15 rfl rfl)
theorem dX5_takesWord_155 : decode cX5_takesWord 155 = .ok (.goto (-140), 3) := dk_167 255 116 (dk_at dksX5_takesWord_6 18 rfl rfl)
theorem dX5_takesWord_158 : decode cX5_takesWord 158 = .ok (.aload_n 0, 1) := dk_42 (dk_at dksX5_takesWord_6 21 rfl rfl)
theorem dX5_takesWord_159 : decode cX5_takesWord 159 = .ok (.invokevirtual 436, 3) := dk_182 1 180 (dk_at dksX5_takesWord_7 0 rfl rfl)
theorem dX5_takesWord_162 : decode cX5_takesWord 162 = .ok (.ireturn, 1) := dk_172 (dk_at dksX5_takesWord_7 3 rfl rfl)
abbrev cX5_behind : ByteArray := prog_22_method_86_code
def yX5_behind : MethodName := ⟨RX5, "behind", "(Ljava/lang/String;II)I"⟩
def dkwX5_behind_2 : List UInt8 := [181, 1, 167, 2, 172, 132, 4, 1, 132, 5, 1, 167, 255, 209, 21, 4, 172]
abbrev dktX5_behind_2 : List UInt8 := dkwX5_behind_2 ++ []
def dkwX5_behind_1 : List UInt8 := [182, 1, 164, 43, 21, 5, 182, 1, 86, 159, 0, 18, 42, 42, 180, 1, 167, 21, 4, 184, 0, 172]
abbrev dktX5_behind_1 : List UInt8 := dkwX5_behind_1 ++ dktX5_behind_2
def dkwX5_behind_0 : List UInt8 := [29, 54, 4, 43, 28, 184, 1, 92, 54, 5, 43, 21, 5, 182, 1, 86, 16, 32, 159, 0, 42, 42, 21, 4]
abbrev dktX5_behind_0 : List UInt8 := dkwX5_behind_0 ++ dktX5_behind_1
theorem dksX5_behind_0 : cX5_behind.data.toList.drop 0 = dktX5_behind_0 := by decide +kernel
theorem dksX5_behind_1 : cX5_behind.data.toList.drop 24 = dktX5_behind_1 := dk_seg dksX5_behind_0 24 rfl rfl
theorem dksX5_behind_2 : cX5_behind.data.toList.drop 46 = dktX5_behind_2 := dk_seg dksX5_behind_1 22 rfl rfl
theorem dX5_behind_0 : decode cX5_behind 0 = .ok (.iload_n 3, 1) := dk_29 (dk_at dksX5_behind_0 0 rfl rfl)
theorem dX5_behind_1 : decode cX5_behind 1 = .ok (.istore 4, 2) := dk_54 4 (dk_at dksX5_behind_0 1 rfl rfl)
theorem dX5_behind_3 : decode cX5_behind 3 = .ok (.aload_n 1, 1) := dk_43 (dk_at dksX5_behind_0 3 rfl rfl)
theorem dX5_behind_4 : decode cX5_behind 4 = .ok (.iload_n 2, 1) := dk_28 (dk_at dksX5_behind_0 4 rfl rfl)
theorem dX5_behind_5 : decode cX5_behind 5 = .ok (.invokestatic 348, 3) := dk_184 1 92 (dk_at dksX5_behind_0 5 rfl rfl)
theorem dX5_behind_8 : decode cX5_behind 8 = .ok (.istore 5, 2) := dk_54 5 (dk_at dksX5_behind_0 8 rfl rfl)
theorem dX5_behind_10 : decode cX5_behind 10 = .ok (.aload_n 1, 1) := dk_43 (dk_at dksX5_behind_0 10 rfl rfl)
theorem dX5_behind_11 : decode cX5_behind 11 = .ok (.iload 5, 2) := dk_21 5 (dk_at dksX5_behind_0 11 rfl rfl)
theorem dX5_behind_13 : decode cX5_behind 13 = .ok (.invokevirtual 342, 3) := dk_182 1 86 (dk_at dksX5_behind_0 13 rfl rfl)
theorem dX5_behind_16 : decode cX5_behind 16 = .ok (.bipush 32, 2) := dk_16 32 (dk_at dksX5_behind_0 16 rfl rfl)
theorem dX5_behind_18 : decode cX5_behind 18 = .ok (.if_icmp .eq 42, 3) := dk_159 0 42 (dk_at dksX5_behind_0 18 rfl rfl)
theorem dX5_behind_21 : decode cX5_behind 21 = .ok (.aload_n 0, 1) := dk_42 (dk_at dksX5_behind_0 21 rfl rfl)
theorem dX5_behind_22 : decode cX5_behind 22 = .ok (.iload 4, 2) := dk_21 4 (dk_at dksX5_behind_0 22 rfl rfl)
theorem dX5_behind_24 : decode cX5_behind 24 = .ok (.invokevirtual 420, 3) := dk_182 1 164 (dk_at dksX5_behind_1 0 rfl rfl)
theorem dX5_behind_27 : decode cX5_behind 27 = .ok (.aload_n 1, 1) := dk_43 (dk_at dksX5_behind_1 3 rfl rfl)
theorem dX5_behind_28 : decode cX5_behind 28 = .ok (.iload 5, 2) := dk_21 5 (dk_at dksX5_behind_1 4 rfl rfl)
theorem dX5_behind_30 : decode cX5_behind 30 = .ok (.invokevirtual 342, 3) := dk_182 1 86 (dk_at dksX5_behind_1 6 rfl rfl)
theorem dX5_behind_33 : decode cX5_behind 33 = .ok (.if_icmp .eq 18, 3) := dk_159 0 18 (dk_at dksX5_behind_1 9 rfl rfl)
theorem dX5_behind_36 : decode cX5_behind 36 = .ok (.aload_n 0, 1) := dk_42 (dk_at dksX5_behind_1 12 rfl rfl)
theorem dX5_behind_37 : decode cX5_behind 37 = .ok (.aload_n 0, 1) := dk_42 (dk_at dksX5_behind_1 13 rfl rfl)
theorem dX5_behind_38 : decode cX5_behind 38 = .ok (.getfield 423, 3) := dk_180 1 167 (dk_at dksX5_behind_1 14 rfl rfl)
theorem dX5_behind_41 : decode cX5_behind 41 = .ok (.iload 4, 2) := dk_21 4 (dk_at dksX5_behind_1 17 rfl rfl)
theorem dX5_behind_43 : decode cX5_behind 43 = .ok (.invokestatic 172, 3) := dk_184 0 172 (dk_at dksX5_behind_1 19 rfl rfl)
theorem dX5_behind_46 : decode cX5_behind 46 = .ok (.putfield 423, 3) := dk_181 1 167 (dk_at dksX5_behind_2 0 rfl rfl)
theorem dX5_behind_49 : decode cX5_behind 49 = .ok (.iconst (-1), 1) := dk_2 (dk_at dksX5_behind_2 3 rfl rfl)
theorem dX5_behind_50 : decode cX5_behind 50 = .ok (.ireturn, 1) := dk_172 (dk_at dksX5_behind_2 4 rfl rfl)
theorem dX5_behind_51 : decode cX5_behind 51 = .ok (.iinc 4 1, 3) := dk_132 4 1 (dk_at dksX5_behind_2 5 rfl rfl)
theorem dX5_behind_54 : decode cX5_behind 54 = .ok (.iinc 5 1, 3) := dk_132 5 1 (dk_at dksX5_behind_2 8 rfl rfl)
theorem dX5_behind_57 : decode cX5_behind 57 = .ok (.goto (-47), 3) := dk_167 255 209 (dk_at dksX5_behind_2 11 rfl rfl)
theorem dX5_behind_60 : decode cX5_behind 60 = .ok (.iload 4, 2) := dk_21 4 (dk_at dksX5_behind_2 14 rfl rfl)
theorem dX5_behind_62 : decode cX5_behind 62 = .ok (.ireturn, 1) := dk_172 (dk_at dksX5_behind_2 16 rfl rfl)
abbrev cX5_takesBranch : ByteArray := prog_22_method_91_code
def yX5_takesBranch : MethodName := ⟨RX5, "takesBranch", "(III)Z"⟩
def dkwX5_takesBranch_3 : List UInt8 := [4, 172, 132, 4, 1, 167, 255, 184, 3, 172]
abbrev dktX5_takesBranch_3 : List UInt8 := dkwX5_takesBranch_3 ++ []
def dkwX5_takesBranch_2 : List UInt8 := [159, 0, 26, 42, 21, 6, 181, 1, 170, 42, 180, 0, 91, 27, 28, 79, 42, 180, 0, 94, 27, 21, 4, 79]
abbrev dktX5_takesBranch_2 : List UInt8 := dkwX5_takesBranch_2 ++ dktX5_takesBranch_3
def dkwX5_takesBranch_1 : List UInt8 := [160, 0, 7, 2, 167, 0, 13, 42, 19, 1, 184, 3, 21, 5, 182, 1, 176, 54, 6, 21, 6, 2]
abbrev dktX5_takesBranch_1 : List UInt8 := dkwX5_takesBranch_1 ++ dktX5_takesBranch_2
def dkwX5_takesBranch_0 : List UInt8 := [3, 54, 4, 21, 4, 16, 12, 162, 0, 71, 42, 18, 50, 21, 4, 29, 182, 1, 176, 54, 5, 21, 5, 2]
abbrev dktX5_takesBranch_0 : List UInt8 := dkwX5_takesBranch_0 ++ dktX5_takesBranch_1
theorem dksX5_takesBranch_0 : cX5_takesBranch.data.toList.drop 0 = dktX5_takesBranch_0 := by decide +kernel
theorem dksX5_takesBranch_1 : cX5_takesBranch.data.toList.drop 24 = dktX5_takesBranch_1 := dk_seg dksX5_takesBranch_0 24 rfl rfl
theorem dksX5_takesBranch_2 : cX5_takesBranch.data.toList.drop 46 = dktX5_takesBranch_2 := dk_seg dksX5_takesBranch_1 22 rfl rfl
theorem dksX5_takesBranch_3 : cX5_takesBranch.data.toList.drop 70 = dktX5_takesBranch_3 := dk_seg dksX5_takesBranch_2 24 rfl rfl
theorem dX5_takesBranch_0 : decode cX5_takesBranch 0 = .ok (.iconst 0, 1) := dk_3 (dk_at dksX5_takesBranch_0 0 rfl rfl)
theorem dX5_takesBranch_1 : decode cX5_takesBranch 1 = .ok (.istore 4, 2) := dk_54 4 (dk_at dksX5_takesBranch_0 1 rfl rfl)
theorem dX5_takesBranch_3 : decode cX5_takesBranch 3 = .ok (.iload 4, 2) := dk_21 4 (dk_at dksX5_takesBranch_0 3 rfl rfl)
theorem dX5_takesBranch_5 : decode cX5_takesBranch 5 = .ok (.bipush 12, 2) := dk_16 12 (dk_at dksX5_takesBranch_0 5 rfl rfl)
theorem dX5_takesBranch_7 : decode cX5_takesBranch 7 = .ok (.if_icmp .ge 71, 3) := dk_162 0 71 (dk_at dksX5_takesBranch_0 7 rfl rfl)
theorem dX5_takesBranch_10 : decode cX5_takesBranch 10 = .ok (.aload_n 0, 1) := dk_42 (dk_at dksX5_takesBranch_0 10 rfl rfl)
theorem dX5_takesBranch_11 : decode cX5_takesBranch 11 = .ok (.ldc 50, 2) := dk_18 50 (dk_at dksX5_takesBranch_0 11 rfl rfl)
theorem dX5_takesBranch_13 : decode cX5_takesBranch 13 = .ok (.iload 4, 2) := dk_21 4 (dk_at dksX5_takesBranch_0 13 rfl rfl)
theorem dX5_takesBranch_15 : decode cX5_takesBranch 15 = .ok (.iload_n 3, 1) := dk_29 (dk_at dksX5_takesBranch_0 15 rfl rfl)
theorem dX5_takesBranch_16 : decode cX5_takesBranch 16 = .ok (.invokevirtual 432, 3) := dk_182 1 176 (dk_at dksX5_takesBranch_0 16 rfl rfl)
theorem dX5_takesBranch_19 : decode cX5_takesBranch 19 = .ok (.istore 5, 2) := dk_54 5 (dk_at dksX5_takesBranch_0 19 rfl rfl)
theorem dX5_takesBranch_21 : decode cX5_takesBranch 21 = .ok (.iload 5, 2) := dk_21 5 (dk_at dksX5_takesBranch_0 21 rfl rfl)
theorem dX5_takesBranch_23 : decode cX5_takesBranch 23 = .ok (.iconst (-1), 1) := dk_2 (dk_at dksX5_takesBranch_0 23 rfl rfl)
theorem dX5_takesBranch_24 : decode cX5_takesBranch 24 = .ok (.if_icmp .ne 7, 3) := dk_160 0 7 (dk_at dksX5_takesBranch_1 0 rfl rfl)
theorem dX5_takesBranch_27 : decode cX5_takesBranch 27 = .ok (.iconst (-1), 1) := dk_2 (dk_at dksX5_takesBranch_1 3 rfl rfl)
theorem dX5_takesBranch_28 : decode cX5_takesBranch 28 = .ok (.goto 13, 3) := dk_167 0 13 (dk_at dksX5_takesBranch_1 4 rfl rfl)
theorem dX5_takesBranch_31 : decode cX5_takesBranch 31 = .ok (.aload_n 0, 1) := dk_42 (dk_at dksX5_takesBranch_1 7 rfl rfl)
theorem dX5_takesBranch_32 : decode cX5_takesBranch 32 = .ok (.ldc_w 440, 3) := dk_19 1 184 (dk_at dksX5_takesBranch_1 8 rfl rfl)
theorem dX5_takesBranch_35 : decode cX5_takesBranch 35 = .ok (.iconst 0, 1) := dk_3 (dk_at dksX5_takesBranch_1 11 rfl rfl)
theorem dX5_takesBranch_36 : decode cX5_takesBranch 36 = .ok (.iload 5, 2) := dk_21 5 (dk_at dksX5_takesBranch_1 12 rfl rfl)
theorem dX5_takesBranch_38 : decode cX5_takesBranch 38 = .ok (.invokevirtual 432, 3) := dk_182 1 176 (dk_at dksX5_takesBranch_1 14 rfl rfl)
theorem dX5_takesBranch_41 : decode cX5_takesBranch 41 = .ok (.istore 6, 2) := dk_54 6 (dk_at dksX5_takesBranch_1 17 rfl rfl)
theorem dX5_takesBranch_43 : decode cX5_takesBranch 43 = .ok (.iload 6, 2) := dk_21 6 (dk_at dksX5_takesBranch_1 19 rfl rfl)
theorem dX5_takesBranch_45 : decode cX5_takesBranch 45 = .ok (.iconst (-1), 1) := dk_2 (dk_at dksX5_takesBranch_1 21 rfl rfl)
theorem dX5_takesBranch_46 : decode cX5_takesBranch 46 = .ok (.if_icmp .eq 26, 3) := dk_159 0 26 (dk_at dksX5_takesBranch_2 0 rfl rfl)
theorem dX5_takesBranch_49 : decode cX5_takesBranch 49 = .ok (.aload_n 0, 1) := dk_42 (dk_at dksX5_takesBranch_2 3 rfl rfl)
theorem dX5_takesBranch_50 : decode cX5_takesBranch 50 = .ok (.iload 6, 2) := dk_21 6 (dk_at dksX5_takesBranch_2 4 rfl rfl)
theorem dX5_takesBranch_52 : decode cX5_takesBranch 52 = .ok (.putfield 426, 3) := dk_181 1 170 (dk_at dksX5_takesBranch_2 6 rfl rfl)
theorem dX5_takesBranch_55 : decode cX5_takesBranch 55 = .ok (.aload_n 0, 1) := dk_42 (dk_at dksX5_takesBranch_2 9 rfl rfl)
theorem dX5_takesBranch_56 : decode cX5_takesBranch 56 = .ok (.getfield 91, 3) := dk_180 0 91 (dk_at dksX5_takesBranch_2 10 rfl rfl)
theorem dX5_takesBranch_59 : decode cX5_takesBranch 59 = .ok (.iload_n 1, 1) := dk_27 (dk_at dksX5_takesBranch_2 13 rfl rfl)
theorem dX5_takesBranch_60 : decode cX5_takesBranch 60 = .ok (.iload_n 2, 1) := dk_28 (dk_at dksX5_takesBranch_2 14 rfl rfl)
theorem dX5_takesBranch_61 : decode cX5_takesBranch 61 = .ok (.iastore, 1) := dk_79 (dk_at dksX5_takesBranch_2 15 rfl rfl)
theorem dX5_takesBranch_62 : decode cX5_takesBranch 62 = .ok (.aload_n 0, 1) := dk_42 (dk_at dksX5_takesBranch_2 16 rfl rfl)
theorem dX5_takesBranch_63 : decode cX5_takesBranch 63 = .ok (.getfield 94, 3) := dk_180 0 94 (dk_at dksX5_takesBranch_2 17 rfl rfl)
theorem dX5_takesBranch_66 : decode cX5_takesBranch 66 = .ok (.iload_n 1, 1) := dk_27 (dk_at dksX5_takesBranch_2 20 rfl rfl)
theorem dX5_takesBranch_67 : decode cX5_takesBranch 67 = .ok (.iload 4, 2) := dk_21 4 (dk_at dksX5_takesBranch_2 21 rfl rfl)
theorem dX5_takesBranch_69 : decode cX5_takesBranch 69 = .ok (.iastore, 1) := dk_79 (dk_at dksX5_takesBranch_2 23 rfl rfl)
theorem dX5_takesBranch_70 : decode cX5_takesBranch 70 = .ok (.iconst 1, 1) := dk_4 (dk_at dksX5_takesBranch_3 0 rfl rfl)
theorem dX5_takesBranch_71 : decode cX5_takesBranch 71 = .ok (.ireturn, 1) := dk_172 (dk_at dksX5_takesBranch_3 1 rfl rfl)
theorem dX5_takesBranch_72 : decode cX5_takesBranch 72 = .ok (.iinc 4 1, 3) := dk_132 4 1 (dk_at dksX5_takesBranch_3 2 rfl rfl)
theorem dX5_takesBranch_75 : decode cX5_takesBranch 75 = .ok (.goto (-72), 3) := dk_167 255 184 (dk_at dksX5_takesBranch_3 5 rfl rfl)
theorem dX5_takesBranch_78 : decode cX5_takesBranch 78 = .ok (.iconst 0, 1) := dk_3 (dk_at dksX5_takesBranch_3 8 rfl rfl)
theorem dX5_takesBranch_79 : decode cX5_takesBranch 79 = .ok (.ireturn, 1) := dk_172 (dk_at dksX5_takesBranch_3 9 rfl rfl)
abbrev cX5_takesStem : ByteArray := prog_22_method_90_code
def yX5_takesStem : MethodName := ⟨RX5, "takesStem", "(ILjava/lang/String;)Z"⟩
def dkwX5_takesStem_3 : List UInt8 := [132, 3, 1, 167, 255, 193, 42, 182, 1, 180, 172]
abbrev dktX5_takesStem_3 : List UInt8 := dkwX5_takesStem_3 ++ []
def dkwX5_takesStem_2 : List UInt8 := [54, 5, 21, 5, 2, 159, 0, 18, 42, 21, 5, 181, 1, 170, 42, 180, 0, 109, 27, 29, 79, 4, 172]
abbrev dktX5_takesStem_2 : List UInt8 := dkwX5_takesStem_2 ++ dktX5_takesStem_3
def dkwX5_takesStem_1 : List UInt8 := [182, 1, 176, 54, 4, 21, 4, 2, 160, 0, 7, 2, 167, 0, 11, 42, 44, 3, 21, 4, 182, 1, 176]
abbrev dktX5_takesStem_1 : List UInt8 := dkwX5_takesStem_1 ++ dktX5_takesStem_2
def dkwX5_takesStem_0 : List UInt8 := [42, 42, 180, 1, 170, 181, 1, 167, 3, 62, 29, 16, 12, 162, 0, 63, 42, 18, 50, 29, 42, 180, 1, 170]
abbrev dktX5_takesStem_0 : List UInt8 := dkwX5_takesStem_0 ++ dktX5_takesStem_1
theorem dksX5_takesStem_0 : cX5_takesStem.data.toList.drop 0 = dktX5_takesStem_0 := by decide +kernel
theorem dksX5_takesStem_1 : cX5_takesStem.data.toList.drop 24 = dktX5_takesStem_1 := dk_seg dksX5_takesStem_0 24 rfl rfl
theorem dksX5_takesStem_2 : cX5_takesStem.data.toList.drop 47 = dktX5_takesStem_2 := dk_seg dksX5_takesStem_1 23 rfl rfl
theorem dksX5_takesStem_3 : cX5_takesStem.data.toList.drop 70 = dktX5_takesStem_3 := dk_seg dksX5_takesStem_2 23 rfl rfl
theorem dX5_takesStem_0 : decode cX5_takesStem 0 = .ok (.aload_n 0, 1) := dk_42 (dk_at dksX5_takesStem_0 0 rfl rfl)
theorem dX5_takesStem_1 : decode cX5_takesStem 1 = .ok (.aload_n 0, 1) := dk_42 (dk_at dksX5_takesStem_0 1 rfl rfl)
theorem dX5_takesStem_2 : decode cX5_takesStem 2 = .ok (.getfield 426, 3) := dk_180 1 170 (dk_at dksX5_takesStem_0 2 rfl rfl)
theorem dX5_takesStem_5 : decode cX5_takesStem 5 = .ok (.putfield 423, 3) := dk_181 1 167 (dk_at dksX5_takesStem_0 5 rfl rfl)
theorem dX5_takesStem_8 : decode cX5_takesStem 8 = .ok (.iconst 0, 1) := dk_3 (dk_at dksX5_takesStem_0 8 rfl rfl)
theorem dX5_takesStem_9 : decode cX5_takesStem 9 = .ok (.istore_n 3, 1) := dk_62 (dk_at dksX5_takesStem_0 9 rfl rfl)
theorem dX5_takesStem_10 : decode cX5_takesStem 10 = .ok (.iload_n 3, 1) := dk_29 (dk_at dksX5_takesStem_0 10 rfl rfl)
theorem dX5_takesStem_11 : decode cX5_takesStem 11 = .ok (.bipush 12, 2) := dk_16 12 (dk_at dksX5_takesStem_0 11 rfl rfl)
theorem dX5_takesStem_13 : decode cX5_takesStem 13 = .ok (.if_icmp .ge 63, 3) := dk_162 0 63 (dk_at dksX5_takesStem_0 13 rfl rfl)
theorem dX5_takesStem_16 : decode cX5_takesStem 16 = .ok (.aload_n 0, 1) := dk_42 (dk_at dksX5_takesStem_0 16 rfl rfl)
theorem dX5_takesStem_17 : decode cX5_takesStem 17 = .ok (.ldc 50, 2) := dk_18 50 (dk_at dksX5_takesStem_0 17 rfl rfl)
theorem dX5_takesStem_19 : decode cX5_takesStem 19 = .ok (.iload_n 3, 1) := dk_29 (dk_at dksX5_takesStem_0 19 rfl rfl)
theorem dX5_takesStem_20 : decode cX5_takesStem 20 = .ok (.aload_n 0, 1) := dk_42 (dk_at dksX5_takesStem_0 20 rfl rfl)
theorem dX5_takesStem_21 : decode cX5_takesStem 21 = .ok (.getfield 426, 3) := dk_180 1 170 (dk_at dksX5_takesStem_0 21 rfl rfl)
theorem dX5_takesStem_24 : decode cX5_takesStem 24 = .ok (.invokevirtual 432, 3) := dk_182 1 176 (dk_at dksX5_takesStem_1 0 rfl rfl)
theorem dX5_takesStem_27 : decode cX5_takesStem 27 = .ok (.istore 4, 2) := dk_54 4 (dk_at dksX5_takesStem_1 3 rfl rfl)
theorem dX5_takesStem_29 : decode cX5_takesStem 29 = .ok (.iload 4, 2) := dk_21 4 (dk_at dksX5_takesStem_1 5 rfl rfl)
theorem dX5_takesStem_31 : decode cX5_takesStem 31 = .ok (.iconst (-1), 1) := dk_2 (dk_at dksX5_takesStem_1 7 rfl rfl)
theorem dX5_takesStem_32 : decode cX5_takesStem 32 = .ok (.if_icmp .ne 7, 3) := dk_160 0 7 (dk_at dksX5_takesStem_1 8 rfl rfl)
theorem dX5_takesStem_35 : decode cX5_takesStem 35 = .ok (.iconst (-1), 1) := dk_2 (dk_at dksX5_takesStem_1 11 rfl rfl)
theorem dX5_takesStem_36 : decode cX5_takesStem 36 = .ok (.goto 11, 3) := dk_167 0 11 (dk_at dksX5_takesStem_1 12 rfl rfl)
theorem dX5_takesStem_39 : decode cX5_takesStem 39 = .ok (.aload_n 0, 1) := dk_42 (dk_at dksX5_takesStem_1 15 rfl rfl)
theorem dX5_takesStem_40 : decode cX5_takesStem 40 = .ok (.aload_n 2, 1) := dk_44 (dk_at dksX5_takesStem_1 16 rfl rfl)
theorem dX5_takesStem_41 : decode cX5_takesStem 41 = .ok (.iconst 0, 1) := dk_3 (dk_at dksX5_takesStem_1 17 rfl rfl)
theorem dX5_takesStem_42 : decode cX5_takesStem 42 = .ok (.iload 4, 2) := dk_21 4 (dk_at dksX5_takesStem_1 18 rfl rfl)
theorem dX5_takesStem_44 : decode cX5_takesStem 44 = .ok (.invokevirtual 432, 3) := dk_182 1 176 (dk_at dksX5_takesStem_1 20 rfl rfl)
theorem dX5_takesStem_47 : decode cX5_takesStem 47 = .ok (.istore 5, 2) := dk_54 5 (dk_at dksX5_takesStem_2 0 rfl rfl)
theorem dX5_takesStem_49 : decode cX5_takesStem 49 = .ok (.iload 5, 2) := dk_21 5 (dk_at dksX5_takesStem_2 2 rfl rfl)
theorem dX5_takesStem_51 : decode cX5_takesStem 51 = .ok (.iconst (-1), 1) := dk_2 (dk_at dksX5_takesStem_2 4 rfl rfl)
theorem dX5_takesStem_52 : decode cX5_takesStem 52 = .ok (.if_icmp .eq 18, 3) := dk_159 0 18 (dk_at dksX5_takesStem_2 5 rfl rfl)
theorem dX5_takesStem_55 : decode cX5_takesStem 55 = .ok (.aload_n 0, 1) := dk_42 (dk_at dksX5_takesStem_2 8 rfl rfl)
theorem dX5_takesStem_56 : decode cX5_takesStem 56 = .ok (.iload 5, 2) := dk_21 5 (dk_at dksX5_takesStem_2 9 rfl rfl)
theorem dX5_takesStem_58 : decode cX5_takesStem 58 = .ok (.putfield 426, 3) := dk_181 1 170 (dk_at dksX5_takesStem_2 11 rfl rfl)
theorem dX5_takesStem_61 : decode cX5_takesStem 61 = .ok (.aload_n 0, 1) := dk_42 (dk_at dksX5_takesStem_2 14 rfl rfl)
theorem dX5_takesStem_62 : decode cX5_takesStem 62 = .ok (.getfield 109, 3) := dk_180 0 109 (dk_at dksX5_takesStem_2 15 rfl rfl)
theorem dX5_takesStem_65 : decode cX5_takesStem 65 = .ok (.iload_n 1, 1) := dk_27 (dk_at dksX5_takesStem_2 18 rfl rfl)
theorem dX5_takesStem_66 : decode cX5_takesStem 66 = .ok (.iload_n 3, 1) := dk_29 (dk_at dksX5_takesStem_2 19 rfl rfl)
theorem dX5_takesStem_67 : decode cX5_takesStem 67 = .ok (.iastore, 1) := dk_79 (dk_at dksX5_takesStem_2 20 rfl rfl)
theorem dX5_takesStem_68 : decode cX5_takesStem 68 = .ok (.iconst 1, 1) := dk_4 (dk_at dksX5_takesStem_2 21 rfl rfl)
theorem dX5_takesStem_69 : decode cX5_takesStem 69 = .ok (.ireturn, 1) := dk_172 (dk_at dksX5_takesStem_2 22 rfl rfl)
theorem dX5_takesStem_70 : decode cX5_takesStem 70 = .ok (.iinc 3 1, 3) := dk_132 3 1 (dk_at dksX5_takesStem_3 0 rfl rfl)
theorem dX5_takesStem_73 : decode cX5_takesStem 73 = .ok (.goto (-63), 3) := dk_167 255 193 (dk_at dksX5_takesStem_3 3 rfl rfl)
theorem dX5_takesStem_76 : decode cX5_takesStem 76 = .ok (.aload_n 0, 1) := dk_42 (dk_at dksX5_takesStem_3 6 rfl rfl)
theorem dX5_takesStem_77 : decode cX5_takesStem 77 = .ok (.invokevirtual 436, 3) := dk_182 1 180 (dk_at dksX5_takesStem_3 7 rfl rfl)
theorem dX5_takesStem_80 : decode cX5_takesStem 80 = .ok (.ireturn, 1) := dk_172 (dk_at dksX5_takesStem_3 10 rfl rfl)
abbrev cX5_fails : ByteArray := prog_22_method_87_code
def yX5_fails : MethodName := ⟨RX5, "fails", "()Z"⟩
def dkwX5_fails_0 : List UInt8 := [42, 42, 180, 1, 167, 181, 1, 170, 3, 172]
abbrev dktX5_fails_0 : List UInt8 := dkwX5_fails_0 ++ []
theorem dksX5_fails_0 : cX5_fails.data.toList.drop 0 = dktX5_fails_0 := by decide +kernel
theorem dX5_fails_0 : decode cX5_fails 0 = .ok (.aload_n 0, 1) := dk_42 (dk_at dksX5_fails_0 0 rfl rfl)
theorem dX5_fails_1 : decode cX5_fails 1 = .ok (.aload_n 0, 1) := dk_42 (dk_at dksX5_fails_0 1 rfl rfl)
theorem dX5_fails_2 : decode cX5_fails 2 = .ok (.getfield 423, 3) := dk_180 1 167 (dk_at dksX5_fails_0 2 rfl rfl)
theorem dX5_fails_5 : decode cX5_fails 5 = .ok (.putfield 426, 3) := dk_181 1 170 (dk_at dksX5_fails_0 5 rfl rfl)
theorem dX5_fails_8 : decode cX5_fails 8 = .ok (.iconst 0, 1) := dk_3 (dk_at dksX5_fails_0 8 rfl rfl)
theorem dX5_fails_9 : decode cX5_fails 9 = .ok (.ireturn, 1) := dk_172 (dk_at dksX5_fails_0 9 rfl rfl)
abbrev cX5_makes : ByteArray := prog_22_method_101_code
def yX5_makes : MethodName := ⟨RX5, "makes", "(II)Z"⟩
def dkwX5_makes_3 : List UInt8 := [29, 182, 1, 240, 154, 0, 5, 3, 172, 132, 4, 1, 167, 255, 220, 4, 172]
abbrev dktX5_makes_3 : List UInt8 := dkwX5_makes_3 ++ []
def dkwX5_makes_2 : List UInt8 := [21, 4, 42, 180, 1, 201, 162, 0, 33, 42, 180, 0, 85, 21, 4, 46, 27, 160, 0, 16, 42, 21, 4, 28]
abbrev dktX5_makes_2 : List UInt8 := dkwX5_makes_2 ++ dktX5_makes_3
def dkwX5_makes_1 : List UInt8 := [180, 0, 118, 16, 12, 28, 104, 92, 46, 28, 158, 0, 7, 4, 167, 0, 4, 3, 96, 79, 3, 54, 4]
abbrev dktX5_makes_1 : List UInt8 := dkwX5_makes_1 ++ dktX5_makes_2
def dkwX5_makes_0 : List UInt8 := [42, 180, 0, 109, 27, 46, 4, 96, 62, 42, 180, 0, 112, 28, 3, 79, 42, 28, 2, 29, 182, 1, 237, 42]
abbrev dktX5_makes_0 : List UInt8 := dkwX5_makes_0 ++ dktX5_makes_1
theorem dksX5_makes_0 : cX5_makes.data.toList.drop 0 = dktX5_makes_0 := by decide +kernel
theorem dksX5_makes_1 : cX5_makes.data.toList.drop 24 = dktX5_makes_1 := dk_seg dksX5_makes_0 24 rfl rfl
theorem dksX5_makes_2 : cX5_makes.data.toList.drop 47 = dktX5_makes_2 := dk_seg dksX5_makes_1 23 rfl rfl
theorem dksX5_makes_3 : cX5_makes.data.toList.drop 71 = dktX5_makes_3 := dk_seg dksX5_makes_2 24 rfl rfl
theorem dX5_makes_0 : decode cX5_makes 0 = .ok (.aload_n 0, 1) := dk_42 (dk_at dksX5_makes_0 0 rfl rfl)
theorem dX5_makes_1 : decode cX5_makes 1 = .ok (.getfield 109, 3) := dk_180 0 109 (dk_at dksX5_makes_0 1 rfl rfl)
theorem dX5_makes_4 : decode cX5_makes 4 = .ok (.iload_n 1, 1) := dk_27 (dk_at dksX5_makes_0 4 rfl rfl)
theorem dX5_makes_5 : decode cX5_makes 5 = .ok (.iaload, 1) := dk_46 (dk_at dksX5_makes_0 5 rfl rfl)
theorem dX5_makes_6 : decode cX5_makes 6 = .ok (.iconst 1, 1) := dk_4 (dk_at dksX5_makes_0 6 rfl rfl)
theorem dX5_makes_7 : decode cX5_makes 7 = .ok (.iadd, 1) := dk_96 (dk_at dksX5_makes_0 7 rfl rfl)
theorem dX5_makes_8 : decode cX5_makes 8 = .ok (.istore_n 3, 1) := dk_62 (dk_at dksX5_makes_0 8 rfl rfl)
theorem dX5_makes_9 : decode cX5_makes 9 = .ok (.aload_n 0, 1) := dk_42 (dk_at dksX5_makes_0 9 rfl rfl)
theorem dX5_makes_10 : decode cX5_makes 10 = .ok (.getfield 112, 3) := dk_180 0 112 (dk_at dksX5_makes_0 10 rfl rfl)
theorem dX5_makes_13 : decode cX5_makes 13 = .ok (.iload_n 2, 1) := dk_28 (dk_at dksX5_makes_0 13 rfl rfl)
theorem dX5_makes_14 : decode cX5_makes 14 = .ok (.iconst 0, 1) := dk_3 (dk_at dksX5_makes_0 14 rfl rfl)
theorem dX5_makes_15 : decode cX5_makes 15 = .ok (.iastore, 1) := dk_79 (dk_at dksX5_makes_0 15 rfl rfl)
theorem dX5_makes_16 : decode cX5_makes 16 = .ok (.aload_n 0, 1) := dk_42 (dk_at dksX5_makes_0 16 rfl rfl)
theorem dX5_makes_17 : decode cX5_makes 17 = .ok (.iload_n 2, 1) := dk_28 (dk_at dksX5_makes_0 17 rfl rfl)
theorem dX5_makes_18 : decode cX5_makes 18 = .ok (.iconst (-1), 1) := dk_2 (dk_at dksX5_makes_0 18 rfl rfl)
theorem dX5_makes_19 : decode cX5_makes 19 = .ok (.iload_n 3, 1) := dk_29 (dk_at dksX5_makes_0 19 rfl rfl)
theorem dX5_makes_20 : decode cX5_makes 20 = .ok (.invokevirtual 493, 3) := dk_182 1 237 (dk_at dksX5_makes_0 20 rfl rfl)
theorem dX5_makes_23 : decode cX5_makes 23 = .ok (.aload_n 0, 1) := dk_42 (dk_at dksX5_makes_0 23 rfl rfl)
theorem dX5_makes_24 : decode cX5_makes 24 = .ok (.getfield 118, 3) := dk_180 0 118 (dk_at dksX5_makes_1 0 rfl rfl)
theorem dX5_makes_27 : decode cX5_makes 27 = .ok (.bipush 12, 2) := dk_16 12 (dk_at dksX5_makes_1 3 rfl rfl)
theorem dX5_makes_29 : decode cX5_makes 29 = .ok (.iload_n 2, 1) := dk_28 (dk_at dksX5_makes_1 5 rfl rfl)
theorem dX5_makes_30 : decode cX5_makes 30 = .ok (.imul, 1) := dk_104 (dk_at dksX5_makes_1 6 rfl rfl)
theorem dX5_makes_31 : decode cX5_makes 31 = .ok (.dup2, 1) := dk_92 (dk_at dksX5_makes_1 7 rfl rfl)
theorem dX5_makes_32 : decode cX5_makes 32 = .ok (.iaload, 1) := dk_46 (dk_at dksX5_makes_1 8 rfl rfl)
theorem dX5_makes_33 : decode cX5_makes 33 = .ok (.iload_n 2, 1) := dk_28 (dk_at dksX5_makes_1 9 rfl rfl)
theorem dX5_makes_34 : decode cX5_makes 34 = .ok (.ifCond .le 7, 3) := dk_158 0 7 (dk_at dksX5_makes_1 10 rfl rfl)
theorem dX5_makes_37 : decode cX5_makes 37 = .ok (.iconst 1, 1) := dk_4 (dk_at dksX5_makes_1 13 rfl rfl)
theorem dX5_makes_38 : decode cX5_makes 38 = .ok (.goto 4, 3) := dk_167 0 4 (dk_at dksX5_makes_1 14 rfl rfl)
theorem dX5_makes_41 : decode cX5_makes 41 = .ok (.iconst 0, 1) := dk_3 (dk_at dksX5_makes_1 17 rfl rfl)
theorem dX5_makes_42 : decode cX5_makes 42 = .ok (.iadd, 1) := dk_96 (dk_at dksX5_makes_1 18 rfl rfl)
theorem dX5_makes_43 : decode cX5_makes 43 = .ok (.iastore, 1) := dk_79 (dk_at dksX5_makes_1 19 rfl rfl)
theorem dX5_makes_44 : decode cX5_makes 44 = .ok (.iconst 0, 1) := dk_3 (dk_at dksX5_makes_1 20 rfl rfl)
theorem dX5_makes_45 : decode cX5_makes 45 = .ok (.istore 4, 2) := dk_54 4 (dk_at dksX5_makes_1 21 rfl rfl)
theorem dX5_makes_47 : decode cX5_makes 47 = .ok (.iload 4, 2) := dk_21 4 (dk_at dksX5_makes_2 0 rfl rfl)
theorem dX5_makes_49 : decode cX5_makes 49 = .ok (.aload_n 0, 1) := dk_42 (dk_at dksX5_makes_2 2 rfl rfl)
theorem dX5_makes_50 : decode cX5_makes 50 = .ok (.getfield 457, 3) := dk_180 1 201 (dk_at dksX5_makes_2 3 rfl rfl)
theorem dX5_makes_53 : decode cX5_makes 53 = .ok (.if_icmp .ge 33, 3) := dk_162 0 33 (dk_at dksX5_makes_2 6 rfl rfl)
theorem dX5_makes_56 : decode cX5_makes 56 = .ok (.aload_n 0, 1) := dk_42 (dk_at dksX5_makes_2 9 rfl rfl)
theorem dX5_makes_57 : decode cX5_makes 57 = .ok (.getfield 85, 3) := dk_180 0 85 (dk_at dksX5_makes_2 10 rfl rfl)
theorem dX5_makes_60 : decode cX5_makes 60 = .ok (.iload 4, 2) := dk_21 4 (dk_at dksX5_makes_2 13 rfl rfl)
theorem dX5_makes_62 : decode cX5_makes 62 = .ok (.iaload, 1) := dk_46 (dk_at dksX5_makes_2 15 rfl rfl)
theorem dX5_makes_63 : decode cX5_makes 63 = .ok (.iload_n 1, 1) := dk_27 (dk_at dksX5_makes_2 16 rfl rfl)
theorem dX5_makes_64 : decode cX5_makes 64 = .ok (.if_icmp .ne 16, 3) := dk_160 0 16 (dk_at dksX5_makes_2 17 rfl rfl)
theorem dX5_makes_67 : decode cX5_makes 67 = .ok (.aload_n 0, 1) := dk_42 (dk_at dksX5_makes_2 20 rfl rfl)
theorem dX5_makes_68 : decode cX5_makes 68 = .ok (.iload 4, 2) := dk_21 4 (dk_at dksX5_makes_2 21 rfl rfl)
theorem dX5_makes_70 : decode cX5_makes 70 = .ok (.iload_n 2, 1) := dk_28 (dk_at dksX5_makes_2 23 rfl rfl)
theorem dX5_makes_71 : decode cX5_makes 71 = .ok (.iload_n 3, 1) := dk_29 (dk_at dksX5_makes_3 0 rfl rfl)
theorem dX5_makes_72 : decode cX5_makes 72 = .ok (.invokevirtual 496, 3) := dk_182 1 240 (dk_at dksX5_makes_3 1 rfl rfl)
theorem dX5_makes_75 : decode cX5_makes 75 = .ok (.ifCond .ne 5, 3) := dk_154 0 5 (dk_at dksX5_makes_3 4 rfl rfl)
theorem dX5_makes_78 : decode cX5_makes 78 = .ok (.iconst 0, 1) := dk_3 (dk_at dksX5_makes_3 7 rfl rfl)
theorem dX5_makes_79 : decode cX5_makes 79 = .ok (.ireturn, 1) := dk_172 (dk_at dksX5_makes_3 8 rfl rfl)
theorem dX5_makes_80 : decode cX5_makes 80 = .ok (.iinc 4 1, 3) := dk_132 4 1 (dk_at dksX5_makes_3 9 rfl rfl)
theorem dX5_makes_83 : decode cX5_makes 83 = .ok (.goto (-36), 3) := dk_167 255 220 (dk_at dksX5_makes_3 12 rfl rfl)
theorem dX5_makes_86 : decode cX5_makes 86 = .ok (.iconst 1, 1) := dk_4 (dk_at dksX5_makes_3 15 rfl rfl)
theorem dX5_makes_87 : decode cX5_makes 87 = .ok (.ireturn, 1) := dk_172 (dk_at dksX5_makes_3 16 rfl rfl)
abbrev cX5_hangsChain : ByteArray := prog_22_method_98_code
def yX5_hangsChain : MethodName := ⟨RX5, "hangsChain", "(III)V"⟩
def dkwX5_hangsChain_1 : List UInt8 := [27, 46, 4, 100, 182, 1, 225, 132, 4, 1, 167, 255, 225, 177]
abbrev dktX5_hangsChain_1 : List UInt8 := dkwX5_hangsChain_1 ++ []
def dkwX5_hangsChain_0 : List UInt8 := [3, 54, 4, 21, 4, 29, 162, 0, 31, 42, 27, 21, 4, 154, 0, 7, 28, 167, 0, 11, 42, 180, 0, 112]
abbrev dktX5_hangsChain_0 : List UInt8 := dkwX5_hangsChain_0 ++ dktX5_hangsChain_1
theorem dksX5_hangsChain_0 : cX5_hangsChain.data.toList.drop 0 = dktX5_hangsChain_0 := by decide +kernel
theorem dksX5_hangsChain_1 : cX5_hangsChain.data.toList.drop 24 = dktX5_hangsChain_1 := dk_seg dksX5_hangsChain_0 24 rfl rfl
theorem dX5_hangsChain_0 : decode cX5_hangsChain 0 = .ok (.iconst 0, 1) := dk_3 (dk_at dksX5_hangsChain_0 0 rfl rfl)
theorem dX5_hangsChain_1 : decode cX5_hangsChain 1 = .ok (.istore 4, 2) := dk_54 4 (dk_at dksX5_hangsChain_0 1 rfl rfl)
theorem dX5_hangsChain_3 : decode cX5_hangsChain 3 = .ok (.iload 4, 2) := dk_21 4 (dk_at dksX5_hangsChain_0 3 rfl rfl)
theorem dX5_hangsChain_5 : decode cX5_hangsChain 5 = .ok (.iload_n 3, 1) := dk_29 (dk_at dksX5_hangsChain_0 5 rfl rfl)
theorem dX5_hangsChain_6 : decode cX5_hangsChain 6 = .ok (.if_icmp .ge 31, 3) := dk_162 0 31 (dk_at dksX5_hangsChain_0 6 rfl rfl)
theorem dX5_hangsChain_9 : decode cX5_hangsChain 9 = .ok (.aload_n 0, 1) := dk_42 (dk_at dksX5_hangsChain_0 9 rfl rfl)
theorem dX5_hangsChain_10 : decode cX5_hangsChain 10 = .ok (.iload_n 1, 1) := dk_27 (dk_at dksX5_hangsChain_0 10 rfl rfl)
theorem dX5_hangsChain_11 : decode cX5_hangsChain 11 = .ok (.iload 4, 2) := dk_21 4 (dk_at dksX5_hangsChain_0 11 rfl rfl)
theorem dX5_hangsChain_13 : decode cX5_hangsChain 13 = .ok (.ifCond .ne 7, 3) := dk_154 0 7 (dk_at dksX5_hangsChain_0 13 rfl rfl)
theorem dX5_hangsChain_16 : decode cX5_hangsChain 16 = .ok (.iload_n 2, 1) := dk_28 (dk_at dksX5_hangsChain_0 16 rfl rfl)
theorem dX5_hangsChain_17 : decode cX5_hangsChain 17 = .ok (.goto 11, 3) := dk_167 0 11 (dk_at dksX5_hangsChain_0 17 rfl rfl)
theorem dX5_hangsChain_20 : decode cX5_hangsChain 20 = .ok (.aload_n 0, 1) := dk_42 (dk_at dksX5_hangsChain_0 20 rfl rfl)
theorem dX5_hangsChain_21 : decode cX5_hangsChain 21 = .ok (.getfield 112, 3) := dk_180 0 112 (dk_at dksX5_hangsChain_0 21 rfl rfl)
theorem dX5_hangsChain_24 : decode cX5_hangsChain 24 = .ok (.iload_n 1, 1) := dk_27 (dk_at dksX5_hangsChain_1 0 rfl rfl)
theorem dX5_hangsChain_25 : decode cX5_hangsChain 25 = .ok (.iaload, 1) := dk_46 (dk_at dksX5_hangsChain_1 1 rfl rfl)
theorem dX5_hangsChain_26 : decode cX5_hangsChain 26 = .ok (.iconst 1, 1) := dk_4 (dk_at dksX5_hangsChain_1 2 rfl rfl)
theorem dX5_hangsChain_27 : decode cX5_hangsChain 27 = .ok (.isub, 1) := dk_100 (dk_at dksX5_hangsChain_1 3 rfl rfl)
theorem dX5_hangsChain_28 : decode cX5_hangsChain 28 = .ok (.invokevirtual 481, 3) := dk_182 1 225 (dk_at dksX5_hangsChain_1 4 rfl rfl)
theorem dX5_hangsChain_31 : decode cX5_hangsChain 31 = .ok (.iinc 4 1, 3) := dk_132 4 1 (dk_at dksX5_hangsChain_1 7 rfl rfl)
theorem dX5_hangsChain_34 : decode cX5_hangsChain 34 = .ok (.goto (-31), 3) := dk_167 255 225 (dk_at dksX5_hangsChain_1 10 rfl rfl)
theorem dX5_hangsChain_37 : decode cX5_hangsChain 37 = .ok (.return_, 1) := dk_177 (dk_at dksX5_hangsChain_1 13 rfl rfl)
abbrev cX5_hangs : ByteArray := prog_22_method_97_code
def yX5_hangs : MethodName := ⟨RX5, "hangs", "(II)V"⟩
def dkwX5_hangs_2 : List UInt8 := [28, 96, 92, 46, 4, 96, 79, 42, 180, 0, 112, 27, 92, 46, 4, 96, 79, 177]
abbrev dktX5_hangs_2 : List UInt8 := dkwX5_hangs_2 ++ []
def dkwX5_hangs_1 : List UInt8 := [28, 2, 160, 0, 7, 3, 167, 0, 4, 4, 79, 28, 2, 159, 0, 18, 42, 180, 0, 118, 16, 12, 27, 104]
abbrev dktX5_hangs_1 : List UInt8 := dkwX5_hangs_1 ++ dktX5_hangs_2
def dkwX5_hangs_0 : List UInt8 := [16, 12, 27, 104, 42, 180, 0, 112, 27, 46, 96, 62, 42, 180, 0, 115, 29, 28, 79, 42, 180, 0, 118, 29]
abbrev dktX5_hangs_0 : List UInt8 := dkwX5_hangs_0 ++ dktX5_hangs_1
theorem dksX5_hangs_0 : cX5_hangs.data.toList.drop 0 = dktX5_hangs_0 := by decide +kernel
theorem dksX5_hangs_1 : cX5_hangs.data.toList.drop 24 = dktX5_hangs_1 := dk_seg dksX5_hangs_0 24 rfl rfl
theorem dksX5_hangs_2 : cX5_hangs.data.toList.drop 48 = dktX5_hangs_2 := dk_seg dksX5_hangs_1 24 rfl rfl
theorem dX5_hangs_0 : decode cX5_hangs 0 = .ok (.bipush 12, 2) := dk_16 12 (dk_at dksX5_hangs_0 0 rfl rfl)
theorem dX5_hangs_2 : decode cX5_hangs 2 = .ok (.iload_n 1, 1) := dk_27 (dk_at dksX5_hangs_0 2 rfl rfl)
theorem dX5_hangs_3 : decode cX5_hangs 3 = .ok (.imul, 1) := dk_104 (dk_at dksX5_hangs_0 3 rfl rfl)
theorem dX5_hangs_4 : decode cX5_hangs 4 = .ok (.aload_n 0, 1) := dk_42 (dk_at dksX5_hangs_0 4 rfl rfl)
theorem dX5_hangs_5 : decode cX5_hangs 5 = .ok (.getfield 112, 3) := dk_180 0 112 (dk_at dksX5_hangs_0 5 rfl rfl)
theorem dX5_hangs_8 : decode cX5_hangs 8 = .ok (.iload_n 1, 1) := dk_27 (dk_at dksX5_hangs_0 8 rfl rfl)
theorem dX5_hangs_9 : decode cX5_hangs 9 = .ok (.iaload, 1) := dk_46 (dk_at dksX5_hangs_0 9 rfl rfl)
theorem dX5_hangs_10 : decode cX5_hangs 10 = .ok (.iadd, 1) := dk_96 (dk_at dksX5_hangs_0 10 rfl rfl)
theorem dX5_hangs_11 : decode cX5_hangs 11 = .ok (.istore_n 3, 1) := dk_62 (dk_at dksX5_hangs_0 11 rfl rfl)
theorem dX5_hangs_12 : decode cX5_hangs 12 = .ok (.aload_n 0, 1) := dk_42 (dk_at dksX5_hangs_0 12 rfl rfl)
theorem dX5_hangs_13 : decode cX5_hangs 13 = .ok (.getfield 115, 3) := dk_180 0 115 (dk_at dksX5_hangs_0 13 rfl rfl)
theorem dX5_hangs_16 : decode cX5_hangs 16 = .ok (.iload_n 3, 1) := dk_29 (dk_at dksX5_hangs_0 16 rfl rfl)
theorem dX5_hangs_17 : decode cX5_hangs 17 = .ok (.iload_n 2, 1) := dk_28 (dk_at dksX5_hangs_0 17 rfl rfl)
theorem dX5_hangs_18 : decode cX5_hangs 18 = .ok (.iastore, 1) := dk_79 (dk_at dksX5_hangs_0 18 rfl rfl)
theorem dX5_hangs_19 : decode cX5_hangs 19 = .ok (.aload_n 0, 1) := dk_42 (dk_at dksX5_hangs_0 19 rfl rfl)
theorem dX5_hangs_20 : decode cX5_hangs 20 = .ok (.getfield 118, 3) := dk_180 0 118 (dk_at dksX5_hangs_0 20 rfl rfl)
theorem dX5_hangs_23 : decode cX5_hangs 23 = .ok (.iload_n 3, 1) := dk_29 (dk_at dksX5_hangs_0 23 rfl rfl)
theorem dX5_hangs_24 : decode cX5_hangs 24 = .ok (.iload_n 2, 1) := dk_28 (dk_at dksX5_hangs_1 0 rfl rfl)
theorem dX5_hangs_25 : decode cX5_hangs 25 = .ok (.iconst (-1), 1) := dk_2 (dk_at dksX5_hangs_1 1 rfl rfl)
theorem dX5_hangs_26 : decode cX5_hangs 26 = .ok (.if_icmp .ne 7, 3) := dk_160 0 7 (dk_at dksX5_hangs_1 2 rfl rfl)
theorem dX5_hangs_29 : decode cX5_hangs 29 = .ok (.iconst 0, 1) := dk_3 (dk_at dksX5_hangs_1 5 rfl rfl)
theorem dX5_hangs_30 : decode cX5_hangs 30 = .ok (.goto 4, 3) := dk_167 0 4 (dk_at dksX5_hangs_1 6 rfl rfl)
theorem dX5_hangs_33 : decode cX5_hangs 33 = .ok (.iconst 1, 1) := dk_4 (dk_at dksX5_hangs_1 9 rfl rfl)
theorem dX5_hangs_34 : decode cX5_hangs 34 = .ok (.iastore, 1) := dk_79 (dk_at dksX5_hangs_1 10 rfl rfl)
theorem dX5_hangs_35 : decode cX5_hangs 35 = .ok (.iload_n 2, 1) := dk_28 (dk_at dksX5_hangs_1 11 rfl rfl)
theorem dX5_hangs_36 : decode cX5_hangs 36 = .ok (.iconst (-1), 1) := dk_2 (dk_at dksX5_hangs_1 12 rfl rfl)
theorem dX5_hangs_37 : decode cX5_hangs 37 = .ok (.if_icmp .eq 18, 3) := dk_159 0 18 (dk_at dksX5_hangs_1 13 rfl rfl)
theorem dX5_hangs_40 : decode cX5_hangs 40 = .ok (.aload_n 0, 1) := dk_42 (dk_at dksX5_hangs_1 16 rfl rfl)
theorem dX5_hangs_41 : decode cX5_hangs 41 = .ok (.getfield 118, 3) := dk_180 0 118 (dk_at dksX5_hangs_1 17 rfl rfl)
theorem dX5_hangs_44 : decode cX5_hangs 44 = .ok (.bipush 12, 2) := dk_16 12 (dk_at dksX5_hangs_1 20 rfl rfl)
theorem dX5_hangs_46 : decode cX5_hangs 46 = .ok (.iload_n 1, 1) := dk_27 (dk_at dksX5_hangs_1 22 rfl rfl)
theorem dX5_hangs_47 : decode cX5_hangs 47 = .ok (.imul, 1) := dk_104 (dk_at dksX5_hangs_1 23 rfl rfl)
theorem dX5_hangs_48 : decode cX5_hangs 48 = .ok (.iload_n 2, 1) := dk_28 (dk_at dksX5_hangs_2 0 rfl rfl)
theorem dX5_hangs_49 : decode cX5_hangs 49 = .ok (.iadd, 1) := dk_96 (dk_at dksX5_hangs_2 1 rfl rfl)
theorem dX5_hangs_50 : decode cX5_hangs 50 = .ok (.dup2, 1) := dk_92 (dk_at dksX5_hangs_2 2 rfl rfl)
theorem dX5_hangs_51 : decode cX5_hangs 51 = .ok (.iaload, 1) := dk_46 (dk_at dksX5_hangs_2 3 rfl rfl)
theorem dX5_hangs_52 : decode cX5_hangs 52 = .ok (.iconst 1, 1) := dk_4 (dk_at dksX5_hangs_2 4 rfl rfl)
theorem dX5_hangs_53 : decode cX5_hangs 53 = .ok (.iadd, 1) := dk_96 (dk_at dksX5_hangs_2 5 rfl rfl)
theorem dX5_hangs_54 : decode cX5_hangs 54 = .ok (.iastore, 1) := dk_79 (dk_at dksX5_hangs_2 6 rfl rfl)
theorem dX5_hangs_55 : decode cX5_hangs 55 = .ok (.aload_n 0, 1) := dk_42 (dk_at dksX5_hangs_2 7 rfl rfl)
theorem dX5_hangs_56 : decode cX5_hangs 56 = .ok (.getfield 112, 3) := dk_180 0 112 (dk_at dksX5_hangs_2 8 rfl rfl)
theorem dX5_hangs_59 : decode cX5_hangs 59 = .ok (.iload_n 1, 1) := dk_27 (dk_at dksX5_hangs_2 11 rfl rfl)
theorem dX5_hangs_60 : decode cX5_hangs 60 = .ok (.dup2, 1) := dk_92 (dk_at dksX5_hangs_2 12 rfl rfl)
theorem dX5_hangs_61 : decode cX5_hangs 61 = .ok (.iaload, 1) := dk_46 (dk_at dksX5_hangs_2 13 rfl rfl)
theorem dX5_hangs_62 : decode cX5_hangs 62 = .ok (.iconst 1, 1) := dk_4 (dk_at dksX5_hangs_2 14 rfl rfl)
theorem dX5_hangs_63 : decode cX5_hangs 63 = .ok (.iadd, 1) := dk_96 (dk_at dksX5_hangs_2 15 rfl rfl)
theorem dX5_hangs_64 : decode cX5_hangs 64 = .ok (.iastore, 1) := dk_79 (dk_at dksX5_hangs_2 16 rfl rfl)
theorem dX5_hangs_65 : decode cX5_hangs 65 = .ok (.return_, 1) := dk_177 (dk_at dksX5_hangs_2 17 rfl rfl)
abbrev cX5_makesPart : ByteArray := prog_22_method_100_code
def yX5_makesPart : MethodName := ⟨RX5, "makesPart", "(III)Z"⟩
def dkwX5_makesPart_9 : List UInt8 := [182, 1, 237, 132, 6, 1, 167, 255, 139, 4, 172]
abbrev dktX5_makesPart_9 : List UInt8 := dkwX5_makesPart_9 ++ []
def dkwX5_makesPart_8 : List UInt8 := [153, 0, 15, 42, 28, 21, 7, 4, 100, 182, 1, 234, 167, 0, 14, 42, 28, 21, 7, 4, 100, 21, 5]
abbrev dktX5_makesPart_8 : List UInt8 := dkwX5_makesPart_8 ++ dktX5_makesPart_9
def dkwX5_makesPart_7 : List UInt8 := [180, 0, 112, 28, 46, 21, 5, 96, 16, 12, 164, 0, 10, 42, 7, 27, 182, 1, 228, 172, 21, 4]
abbrev dktX5_makesPart_7 : List UInt8 := dkwX5_makesPart_7 ++ dktX5_makesPart_8
def dkwX5_makesPart_6 : List UInt8 := [16, 12, 28, 104, 21, 7, 96, 4, 100, 46, 7, 160, 0, 10, 42, 5, 27, 182, 1, 228, 172, 42]
abbrev dktX5_makesPart_6 : List UInt8 := dkwX5_makesPart_6 ++ dktX5_makesPart_7
def dkwX5_makesPart_5 : List UInt8 := [21, 6, 96, 46, 54, 7, 21, 7, 29, 164, 0, 10, 42, 4, 27, 182, 1, 228, 172, 42, 180, 0, 118]
abbrev dktX5_makesPart_5 : List UInt8 := dkwX5_makesPart_5 ++ dktX5_makesPart_6
def dkwX5_makesPart_4 : List UInt8 := [3, 54, 6, 21, 6, 42, 180, 0, 103, 27, 46, 162, 0, 112, 42, 180, 0, 106, 42, 180, 0, 100, 27, 46]
abbrev dktX5_makesPart_4 : List UInt8 := dkwX5_makesPart_4 ++ dktX5_makesPart_5
def dkwX5_makesPart_3 : List UInt8 := [153, 0, 14, 42, 180, 0, 112, 28, 4, 96, 46, 167, 0, 11, 42, 180, 0, 94, 27, 46, 4, 96, 54, 5]
abbrev dktX5_makesPart_3 : List UInt8 := dkwX5_makesPart_3 ++ dktX5_makesPart_4
def dkwX5_makesPart_2 : List UInt8 := [180, 0, 97, 27, 46, 28, 4, 96, 182, 1, 231, 154, 0, 10, 42, 8, 27, 182, 1, 228, 172, 21, 4]
abbrev dktX5_makesPart_2 : List UInt8 := dkwX5_makesPart_2 ++ dktX5_makesPart_3
def dkwX5_makesPart_1 : List UInt8 := [180, 0, 94, 27, 46, 2, 160, 0, 7, 4, 167, 0, 4, 3, 54, 4, 21, 4, 153, 0, 26, 42, 42]
abbrev dktX5_makesPart_1 : List UInt8 := dkwX5_makesPart_1 ++ dktX5_makesPart_2
def dkwX5_makesPart_0 : List UInt8 := [42, 180, 0, 91, 27, 46, 42, 180, 0, 103, 27, 46, 159, 0, 10, 42, 6, 27, 182, 1, 228, 172, 42]
abbrev dktX5_makesPart_0 : List UInt8 := dkwX5_makesPart_0 ++ dktX5_makesPart_1
theorem dksX5_makesPart_0 : cX5_makesPart.data.toList.drop 0 = dktX5_makesPart_0 := by decide +kernel
theorem dksX5_makesPart_1 : cX5_makesPart.data.toList.drop 23 = dktX5_makesPart_1 := dk_seg dksX5_makesPart_0 23 rfl rfl
theorem dksX5_makesPart_2 : cX5_makesPart.data.toList.drop 46 = dktX5_makesPart_2 := dk_seg dksX5_makesPart_1 23 rfl rfl
theorem dksX5_makesPart_3 : cX5_makesPart.data.toList.drop 69 = dktX5_makesPart_3 := dk_seg dksX5_makesPart_2 23 rfl rfl
theorem dksX5_makesPart_4 : cX5_makesPart.data.toList.drop 93 = dktX5_makesPart_4 := dk_seg dksX5_makesPart_3 24 rfl rfl
theorem dksX5_makesPart_5 : cX5_makesPart.data.toList.drop 117 = dktX5_makesPart_5 := dk_seg dksX5_makesPart_4 24 rfl rfl
theorem dksX5_makesPart_6 : cX5_makesPart.data.toList.drop 140 = dktX5_makesPart_6 := dk_seg dksX5_makesPart_5 23 rfl rfl
theorem dksX5_makesPart_7 : cX5_makesPart.data.toList.drop 162 = dktX5_makesPart_7 := dk_seg dksX5_makesPart_6 22 rfl rfl
theorem dksX5_makesPart_8 : cX5_makesPart.data.toList.drop 184 = dktX5_makesPart_8 := dk_seg dksX5_makesPart_7 22 rfl rfl
theorem dksX5_makesPart_9 : cX5_makesPart.data.toList.drop 207 = dktX5_makesPart_9 := dk_seg dksX5_makesPart_8 23 rfl rfl
theorem dX5_makesPart_0 : decode cX5_makesPart 0 = .ok (.aload_n 0, 1) := dk_42 (dk_at dksX5_makesPart_0 0 rfl rfl)
theorem dX5_makesPart_1 : decode cX5_makesPart 1 = .ok (.getfield 91, 3) := dk_180 0 91 (dk_at dksX5_makesPart_0 1 rfl rfl)
theorem dX5_makesPart_4 : decode cX5_makesPart 4 = .ok (.iload_n 1, 1) := dk_27 (dk_at dksX5_makesPart_0 4 rfl rfl)
theorem dX5_makesPart_5 : decode cX5_makesPart 5 = .ok (.iaload, 1) := dk_46 (dk_at dksX5_makesPart_0 5 rfl rfl)
theorem dX5_makesPart_6 : decode cX5_makesPart 6 = .ok (.aload_n 0, 1) := dk_42 (dk_at dksX5_makesPart_0 6 rfl rfl)
theorem dX5_makesPart_7 : decode cX5_makesPart 7 = .ok (.getfield 103, 3) := dk_180 0 103 (dk_at dksX5_makesPart_0 7 rfl rfl)
theorem dX5_makesPart_10 : decode cX5_makesPart 10 = .ok (.iload_n 1, 1) := dk_27 (dk_at dksX5_makesPart_0 10 rfl rfl)
theorem dX5_makesPart_11 : decode cX5_makesPart 11 = .ok (.iaload, 1) := dk_46 (dk_at dksX5_makesPart_0 11 rfl rfl)
theorem dX5_makesPart_12 : decode cX5_makesPart 12 = .ok (.if_icmp .eq 10, 3) := dk_159 0 10 (dk_at dksX5_makesPart_0 12 rfl rfl)
theorem dX5_makesPart_15 : decode cX5_makesPart 15 = .ok (.aload_n 0, 1) := dk_42 (dk_at dksX5_makesPart_0 15 rfl rfl)
theorem dX5_makesPart_16 : decode cX5_makesPart 16 = .ok (.iconst 3, 1) := dk_6 (dk_at dksX5_makesPart_0 16 rfl rfl)
theorem dX5_makesPart_17 : decode cX5_makesPart 17 = .ok (.iload_n 1, 1) := dk_27 (dk_at dksX5_makesPart_0 17 rfl rfl)
theorem dX5_makesPart_18 : decode cX5_makesPart 18 = .ok (.invokevirtual 484, 3) := dk_182 1 228 (dk_at dksX5_makesPart_0 18 rfl rfl)
theorem dX5_makesPart_21 : decode cX5_makesPart 21 = .ok (.ireturn, 1) := dk_172 (dk_at dksX5_makesPart_0 21 rfl rfl)
theorem dX5_makesPart_22 : decode cX5_makesPart 22 = .ok (.aload_n 0, 1) := dk_42 (dk_at dksX5_makesPart_0 22 rfl rfl)
theorem dX5_makesPart_23 : decode cX5_makesPart 23 = .ok (.getfield 94, 3) := dk_180 0 94 (dk_at dksX5_makesPart_1 0 rfl rfl)
theorem dX5_makesPart_26 : decode cX5_makesPart 26 = .ok (.iload_n 1, 1) := dk_27 (dk_at dksX5_makesPart_1 3 rfl rfl)
theorem dX5_makesPart_27 : decode cX5_makesPart 27 = .ok (.iaload, 1) := dk_46 (dk_at dksX5_makesPart_1 4 rfl rfl)
theorem dX5_makesPart_28 : decode cX5_makesPart 28 = .ok (.iconst (-1), 1) := dk_2 (dk_at dksX5_makesPart_1 5 rfl rfl)
theorem dX5_makesPart_29 : decode cX5_makesPart 29 = .ok (.if_icmp .ne 7, 3) := dk_160 0 7 (dk_at dksX5_makesPart_1 6 rfl rfl)
theorem dX5_makesPart_32 : decode cX5_makesPart 32 = .ok (.iconst 1, 1) := dk_4 (dk_at dksX5_makesPart_1 9 rfl rfl)
theorem dX5_makesPart_33 : decode cX5_makesPart 33 = .ok (.goto 4, 3) := dk_167 0 4 (dk_at dksX5_makesPart_1 10 rfl rfl)
theorem dX5_makesPart_36 : decode cX5_makesPart 36 = .ok (.iconst 0, 1) := dk_3 (dk_at dksX5_makesPart_1 13 rfl rfl)
theorem dX5_makesPart_37 : decode cX5_makesPart 37 = .ok (.istore 4, 2) := dk_54 4 (dk_at dksX5_makesPart_1 14 rfl rfl)
theorem dX5_makesPart_39 : decode cX5_makesPart 39 = .ok (.iload 4, 2) := dk_21 4 (dk_at dksX5_makesPart_1 16 rfl rfl)
theorem dX5_makesPart_41 : decode cX5_makesPart 41 = .ok (.ifCond .eq 26, 3) := dk_153 0 26 (dk_at dksX5_makesPart_1 18 rfl rfl)
theorem dX5_makesPart_44 : decode cX5_makesPart 44 = .ok (.aload_n 0, 1) := dk_42 (dk_at dksX5_makesPart_1 21 rfl rfl)
theorem dX5_makesPart_45 : decode cX5_makesPart 45 = .ok (.aload_n 0, 1) := dk_42 (dk_at dksX5_makesPart_1 22 rfl rfl)
theorem dX5_makesPart_46 : decode cX5_makesPart 46 = .ok (.getfield 97, 3) := dk_180 0 97 (dk_at dksX5_makesPart_2 0 rfl rfl)
theorem dX5_makesPart_49 : decode cX5_makesPart 49 = .ok (.iload_n 1, 1) := dk_27 (dk_at dksX5_makesPart_2 3 rfl rfl)
theorem dX5_makesPart_50 : decode cX5_makesPart 50 = .ok (.iaload, 1) := dk_46 (dk_at dksX5_makesPart_2 4 rfl rfl)
theorem dX5_makesPart_51 : decode cX5_makesPart 51 = .ok (.iload_n 2, 1) := dk_28 (dk_at dksX5_makesPart_2 5 rfl rfl)
theorem dX5_makesPart_52 : decode cX5_makesPart 52 = .ok (.iconst 1, 1) := dk_4 (dk_at dksX5_makesPart_2 6 rfl rfl)
theorem dX5_makesPart_53 : decode cX5_makesPart 53 = .ok (.iadd, 1) := dk_96 (dk_at dksX5_makesPart_2 7 rfl rfl)
theorem dX5_makesPart_54 : decode cX5_makesPart 54 = .ok (.invokevirtual 487, 3) := dk_182 1 231 (dk_at dksX5_makesPart_2 8 rfl rfl)
theorem dX5_makesPart_57 : decode cX5_makesPart 57 = .ok (.ifCond .ne 10, 3) := dk_154 0 10 (dk_at dksX5_makesPart_2 11 rfl rfl)
theorem dX5_makesPart_60 : decode cX5_makesPart 60 = .ok (.aload_n 0, 1) := dk_42 (dk_at dksX5_makesPart_2 14 rfl rfl)
theorem dX5_makesPart_61 : decode cX5_makesPart 61 = .ok (.iconst 5, 1) := dk_8 (dk_at dksX5_makesPart_2 15 rfl rfl)
theorem dX5_makesPart_62 : decode cX5_makesPart 62 = .ok (.iload_n 1, 1) := dk_27 (dk_at dksX5_makesPart_2 16 rfl rfl)
theorem dX5_makesPart_63 : decode cX5_makesPart 63 = .ok (.invokevirtual 484, 3) := dk_182 1 228 (dk_at dksX5_makesPart_2 17 rfl rfl)
theorem dX5_makesPart_66 : decode cX5_makesPart 66 = .ok (.ireturn, 1) := dk_172 (dk_at dksX5_makesPart_2 20 rfl rfl)
theorem dX5_makesPart_67 : decode cX5_makesPart 67 = .ok (.iload 4, 2) := dk_21 4 (dk_at dksX5_makesPart_2 21 rfl rfl)
theorem dX5_makesPart_69 : decode cX5_makesPart 69 = .ok (.ifCond .eq 14, 3) := dk_153 0 14 (dk_at dksX5_makesPart_3 0 rfl rfl)
theorem dX5_makesPart_72 : decode cX5_makesPart 72 = .ok (.aload_n 0, 1) := dk_42 (dk_at dksX5_makesPart_3 3 rfl rfl)
theorem dX5_makesPart_73 : decode cX5_makesPart 73 = .ok (.getfield 112, 3) := dk_180 0 112 (dk_at dksX5_makesPart_3 4 rfl rfl)
theorem dX5_makesPart_76 : decode cX5_makesPart 76 = .ok (.iload_n 2, 1) := dk_28 (dk_at dksX5_makesPart_3 7 rfl rfl)
theorem dX5_makesPart_77 : decode cX5_makesPart 77 = .ok (.iconst 1, 1) := dk_4 (dk_at dksX5_makesPart_3 8 rfl rfl)
theorem dX5_makesPart_78 : decode cX5_makesPart 78 = .ok (.iadd, 1) := dk_96 (dk_at dksX5_makesPart_3 9 rfl rfl)
theorem dX5_makesPart_79 : decode cX5_makesPart 79 = .ok (.iaload, 1) := dk_46 (dk_at dksX5_makesPart_3 10 rfl rfl)
theorem dX5_makesPart_80 : decode cX5_makesPart 80 = .ok (.goto 11, 3) := dk_167 0 11 (dk_at dksX5_makesPart_3 11 rfl rfl)
theorem dX5_makesPart_83 : decode cX5_makesPart 83 = .ok (.aload_n 0, 1) := dk_42 (dk_at dksX5_makesPart_3 14 rfl rfl)
theorem dX5_makesPart_84 : decode cX5_makesPart 84 = .ok (.getfield 94, 3) := dk_180 0 94 (dk_at dksX5_makesPart_3 15 rfl rfl)
theorem dX5_makesPart_87 : decode cX5_makesPart 87 = .ok (.iload_n 1, 1) := dk_27 (dk_at dksX5_makesPart_3 18 rfl rfl)
theorem dX5_makesPart_88 : decode cX5_makesPart 88 = .ok (.iaload, 1) := dk_46 (dk_at dksX5_makesPart_3 19 rfl rfl)
theorem dX5_makesPart_89 : decode cX5_makesPart 89 = .ok (.iconst 1, 1) := dk_4 (dk_at dksX5_makesPart_3 20 rfl rfl)
theorem dX5_makesPart_90 : decode cX5_makesPart 90 = .ok (.iadd, 1) := dk_96 (dk_at dksX5_makesPart_3 21 rfl rfl)
theorem dX5_makesPart_91 : decode cX5_makesPart 91 = .ok (.istore 5, 2) := dk_54 5 (dk_at dksX5_makesPart_3 22 rfl rfl)
theorem dX5_makesPart_93 : decode cX5_makesPart 93 = .ok (.iconst 0, 1) := dk_3 (dk_at dksX5_makesPart_4 0 rfl rfl)
theorem dX5_makesPart_94 : decode cX5_makesPart 94 = .ok (.istore 6, 2) := dk_54 6 (dk_at dksX5_makesPart_4 1 rfl rfl)
theorem dX5_makesPart_96 : decode cX5_makesPart 96 = .ok (.iload 6, 2) := dk_21 6 (dk_at dksX5_makesPart_4 3 rfl rfl)
theorem dX5_makesPart_98 : decode cX5_makesPart 98 = .ok (.aload_n 0, 1) := dk_42 (dk_at dksX5_makesPart_4 5 rfl rfl)
theorem dX5_makesPart_99 : decode cX5_makesPart 99 = .ok (.getfield 103, 3) := dk_180 0 103 (dk_at dksX5_makesPart_4 6 rfl rfl)
theorem dX5_makesPart_102 : decode cX5_makesPart 102 = .ok (.iload_n 1, 1) := dk_27 (dk_at dksX5_makesPart_4 9 rfl rfl)
theorem dX5_makesPart_103 : decode cX5_makesPart 103 = .ok (.iaload, 1) := dk_46 (dk_at dksX5_makesPart_4 10 rfl rfl)
theorem dX5_makesPart_104 : decode cX5_makesPart 104 = .ok (.if_icmp .ge 112, 3) := dk_162 0 112 (dk_at dksX5_makesPart_4 11 rfl rfl)
theorem dX5_makesPart_107 : decode cX5_makesPart 107 = .ok (.aload_n 0, 1) := dk_42 (dk_at dksX5_makesPart_4 14 rfl rfl)
theorem dX5_makesPart_108 : decode cX5_makesPart 108 = .ok (.getfield 106, 3) := dk_180 0 106 (dk_at dksX5_makesPart_4 15 rfl rfl)
theorem dX5_makesPart_111 : decode cX5_makesPart 111 = .ok (.aload_n 0, 1) := dk_42 (dk_at dksX5_makesPart_4 18 rfl rfl)
theorem dX5_makesPart_112 : decode cX5_makesPart 112 = .ok (.getfield 100, 3) := dk_180 0 100 (dk_at dksX5_makesPart_4 19 rfl rfl)
theorem dX5_makesPart_115 : decode cX5_makesPart 115 = .ok (.iload_n 1, 1) := dk_27 (dk_at dksX5_makesPart_4 22 rfl rfl)
theorem dX5_makesPart_116 : decode cX5_makesPart 116 = .ok (.iaload, 1) := dk_46 (dk_at dksX5_makesPart_4 23 rfl rfl)
theorem dX5_makesPart_117 : decode cX5_makesPart 117 = .ok (.iload 6, 2) := dk_21 6 (dk_at dksX5_makesPart_5 0 rfl rfl)
theorem dX5_makesPart_119 : decode cX5_makesPart 119 = .ok (.iadd, 1) := dk_96 (dk_at dksX5_makesPart_5 2 rfl rfl)
theorem dX5_makesPart_120 : decode cX5_makesPart 120 = .ok (.iaload, 1) := dk_46 (dk_at dksX5_makesPart_5 3 rfl rfl)
theorem dX5_makesPart_121 : decode cX5_makesPart 121 = .ok (.istore 7, 2) := dk_54 7 (dk_at dksX5_makesPart_5 4 rfl rfl)
theorem dX5_makesPart_123 : decode cX5_makesPart 123 = .ok (.iload 7, 2) := dk_21 7 (dk_at dksX5_makesPart_5 6 rfl rfl)
theorem dX5_makesPart_125 : decode cX5_makesPart 125 = .ok (.iload_n 3, 1) := dk_29 (dk_at dksX5_makesPart_5 8 rfl rfl)
theorem dX5_makesPart_126 : decode cX5_makesPart 126 = .ok (.if_icmp .le 10, 3) := dk_164 0 10 (dk_at dksX5_makesPart_5 9 rfl rfl)
theorem dX5_makesPart_129 : decode cX5_makesPart 129 = .ok (.aload_n 0, 1) := dk_42 (dk_at dksX5_makesPart_5 12 rfl rfl)
theorem dX5_makesPart_130 : decode cX5_makesPart 130 = .ok (.iconst 1, 1) := dk_4 (dk_at dksX5_makesPart_5 13 rfl rfl)
theorem dX5_makesPart_131 : decode cX5_makesPart 131 = .ok (.iload_n 1, 1) := dk_27 (dk_at dksX5_makesPart_5 14 rfl rfl)
theorem dX5_makesPart_132 : decode cX5_makesPart 132 = .ok (.invokevirtual 484, 3) := dk_182 1 228 (dk_at dksX5_makesPart_5 15 rfl rfl)
theorem dX5_makesPart_135 : decode cX5_makesPart 135 = .ok (.ireturn, 1) := dk_172 (dk_at dksX5_makesPart_5 18 rfl rfl)
theorem dX5_makesPart_136 : decode cX5_makesPart 136 = .ok (.aload_n 0, 1) := dk_42 (dk_at dksX5_makesPart_5 19 rfl rfl)
theorem dX5_makesPart_137 : decode cX5_makesPart 137 = .ok (.getfield 118, 3) := dk_180 0 118 (dk_at dksX5_makesPart_5 20 rfl rfl)
theorem dX5_makesPart_140 : decode cX5_makesPart 140 = .ok (.bipush 12, 2) := dk_16 12 (dk_at dksX5_makesPart_6 0 rfl rfl)
theorem dX5_makesPart_142 : decode cX5_makesPart 142 = .ok (.iload_n 2, 1) := dk_28 (dk_at dksX5_makesPart_6 2 rfl rfl)
theorem dX5_makesPart_143 : decode cX5_makesPart 143 = .ok (.imul, 1) := dk_104 (dk_at dksX5_makesPart_6 3 rfl rfl)
theorem dX5_makesPart_144 : decode cX5_makesPart 144 = .ok (.iload 7, 2) := dk_21 7 (dk_at dksX5_makesPart_6 4 rfl rfl)
theorem dX5_makesPart_146 : decode cX5_makesPart 146 = .ok (.iadd, 1) := dk_96 (dk_at dksX5_makesPart_6 6 rfl rfl)
theorem dX5_makesPart_147 : decode cX5_makesPart 147 = .ok (.iconst 1, 1) := dk_4 (dk_at dksX5_makesPart_6 7 rfl rfl)
theorem dX5_makesPart_148 : decode cX5_makesPart 148 = .ok (.isub, 1) := dk_100 (dk_at dksX5_makesPart_6 8 rfl rfl)
theorem dX5_makesPart_149 : decode cX5_makesPart 149 = .ok (.iaload, 1) := dk_46 (dk_at dksX5_makesPart_6 9 rfl rfl)
theorem dX5_makesPart_150 : decode cX5_makesPart 150 = .ok (.iconst 4, 1) := dk_7 (dk_at dksX5_makesPart_6 10 rfl rfl)
theorem dX5_makesPart_151 : decode cX5_makesPart 151 = .ok (.if_icmp .ne 10, 3) := dk_160 0 10 (dk_at dksX5_makesPart_6 11 rfl rfl)
theorem dX5_makesPart_154 : decode cX5_makesPart 154 = .ok (.aload_n 0, 1) := dk_42 (dk_at dksX5_makesPart_6 14 rfl rfl)
theorem dX5_makesPart_155 : decode cX5_makesPart 155 = .ok (.iconst 2, 1) := dk_5 (dk_at dksX5_makesPart_6 15 rfl rfl)
theorem dX5_makesPart_156 : decode cX5_makesPart 156 = .ok (.iload_n 1, 1) := dk_27 (dk_at dksX5_makesPart_6 16 rfl rfl)
theorem dX5_makesPart_157 : decode cX5_makesPart 157 = .ok (.invokevirtual 484, 3) := dk_182 1 228 (dk_at dksX5_makesPart_6 17 rfl rfl)
theorem dX5_makesPart_160 : decode cX5_makesPart 160 = .ok (.ireturn, 1) := dk_172 (dk_at dksX5_makesPart_6 20 rfl rfl)
theorem dX5_makesPart_161 : decode cX5_makesPart 161 = .ok (.aload_n 0, 1) := dk_42 (dk_at dksX5_makesPart_6 21 rfl rfl)
theorem dX5_makesPart_162 : decode cX5_makesPart 162 = .ok (.getfield 112, 3) := dk_180 0 112 (dk_at dksX5_makesPart_7 0 rfl rfl)
theorem dX5_makesPart_165 : decode cX5_makesPart 165 = .ok (.iload_n 2, 1) := dk_28 (dk_at dksX5_makesPart_7 3 rfl rfl)
theorem dX5_makesPart_166 : decode cX5_makesPart 166 = .ok (.iaload, 1) := dk_46 (dk_at dksX5_makesPart_7 4 rfl rfl)
theorem dX5_makesPart_167 : decode cX5_makesPart 167 = .ok (.iload 5, 2) := dk_21 5 (dk_at dksX5_makesPart_7 5 rfl rfl)
theorem dX5_makesPart_169 : decode cX5_makesPart 169 = .ok (.iadd, 1) := dk_96 (dk_at dksX5_makesPart_7 7 rfl rfl)
theorem dX5_makesPart_170 : decode cX5_makesPart 170 = .ok (.bipush 12, 2) := dk_16 12 (dk_at dksX5_makesPart_7 8 rfl rfl)
theorem dX5_makesPart_172 : decode cX5_makesPart 172 = .ok (.if_icmp .le 10, 3) := dk_164 0 10 (dk_at dksX5_makesPart_7 10 rfl rfl)
theorem dX5_makesPart_175 : decode cX5_makesPart 175 = .ok (.aload_n 0, 1) := dk_42 (dk_at dksX5_makesPart_7 13 rfl rfl)
theorem dX5_makesPart_176 : decode cX5_makesPart 176 = .ok (.iconst 4, 1) := dk_7 (dk_at dksX5_makesPart_7 14 rfl rfl)
theorem dX5_makesPart_177 : decode cX5_makesPart 177 = .ok (.iload_n 1, 1) := dk_27 (dk_at dksX5_makesPart_7 15 rfl rfl)
theorem dX5_makesPart_178 : decode cX5_makesPart 178 = .ok (.invokevirtual 484, 3) := dk_182 1 228 (dk_at dksX5_makesPart_7 16 rfl rfl)
theorem dX5_makesPart_181 : decode cX5_makesPart 181 = .ok (.ireturn, 1) := dk_172 (dk_at dksX5_makesPart_7 19 rfl rfl)
theorem dX5_makesPart_182 : decode cX5_makesPart 182 = .ok (.iload 4, 2) := dk_21 4 (dk_at dksX5_makesPart_7 20 rfl rfl)
theorem dX5_makesPart_184 : decode cX5_makesPart 184 = .ok (.ifCond .eq 15, 3) := dk_153 0 15 (dk_at dksX5_makesPart_8 0 rfl rfl)
theorem dX5_makesPart_187 : decode cX5_makesPart 187 = .ok (.aload_n 0, 1) := dk_42 (dk_at dksX5_makesPart_8 3 rfl rfl)
theorem dX5_makesPart_188 : decode cX5_makesPart 188 = .ok (.iload_n 2, 1) := dk_28 (dk_at dksX5_makesPart_8 4 rfl rfl)
theorem dX5_makesPart_189 : decode cX5_makesPart 189 = .ok (.iload 7, 2) := dk_21 7 (dk_at dksX5_makesPart_8 5 rfl rfl)
theorem dX5_makesPart_191 : decode cX5_makesPart 191 = .ok (.iconst 1, 1) := dk_4 (dk_at dksX5_makesPart_8 7 rfl rfl)
theorem dX5_makesPart_192 : decode cX5_makesPart 192 = .ok (.isub, 1) := dk_100 (dk_at dksX5_makesPart_8 8 rfl rfl)
theorem dX5_makesPart_193 : decode cX5_makesPart 193 = .ok (.invokevirtual 490, 3) := dk_182 1 234 (dk_at dksX5_makesPart_8 9 rfl rfl)
theorem dX5_makesPart_196 : decode cX5_makesPart 196 = .ok (.goto 14, 3) := dk_167 0 14 (dk_at dksX5_makesPart_8 12 rfl rfl)
theorem dX5_makesPart_199 : decode cX5_makesPart 199 = .ok (.aload_n 0, 1) := dk_42 (dk_at dksX5_makesPart_8 15 rfl rfl)
theorem dX5_makesPart_200 : decode cX5_makesPart 200 = .ok (.iload_n 2, 1) := dk_28 (dk_at dksX5_makesPart_8 16 rfl rfl)
theorem dX5_makesPart_201 : decode cX5_makesPart 201 = .ok (.iload 7, 2) := dk_21 7 (dk_at dksX5_makesPart_8 17 rfl rfl)
theorem dX5_makesPart_203 : decode cX5_makesPart 203 = .ok (.iconst 1, 1) := dk_4 (dk_at dksX5_makesPart_8 19 rfl rfl)
theorem dX5_makesPart_204 : decode cX5_makesPart 204 = .ok (.isub, 1) := dk_100 (dk_at dksX5_makesPart_8 20 rfl rfl)
theorem dX5_makesPart_205 : decode cX5_makesPart 205 = .ok (.iload 5, 2) := dk_21 5 (dk_at dksX5_makesPart_8 21 rfl rfl)
theorem dX5_makesPart_207 : decode cX5_makesPart 207 = .ok (.invokevirtual 493, 3) := dk_182 1 237 (dk_at dksX5_makesPart_9 0 rfl rfl)
theorem dX5_makesPart_210 : decode cX5_makesPart 210 = .ok (.iinc 6 1, 3) := dk_132 6 1 (dk_at dksX5_makesPart_9 3 rfl rfl)
theorem dX5_makesPart_213 : decode cX5_makesPart 213 = .ok (.goto (-117), 3) := dk_167 255 139 (dk_at dksX5_makesPart_9 6 rfl rfl)
theorem dX5_makesPart_216 : decode cX5_makesPart 216 = .ok (.iconst 1, 1) := dk_4 (dk_at dksX5_makesPart_9 9 rfl rfl)
theorem dX5_makesPart_217 : decode cX5_makesPart 217 = .ok (.ireturn, 1) := dk_172 (dk_at dksX5_makesPart_9 10 rfl rfl)
abbrev cX5_isTrouble : ByteArray := prog_22_method_96_code
def yX5_isTrouble : MethodName := ⟨RX5, "isTrouble", "(II)Z"⟩
def dkwX5_isTrouble_3 : List UInt8 := [3, 172]
abbrev dktX5_isTrouble_3 : List UInt8 := dkwX5_isTrouble_3 ++ []
def dkwX5_isTrouble_2 : List UInt8 := [27, 79, 42, 180, 0, 124, 3, 42, 180, 0, 88, 28, 46, 79, 42, 89, 180, 1, 222, 4, 96, 181, 1, 222]
abbrev dktX5_isTrouble_2 : List UInt8 := dkwX5_isTrouble_2 ++ dktX5_isTrouble_3
def dkwX5_isTrouble_1 : List UInt8 := [180, 0, 124, 29, 42, 180, 0, 124, 29, 4, 100, 46, 79, 132, 3, 255, 167, 255, 221, 42, 180, 0, 121, 3]
abbrev dktX5_isTrouble_1 : List UInt8 := dkwX5_isTrouble_1 ++ dktX5_isTrouble_2
def dkwX5_isTrouble_0 : List UInt8 := [42, 180, 1, 222, 62, 29, 158, 0, 37, 42, 180, 0, 121, 29, 42, 180, 0, 121, 29, 4, 100, 46, 79, 42]
abbrev dktX5_isTrouble_0 : List UInt8 := dkwX5_isTrouble_0 ++ dktX5_isTrouble_1
theorem dksX5_isTrouble_0 : cX5_isTrouble.data.toList.drop 0 = dktX5_isTrouble_0 := by decide +kernel
theorem dksX5_isTrouble_1 : cX5_isTrouble.data.toList.drop 24 = dktX5_isTrouble_1 := dk_seg dksX5_isTrouble_0 24 rfl rfl
theorem dksX5_isTrouble_2 : cX5_isTrouble.data.toList.drop 48 = dktX5_isTrouble_2 := dk_seg dksX5_isTrouble_1 24 rfl rfl
theorem dksX5_isTrouble_3 : cX5_isTrouble.data.toList.drop 72 = dktX5_isTrouble_3 := dk_seg dksX5_isTrouble_2 24 rfl rfl
theorem dX5_isTrouble_0 : decode cX5_isTrouble 0 = .ok (.aload_n 0, 1) := dk_42 (dk_at dksX5_isTrouble_0 0 rfl rfl)
theorem dX5_isTrouble_1 : decode cX5_isTrouble 1 = .ok (.getfield 478, 3) := dk_180 1 222 (dk_at dksX5_isTrouble_0 1 rfl rfl)
theorem dX5_isTrouble_4 : decode cX5_isTrouble 4 = .ok (.istore_n 3, 1) := dk_62 (dk_at dksX5_isTrouble_0 4 rfl rfl)
theorem dX5_isTrouble_5 : decode cX5_isTrouble 5 = .ok (.iload_n 3, 1) := dk_29 (dk_at dksX5_isTrouble_0 5 rfl rfl)
theorem dX5_isTrouble_6 : decode cX5_isTrouble 6 = .ok (.ifCond .le 37, 3) := dk_158 0 37 (dk_at dksX5_isTrouble_0 6 rfl rfl)
theorem dX5_isTrouble_9 : decode cX5_isTrouble 9 = .ok (.aload_n 0, 1) := dk_42 (dk_at dksX5_isTrouble_0 9 rfl rfl)
theorem dX5_isTrouble_10 : decode cX5_isTrouble 10 = .ok (.getfield 121, 3) := dk_180 0 121 (dk_at dksX5_isTrouble_0 10 rfl rfl)
theorem dX5_isTrouble_13 : decode cX5_isTrouble 13 = .ok (.iload_n 3, 1) := dk_29 (dk_at dksX5_isTrouble_0 13 rfl rfl)
theorem dX5_isTrouble_14 : decode cX5_isTrouble 14 = .ok (.aload_n 0, 1) := dk_42 (dk_at dksX5_isTrouble_0 14 rfl rfl)
theorem dX5_isTrouble_15 : decode cX5_isTrouble 15 = .ok (.getfield 121, 3) := dk_180 0 121 (dk_at dksX5_isTrouble_0 15 rfl rfl)
theorem dX5_isTrouble_18 : decode cX5_isTrouble 18 = .ok (.iload_n 3, 1) := dk_29 (dk_at dksX5_isTrouble_0 18 rfl rfl)
theorem dX5_isTrouble_19 : decode cX5_isTrouble 19 = .ok (.iconst 1, 1) := dk_4 (dk_at dksX5_isTrouble_0 19 rfl rfl)
theorem dX5_isTrouble_20 : decode cX5_isTrouble 20 = .ok (.isub, 1) := dk_100 (dk_at dksX5_isTrouble_0 20 rfl rfl)
theorem dX5_isTrouble_21 : decode cX5_isTrouble 21 = .ok (.iaload, 1) := dk_46 (dk_at dksX5_isTrouble_0 21 rfl rfl)
theorem dX5_isTrouble_22 : decode cX5_isTrouble 22 = .ok (.iastore, 1) := dk_79 (dk_at dksX5_isTrouble_0 22 rfl rfl)
theorem dX5_isTrouble_23 : decode cX5_isTrouble 23 = .ok (.aload_n 0, 1) := dk_42 (dk_at dksX5_isTrouble_0 23 rfl rfl)
theorem dX5_isTrouble_24 : decode cX5_isTrouble 24 = .ok (.getfield 124, 3) := dk_180 0 124 (dk_at dksX5_isTrouble_1 0 rfl rfl)
theorem dX5_isTrouble_27 : decode cX5_isTrouble 27 = .ok (.iload_n 3, 1) := dk_29 (dk_at dksX5_isTrouble_1 3 rfl rfl)
theorem dX5_isTrouble_28 : decode cX5_isTrouble 28 = .ok (.aload_n 0, 1) := dk_42 (dk_at dksX5_isTrouble_1 4 rfl rfl)
theorem dX5_isTrouble_29 : decode cX5_isTrouble 29 = .ok (.getfield 124, 3) := dk_180 0 124 (dk_at dksX5_isTrouble_1 5 rfl rfl)
theorem dX5_isTrouble_32 : decode cX5_isTrouble 32 = .ok (.iload_n 3, 1) := dk_29 (dk_at dksX5_isTrouble_1 8 rfl rfl)
theorem dX5_isTrouble_33 : decode cX5_isTrouble 33 = .ok (.iconst 1, 1) := dk_4 (dk_at dksX5_isTrouble_1 9 rfl rfl)
theorem dX5_isTrouble_34 : decode cX5_isTrouble 34 = .ok (.isub, 1) := dk_100 (dk_at dksX5_isTrouble_1 10 rfl rfl)
theorem dX5_isTrouble_35 : decode cX5_isTrouble 35 = .ok (.iaload, 1) := dk_46 (dk_at dksX5_isTrouble_1 11 rfl rfl)
theorem dX5_isTrouble_36 : decode cX5_isTrouble 36 = .ok (.iastore, 1) := dk_79 (dk_at dksX5_isTrouble_1 12 rfl rfl)
theorem dX5_isTrouble_37 : decode cX5_isTrouble 37 = .ok (.iinc 3 (-1), 3) := dk_132 3 255 (dk_at dksX5_isTrouble_1 13 rfl rfl)
theorem dX5_isTrouble_40 : decode cX5_isTrouble 40 = .ok (.goto (-35), 3) := dk_167 255 221 (dk_at dksX5_isTrouble_1 16 rfl rfl)
theorem dX5_isTrouble_43 : decode cX5_isTrouble 43 = .ok (.aload_n 0, 1) := dk_42 (dk_at dksX5_isTrouble_1 19 rfl rfl)
theorem dX5_isTrouble_44 : decode cX5_isTrouble 44 = .ok (.getfield 121, 3) := dk_180 0 121 (dk_at dksX5_isTrouble_1 20 rfl rfl)
theorem dX5_isTrouble_47 : decode cX5_isTrouble 47 = .ok (.iconst 0, 1) := dk_3 (dk_at dksX5_isTrouble_1 23 rfl rfl)
theorem dX5_isTrouble_48 : decode cX5_isTrouble 48 = .ok (.iload_n 1, 1) := dk_27 (dk_at dksX5_isTrouble_2 0 rfl rfl)
theorem dX5_isTrouble_49 : decode cX5_isTrouble 49 = .ok (.iastore, 1) := dk_79 (dk_at dksX5_isTrouble_2 1 rfl rfl)
theorem dX5_isTrouble_50 : decode cX5_isTrouble 50 = .ok (.aload_n 0, 1) := dk_42 (dk_at dksX5_isTrouble_2 2 rfl rfl)
theorem dX5_isTrouble_51 : decode cX5_isTrouble 51 = .ok (.getfield 124, 3) := dk_180 0 124 (dk_at dksX5_isTrouble_2 3 rfl rfl)
theorem dX5_isTrouble_54 : decode cX5_isTrouble 54 = .ok (.iconst 0, 1) := dk_3 (dk_at dksX5_isTrouble_2 6 rfl rfl)
theorem dX5_isTrouble_55 : decode cX5_isTrouble 55 = .ok (.aload_n 0, 1) := dk_42 (dk_at dksX5_isTrouble_2 7 rfl rfl)
theorem dX5_isTrouble_56 : decode cX5_isTrouble 56 = .ok (.getfield 88, 3) := dk_180 0 88 (dk_at dksX5_isTrouble_2 8 rfl rfl)
theorem dX5_isTrouble_59 : decode cX5_isTrouble 59 = .ok (.iload_n 2, 1) := dk_28 (dk_at dksX5_isTrouble_2 11 rfl rfl)
theorem dX5_isTrouble_60 : decode cX5_isTrouble 60 = .ok (.iaload, 1) := dk_46 (dk_at dksX5_isTrouble_2 12 rfl rfl)
theorem dX5_isTrouble_61 : decode cX5_isTrouble 61 = .ok (.iastore, 1) := dk_79 (dk_at dksX5_isTrouble_2 13 rfl rfl)
theorem dX5_isTrouble_62 : decode cX5_isTrouble 62 = .ok (.aload_n 0, 1) := dk_42 (dk_at dksX5_isTrouble_2 14 rfl rfl)
theorem dX5_isTrouble_63 : decode cX5_isTrouble 63 = .ok (.dup, 1) := dk_89 (dk_at dksX5_isTrouble_2 15 rfl rfl)
theorem dX5_isTrouble_64 : decode cX5_isTrouble 64 = .ok (.getfield 478, 3) := dk_180 1 222 (dk_at dksX5_isTrouble_2 16 rfl rfl)
theorem dX5_isTrouble_67 : decode cX5_isTrouble 67 = .ok (.iconst 1, 1) := dk_4 (dk_at dksX5_isTrouble_2 19 rfl rfl)
theorem dX5_isTrouble_68 : decode cX5_isTrouble 68 = .ok (.iadd, 1) := dk_96 (dk_at dksX5_isTrouble_2 20 rfl rfl)
theorem dX5_isTrouble_69 : decode cX5_isTrouble 69 = .ok (.putfield 478, 3) := dk_181 1 222 (dk_at dksX5_isTrouble_2 21 rfl rfl)
theorem dX5_isTrouble_72 : decode cX5_isTrouble 72 = .ok (.iconst 0, 1) := dk_3 (dk_at dksX5_isTrouble_3 0 rfl rfl)
theorem dX5_isTrouble_73 : decode cX5_isTrouble 73 = .ok (.ireturn, 1) := dk_172 (dk_at dksX5_isTrouble_3 1 rfl rfl)
abbrev cX5_hangsTree : ByteArray := prog_22_method_99_code
def yX5_hangsTree : MethodName := ⟨RX5, "hangsTree", "(II)V"⟩
def dkwX5_hangsTree_2 : List UInt8 := [21, 4, 21, 5, 96, 46, 96, 182, 1, 225, 132, 5, 1, 167, 255, 214, 177]
abbrev dktX5_hangsTree_2 : List UInt8 := dkwX5_hangsTree_2 ++ []
def dkwX5_hangsTree_1 : List UInt8 := [27, 4, 96, 46, 162, 0, 35, 42, 27, 21, 5, 154, 0, 7, 28, 167, 0, 15, 29, 42, 180, 0, 115]
abbrev dktX5_hangsTree_1 : List UInt8 := dkwX5_hangsTree_1 ++ dktX5_hangsTree_2
def dkwX5_hangsTree_0 : List UInt8 := [42, 180, 0, 112, 27, 46, 62, 16, 12, 27, 4, 96, 104, 54, 4, 3, 54, 5, 21, 5, 42, 180, 0, 112]
abbrev dktX5_hangsTree_0 : List UInt8 := dkwX5_hangsTree_0 ++ dktX5_hangsTree_1
theorem dksX5_hangsTree_0 : cX5_hangsTree.data.toList.drop 0 = dktX5_hangsTree_0 := by decide +kernel
theorem dksX5_hangsTree_1 : cX5_hangsTree.data.toList.drop 24 = dktX5_hangsTree_1 := dk_seg dksX5_hangsTree_0 24 rfl rfl
theorem dksX5_hangsTree_2 : cX5_hangsTree.data.toList.drop 47 = dktX5_hangsTree_2 := dk_seg dksX5_hangsTree_1 23 rfl rfl
theorem dX5_hangsTree_0 : decode cX5_hangsTree 0 = .ok (.aload_n 0, 1) := dk_42 (dk_at dksX5_hangsTree_0 0 rfl rfl)
theorem dX5_hangsTree_1 : decode cX5_hangsTree 1 = .ok (.getfield 112, 3) := dk_180 0 112 (dk_at dksX5_hangsTree_0 1 rfl rfl)
theorem dX5_hangsTree_4 : decode cX5_hangsTree 4 = .ok (.iload_n 1, 1) := dk_27 (dk_at dksX5_hangsTree_0 4 rfl rfl)
theorem dX5_hangsTree_5 : decode cX5_hangsTree 5 = .ok (.iaload, 1) := dk_46 (dk_at dksX5_hangsTree_0 5 rfl rfl)
theorem dX5_hangsTree_6 : decode cX5_hangsTree 6 = .ok (.istore_n 3, 1) := dk_62 (dk_at dksX5_hangsTree_0 6 rfl rfl)
theorem dX5_hangsTree_7 : decode cX5_hangsTree 7 = .ok (.bipush 12, 2) := dk_16 12 (dk_at dksX5_hangsTree_0 7 rfl rfl)
theorem dX5_hangsTree_9 : decode cX5_hangsTree 9 = .ok (.iload_n 1, 1) := dk_27 (dk_at dksX5_hangsTree_0 9 rfl rfl)
theorem dX5_hangsTree_10 : decode cX5_hangsTree 10 = .ok (.iconst 1, 1) := dk_4 (dk_at dksX5_hangsTree_0 10 rfl rfl)
theorem dX5_hangsTree_11 : decode cX5_hangsTree 11 = .ok (.iadd, 1) := dk_96 (dk_at dksX5_hangsTree_0 11 rfl rfl)
theorem dX5_hangsTree_12 : decode cX5_hangsTree 12 = .ok (.imul, 1) := dk_104 (dk_at dksX5_hangsTree_0 12 rfl rfl)
theorem dX5_hangsTree_13 : decode cX5_hangsTree 13 = .ok (.istore 4, 2) := dk_54 4 (dk_at dksX5_hangsTree_0 13 rfl rfl)
theorem dX5_hangsTree_15 : decode cX5_hangsTree 15 = .ok (.iconst 0, 1) := dk_3 (dk_at dksX5_hangsTree_0 15 rfl rfl)
theorem dX5_hangsTree_16 : decode cX5_hangsTree 16 = .ok (.istore 5, 2) := dk_54 5 (dk_at dksX5_hangsTree_0 16 rfl rfl)
theorem dX5_hangsTree_18 : decode cX5_hangsTree 18 = .ok (.iload 5, 2) := dk_21 5 (dk_at dksX5_hangsTree_0 18 rfl rfl)
theorem dX5_hangsTree_20 : decode cX5_hangsTree 20 = .ok (.aload_n 0, 1) := dk_42 (dk_at dksX5_hangsTree_0 20 rfl rfl)
theorem dX5_hangsTree_21 : decode cX5_hangsTree 21 = .ok (.getfield 112, 3) := dk_180 0 112 (dk_at dksX5_hangsTree_0 21 rfl rfl)
theorem dX5_hangsTree_24 : decode cX5_hangsTree 24 = .ok (.iload_n 1, 1) := dk_27 (dk_at dksX5_hangsTree_1 0 rfl rfl)
theorem dX5_hangsTree_25 : decode cX5_hangsTree 25 = .ok (.iconst 1, 1) := dk_4 (dk_at dksX5_hangsTree_1 1 rfl rfl)
theorem dX5_hangsTree_26 : decode cX5_hangsTree 26 = .ok (.iadd, 1) := dk_96 (dk_at dksX5_hangsTree_1 2 rfl rfl)
theorem dX5_hangsTree_27 : decode cX5_hangsTree 27 = .ok (.iaload, 1) := dk_46 (dk_at dksX5_hangsTree_1 3 rfl rfl)
theorem dX5_hangsTree_28 : decode cX5_hangsTree 28 = .ok (.if_icmp .ge 35, 3) := dk_162 0 35 (dk_at dksX5_hangsTree_1 4 rfl rfl)
theorem dX5_hangsTree_31 : decode cX5_hangsTree 31 = .ok (.aload_n 0, 1) := dk_42 (dk_at dksX5_hangsTree_1 7 rfl rfl)
theorem dX5_hangsTree_32 : decode cX5_hangsTree 32 = .ok (.iload_n 1, 1) := dk_27 (dk_at dksX5_hangsTree_1 8 rfl rfl)
theorem dX5_hangsTree_33 : decode cX5_hangsTree 33 = .ok (.iload 5, 2) := dk_21 5 (dk_at dksX5_hangsTree_1 9 rfl rfl)
theorem dX5_hangsTree_35 : decode cX5_hangsTree 35 = .ok (.ifCond .ne 7, 3) := dk_154 0 7 (dk_at dksX5_hangsTree_1 11 rfl rfl)
theorem dX5_hangsTree_38 : decode cX5_hangsTree 38 = .ok (.iload_n 2, 1) := dk_28 (dk_at dksX5_hangsTree_1 14 rfl rfl)
theorem dX5_hangsTree_39 : decode cX5_hangsTree 39 = .ok (.goto 15, 3) := dk_167 0 15 (dk_at dksX5_hangsTree_1 15 rfl rfl)
theorem dX5_hangsTree_42 : decode cX5_hangsTree 42 = .ok (.iload_n 3, 1) := dk_29 (dk_at dksX5_hangsTree_1 18 rfl rfl)
theorem dX5_hangsTree_43 : decode cX5_hangsTree 43 = .ok (.aload_n 0, 1) := dk_42 (dk_at dksX5_hangsTree_1 19 rfl rfl)
theorem dX5_hangsTree_44 : decode cX5_hangsTree 44 = .ok (.getfield 115, 3) := dk_180 0 115 (dk_at dksX5_hangsTree_1 20 rfl rfl)
theorem dX5_hangsTree_47 : decode cX5_hangsTree 47 = .ok (.iload 4, 2) := dk_21 4 (dk_at dksX5_hangsTree_2 0 rfl rfl)
theorem dX5_hangsTree_49 : decode cX5_hangsTree 49 = .ok (.iload 5, 2) := dk_21 5 (dk_at dksX5_hangsTree_2 2 rfl rfl)
theorem dX5_hangsTree_51 : decode cX5_hangsTree 51 = .ok (.iadd, 1) := dk_96 (dk_at dksX5_hangsTree_2 4 rfl rfl)
theorem dX5_hangsTree_52 : decode cX5_hangsTree 52 = .ok (.iaload, 1) := dk_46 (dk_at dksX5_hangsTree_2 5 rfl rfl)
theorem dX5_hangsTree_53 : decode cX5_hangsTree 53 = .ok (.iadd, 1) := dk_96 (dk_at dksX5_hangsTree_2 6 rfl rfl)
theorem dX5_hangsTree_54 : decode cX5_hangsTree 54 = .ok (.invokevirtual 481, 3) := dk_182 1 225 (dk_at dksX5_hangsTree_2 7 rfl rfl)
theorem dX5_hangsTree_57 : decode cX5_hangsTree 57 = .ok (.iinc 5 1, 3) := dk_132 5 1 (dk_at dksX5_hangsTree_2 10 rfl rfl)
theorem dX5_hangsTree_60 : decode cX5_hangsTree 60 = .ok (.goto (-42), 3) := dk_167 255 214 (dk_at dksX5_hangsTree_2 13 rfl rfl)
theorem dX5_hangsTree_63 : decode cX5_hangsTree 63 = .ok (.return_, 1) := dk_177 (dk_at dksX5_hangsTree_2 16 rfl rfl)
abbrev cX5_drawsMade : ByteArray := prog_22_method_102_code
def yX5_drawsMade : MethodName := ⟨RX5, "drawsMade", "()V"⟩
def dkwX5_drawsMade_2 : List UInt8 := [27, 46, 182, 0, 206, 132, 1, 1, 167, 255, 234, 42, 182, 0, 247, 177]
abbrev dktX5_drawsMade_2 : List UInt8 := dkwX5_drawsMade_2 ++ []
def dkwX5_drawsMade_1 : List UInt8 := [180, 0, 112, 3, 46, 181, 0, 145, 4, 60, 27, 42, 180, 0, 145, 162, 0, 20, 42, 27, 42, 180, 0, 115]
abbrev dktX5_drawsMade_1 : List UInt8 := dkwX5_drawsMade_1 ++ dktX5_drawsMade_2
def dkwX5_drawsMade_0 : List UInt8 := [3, 60, 27, 16, 13, 162, 0, 16, 42, 180, 0, 11, 27, 3, 79, 132, 1, 1, 167, 255, 240, 42, 42]
abbrev dktX5_drawsMade_0 : List UInt8 := dkwX5_drawsMade_0 ++ dktX5_drawsMade_1
theorem dksX5_drawsMade_0 : cX5_drawsMade.data.toList.drop 0 = dktX5_drawsMade_0 := by decide +kernel
theorem dksX5_drawsMade_1 : cX5_drawsMade.data.toList.drop 23 = dktX5_drawsMade_1 := dk_seg dksX5_drawsMade_0 23 rfl rfl
theorem dksX5_drawsMade_2 : cX5_drawsMade.data.toList.drop 47 = dktX5_drawsMade_2 := dk_seg dksX5_drawsMade_1 24 rfl rfl
theorem dX5_drawsMade_0 : decode cX5_drawsMade 0 = .ok (.iconst 0, 1) := dk_3 (dk_at dksX5_drawsMade_0 0 rfl rfl)
theorem dX5_drawsMade_1 : decode cX5_drawsMade 1 = .ok (.istore_n 1, 1) := dk_60 (dk_at dksX5_drawsMade_0 1 rfl rfl)
theorem dX5_drawsMade_2 : decode cX5_drawsMade 2 = .ok (.iload_n 1, 1) := dk_27 (dk_at dksX5_drawsMade_0 2 rfl rfl)
theorem dX5_drawsMade_3 : decode cX5_drawsMade 3 = .ok (.bipush 13, 2) := dk_16 13 (dk_at dksX5_drawsMade_0 3 rfl rfl)
theorem dX5_drawsMade_5 : decode cX5_drawsMade 5 = .ok (.if_icmp .ge 16, 3) := dk_162 0 16 (dk_at dksX5_drawsMade_0 5 rfl rfl)
theorem dX5_drawsMade_8 : decode cX5_drawsMade 8 = .ok (.aload_n 0, 1) := dk_42 (dk_at dksX5_drawsMade_0 8 rfl rfl)
theorem dX5_drawsMade_9 : decode cX5_drawsMade 9 = .ok (.getfield 11, 3) := dk_180 0 11 (dk_at dksX5_drawsMade_0 9 rfl rfl)
theorem dX5_drawsMade_12 : decode cX5_drawsMade 12 = .ok (.iload_n 1, 1) := dk_27 (dk_at dksX5_drawsMade_0 12 rfl rfl)
theorem dX5_drawsMade_13 : decode cX5_drawsMade 13 = .ok (.iconst 0, 1) := dk_3 (dk_at dksX5_drawsMade_0 13 rfl rfl)
theorem dX5_drawsMade_14 : decode cX5_drawsMade 14 = .ok (.iastore, 1) := dk_79 (dk_at dksX5_drawsMade_0 14 rfl rfl)
theorem dX5_drawsMade_15 : decode cX5_drawsMade 15 = .ok (.iinc 1 1, 3) := dk_132 1 1 (dk_at dksX5_drawsMade_0 15 rfl rfl)
theorem dX5_drawsMade_18 : decode cX5_drawsMade 18 = .ok (.goto (-16), 3) := dk_167 255 240 (dk_at dksX5_drawsMade_0 18 rfl rfl)
theorem dX5_drawsMade_21 : decode cX5_drawsMade 21 = .ok (.aload_n 0, 1) := dk_42 (dk_at dksX5_drawsMade_0 21 rfl rfl)
theorem dX5_drawsMade_22 : decode cX5_drawsMade 22 = .ok (.aload_n 0, 1) := dk_42 (dk_at dksX5_drawsMade_0 22 rfl rfl)
theorem dX5_drawsMade_23 : decode cX5_drawsMade 23 = .ok (.getfield 112, 3) := dk_180 0 112 (dk_at dksX5_drawsMade_1 0 rfl rfl)
theorem dX5_drawsMade_26 : decode cX5_drawsMade 26 = .ok (.iconst 0, 1) := dk_3 (dk_at dksX5_drawsMade_1 3 rfl rfl)
theorem dX5_drawsMade_27 : decode cX5_drawsMade 27 = .ok (.iaload, 1) := dk_46 (dk_at dksX5_drawsMade_1 4 rfl rfl)
theorem dX5_drawsMade_28 : decode cX5_drawsMade 28 = .ok (.putfield 145, 3) := dk_181 0 145 (dk_at dksX5_drawsMade_1 5 rfl rfl)
theorem dX5_drawsMade_31 : decode cX5_drawsMade 31 = .ok (.iconst 1, 1) := dk_4 (dk_at dksX5_drawsMade_1 8 rfl rfl)
theorem dX5_drawsMade_32 : decode cX5_drawsMade 32 = .ok (.istore_n 1, 1) := dk_60 (dk_at dksX5_drawsMade_1 9 rfl rfl)
theorem dX5_drawsMade_33 : decode cX5_drawsMade 33 = .ok (.iload_n 1, 1) := dk_27 (dk_at dksX5_drawsMade_1 10 rfl rfl)
theorem dX5_drawsMade_34 : decode cX5_drawsMade 34 = .ok (.aload_n 0, 1) := dk_42 (dk_at dksX5_drawsMade_1 11 rfl rfl)
theorem dX5_drawsMade_35 : decode cX5_drawsMade 35 = .ok (.getfield 145, 3) := dk_180 0 145 (dk_at dksX5_drawsMade_1 12 rfl rfl)
theorem dX5_drawsMade_38 : decode cX5_drawsMade 38 = .ok (.if_icmp .ge 20, 3) := dk_162 0 20 (dk_at dksX5_drawsMade_1 15 rfl rfl)
theorem dX5_drawsMade_41 : decode cX5_drawsMade 41 = .ok (.aload_n 0, 1) := dk_42 (dk_at dksX5_drawsMade_1 18 rfl rfl)
theorem dX5_drawsMade_42 : decode cX5_drawsMade 42 = .ok (.iload_n 1, 1) := dk_27 (dk_at dksX5_drawsMade_1 19 rfl rfl)
theorem dX5_drawsMade_43 : decode cX5_drawsMade 43 = .ok (.aload_n 0, 1) := dk_42 (dk_at dksX5_drawsMade_1 20 rfl rfl)
theorem dX5_drawsMade_44 : decode cX5_drawsMade 44 = .ok (.getfield 115, 3) := dk_180 0 115 (dk_at dksX5_drawsMade_1 21 rfl rfl)
theorem dX5_drawsMade_47 : decode cX5_drawsMade 47 = .ok (.iload_n 1, 1) := dk_27 (dk_at dksX5_drawsMade_2 0 rfl rfl)
theorem dX5_drawsMade_48 : decode cX5_drawsMade 48 = .ok (.iaload, 1) := dk_46 (dk_at dksX5_drawsMade_2 1 rfl rfl)
theorem dX5_drawsMade_49 : decode cX5_drawsMade 49 = .ok (.invokevirtual 206, 3) := dk_182 0 206 (dk_at dksX5_drawsMade_2 2 rfl rfl)
theorem dX5_drawsMade_52 : decode cX5_drawsMade 52 = .ok (.iinc 1 1, 3) := dk_132 1 1 (dk_at dksX5_drawsMade_2 5 rfl rfl)
theorem dX5_drawsMade_55 : decode cX5_drawsMade 55 = .ok (.goto (-22), 3) := dk_167 255 234 (dk_at dksX5_drawsMade_2 8 rfl rfl)
theorem dX5_drawsMade_58 : decode cX5_drawsMade 58 = .ok (.aload_n 0, 1) := dk_42 (dk_at dksX5_drawsMade_2 11 rfl rfl)
theorem dX5_drawsMade_59 : decode cX5_drawsMade 59 = .ok (.invokevirtual 247, 3) := dk_182 0 247 (dk_at dksX5_drawsMade_2 12 rfl rfl)
theorem dX5_drawsMade_62 : decode cX5_drawsMade 62 = .ok (.return_, 1) := dk_177 (dk_at dksX5_drawsMade_2 15 rfl rfl)
abbrev cX5_isItsName : ByteArray := prog_22_method_103_code
def yX5_isItsName : MethodName := ⟨RX5, "isItsName", "(I)Z"⟩
def dkwX5_isItsName_2 : List UInt8 := [132, 3, 1, 167, 255, 223, 28, 172]
abbrev dktX5_isItsName_2 : List UInt8 := dkwX5_isItsName_2 ++ []
def dkwX5_isItsName_1 : List UInt8 := [153, 0, 30, 42, 180, 0, 47, 29, 46, 42, 180, 0, 82, 29, 46, 160, 0, 7, 4, 167, 0, 4, 3, 61]
abbrev dktX5_isItsName_1 : List UInt8 := dkwX5_isItsName_1 ++ dktX5_isItsName_2
def dkwX5_isItsName_0 : List UInt8 := [42, 182, 1, 156, 27, 160, 0, 7, 4, 167, 0, 4, 3, 61, 3, 62, 29, 27, 162, 0, 34, 28]
abbrev dktX5_isItsName_0 : List UInt8 := dkwX5_isItsName_0 ++ dktX5_isItsName_1
theorem dksX5_isItsName_0 : cX5_isItsName.data.toList.drop 0 = dktX5_isItsName_0 := by decide +kernel
theorem dksX5_isItsName_1 : cX5_isItsName.data.toList.drop 22 = dktX5_isItsName_1 := dk_seg dksX5_isItsName_0 22 rfl rfl
theorem dksX5_isItsName_2 : cX5_isItsName.data.toList.drop 46 = dktX5_isItsName_2 := dk_seg dksX5_isItsName_1 24 rfl rfl
theorem dX5_isItsName_0 : decode cX5_isItsName 0 = .ok (.aload_n 0, 1) := dk_42 (dk_at dksX5_isItsName_0 0 rfl rfl)
theorem dX5_isItsName_1 : decode cX5_isItsName 1 = .ok (.invokevirtual 412, 3) := dk_182 1 156 (dk_at dksX5_isItsName_0 1 rfl rfl)
theorem dX5_isItsName_4 : decode cX5_isItsName 4 = .ok (.iload_n 1, 1) := dk_27 (dk_at dksX5_isItsName_0 4 rfl rfl)
theorem dX5_isItsName_5 : decode cX5_isItsName 5 = .ok (.if_icmp .ne 7, 3) := dk_160 0 7 (dk_at dksX5_isItsName_0 5 rfl rfl)
theorem dX5_isItsName_8 : decode cX5_isItsName 8 = .ok (.iconst 1, 1) := dk_4 (dk_at dksX5_isItsName_0 8 rfl rfl)
theorem dX5_isItsName_9 : decode cX5_isItsName 9 = .ok (.goto 4, 3) := dk_167 0 4 (dk_at dksX5_isItsName_0 9 rfl rfl)
theorem dX5_isItsName_12 : decode cX5_isItsName 12 = .ok (.iconst 0, 1) := dk_3 (dk_at dksX5_isItsName_0 12 rfl rfl)
theorem dX5_isItsName_13 : decode cX5_isItsName 13 = .ok (.istore_n 2, 1) := dk_61 (dk_at dksX5_isItsName_0 13 rfl rfl)
theorem dX5_isItsName_14 : decode cX5_isItsName 14 = .ok (.iconst 0, 1) := dk_3 (dk_at dksX5_isItsName_0 14 rfl rfl)
theorem dX5_isItsName_15 : decode cX5_isItsName 15 = .ok (.istore_n 3, 1) := dk_62 (dk_at dksX5_isItsName_0 15 rfl rfl)
theorem dX5_isItsName_16 : decode cX5_isItsName 16 = .ok (.iload_n 3, 1) := dk_29 (dk_at dksX5_isItsName_0 16 rfl rfl)
theorem dX5_isItsName_17 : decode cX5_isItsName 17 = .ok (.iload_n 1, 1) := dk_27 (dk_at dksX5_isItsName_0 17 rfl rfl)
theorem dX5_isItsName_18 : decode cX5_isItsName 18 = .ok (.if_icmp .ge 34, 3) := dk_162 0 34 (dk_at dksX5_isItsName_0 18 rfl rfl)
theorem dX5_isItsName_21 : decode cX5_isItsName 21 = .ok (.iload_n 2, 1) := dk_28 (dk_at dksX5_isItsName_0 21 rfl rfl)
theorem dX5_isItsName_22 : decode cX5_isItsName 22 = .ok (.ifCond .eq 30, 3) := dk_153 0 30 (dk_at dksX5_isItsName_1 0 rfl rfl)
theorem dX5_isItsName_25 : decode cX5_isItsName 25 = .ok (.aload_n 0, 1) := dk_42 (dk_at dksX5_isItsName_1 3 rfl rfl)
theorem dX5_isItsName_26 : decode cX5_isItsName 26 = .ok (.getfield 47, 3) := dk_180 0 47 (dk_at dksX5_isItsName_1 4 rfl rfl)
theorem dX5_isItsName_29 : decode cX5_isItsName 29 = .ok (.iload_n 3, 1) := dk_29 (dk_at dksX5_isItsName_1 7 rfl rfl)
theorem dX5_isItsName_30 : decode cX5_isItsName 30 = .ok (.iaload, 1) := dk_46 (dk_at dksX5_isItsName_1 8 rfl rfl)
theorem dX5_isItsName_31 : decode cX5_isItsName 31 = .ok (.aload_n 0, 1) := dk_42 (dk_at dksX5_isItsName_1 9 rfl rfl)
theorem dX5_isItsName_32 : decode cX5_isItsName 32 = .ok (.getfield 82, 3) := dk_180 0 82 (dk_at dksX5_isItsName_1 10 rfl rfl)
theorem dX5_isItsName_35 : decode cX5_isItsName 35 = .ok (.iload_n 3, 1) := dk_29 (dk_at dksX5_isItsName_1 13 rfl rfl)
theorem dX5_isItsName_36 : decode cX5_isItsName 36 = .ok (.iaload, 1) := dk_46 (dk_at dksX5_isItsName_1 14 rfl rfl)
theorem dX5_isItsName_37 : decode cX5_isItsName 37 = .ok (.if_icmp .ne 7, 3) := dk_160 0 7 (dk_at dksX5_isItsName_1 15 rfl rfl)
theorem dX5_isItsName_40 : decode cX5_isItsName 40 = .ok (.iconst 1, 1) := dk_4 (dk_at dksX5_isItsName_1 18 rfl rfl)
theorem dX5_isItsName_41 : decode cX5_isItsName 41 = .ok (.goto 4, 3) := dk_167 0 4 (dk_at dksX5_isItsName_1 19 rfl rfl)
theorem dX5_isItsName_44 : decode cX5_isItsName 44 = .ok (.iconst 0, 1) := dk_3 (dk_at dksX5_isItsName_1 22 rfl rfl)
theorem dX5_isItsName_45 : decode cX5_isItsName 45 = .ok (.istore_n 2, 1) := dk_61 (dk_at dksX5_isItsName_1 23 rfl rfl)
theorem dX5_isItsName_46 : decode cX5_isItsName 46 = .ok (.iinc 3 1, 3) := dk_132 3 1 (dk_at dksX5_isItsName_2 0 rfl rfl)
theorem dX5_isItsName_49 : decode cX5_isItsName 49 = .ok (.goto (-33), 3) := dk_167 255 223 (dk_at dksX5_isItsName_2 3 rfl rfl)
theorem dX5_isItsName_52 : decode cX5_isItsName 52 = .ok (.iload_n 2, 1) := dk_28 (dk_at dksX5_isItsName_2 6 rfl rfl)
theorem dX5_isItsName_53 : decode cX5_isItsName 53 = .ok (.ireturn, 1) := dk_172 (dk_at dksX5_isItsName_2 7 rfl rfl)
abbrev cX5_why : ByteArray := prog_22_method_105_code
def yX5_why : MethodName := ⟨RX5, "why", "(II)I"⟩
def dkwX5_why_2 : List UInt8 := [172]
abbrev dktX5_why_2 : List UInt8 := dkwX5_why_2 ++ []
def dkwX5_why_1 : List UInt8 := [154, 0, 5, 2, 172, 28, 154, 0, 12, 42, 180, 0, 127, 27, 46, 167, 0, 9, 42, 180, 0, 130, 27, 46]
abbrev dktX5_why_1 : List UInt8 := dkwX5_why_1 ++ dktX5_why_2
def dkwX5_why_0 : List UInt8 := [27, 133, 9, 42, 180, 1, 249, 4, 100, 133, 184, 0, 148, 153, 0, 13, 28, 133, 9, 10, 184, 0, 148]
abbrev dktX5_why_0 : List UInt8 := dkwX5_why_0 ++ dktX5_why_1
theorem dksX5_why_0 : cX5_why.data.toList.drop 0 = dktX5_why_0 := by decide +kernel
theorem dksX5_why_1 : cX5_why.data.toList.drop 23 = dktX5_why_1 := dk_seg dksX5_why_0 23 rfl rfl
theorem dksX5_why_2 : cX5_why.data.toList.drop 47 = dktX5_why_2 := dk_seg dksX5_why_1 24 rfl rfl
theorem dX5_why_0 : decode cX5_why 0 = .ok (.iload_n 1, 1) := dk_27 (dk_at dksX5_why_0 0 rfl rfl)
theorem dX5_why_1 : decode cX5_why 1 = .ok (.i2l, 1) := dk_133 (dk_at dksX5_why_0 1 rfl rfl)
theorem dX5_why_2 : decode cX5_why 2 = .ok (.lconst 0, 1) := dk_9 (dk_at dksX5_why_0 2 rfl rfl)
theorem dX5_why_3 : decode cX5_why 3 = .ok (.aload_n 0, 1) := dk_42 (dk_at dksX5_why_0 3 rfl rfl)
theorem dX5_why_4 : decode cX5_why 4 = .ok (.getfield 505, 3) := dk_180 1 249 (dk_at dksX5_why_0 4 rfl rfl)
theorem dX5_why_7 : decode cX5_why 7 = .ok (.iconst 1, 1) := dk_4 (dk_at dksX5_why_0 7 rfl rfl)
theorem dX5_why_8 : decode cX5_why 8 = .ok (.isub, 1) := dk_100 (dk_at dksX5_why_0 8 rfl rfl)
theorem dX5_why_9 : decode cX5_why 9 = .ok (.i2l, 1) := dk_133 (dk_at dksX5_why_0 9 rfl rfl)
theorem dX5_why_10 : decode cX5_why 10 = .ok (.invokestatic 148, 3) := dk_184 0 148 (dk_at dksX5_why_0 10 rfl rfl)
theorem dX5_why_13 : decode cX5_why 13 = .ok (.ifCond .eq 13, 3) := dk_153 0 13 (dk_at dksX5_why_0 13 rfl rfl)
theorem dX5_why_16 : decode cX5_why 16 = .ok (.iload_n 2, 1) := dk_28 (dk_at dksX5_why_0 16 rfl rfl)
theorem dX5_why_17 : decode cX5_why 17 = .ok (.i2l, 1) := dk_133 (dk_at dksX5_why_0 17 rfl rfl)
theorem dX5_why_18 : decode cX5_why 18 = .ok (.lconst 0, 1) := dk_9 (dk_at dksX5_why_0 18 rfl rfl)
theorem dX5_why_19 : decode cX5_why 19 = .ok (.lconst 1, 1) := dk_10 (dk_at dksX5_why_0 19 rfl rfl)
theorem dX5_why_20 : decode cX5_why 20 = .ok (.invokestatic 148, 3) := dk_184 0 148 (dk_at dksX5_why_0 20 rfl rfl)
theorem dX5_why_23 : decode cX5_why 23 = .ok (.ifCond .ne 5, 3) := dk_154 0 5 (dk_at dksX5_why_1 0 rfl rfl)
theorem dX5_why_26 : decode cX5_why 26 = .ok (.iconst (-1), 1) := dk_2 (dk_at dksX5_why_1 3 rfl rfl)
theorem dX5_why_27 : decode cX5_why 27 = .ok (.ireturn, 1) := dk_172 (dk_at dksX5_why_1 4 rfl rfl)
theorem dX5_why_28 : decode cX5_why 28 = .ok (.iload_n 2, 1) := dk_28 (dk_at dksX5_why_1 5 rfl rfl)
theorem dX5_why_29 : decode cX5_why 29 = .ok (.ifCond .ne 12, 3) := dk_154 0 12 (dk_at dksX5_why_1 6 rfl rfl)
theorem dX5_why_32 : decode cX5_why 32 = .ok (.aload_n 0, 1) := dk_42 (dk_at dksX5_why_1 9 rfl rfl)
theorem dX5_why_33 : decode cX5_why 33 = .ok (.getfield 127, 3) := dk_180 0 127 (dk_at dksX5_why_1 10 rfl rfl)
theorem dX5_why_36 : decode cX5_why 36 = .ok (.iload_n 1, 1) := dk_27 (dk_at dksX5_why_1 13 rfl rfl)
theorem dX5_why_37 : decode cX5_why 37 = .ok (.iaload, 1) := dk_46 (dk_at dksX5_why_1 14 rfl rfl)
theorem dX5_why_38 : decode cX5_why 38 = .ok (.goto 9, 3) := dk_167 0 9 (dk_at dksX5_why_1 15 rfl rfl)
theorem dX5_why_41 : decode cX5_why 41 = .ok (.aload_n 0, 1) := dk_42 (dk_at dksX5_why_1 18 rfl rfl)
theorem dX5_why_42 : decode cX5_why 42 = .ok (.getfield 130, 3) := dk_180 0 130 (dk_at dksX5_why_1 19 rfl rfl)
theorem dX5_why_45 : decode cX5_why 45 = .ok (.iload_n 1, 1) := dk_27 (dk_at dksX5_why_1 22 rfl rfl)
theorem dX5_why_46 : decode cX5_why 46 = .ok (.iaload, 1) := dk_46 (dk_at dksX5_why_1 23 rfl rfl)
theorem dX5_why_47 : decode cX5_why 47 = .ok (.ireturn, 1) := dk_172 (dk_at dksX5_why_2 0 rfl rfl)
abbrev cX5_told : ByteArray := prog_22_method_106_code
def yX5_told : MethodName := ⟨RX5, "told", "(I)I"⟩
def dkwX5_told_2 : List UInt8 := [42, 180, 1, 161, 172, 42, 180, 1, 249, 172, 42, 180, 2, 2, 172, 42, 180, 1, 243, 172, 16, 254, 172]
abbrev dktX5_told_2 : List UInt8 := dkwX5_told_2 ++ []
def dkwX5_told_1 : List UInt8 := [170, 0, 0, 0, 0, 0, 51, 0, 0, 0, 0, 0, 0, 0, 3, 0, 0, 0, 31, 0, 0, 0, 36, 0, 0, 0, 41, 0, 0, 0, 46]
abbrev dktX5_told_1 : List UInt8 := dkwX5_told_1 ++ dktX5_told_2
def dkwX5_told_0 : List UInt8 := [27]
abbrev dktX5_told_0 : List UInt8 := dkwX5_told_0 ++ dktX5_told_1
theorem dksX5_told_0 : cX5_told.data.toList.drop 0 = dktX5_told_0 := by decide +kernel
theorem dksX5_told_1 : cX5_told.data.toList.drop 1 = dktX5_told_1 := dk_seg dksX5_told_0 1 rfl rfl
theorem dksX5_told_2 : cX5_told.data.toList.drop 32 = dktX5_told_2 := dk_seg dksX5_told_1 31 rfl rfl
theorem dX5_told_0 : decode cX5_told 0 = .ok (.iload_n 1, 1) := dk_27 (dk_at dksX5_told_0 0 rfl rfl)
theorem dX5_told_1 : decode cX5_told 1 = .ok (.tableswitch 51 0 3 #[31, 36, 41, 46], 31) := by decide +kernel
theorem dX5_told_32 : decode cX5_told 32 = .ok (.aload_n 0, 1) := dk_42 (dk_at dksX5_told_2 0 rfl rfl)
theorem dX5_told_33 : decode cX5_told 33 = .ok (.getfield 417, 3) := dk_180 1 161 (dk_at dksX5_told_2 1 rfl rfl)
theorem dX5_told_36 : decode cX5_told 36 = .ok (.ireturn, 1) := dk_172 (dk_at dksX5_told_2 4 rfl rfl)
theorem dX5_told_37 : decode cX5_told 37 = .ok (.aload_n 0, 1) := dk_42 (dk_at dksX5_told_2 5 rfl rfl)
theorem dX5_told_38 : decode cX5_told 38 = .ok (.getfield 505, 3) := dk_180 1 249 (dk_at dksX5_told_2 6 rfl rfl)
theorem dX5_told_41 : decode cX5_told 41 = .ok (.ireturn, 1) := dk_172 (dk_at dksX5_told_2 9 rfl rfl)
theorem dX5_told_42 : decode cX5_told 42 = .ok (.aload_n 0, 1) := dk_42 (dk_at dksX5_told_2 10 rfl rfl)
theorem dX5_told_43 : decode cX5_told 43 = .ok (.getfield 514, 3) := dk_180 2 2 (dk_at dksX5_told_2 11 rfl rfl)
theorem dX5_told_46 : decode cX5_told 46 = .ok (.ireturn, 1) := dk_172 (dk_at dksX5_told_2 14 rfl rfl)
theorem dX5_told_47 : decode cX5_told 47 = .ok (.aload_n 0, 1) := dk_42 (dk_at dksX5_told_2 15 rfl rfl)
theorem dX5_told_48 : decode cX5_told 48 = .ok (.getfield 499, 3) := dk_180 1 243 (dk_at dksX5_told_2 16 rfl rfl)
theorem dX5_told_51 : decode cX5_told 51 = .ok (.ireturn, 1) := dk_172 (dk_at dksX5_told_2 19 rfl rfl)
theorem dX5_told_52 : decode cX5_told 52 = .ok (.bipush (-2), 2) := dk_16 254 (dk_at dksX5_told_2 20 rfl rfl)
theorem dX5_told_54 : decode cX5_told 54 = .ok (.ireturn, 1) := dk_172 (dk_at dksX5_told_2 22 rfl rfl)
abbrev cX5_row : ByteArray := prog_22_method_108_code
def yX5_row : MethodName := ⟨RX5, "row", "(III)I"⟩
def dkwX5_row_4 : List UInt8 := [132, 4, 1, 167, 255, 233, 4, 172]
abbrev dktX5_row_4 : List UInt8 := dkwX5_row_4 ++ []
def dkwX5_row_3 : List UInt8 := [3, 54, 4, 21, 4, 16, 40, 162, 0, 22, 42, 180, 0, 139, 16, 40, 27, 104, 21, 4, 96, 9, 80]
abbrev dktX5_row_3 : List UInt8 := dkwX5_row_3 ++ dktX5_row_4
def dkwX5_row_2 : List UInt8 := [172, 42, 180, 0, 133, 27, 28, 79, 42, 180, 0, 136, 27, 28, 2, 160, 0, 7, 3, 167, 0, 4, 29, 79]
abbrev dktX5_row_2 : List UInt8 := dkwX5_row_2 ++ dktX5_row_3
def dkwX5_row_1 : List UInt8 := [2, 159, 0, 12, 29, 16, 40, 164, 0, 6, 16, 254, 172, 28, 2, 159, 0, 10, 29, 156, 0, 6, 16, 242]
abbrev dktX5_row_1 : List UInt8 := dkwX5_row_1 ++ dktX5_row_2
def dkwX5_row_0 : List UInt8 := [27, 184, 2, 7, 154, 0, 5, 2, 172, 28, 133, 20, 2, 10, 20, 2, 12, 184, 0, 148, 153, 0, 14, 28]
abbrev dktX5_row_0 : List UInt8 := dkwX5_row_0 ++ dktX5_row_1
theorem dksX5_row_0 : cX5_row.data.toList.drop 0 = dktX5_row_0 := by decide +kernel
theorem dksX5_row_1 : cX5_row.data.toList.drop 24 = dktX5_row_1 := dk_seg dksX5_row_0 24 rfl rfl
theorem dksX5_row_2 : cX5_row.data.toList.drop 48 = dktX5_row_2 := dk_seg dksX5_row_1 24 rfl rfl
theorem dksX5_row_3 : cX5_row.data.toList.drop 72 = dktX5_row_3 := dk_seg dksX5_row_2 24 rfl rfl
theorem dksX5_row_4 : cX5_row.data.toList.drop 95 = dktX5_row_4 := dk_seg dksX5_row_3 23 rfl rfl
theorem dX5_row_0 : decode cX5_row 0 = .ok (.iload_n 1, 1) := dk_27 (dk_at dksX5_row_0 0 rfl rfl)
theorem dX5_row_1 : decode cX5_row 1 = .ok (.invokestatic 519, 3) := dk_184 2 7 (dk_at dksX5_row_0 1 rfl rfl)
theorem dX5_row_4 : decode cX5_row 4 = .ok (.ifCond .ne 5, 3) := dk_154 0 5 (dk_at dksX5_row_0 4 rfl rfl)
theorem dX5_row_7 : decode cX5_row 7 = .ok (.iconst (-1), 1) := dk_2 (dk_at dksX5_row_0 7 rfl rfl)
theorem dX5_row_8 : decode cX5_row 8 = .ok (.ireturn, 1) := dk_172 (dk_at dksX5_row_0 8 rfl rfl)
theorem dX5_row_9 : decode cX5_row 9 = .ok (.iload_n 2, 1) := dk_28 (dk_at dksX5_row_0 9 rfl rfl)
theorem dX5_row_10 : decode cX5_row 10 = .ok (.i2l, 1) := dk_133 (dk_at dksX5_row_0 10 rfl rfl)
theorem dX5_row_11 : decode cX5_row 11 = .ok (.ldc2_w 522, 3) := dk_20 2 10 (dk_at dksX5_row_0 11 rfl rfl)
theorem dX5_row_14 : decode cX5_row 14 = .ok (.ldc2_w 524, 3) := dk_20 2 12 (dk_at dksX5_row_0 14 rfl rfl)
theorem dX5_row_17 : decode cX5_row 17 = .ok (.invokestatic 148, 3) := dk_184 0 148 (dk_at dksX5_row_0 17 rfl rfl)
theorem dX5_row_20 : decode cX5_row 20 = .ok (.ifCond .eq 14, 3) := dk_153 0 14 (dk_at dksX5_row_0 20 rfl rfl)
theorem dX5_row_23 : decode cX5_row 23 = .ok (.iload_n 2, 1) := dk_28 (dk_at dksX5_row_0 23 rfl rfl)
theorem dX5_row_24 : decode cX5_row 24 = .ok (.iconst (-1), 1) := dk_2 (dk_at dksX5_row_1 0 rfl rfl)
theorem dX5_row_25 : decode cX5_row 25 = .ok (.if_icmp .eq 12, 3) := dk_159 0 12 (dk_at dksX5_row_1 1 rfl rfl)
theorem dX5_row_28 : decode cX5_row 28 = .ok (.iload_n 3, 1) := dk_29 (dk_at dksX5_row_1 4 rfl rfl)
theorem dX5_row_29 : decode cX5_row 29 = .ok (.bipush 40, 2) := dk_16 40 (dk_at dksX5_row_1 5 rfl rfl)
theorem dX5_row_31 : decode cX5_row 31 = .ok (.if_icmp .le 6, 3) := dk_164 0 6 (dk_at dksX5_row_1 7 rfl rfl)
theorem dX5_row_34 : decode cX5_row 34 = .ok (.bipush (-2), 2) := dk_16 254 (dk_at dksX5_row_1 10 rfl rfl)
theorem dX5_row_36 : decode cX5_row 36 = .ok (.ireturn, 1) := dk_172 (dk_at dksX5_row_1 12 rfl rfl)
theorem dX5_row_37 : decode cX5_row 37 = .ok (.iload_n 2, 1) := dk_28 (dk_at dksX5_row_1 13 rfl rfl)
theorem dX5_row_38 : decode cX5_row 38 = .ok (.iconst (-1), 1) := dk_2 (dk_at dksX5_row_1 14 rfl rfl)
theorem dX5_row_39 : decode cX5_row 39 = .ok (.if_icmp .eq 10, 3) := dk_159 0 10 (dk_at dksX5_row_1 15 rfl rfl)
theorem dX5_row_42 : decode cX5_row 42 = .ok (.iload_n 3, 1) := dk_29 (dk_at dksX5_row_1 18 rfl rfl)
theorem dX5_row_43 : decode cX5_row 43 = .ok (.ifCond .ge 6, 3) := dk_156 0 6 (dk_at dksX5_row_1 19 rfl rfl)
theorem dX5_row_46 : decode cX5_row 46 = .ok (.bipush (-14), 2) := dk_16 242 (dk_at dksX5_row_1 22 rfl rfl)
theorem dX5_row_48 : decode cX5_row 48 = .ok (.ireturn, 1) := dk_172 (dk_at dksX5_row_2 0 rfl rfl)
theorem dX5_row_49 : decode cX5_row 49 = .ok (.aload_n 0, 1) := dk_42 (dk_at dksX5_row_2 1 rfl rfl)
theorem dX5_row_50 : decode cX5_row 50 = .ok (.getfield 133, 3) := dk_180 0 133 (dk_at dksX5_row_2 2 rfl rfl)
theorem dX5_row_53 : decode cX5_row 53 = .ok (.iload_n 1, 1) := dk_27 (dk_at dksX5_row_2 5 rfl rfl)
theorem dX5_row_54 : decode cX5_row 54 = .ok (.iload_n 2, 1) := dk_28 (dk_at dksX5_row_2 6 rfl rfl)
theorem dX5_row_55 : decode cX5_row 55 = .ok (.iastore, 1) := dk_79 (dk_at dksX5_row_2 7 rfl rfl)
theorem dX5_row_56 : decode cX5_row 56 = .ok (.aload_n 0, 1) := dk_42 (dk_at dksX5_row_2 8 rfl rfl)
theorem dX5_row_57 : decode cX5_row 57 = .ok (.getfield 136, 3) := dk_180 0 136 (dk_at dksX5_row_2 9 rfl rfl)
theorem dX5_row_60 : decode cX5_row 60 = .ok (.iload_n 1, 1) := dk_27 (dk_at dksX5_row_2 12 rfl rfl)
theorem dX5_row_61 : decode cX5_row 61 = .ok (.iload_n 2, 1) := dk_28 (dk_at dksX5_row_2 13 rfl rfl)
theorem dX5_row_62 : decode cX5_row 62 = .ok (.iconst (-1), 1) := dk_2 (dk_at dksX5_row_2 14 rfl rfl)
theorem dX5_row_63 : decode cX5_row 63 = .ok (.if_icmp .ne 7, 3) := dk_160 0 7 (dk_at dksX5_row_2 15 rfl rfl)
theorem dX5_row_66 : decode cX5_row 66 = .ok (.iconst 0, 1) := dk_3 (dk_at dksX5_row_2 18 rfl rfl)
theorem dX5_row_67 : decode cX5_row 67 = .ok (.goto 4, 3) := dk_167 0 4 (dk_at dksX5_row_2 19 rfl rfl)
theorem dX5_row_70 : decode cX5_row 70 = .ok (.iload_n 3, 1) := dk_29 (dk_at dksX5_row_2 22 rfl rfl)
theorem dX5_row_71 : decode cX5_row 71 = .ok (.iastore, 1) := dk_79 (dk_at dksX5_row_2 23 rfl rfl)
theorem dX5_row_72 : decode cX5_row 72 = .ok (.iconst 0, 1) := dk_3 (dk_at dksX5_row_3 0 rfl rfl)
theorem dX5_row_73 : decode cX5_row 73 = .ok (.istore 4, 2) := dk_54 4 (dk_at dksX5_row_3 1 rfl rfl)
theorem dX5_row_75 : decode cX5_row 75 = .ok (.iload 4, 2) := dk_21 4 (dk_at dksX5_row_3 3 rfl rfl)
theorem dX5_row_77 : decode cX5_row 77 = .ok (.bipush 40, 2) := dk_16 40 (dk_at dksX5_row_3 5 rfl rfl)
theorem dX5_row_79 : decode cX5_row 79 = .ok (.if_icmp .ge 22, 3) := dk_162 0 22 (dk_at dksX5_row_3 7 rfl rfl)
theorem dX5_row_82 : decode cX5_row 82 = .ok (.aload_n 0, 1) := dk_42 (dk_at dksX5_row_3 10 rfl rfl)
theorem dX5_row_83 : decode cX5_row 83 = .ok (.getfield 139, 3) := dk_180 0 139 (dk_at dksX5_row_3 11 rfl rfl)
theorem dX5_row_86 : decode cX5_row 86 = .ok (.bipush 40, 2) := dk_16 40 (dk_at dksX5_row_3 14 rfl rfl)
theorem dX5_row_88 : decode cX5_row 88 = .ok (.iload_n 1, 1) := dk_27 (dk_at dksX5_row_3 16 rfl rfl)
theorem dX5_row_89 : decode cX5_row 89 = .ok (.imul, 1) := dk_104 (dk_at dksX5_row_3 17 rfl rfl)
theorem dX5_row_90 : decode cX5_row 90 = .ok (.iload 4, 2) := dk_21 4 (dk_at dksX5_row_3 18 rfl rfl)
theorem dX5_row_92 : decode cX5_row 92 = .ok (.iadd, 1) := dk_96 (dk_at dksX5_row_3 20 rfl rfl)
theorem dX5_row_93 : decode cX5_row 93 = .ok (.lconst 0, 1) := dk_9 (dk_at dksX5_row_3 21 rfl rfl)
theorem dX5_row_94 : decode cX5_row 94 = .ok (.lastore, 1) := dk_80 (dk_at dksX5_row_3 22 rfl rfl)
theorem dX5_row_95 : decode cX5_row 95 = .ok (.iinc 4 1, 3) := dk_132 4 1 (dk_at dksX5_row_4 0 rfl rfl)
theorem dX5_row_98 : decode cX5_row 98 = .ok (.goto (-23), 3) := dk_167 255 233 (dk_at dksX5_row_4 3 rfl rfl)
theorem dX5_row_101 : decode cX5_row 101 = .ok (.iconst 1, 1) := dk_4 (dk_at dksX5_row_4 6 rfl rfl)
theorem dX5_row_102 : decode cX5_row 102 = .ok (.ireturn, 1) := dk_172 (dk_at dksX5_row_4 7 rfl rfl)
abbrev cX5_isRow : ByteArray := prog_22_method_107_code
def yX5_isRow : MethodName := ⟨RX5, "isRow", "(I)Z"⟩
def dkwX5_isRow_0 : List UInt8 := [26, 133, 9, 20, 2, 5, 184, 0, 148, 172]
abbrev dktX5_isRow_0 : List UInt8 := dkwX5_isRow_0 ++ []
theorem dksX5_isRow_0 : cX5_isRow.data.toList.drop 0 = dktX5_isRow_0 := by decide +kernel
theorem dX5_isRow_0 : decode cX5_isRow 0 = .ok (.iload_n 0, 1) := dk_26 (dk_at dksX5_isRow_0 0 rfl rfl)
theorem dX5_isRow_1 : decode cX5_isRow 1 = .ok (.i2l, 1) := dk_133 (dk_at dksX5_isRow_0 1 rfl rfl)
theorem dX5_isRow_2 : decode cX5_isRow 2 = .ok (.lconst 0, 1) := dk_9 (dk_at dksX5_isRow_0 2 rfl rfl)
theorem dX5_isRow_3 : decode cX5_isRow 3 = .ok (.ldc2_w 517, 3) := dk_20 2 5 (dk_at dksX5_isRow_0 3 rfl rfl)
theorem dX5_isRow_6 : decode cX5_isRow 6 = .ok (.invokestatic 148, 3) := dk_184 0 148 (dk_at dksX5_isRow_0 6 rfl rfl)
theorem dX5_isRow_9 : decode cX5_isRow 9 = .ok (.ireturn, 1) := dk_172 (dk_at dksX5_isRow_0 9 rfl rfl)
abbrev cX5_put : ByteArray := prog_22_method_110_code
def yX5_put : MethodName := ⟨RX5, "put", "(IIJ)I"⟩
def dkwX5_put_2 : List UInt8 := [16, 40, 27, 104, 28, 96, 42, 180, 0, 133, 27, 46, 33, 184, 2, 14, 80, 4, 172]
abbrev dktX5_put_2 : List UInt8 := dkwX5_put_2 ++ []
def dkwX5_put_1 : List UInt8 := [9, 42, 180, 0, 136, 27, 46, 4, 100, 133, 184, 0, 148, 154, 0, 6, 16, 243, 172, 42, 180, 0, 139]
abbrev dktX5_put_1 : List UInt8 := dkwX5_put_1 ++ dktX5_put_2
def dkwX5_put_0 : List UInt8 := [27, 184, 2, 7, 154, 0, 5, 2, 172, 42, 180, 0, 133, 27, 46, 2, 160, 0, 6, 16, 245, 172, 28, 133]
abbrev dktX5_put_0 : List UInt8 := dkwX5_put_0 ++ dktX5_put_1
theorem dksX5_put_0 : cX5_put.data.toList.drop 0 = dktX5_put_0 := by decide +kernel
theorem dksX5_put_1 : cX5_put.data.toList.drop 24 = dktX5_put_1 := dk_seg dksX5_put_0 24 rfl rfl
theorem dksX5_put_2 : cX5_put.data.toList.drop 47 = dktX5_put_2 := dk_seg dksX5_put_1 23 rfl rfl
theorem dX5_put_0 : decode cX5_put 0 = .ok (.iload_n 1, 1) := dk_27 (dk_at dksX5_put_0 0 rfl rfl)
theorem dX5_put_1 : decode cX5_put 1 = .ok (.invokestatic 519, 3) := dk_184 2 7 (dk_at dksX5_put_0 1 rfl rfl)
theorem dX5_put_4 : decode cX5_put 4 = .ok (.ifCond .ne 5, 3) := dk_154 0 5 (dk_at dksX5_put_0 4 rfl rfl)
theorem dX5_put_7 : decode cX5_put 7 = .ok (.iconst (-1), 1) := dk_2 (dk_at dksX5_put_0 7 rfl rfl)
theorem dX5_put_8 : decode cX5_put 8 = .ok (.ireturn, 1) := dk_172 (dk_at dksX5_put_0 8 rfl rfl)
theorem dX5_put_9 : decode cX5_put 9 = .ok (.aload_n 0, 1) := dk_42 (dk_at dksX5_put_0 9 rfl rfl)
theorem dX5_put_10 : decode cX5_put 10 = .ok (.getfield 133, 3) := dk_180 0 133 (dk_at dksX5_put_0 10 rfl rfl)
theorem dX5_put_13 : decode cX5_put 13 = .ok (.iload_n 1, 1) := dk_27 (dk_at dksX5_put_0 13 rfl rfl)
theorem dX5_put_14 : decode cX5_put 14 = .ok (.iaload, 1) := dk_46 (dk_at dksX5_put_0 14 rfl rfl)
theorem dX5_put_15 : decode cX5_put 15 = .ok (.iconst (-1), 1) := dk_2 (dk_at dksX5_put_0 15 rfl rfl)
theorem dX5_put_16 : decode cX5_put 16 = .ok (.if_icmp .ne 6, 3) := dk_160 0 6 (dk_at dksX5_put_0 16 rfl rfl)
theorem dX5_put_19 : decode cX5_put 19 = .ok (.bipush (-11), 2) := dk_16 245 (dk_at dksX5_put_0 19 rfl rfl)
theorem dX5_put_21 : decode cX5_put 21 = .ok (.ireturn, 1) := dk_172 (dk_at dksX5_put_0 21 rfl rfl)
theorem dX5_put_22 : decode cX5_put 22 = .ok (.iload_n 2, 1) := dk_28 (dk_at dksX5_put_0 22 rfl rfl)
theorem dX5_put_23 : decode cX5_put 23 = .ok (.i2l, 1) := dk_133 (dk_at dksX5_put_0 23 rfl rfl)
theorem dX5_put_24 : decode cX5_put 24 = .ok (.lconst 0, 1) := dk_9 (dk_at dksX5_put_1 0 rfl rfl)
theorem dX5_put_25 : decode cX5_put 25 = .ok (.aload_n 0, 1) := dk_42 (dk_at dksX5_put_1 1 rfl rfl)
theorem dX5_put_26 : decode cX5_put 26 = .ok (.getfield 136, 3) := dk_180 0 136 (dk_at dksX5_put_1 2 rfl rfl)
theorem dX5_put_29 : decode cX5_put 29 = .ok (.iload_n 1, 1) := dk_27 (dk_at dksX5_put_1 5 rfl rfl)
theorem dX5_put_30 : decode cX5_put 30 = .ok (.iaload, 1) := dk_46 (dk_at dksX5_put_1 6 rfl rfl)
theorem dX5_put_31 : decode cX5_put 31 = .ok (.iconst 1, 1) := dk_4 (dk_at dksX5_put_1 7 rfl rfl)
theorem dX5_put_32 : decode cX5_put 32 = .ok (.isub, 1) := dk_100 (dk_at dksX5_put_1 8 rfl rfl)
theorem dX5_put_33 : decode cX5_put 33 = .ok (.i2l, 1) := dk_133 (dk_at dksX5_put_1 9 rfl rfl)
theorem dX5_put_34 : decode cX5_put 34 = .ok (.invokestatic 148, 3) := dk_184 0 148 (dk_at dksX5_put_1 10 rfl rfl)
theorem dX5_put_37 : decode cX5_put 37 = .ok (.ifCond .ne 6, 3) := dk_154 0 6 (dk_at dksX5_put_1 13 rfl rfl)
theorem dX5_put_40 : decode cX5_put 40 = .ok (.bipush (-13), 2) := dk_16 243 (dk_at dksX5_put_1 16 rfl rfl)
theorem dX5_put_42 : decode cX5_put 42 = .ok (.ireturn, 1) := dk_172 (dk_at dksX5_put_1 18 rfl rfl)
theorem dX5_put_43 : decode cX5_put 43 = .ok (.aload_n 0, 1) := dk_42 (dk_at dksX5_put_1 19 rfl rfl)
theorem dX5_put_44 : decode cX5_put 44 = .ok (.getfield 139, 3) := dk_180 0 139 (dk_at dksX5_put_1 20 rfl rfl)
theorem dX5_put_47 : decode cX5_put 47 = .ok (.bipush 40, 2) := dk_16 40 (dk_at dksX5_put_2 0 rfl rfl)
theorem dX5_put_49 : decode cX5_put 49 = .ok (.iload_n 1, 1) := dk_27 (dk_at dksX5_put_2 2 rfl rfl)
theorem dX5_put_50 : decode cX5_put 50 = .ok (.imul, 1) := dk_104 (dk_at dksX5_put_2 3 rfl rfl)
theorem dX5_put_51 : decode cX5_put 51 = .ok (.iload_n 2, 1) := dk_28 (dk_at dksX5_put_2 4 rfl rfl)
theorem dX5_put_52 : decode cX5_put 52 = .ok (.iadd, 1) := dk_96 (dk_at dksX5_put_2 5 rfl rfl)
theorem dX5_put_53 : decode cX5_put 53 = .ok (.aload_n 0, 1) := dk_42 (dk_at dksX5_put_2 6 rfl rfl)
theorem dX5_put_54 : decode cX5_put 54 = .ok (.getfield 133, 3) := dk_180 0 133 (dk_at dksX5_put_2 7 rfl rfl)
theorem dX5_put_57 : decode cX5_put 57 = .ok (.iload_n 1, 1) := dk_27 (dk_at dksX5_put_2 10 rfl rfl)
theorem dX5_put_58 : decode cX5_put 58 = .ok (.iaload, 1) := dk_46 (dk_at dksX5_put_2 11 rfl rfl)
theorem dX5_put_59 : decode cX5_put 59 = .ok (.lload_n 3, 1) := dk_33 (dk_at dksX5_put_2 12 rfl rfl)
theorem dX5_put_60 : decode cX5_put 60 = .ok (.invokestatic 526, 3) := dk_184 2 14 (dk_at dksX5_put_2 13 rfl rfl)
theorem dX5_put_63 : decode cX5_put 63 = .ok (.lastore, 1) := dk_80 (dk_at dksX5_put_2 16 rfl rfl)
theorem dX5_put_64 : decode cX5_put 64 = .ok (.iconst 1, 1) := dk_4 (dk_at dksX5_put_2 17 rfl rfl)
theorem dX5_put_65 : decode cX5_put 65 = .ok (.ireturn, 1) := dk_172 (dk_at dksX5_put_2 18 rfl rfl)
abbrev cX5_held : ByteArray := prog_22_method_109_code
def yX5_held : MethodName := ⟨RX5, "held", "(IJ)J"⟩
def dkwX5_held_0 : List UInt8 := [26, 154, 0, 9, 31, 136, 133, 167, 0, 16, 26, 4, 160, 0, 7, 31, 167, 0, 7, 31, 136, 145, 133, 173]
abbrev dktX5_held_0 : List UInt8 := dkwX5_held_0 ++ []
theorem dksX5_held_0 : cX5_held.data.toList.drop 0 = dktX5_held_0 := by decide +kernel
theorem dX5_held_0 : decode cX5_held 0 = .ok (.iload_n 0, 1) := dk_26 (dk_at dksX5_held_0 0 rfl rfl)
theorem dX5_held_1 : decode cX5_held 1 = .ok (.ifCond .ne 9, 3) := dk_154 0 9 (dk_at dksX5_held_0 1 rfl rfl)
theorem dX5_held_4 : decode cX5_held 4 = .ok (.lload_n 1, 1) := dk_31 (dk_at dksX5_held_0 4 rfl rfl)
theorem dX5_held_5 : decode cX5_held 5 = .ok (.l2i, 1) := dk_136 (dk_at dksX5_held_0 5 rfl rfl)
theorem dX5_held_6 : decode cX5_held 6 = .ok (.i2l, 1) := dk_133 (dk_at dksX5_held_0 6 rfl rfl)
theorem dX5_held_7 : decode cX5_held 7 = .ok (.goto 16, 3) := dk_167 0 16 (dk_at dksX5_held_0 7 rfl rfl)
theorem dX5_held_10 : decode cX5_held 10 = .ok (.iload_n 0, 1) := dk_26 (dk_at dksX5_held_0 10 rfl rfl)
theorem dX5_held_11 : decode cX5_held 11 = .ok (.iconst 1, 1) := dk_4 (dk_at dksX5_held_0 11 rfl rfl)
theorem dX5_held_12 : decode cX5_held 12 = .ok (.if_icmp .ne 7, 3) := dk_160 0 7 (dk_at dksX5_held_0 12 rfl rfl)
theorem dX5_held_15 : decode cX5_held 15 = .ok (.lload_n 1, 1) := dk_31 (dk_at dksX5_held_0 15 rfl rfl)
theorem dX5_held_16 : decode cX5_held 16 = .ok (.goto 7, 3) := dk_167 0 7 (dk_at dksX5_held_0 16 rfl rfl)
theorem dX5_held_19 : decode cX5_held 19 = .ok (.lload_n 1, 1) := dk_31 (dk_at dksX5_held_0 19 rfl rfl)
theorem dX5_held_20 : decode cX5_held 20 = .ok (.l2i, 1) := dk_136 (dk_at dksX5_held_0 20 rfl rfl)
theorem dX5_held_21 : decode cX5_held 21 = .ok (.i2b, 1) := dk_145 (dk_at dksX5_held_0 21 rfl rfl)
theorem dX5_held_22 : decode cX5_held 22 = .ok (.i2l, 1) := dk_133 (dk_at dksX5_held_0 22 rfl rfl)
theorem dX5_held_23 : decode cX5_held 23 = .ok (.lreturn, 1) := dk_173 (dk_at dksX5_held_0 23 rfl rfl)
abbrev cX5_get : ByteArray := prog_22_method_111_code
def yX5_get : MethodName := ⟨RX5, "get", "(II)J"⟩
def dkwX5_get_2 : List UInt8 := [167, 0, 6, 20, 1, 63, 173]
abbrev dktX5_get_2 : List UInt8 := dkwX5_get_2 ++ []
def dkwX5_get_1 : List UInt8 := [27, 46, 4, 100, 133, 184, 0, 148, 153, 0, 17, 42, 180, 0, 139, 16, 40, 27, 104, 28, 96, 47]
abbrev dktX5_get_1 : List UInt8 := dkwX5_get_1 ++ dktX5_get_2
def dkwX5_get_0 : List UInt8 := [27, 184, 2, 7, 153, 0, 45, 42, 180, 0, 133, 27, 46, 2, 159, 0, 35, 28, 133, 9, 42, 180, 0, 136]
abbrev dktX5_get_0 : List UInt8 := dkwX5_get_0 ++ dktX5_get_1
theorem dksX5_get_0 : cX5_get.data.toList.drop 0 = dktX5_get_0 := by decide +kernel
theorem dksX5_get_1 : cX5_get.data.toList.drop 24 = dktX5_get_1 := dk_seg dksX5_get_0 24 rfl rfl
theorem dksX5_get_2 : cX5_get.data.toList.drop 46 = dktX5_get_2 := dk_seg dksX5_get_1 22 rfl rfl
theorem dX5_get_0 : decode cX5_get 0 = .ok (.iload_n 1, 1) := dk_27 (dk_at dksX5_get_0 0 rfl rfl)
theorem dX5_get_1 : decode cX5_get 1 = .ok (.invokestatic 519, 3) := dk_184 2 7 (dk_at dksX5_get_0 1 rfl rfl)
theorem dX5_get_4 : decode cX5_get 4 = .ok (.ifCond .eq 45, 3) := dk_153 0 45 (dk_at dksX5_get_0 4 rfl rfl)
theorem dX5_get_7 : decode cX5_get 7 = .ok (.aload_n 0, 1) := dk_42 (dk_at dksX5_get_0 7 rfl rfl)
theorem dX5_get_8 : decode cX5_get 8 = .ok (.getfield 133, 3) := dk_180 0 133 (dk_at dksX5_get_0 8 rfl rfl)
theorem dX5_get_11 : decode cX5_get 11 = .ok (.iload_n 1, 1) := dk_27 (dk_at dksX5_get_0 11 rfl rfl)
theorem dX5_get_12 : decode cX5_get 12 = .ok (.iaload, 1) := dk_46 (dk_at dksX5_get_0 12 rfl rfl)
theorem dX5_get_13 : decode cX5_get 13 = .ok (.iconst (-1), 1) := dk_2 (dk_at dksX5_get_0 13 rfl rfl)
theorem dX5_get_14 : decode cX5_get 14 = .ok (.if_icmp .eq 35, 3) := dk_159 0 35 (dk_at dksX5_get_0 14 rfl rfl)
theorem dX5_get_17 : decode cX5_get 17 = .ok (.iload_n 2, 1) := dk_28 (dk_at dksX5_get_0 17 rfl rfl)
theorem dX5_get_18 : decode cX5_get 18 = .ok (.i2l, 1) := dk_133 (dk_at dksX5_get_0 18 rfl rfl)
theorem dX5_get_19 : decode cX5_get 19 = .ok (.lconst 0, 1) := dk_9 (dk_at dksX5_get_0 19 rfl rfl)
theorem dX5_get_20 : decode cX5_get 20 = .ok (.aload_n 0, 1) := dk_42 (dk_at dksX5_get_0 20 rfl rfl)
theorem dX5_get_21 : decode cX5_get 21 = .ok (.getfield 136, 3) := dk_180 0 136 (dk_at dksX5_get_0 21 rfl rfl)
theorem dX5_get_24 : decode cX5_get 24 = .ok (.iload_n 1, 1) := dk_27 (dk_at dksX5_get_1 0 rfl rfl)
theorem dX5_get_25 : decode cX5_get 25 = .ok (.iaload, 1) := dk_46 (dk_at dksX5_get_1 1 rfl rfl)
theorem dX5_get_26 : decode cX5_get 26 = .ok (.iconst 1, 1) := dk_4 (dk_at dksX5_get_1 2 rfl rfl)
theorem dX5_get_27 : decode cX5_get 27 = .ok (.isub, 1) := dk_100 (dk_at dksX5_get_1 3 rfl rfl)
theorem dX5_get_28 : decode cX5_get 28 = .ok (.i2l, 1) := dk_133 (dk_at dksX5_get_1 4 rfl rfl)
theorem dX5_get_29 : decode cX5_get 29 = .ok (.invokestatic 148, 3) := dk_184 0 148 (dk_at dksX5_get_1 5 rfl rfl)
theorem dX5_get_32 : decode cX5_get 32 = .ok (.ifCond .eq 17, 3) := dk_153 0 17 (dk_at dksX5_get_1 8 rfl rfl)
theorem dX5_get_35 : decode cX5_get 35 = .ok (.aload_n 0, 1) := dk_42 (dk_at dksX5_get_1 11 rfl rfl)
theorem dX5_get_36 : decode cX5_get 36 = .ok (.getfield 139, 3) := dk_180 0 139 (dk_at dksX5_get_1 12 rfl rfl)
theorem dX5_get_39 : decode cX5_get 39 = .ok (.bipush 40, 2) := dk_16 40 (dk_at dksX5_get_1 15 rfl rfl)
theorem dX5_get_41 : decode cX5_get 41 = .ok (.iload_n 1, 1) := dk_27 (dk_at dksX5_get_1 17 rfl rfl)
theorem dX5_get_42 : decode cX5_get 42 = .ok (.imul, 1) := dk_104 (dk_at dksX5_get_1 18 rfl rfl)
theorem dX5_get_43 : decode cX5_get 43 = .ok (.iload_n 2, 1) := dk_28 (dk_at dksX5_get_1 19 rfl rfl)
theorem dX5_get_44 : decode cX5_get 44 = .ok (.iadd, 1) := dk_96 (dk_at dksX5_get_1 20 rfl rfl)
theorem dX5_get_45 : decode cX5_get 45 = .ok (.laload, 1) := dk_47 (dk_at dksX5_get_1 21 rfl rfl)
theorem dX5_get_46 : decode cX5_get 46 = .ok (.goto 6, 3) := dk_167 0 6 (dk_at dksX5_get_2 0 rfl rfl)
theorem dX5_get_49 : decode cX5_get 49 = .ok (.ldc2_w 319, 3) := dk_20 1 63 (dk_at dksX5_get_2 3 rfl rfl)
theorem dX5_get_52 : decode cX5_get 52 = .ok (.lreturn, 1) := dk_173 (dk_at dksX5_get_2 6 rfl rfl)
abbrev cX5_fill : ByteArray := prog_22_method_112_code
def yX5_fill : MethodName := ⟨RX5, "fill", "(II)I"⟩
def dkwX5_fill_3 : List UInt8 := [27, 104, 29, 96, 42, 28, 29, 182, 0, 235, 133, 80, 132, 3, 1, 167, 255, 215, 29, 172]
abbrev dktX5_fill_3 : List UInt8 := dkwX5_fill_3 ++ []
def dkwX5_fill_2 : List UInt8 := [180, 0, 136, 27, 46, 162, 0, 37, 29, 42, 180, 0, 28, 28, 46, 162, 0, 27, 42, 180, 0, 139, 16, 40]
abbrev dktX5_fill_2 : List UInt8 := dkwX5_fill_2 ++ dktX5_fill_3
def dkwX5_fill_1 : List UInt8 := [160, 0, 6, 16, 245, 172, 42, 180, 0, 133, 27, 46, 5, 160, 0, 6, 16, 244, 172, 3, 62, 29, 42]
abbrev dktX5_fill_1 : List UInt8 := dkwX5_fill_1 ++ dktX5_fill_2
def dkwX5_fill_0 : List UInt8 := [27, 184, 2, 7, 153, 0, 11, 42, 28, 182, 0, 232, 154, 0, 5, 2, 172, 42, 180, 0, 133, 27, 46, 2]
abbrev dktX5_fill_0 : List UInt8 := dkwX5_fill_0 ++ dktX5_fill_1
theorem dksX5_fill_0 : cX5_fill.data.toList.drop 0 = dktX5_fill_0 := by decide +kernel
theorem dksX5_fill_1 : cX5_fill.data.toList.drop 24 = dktX5_fill_1 := dk_seg dksX5_fill_0 24 rfl rfl
theorem dksX5_fill_2 : cX5_fill.data.toList.drop 47 = dktX5_fill_2 := dk_seg dksX5_fill_1 23 rfl rfl
theorem dksX5_fill_3 : cX5_fill.data.toList.drop 71 = dktX5_fill_3 := dk_seg dksX5_fill_2 24 rfl rfl
theorem dX5_fill_0 : decode cX5_fill 0 = .ok (.iload_n 1, 1) := dk_27 (dk_at dksX5_fill_0 0 rfl rfl)
theorem dX5_fill_1 : decode cX5_fill 1 = .ok (.invokestatic 519, 3) := dk_184 2 7 (dk_at dksX5_fill_0 1 rfl rfl)
theorem dX5_fill_4 : decode cX5_fill 4 = .ok (.ifCond .eq 11, 3) := dk_153 0 11 (dk_at dksX5_fill_0 4 rfl rfl)
theorem dX5_fill_7 : decode cX5_fill 7 = .ok (.aload_n 0, 1) := dk_42 (dk_at dksX5_fill_0 7 rfl rfl)
theorem dX5_fill_8 : decode cX5_fill 8 = .ok (.iload_n 2, 1) := dk_28 (dk_at dksX5_fill_0 8 rfl rfl)
theorem dX5_fill_9 : decode cX5_fill 9 = .ok (.invokevirtual 232, 3) := dk_182 0 232 (dk_at dksX5_fill_0 9 rfl rfl)
theorem dX5_fill_12 : decode cX5_fill 12 = .ok (.ifCond .ne 5, 3) := dk_154 0 5 (dk_at dksX5_fill_0 12 rfl rfl)
theorem dX5_fill_15 : decode cX5_fill 15 = .ok (.iconst (-1), 1) := dk_2 (dk_at dksX5_fill_0 15 rfl rfl)
theorem dX5_fill_16 : decode cX5_fill 16 = .ok (.ireturn, 1) := dk_172 (dk_at dksX5_fill_0 16 rfl rfl)
theorem dX5_fill_17 : decode cX5_fill 17 = .ok (.aload_n 0, 1) := dk_42 (dk_at dksX5_fill_0 17 rfl rfl)
theorem dX5_fill_18 : decode cX5_fill 18 = .ok (.getfield 133, 3) := dk_180 0 133 (dk_at dksX5_fill_0 18 rfl rfl)
theorem dX5_fill_21 : decode cX5_fill 21 = .ok (.iload_n 1, 1) := dk_27 (dk_at dksX5_fill_0 21 rfl rfl)
theorem dX5_fill_22 : decode cX5_fill 22 = .ok (.iaload, 1) := dk_46 (dk_at dksX5_fill_0 22 rfl rfl)
theorem dX5_fill_23 : decode cX5_fill 23 = .ok (.iconst (-1), 1) := dk_2 (dk_at dksX5_fill_0 23 rfl rfl)
theorem dX5_fill_24 : decode cX5_fill 24 = .ok (.if_icmp .ne 6, 3) := dk_160 0 6 (dk_at dksX5_fill_1 0 rfl rfl)
theorem dX5_fill_27 : decode cX5_fill 27 = .ok (.bipush (-11), 2) := dk_16 245 (dk_at dksX5_fill_1 3 rfl rfl)
theorem dX5_fill_29 : decode cX5_fill 29 = .ok (.ireturn, 1) := dk_172 (dk_at dksX5_fill_1 5 rfl rfl)
theorem dX5_fill_30 : decode cX5_fill 30 = .ok (.aload_n 0, 1) := dk_42 (dk_at dksX5_fill_1 6 rfl rfl)
theorem dX5_fill_31 : decode cX5_fill 31 = .ok (.getfield 133, 3) := dk_180 0 133 (dk_at dksX5_fill_1 7 rfl rfl)
theorem dX5_fill_34 : decode cX5_fill 34 = .ok (.iload_n 1, 1) := dk_27 (dk_at dksX5_fill_1 10 rfl rfl)
theorem dX5_fill_35 : decode cX5_fill 35 = .ok (.iaload, 1) := dk_46 (dk_at dksX5_fill_1 11 rfl rfl)
theorem dX5_fill_36 : decode cX5_fill 36 = .ok (.iconst 2, 1) := dk_5 (dk_at dksX5_fill_1 12 rfl rfl)
theorem dX5_fill_37 : decode cX5_fill 37 = .ok (.if_icmp .ne 6, 3) := dk_160 0 6 (dk_at dksX5_fill_1 13 rfl rfl)
theorem dX5_fill_40 : decode cX5_fill 40 = .ok (.bipush (-12), 2) := dk_16 244 (dk_at dksX5_fill_1 16 rfl rfl)
theorem dX5_fill_42 : decode cX5_fill 42 = .ok (.ireturn, 1) := dk_172 (dk_at dksX5_fill_1 18 rfl rfl)
theorem dX5_fill_43 : decode cX5_fill 43 = .ok (.iconst 0, 1) := dk_3 (dk_at dksX5_fill_1 19 rfl rfl)
theorem dX5_fill_44 : decode cX5_fill 44 = .ok (.istore_n 3, 1) := dk_62 (dk_at dksX5_fill_1 20 rfl rfl)
theorem dX5_fill_45 : decode cX5_fill 45 = .ok (.iload_n 3, 1) := dk_29 (dk_at dksX5_fill_1 21 rfl rfl)
theorem dX5_fill_46 : decode cX5_fill 46 = .ok (.aload_n 0, 1) := dk_42 (dk_at dksX5_fill_1 22 rfl rfl)
theorem dX5_fill_47 : decode cX5_fill 47 = .ok (.getfield 136, 3) := dk_180 0 136 (dk_at dksX5_fill_2 0 rfl rfl)
theorem dX5_fill_50 : decode cX5_fill 50 = .ok (.iload_n 1, 1) := dk_27 (dk_at dksX5_fill_2 3 rfl rfl)
theorem dX5_fill_51 : decode cX5_fill 51 = .ok (.iaload, 1) := dk_46 (dk_at dksX5_fill_2 4 rfl rfl)
theorem dX5_fill_52 : decode cX5_fill 52 = .ok (.if_icmp .ge 37, 3) := dk_162 0 37 (dk_at dksX5_fill_2 5 rfl rfl)
theorem dX5_fill_55 : decode cX5_fill 55 = .ok (.iload_n 3, 1) := dk_29 (dk_at dksX5_fill_2 8 rfl rfl)
theorem dX5_fill_56 : decode cX5_fill 56 = .ok (.aload_n 0, 1) := dk_42 (dk_at dksX5_fill_2 9 rfl rfl)
theorem dX5_fill_57 : decode cX5_fill 57 = .ok (.getfield 28, 3) := dk_180 0 28 (dk_at dksX5_fill_2 10 rfl rfl)
theorem dX5_fill_60 : decode cX5_fill 60 = .ok (.iload_n 2, 1) := dk_28 (dk_at dksX5_fill_2 13 rfl rfl)
theorem dX5_fill_61 : decode cX5_fill 61 = .ok (.iaload, 1) := dk_46 (dk_at dksX5_fill_2 14 rfl rfl)
theorem dX5_fill_62 : decode cX5_fill 62 = .ok (.if_icmp .ge 27, 3) := dk_162 0 27 (dk_at dksX5_fill_2 15 rfl rfl)
theorem dX5_fill_65 : decode cX5_fill 65 = .ok (.aload_n 0, 1) := dk_42 (dk_at dksX5_fill_2 18 rfl rfl)
theorem dX5_fill_66 : decode cX5_fill 66 = .ok (.getfield 139, 3) := dk_180 0 139 (dk_at dksX5_fill_2 19 rfl rfl)
theorem dX5_fill_69 : decode cX5_fill 69 = .ok (.bipush 40, 2) := dk_16 40 (dk_at dksX5_fill_2 22 rfl rfl)
theorem dX5_fill_71 : decode cX5_fill 71 = .ok (.iload_n 1, 1) := dk_27 (dk_at dksX5_fill_3 0 rfl rfl)
theorem dX5_fill_72 : decode cX5_fill 72 = .ok (.imul, 1) := dk_104 (dk_at dksX5_fill_3 1 rfl rfl)
theorem dX5_fill_73 : decode cX5_fill 73 = .ok (.iload_n 3, 1) := dk_29 (dk_at dksX5_fill_3 2 rfl rfl)
theorem dX5_fill_74 : decode cX5_fill 74 = .ok (.iadd, 1) := dk_96 (dk_at dksX5_fill_3 3 rfl rfl)
theorem dX5_fill_75 : decode cX5_fill 75 = .ok (.aload_n 0, 1) := dk_42 (dk_at dksX5_fill_3 4 rfl rfl)
theorem dX5_fill_76 : decode cX5_fill 76 = .ok (.iload_n 2, 1) := dk_28 (dk_at dksX5_fill_3 5 rfl rfl)
theorem dX5_fill_77 : decode cX5_fill 77 = .ok (.iload_n 3, 1) := dk_29 (dk_at dksX5_fill_3 6 rfl rfl)
theorem dX5_fill_78 : decode cX5_fill 78 = .ok (.invokevirtual 235, 3) := dk_182 0 235 (dk_at dksX5_fill_3 7 rfl rfl)
theorem dX5_fill_81 : decode cX5_fill 81 = .ok (.i2l, 1) := dk_133 (dk_at dksX5_fill_3 10 rfl rfl)
theorem dX5_fill_82 : decode cX5_fill 82 = .ok (.lastore, 1) := dk_80 (dk_at dksX5_fill_3 11 rfl rfl)
theorem dX5_fill_83 : decode cX5_fill 83 = .ok (.iinc 3 1, 3) := dk_132 3 1 (dk_at dksX5_fill_3 12 rfl rfl)
theorem dX5_fill_86 : decode cX5_fill 86 = .ok (.goto (-41), 3) := dk_167 255 215 (dk_at dksX5_fill_3 15 rfl rfl)
theorem dX5_fill_89 : decode cX5_fill 89 = .ok (.iload_n 3, 1) := dk_29 (dk_at dksX5_fill_3 18 rfl rfl)
theorem dX5_fill_90 : decode cX5_fill 90 = .ok (.ireturn, 1) := dk_172 (dk_at dksX5_fill_3 19 rfl rfl)
abbrev cX5_judge : ByteArray := prog_22_method_113_code
def yX5_judge : MethodName := ⟨RX5, "judge", "(II)I"⟩
def dkwX5_judge_3 : List UInt8 := [153, 0, 5, 29, 172, 132, 3, 1, 167, 255, 209, 2, 172]
abbrev dktX5_judge_3 : List UInt8 := dkwX5_judge_3 ++ []
def dkwX5_judge_2 : List UInt8 := [46, 162, 0, 25, 42, 180, 0, 139, 16, 40, 27, 104, 29, 96, 47, 42, 28, 29, 182, 0, 235, 133, 148]
abbrev dktX5_judge_2 : List UInt8 := dkwX5_judge_2 ++ dktX5_judge_3
def dkwX5_judge_1 : List UInt8 := [160, 0, 6, 16, 245, 172, 3, 62, 29, 42, 180, 0, 136, 27, 46, 162, 0, 43, 29, 42, 180, 0, 28, 28]
abbrev dktX5_judge_1 : List UInt8 := dkwX5_judge_1 ++ dktX5_judge_2
def dkwX5_judge_0 : List UInt8 := [27, 184, 2, 7, 153, 0, 11, 42, 28, 182, 0, 232, 154, 0, 5, 2, 172, 42, 180, 0, 133, 27, 46, 2]
abbrev dktX5_judge_0 : List UInt8 := dkwX5_judge_0 ++ dktX5_judge_1
theorem dksX5_judge_0 : cX5_judge.data.toList.drop 0 = dktX5_judge_0 := by decide +kernel
theorem dksX5_judge_1 : cX5_judge.data.toList.drop 24 = dktX5_judge_1 := dk_seg dksX5_judge_0 24 rfl rfl
theorem dksX5_judge_2 : cX5_judge.data.toList.drop 48 = dktX5_judge_2 := dk_seg dksX5_judge_1 24 rfl rfl
theorem dksX5_judge_3 : cX5_judge.data.toList.drop 71 = dktX5_judge_3 := dk_seg dksX5_judge_2 23 rfl rfl
theorem dX5_judge_0 : decode cX5_judge 0 = .ok (.iload_n 1, 1) := dk_27 (dk_at dksX5_judge_0 0 rfl rfl)
theorem dX5_judge_1 : decode cX5_judge 1 = .ok (.invokestatic 519, 3) := dk_184 2 7 (dk_at dksX5_judge_0 1 rfl rfl)
theorem dX5_judge_4 : decode cX5_judge 4 = .ok (.ifCond .eq 11, 3) := dk_153 0 11 (dk_at dksX5_judge_0 4 rfl rfl)
theorem dX5_judge_7 : decode cX5_judge 7 = .ok (.aload_n 0, 1) := dk_42 (dk_at dksX5_judge_0 7 rfl rfl)
theorem dX5_judge_8 : decode cX5_judge 8 = .ok (.iload_n 2, 1) := dk_28 (dk_at dksX5_judge_0 8 rfl rfl)
theorem dX5_judge_9 : decode cX5_judge 9 = .ok (.invokevirtual 232, 3) := dk_182 0 232 (dk_at dksX5_judge_0 9 rfl rfl)
theorem dX5_judge_12 : decode cX5_judge 12 = .ok (.ifCond .ne 5, 3) := dk_154 0 5 (dk_at dksX5_judge_0 12 rfl rfl)
theorem dX5_judge_15 : decode cX5_judge 15 = .ok (.iconst (-1), 1) := dk_2 (dk_at dksX5_judge_0 15 rfl rfl)
theorem dX5_judge_16 : decode cX5_judge 16 = .ok (.ireturn, 1) := dk_172 (dk_at dksX5_judge_0 16 rfl rfl)
theorem dX5_judge_17 : decode cX5_judge 17 = .ok (.aload_n 0, 1) := dk_42 (dk_at dksX5_judge_0 17 rfl rfl)
theorem dX5_judge_18 : decode cX5_judge 18 = .ok (.getfield 133, 3) := dk_180 0 133 (dk_at dksX5_judge_0 18 rfl rfl)
theorem dX5_judge_21 : decode cX5_judge 21 = .ok (.iload_n 1, 1) := dk_27 (dk_at dksX5_judge_0 21 rfl rfl)
theorem dX5_judge_22 : decode cX5_judge 22 = .ok (.iaload, 1) := dk_46 (dk_at dksX5_judge_0 22 rfl rfl)
theorem dX5_judge_23 : decode cX5_judge 23 = .ok (.iconst (-1), 1) := dk_2 (dk_at dksX5_judge_0 23 rfl rfl)
theorem dX5_judge_24 : decode cX5_judge 24 = .ok (.if_icmp .ne 6, 3) := dk_160 0 6 (dk_at dksX5_judge_1 0 rfl rfl)
theorem dX5_judge_27 : decode cX5_judge 27 = .ok (.bipush (-11), 2) := dk_16 245 (dk_at dksX5_judge_1 3 rfl rfl)
theorem dX5_judge_29 : decode cX5_judge 29 = .ok (.ireturn, 1) := dk_172 (dk_at dksX5_judge_1 5 rfl rfl)
theorem dX5_judge_30 : decode cX5_judge 30 = .ok (.iconst 0, 1) := dk_3 (dk_at dksX5_judge_1 6 rfl rfl)
theorem dX5_judge_31 : decode cX5_judge 31 = .ok (.istore_n 3, 1) := dk_62 (dk_at dksX5_judge_1 7 rfl rfl)
theorem dX5_judge_32 : decode cX5_judge 32 = .ok (.iload_n 3, 1) := dk_29 (dk_at dksX5_judge_1 8 rfl rfl)
theorem dX5_judge_33 : decode cX5_judge 33 = .ok (.aload_n 0, 1) := dk_42 (dk_at dksX5_judge_1 9 rfl rfl)
theorem dX5_judge_34 : decode cX5_judge 34 = .ok (.getfield 136, 3) := dk_180 0 136 (dk_at dksX5_judge_1 10 rfl rfl)
theorem dX5_judge_37 : decode cX5_judge 37 = .ok (.iload_n 1, 1) := dk_27 (dk_at dksX5_judge_1 13 rfl rfl)
theorem dX5_judge_38 : decode cX5_judge 38 = .ok (.iaload, 1) := dk_46 (dk_at dksX5_judge_1 14 rfl rfl)
theorem dX5_judge_39 : decode cX5_judge 39 = .ok (.if_icmp .ge 43, 3) := dk_162 0 43 (dk_at dksX5_judge_1 15 rfl rfl)
theorem dX5_judge_42 : decode cX5_judge 42 = .ok (.iload_n 3, 1) := dk_29 (dk_at dksX5_judge_1 18 rfl rfl)
theorem dX5_judge_43 : decode cX5_judge 43 = .ok (.aload_n 0, 1) := dk_42 (dk_at dksX5_judge_1 19 rfl rfl)
theorem dX5_judge_44 : decode cX5_judge 44 = .ok (.getfield 28, 3) := dk_180 0 28 (dk_at dksX5_judge_1 20 rfl rfl)
theorem dX5_judge_47 : decode cX5_judge 47 = .ok (.iload_n 2, 1) := dk_28 (dk_at dksX5_judge_1 23 rfl rfl)
theorem dX5_judge_48 : decode cX5_judge 48 = .ok (.iaload, 1) := dk_46 (dk_at dksX5_judge_2 0 rfl rfl)
theorem dX5_judge_49 : decode cX5_judge 49 = .ok (.if_icmp .ge 25, 3) := dk_162 0 25 (dk_at dksX5_judge_2 1 rfl rfl)
theorem dX5_judge_52 : decode cX5_judge 52 = .ok (.aload_n 0, 1) := dk_42 (dk_at dksX5_judge_2 4 rfl rfl)
theorem dX5_judge_53 : decode cX5_judge 53 = .ok (.getfield 139, 3) := dk_180 0 139 (dk_at dksX5_judge_2 5 rfl rfl)
theorem dX5_judge_56 : decode cX5_judge 56 = .ok (.bipush 40, 2) := dk_16 40 (dk_at dksX5_judge_2 8 rfl rfl)
theorem dX5_judge_58 : decode cX5_judge 58 = .ok (.iload_n 1, 1) := dk_27 (dk_at dksX5_judge_2 10 rfl rfl)
theorem dX5_judge_59 : decode cX5_judge 59 = .ok (.imul, 1) := dk_104 (dk_at dksX5_judge_2 11 rfl rfl)
theorem dX5_judge_60 : decode cX5_judge 60 = .ok (.iload_n 3, 1) := dk_29 (dk_at dksX5_judge_2 12 rfl rfl)
theorem dX5_judge_61 : decode cX5_judge 61 = .ok (.iadd, 1) := dk_96 (dk_at dksX5_judge_2 13 rfl rfl)
theorem dX5_judge_62 : decode cX5_judge 62 = .ok (.laload, 1) := dk_47 (dk_at dksX5_judge_2 14 rfl rfl)
theorem dX5_judge_63 : decode cX5_judge 63 = .ok (.aload_n 0, 1) := dk_42 (dk_at dksX5_judge_2 15 rfl rfl)
theorem dX5_judge_64 : decode cX5_judge 64 = .ok (.iload_n 2, 1) := dk_28 (dk_at dksX5_judge_2 16 rfl rfl)
theorem dX5_judge_65 : decode cX5_judge 65 = .ok (.iload_n 3, 1) := dk_29 (dk_at dksX5_judge_2 17 rfl rfl)
theorem dX5_judge_66 : decode cX5_judge 66 = .ok (.invokevirtual 235, 3) := dk_182 0 235 (dk_at dksX5_judge_2 18 rfl rfl)
theorem dX5_judge_69 : decode cX5_judge 69 = .ok (.i2l, 1) := dk_133 (dk_at dksX5_judge_2 21 rfl rfl)
theorem dX5_judge_70 : decode cX5_judge 70 = .ok (.lcmp, 1) := dk_148 (dk_at dksX5_judge_2 22 rfl rfl)
theorem dX5_judge_71 : decode cX5_judge 71 = .ok (.ifCond .eq 5, 3) := dk_153 0 5 (dk_at dksX5_judge_3 0 rfl rfl)
theorem dX5_judge_74 : decode cX5_judge 74 = .ok (.iload_n 3, 1) := dk_29 (dk_at dksX5_judge_3 3 rfl rfl)
theorem dX5_judge_75 : decode cX5_judge 75 = .ok (.ireturn, 1) := dk_172 (dk_at dksX5_judge_3 4 rfl rfl)
theorem dX5_judge_76 : decode cX5_judge 76 = .ok (.iinc 3 1, 3) := dk_132 3 1 (dk_at dksX5_judge_3 5 rfl rfl)
theorem dX5_judge_79 : decode cX5_judge 79 = .ok (.goto (-47), 3) := dk_167 255 209 (dk_at dksX5_judge_3 8 rfl rfl)
theorem dX5_judge_82 : decode cX5_judge 82 = .ok (.iconst (-1), 1) := dk_2 (dk_at dksX5_judge_3 11 rfl rfl)
theorem dX5_judge_83 : decode cX5_judge 83 = .ok (.ireturn, 1) := dk_172 (dk_at dksX5_judge_3 12 rfl rfl)
abbrev cX5_copy : ByteArray := prog_22_method_114_code
def yX5_copy : MethodName := ⟨RX5, "copy", "(IIIII)I"⟩
def dkwX5_copy_6 : List UInt8 := [184, 1, 112, 21, 5, 172]
abbrev dktX5_copy_6 : List UInt8 := dkwX5_copy_6 ++ []
def dkwX5_copy_5 : List UInt8 := [21, 5, 184, 1, 112, 42, 180, 0, 142, 3, 42, 180, 0, 139, 16, 40, 29, 104, 21, 4, 96, 21, 5]
abbrev dktX5_copy_5 : List UInt8 := dkwX5_copy_5 ++ dktX5_copy_6
def dkwX5_copy_4 : List UInt8 := [21, 5, 100, 164, 0, 6, 16, 243, 172, 42, 180, 0, 139, 16, 40, 27, 104, 28, 96, 42, 180, 0, 142, 3]
abbrev dktX5_copy_4 : List UInt8 := dkwX5_copy_4 ++ dktX5_copy_5
def dkwX5_copy_3 : List UInt8 := [155, 0, 30, 28, 42, 180, 0, 136, 27, 46, 21, 5, 100, 163, 0, 17, 21, 4, 42, 180, 0, 136, 29, 46]
abbrev dktX5_copy_3 : List UInt8 := dkwX5_copy_3 ++ dktX5_copy_4
def dkwX5_copy_2 : List UInt8 := [180, 0, 133, 29, 46, 159, 0, 6, 16, 244, 172, 21, 5, 155, 0, 39, 28, 155, 0, 35, 21, 4]
abbrev dktX5_copy_2 : List UInt8 := dkwX5_copy_2 ++ dktX5_copy_3
def dkwX5_copy_1 : List UInt8 := [159, 0, 13, 42, 180, 0, 133, 29, 46, 2, 160, 0, 6, 16, 245, 172, 42, 180, 0, 133, 27, 46, 42]
abbrev dktX5_copy_1 : List UInt8 := dkwX5_copy_1 ++ dktX5_copy_2
def dkwX5_copy_0 : List UInt8 := [27, 184, 2, 7, 153, 0, 10, 29, 184, 2, 7, 154, 0, 5, 2, 172, 42, 180, 0, 133, 27, 46, 2]
abbrev dktX5_copy_0 : List UInt8 := dkwX5_copy_0 ++ dktX5_copy_1
theorem dksX5_copy_0 : cX5_copy.data.toList.drop 0 = dktX5_copy_0 := by decide +kernel
theorem dksX5_copy_1 : cX5_copy.data.toList.drop 23 = dktX5_copy_1 := dk_seg dksX5_copy_0 23 rfl rfl
theorem dksX5_copy_2 : cX5_copy.data.toList.drop 46 = dktX5_copy_2 := dk_seg dksX5_copy_1 23 rfl rfl
theorem dksX5_copy_3 : cX5_copy.data.toList.drop 68 = dktX5_copy_3 := dk_seg dksX5_copy_2 22 rfl rfl
theorem dksX5_copy_4 : cX5_copy.data.toList.drop 92 = dktX5_copy_4 := dk_seg dksX5_copy_3 24 rfl rfl
theorem dksX5_copy_5 : cX5_copy.data.toList.drop 116 = dktX5_copy_5 := dk_seg dksX5_copy_4 24 rfl rfl
theorem dksX5_copy_6 : cX5_copy.data.toList.drop 139 = dktX5_copy_6 := dk_seg dksX5_copy_5 23 rfl rfl
theorem dX5_copy_0 : decode cX5_copy 0 = .ok (.iload_n 1, 1) := dk_27 (dk_at dksX5_copy_0 0 rfl rfl)
theorem dX5_copy_1 : decode cX5_copy 1 = .ok (.invokestatic 519, 3) := dk_184 2 7 (dk_at dksX5_copy_0 1 rfl rfl)
theorem dX5_copy_4 : decode cX5_copy 4 = .ok (.ifCond .eq 10, 3) := dk_153 0 10 (dk_at dksX5_copy_0 4 rfl rfl)
theorem dX5_copy_7 : decode cX5_copy 7 = .ok (.iload_n 3, 1) := dk_29 (dk_at dksX5_copy_0 7 rfl rfl)
theorem dX5_copy_8 : decode cX5_copy 8 = .ok (.invokestatic 519, 3) := dk_184 2 7 (dk_at dksX5_copy_0 8 rfl rfl)
theorem dX5_copy_11 : decode cX5_copy 11 = .ok (.ifCond .ne 5, 3) := dk_154 0 5 (dk_at dksX5_copy_0 11 rfl rfl)
theorem dX5_copy_14 : decode cX5_copy 14 = .ok (.iconst (-1), 1) := dk_2 (dk_at dksX5_copy_0 14 rfl rfl)
theorem dX5_copy_15 : decode cX5_copy 15 = .ok (.ireturn, 1) := dk_172 (dk_at dksX5_copy_0 15 rfl rfl)
theorem dX5_copy_16 : decode cX5_copy 16 = .ok (.aload_n 0, 1) := dk_42 (dk_at dksX5_copy_0 16 rfl rfl)
theorem dX5_copy_17 : decode cX5_copy 17 = .ok (.getfield 133, 3) := dk_180 0 133 (dk_at dksX5_copy_0 17 rfl rfl)
theorem dX5_copy_20 : decode cX5_copy 20 = .ok (.iload_n 1, 1) := dk_27 (dk_at dksX5_copy_0 20 rfl rfl)
theorem dX5_copy_21 : decode cX5_copy 21 = .ok (.iaload, 1) := dk_46 (dk_at dksX5_copy_0 21 rfl rfl)
theorem dX5_copy_22 : decode cX5_copy 22 = .ok (.iconst (-1), 1) := dk_2 (dk_at dksX5_copy_0 22 rfl rfl)
theorem dX5_copy_23 : decode cX5_copy 23 = .ok (.if_icmp .eq 13, 3) := dk_159 0 13 (dk_at dksX5_copy_1 0 rfl rfl)
theorem dX5_copy_26 : decode cX5_copy 26 = .ok (.aload_n 0, 1) := dk_42 (dk_at dksX5_copy_1 3 rfl rfl)
theorem dX5_copy_27 : decode cX5_copy 27 = .ok (.getfield 133, 3) := dk_180 0 133 (dk_at dksX5_copy_1 4 rfl rfl)
theorem dX5_copy_30 : decode cX5_copy 30 = .ok (.iload_n 3, 1) := dk_29 (dk_at dksX5_copy_1 7 rfl rfl)
theorem dX5_copy_31 : decode cX5_copy 31 = .ok (.iaload, 1) := dk_46 (dk_at dksX5_copy_1 8 rfl rfl)
theorem dX5_copy_32 : decode cX5_copy 32 = .ok (.iconst (-1), 1) := dk_2 (dk_at dksX5_copy_1 9 rfl rfl)
theorem dX5_copy_33 : decode cX5_copy 33 = .ok (.if_icmp .ne 6, 3) := dk_160 0 6 (dk_at dksX5_copy_1 10 rfl rfl)
theorem dX5_copy_36 : decode cX5_copy 36 = .ok (.bipush (-11), 2) := dk_16 245 (dk_at dksX5_copy_1 13 rfl rfl)
theorem dX5_copy_38 : decode cX5_copy 38 = .ok (.ireturn, 1) := dk_172 (dk_at dksX5_copy_1 15 rfl rfl)
theorem dX5_copy_39 : decode cX5_copy 39 = .ok (.aload_n 0, 1) := dk_42 (dk_at dksX5_copy_1 16 rfl rfl)
theorem dX5_copy_40 : decode cX5_copy 40 = .ok (.getfield 133, 3) := dk_180 0 133 (dk_at dksX5_copy_1 17 rfl rfl)
theorem dX5_copy_43 : decode cX5_copy 43 = .ok (.iload_n 1, 1) := dk_27 (dk_at dksX5_copy_1 20 rfl rfl)
theorem dX5_copy_44 : decode cX5_copy 44 = .ok (.iaload, 1) := dk_46 (dk_at dksX5_copy_1 21 rfl rfl)
theorem dX5_copy_45 : decode cX5_copy 45 = .ok (.aload_n 0, 1) := dk_42 (dk_at dksX5_copy_1 22 rfl rfl)
theorem dX5_copy_46 : decode cX5_copy 46 = .ok (.getfield 133, 3) := dk_180 0 133 (dk_at dksX5_copy_2 0 rfl rfl)
theorem dX5_copy_49 : decode cX5_copy 49 = .ok (.iload_n 3, 1) := dk_29 (dk_at dksX5_copy_2 3 rfl rfl)
theorem dX5_copy_50 : decode cX5_copy 50 = .ok (.iaload, 1) := dk_46 (dk_at dksX5_copy_2 4 rfl rfl)
theorem dX5_copy_51 : decode cX5_copy 51 = .ok (.if_icmp .eq 6, 3) := dk_159 0 6 (dk_at dksX5_copy_2 5 rfl rfl)
theorem dX5_copy_54 : decode cX5_copy 54 = .ok (.bipush (-12), 2) := dk_16 244 (dk_at dksX5_copy_2 8 rfl rfl)
theorem dX5_copy_56 : decode cX5_copy 56 = .ok (.ireturn, 1) := dk_172 (dk_at dksX5_copy_2 10 rfl rfl)
theorem dX5_copy_57 : decode cX5_copy 57 = .ok (.iload 5, 2) := dk_21 5 (dk_at dksX5_copy_2 11 rfl rfl)
theorem dX5_copy_59 : decode cX5_copy 59 = .ok (.ifCond .lt 39, 3) := dk_155 0 39 (dk_at dksX5_copy_2 13 rfl rfl)
theorem dX5_copy_62 : decode cX5_copy 62 = .ok (.iload_n 2, 1) := dk_28 (dk_at dksX5_copy_2 16 rfl rfl)
theorem dX5_copy_63 : decode cX5_copy 63 = .ok (.ifCond .lt 35, 3) := dk_155 0 35 (dk_at dksX5_copy_2 17 rfl rfl)
theorem dX5_copy_66 : decode cX5_copy 66 = .ok (.iload 4, 2) := dk_21 4 (dk_at dksX5_copy_2 20 rfl rfl)
theorem dX5_copy_68 : decode cX5_copy 68 = .ok (.ifCond .lt 30, 3) := dk_155 0 30 (dk_at dksX5_copy_3 0 rfl rfl)
theorem dX5_copy_71 : decode cX5_copy 71 = .ok (.iload_n 2, 1) := dk_28 (dk_at dksX5_copy_3 3 rfl rfl)
theorem dX5_copy_72 : decode cX5_copy 72 = .ok (.aload_n 0, 1) := dk_42 (dk_at dksX5_copy_3 4 rfl rfl)
theorem dX5_copy_73 : decode cX5_copy 73 = .ok (.getfield 136, 3) := dk_180 0 136 (dk_at dksX5_copy_3 5 rfl rfl)
theorem dX5_copy_76 : decode cX5_copy 76 = .ok (.iload_n 1, 1) := dk_27 (dk_at dksX5_copy_3 8 rfl rfl)
theorem dX5_copy_77 : decode cX5_copy 77 = .ok (.iaload, 1) := dk_46 (dk_at dksX5_copy_3 9 rfl rfl)
theorem dX5_copy_78 : decode cX5_copy 78 = .ok (.iload 5, 2) := dk_21 5 (dk_at dksX5_copy_3 10 rfl rfl)
theorem dX5_copy_80 : decode cX5_copy 80 = .ok (.isub, 1) := dk_100 (dk_at dksX5_copy_3 12 rfl rfl)
theorem dX5_copy_81 : decode cX5_copy 81 = .ok (.if_icmp .gt 17, 3) := dk_163 0 17 (dk_at dksX5_copy_3 13 rfl rfl)
theorem dX5_copy_84 : decode cX5_copy 84 = .ok (.iload 4, 2) := dk_21 4 (dk_at dksX5_copy_3 16 rfl rfl)
theorem dX5_copy_86 : decode cX5_copy 86 = .ok (.aload_n 0, 1) := dk_42 (dk_at dksX5_copy_3 18 rfl rfl)
theorem dX5_copy_87 : decode cX5_copy 87 = .ok (.getfield 136, 3) := dk_180 0 136 (dk_at dksX5_copy_3 19 rfl rfl)
theorem dX5_copy_90 : decode cX5_copy 90 = .ok (.iload_n 3, 1) := dk_29 (dk_at dksX5_copy_3 22 rfl rfl)
theorem dX5_copy_91 : decode cX5_copy 91 = .ok (.iaload, 1) := dk_46 (dk_at dksX5_copy_3 23 rfl rfl)
theorem dX5_copy_92 : decode cX5_copy 92 = .ok (.iload 5, 2) := dk_21 5 (dk_at dksX5_copy_4 0 rfl rfl)
theorem dX5_copy_94 : decode cX5_copy 94 = .ok (.isub, 1) := dk_100 (dk_at dksX5_copy_4 2 rfl rfl)
theorem dX5_copy_95 : decode cX5_copy 95 = .ok (.if_icmp .le 6, 3) := dk_164 0 6 (dk_at dksX5_copy_4 3 rfl rfl)
theorem dX5_copy_98 : decode cX5_copy 98 = .ok (.bipush (-13), 2) := dk_16 243 (dk_at dksX5_copy_4 6 rfl rfl)
theorem dX5_copy_100 : decode cX5_copy 100 = .ok (.ireturn, 1) := dk_172 (dk_at dksX5_copy_4 8 rfl rfl)
theorem dX5_copy_101 : decode cX5_copy 101 = .ok (.aload_n 0, 1) := dk_42 (dk_at dksX5_copy_4 9 rfl rfl)
theorem dX5_copy_102 : decode cX5_copy 102 = .ok (.getfield 139, 3) := dk_180 0 139 (dk_at dksX5_copy_4 10 rfl rfl)
theorem dX5_copy_105 : decode cX5_copy 105 = .ok (.bipush 40, 2) := dk_16 40 (dk_at dksX5_copy_4 13 rfl rfl)
theorem dX5_copy_107 : decode cX5_copy 107 = .ok (.iload_n 1, 1) := dk_27 (dk_at dksX5_copy_4 15 rfl rfl)
theorem dX5_copy_108 : decode cX5_copy 108 = .ok (.imul, 1) := dk_104 (dk_at dksX5_copy_4 16 rfl rfl)
theorem dX5_copy_109 : decode cX5_copy 109 = .ok (.iload_n 2, 1) := dk_28 (dk_at dksX5_copy_4 17 rfl rfl)
theorem dX5_copy_110 : decode cX5_copy 110 = .ok (.iadd, 1) := dk_96 (dk_at dksX5_copy_4 18 rfl rfl)
theorem dX5_copy_111 : decode cX5_copy 111 = .ok (.aload_n 0, 1) := dk_42 (dk_at dksX5_copy_4 19 rfl rfl)
theorem dX5_copy_112 : decode cX5_copy 112 = .ok (.getfield 142, 3) := dk_180 0 142 (dk_at dksX5_copy_4 20 rfl rfl)
theorem dX5_copy_115 : decode cX5_copy 115 = .ok (.iconst 0, 1) := dk_3 (dk_at dksX5_copy_4 23 rfl rfl)
theorem dX5_copy_116 : decode cX5_copy 116 = .ok (.iload 5, 2) := dk_21 5 (dk_at dksX5_copy_5 0 rfl rfl)
theorem dX5_copy_118 : decode cX5_copy 118 = .ok (.invokestatic 368, 3) := dk_184 1 112 (dk_at dksX5_copy_5 2 rfl rfl)
theorem dX5_copy_121 : decode cX5_copy 121 = .ok (.aload_n 0, 1) := dk_42 (dk_at dksX5_copy_5 5 rfl rfl)
theorem dX5_copy_122 : decode cX5_copy 122 = .ok (.getfield 142, 3) := dk_180 0 142 (dk_at dksX5_copy_5 6 rfl rfl)
theorem dX5_copy_125 : decode cX5_copy 125 = .ok (.iconst 0, 1) := dk_3 (dk_at dksX5_copy_5 9 rfl rfl)
theorem dX5_copy_126 : decode cX5_copy 126 = .ok (.aload_n 0, 1) := dk_42 (dk_at dksX5_copy_5 10 rfl rfl)
theorem dX5_copy_127 : decode cX5_copy 127 = .ok (.getfield 139, 3) := dk_180 0 139 (dk_at dksX5_copy_5 11 rfl rfl)
theorem dX5_copy_130 : decode cX5_copy 130 = .ok (.bipush 40, 2) := dk_16 40 (dk_at dksX5_copy_5 14 rfl rfl)
theorem dX5_copy_132 : decode cX5_copy 132 = .ok (.iload_n 3, 1) := dk_29 (dk_at dksX5_copy_5 16 rfl rfl)
theorem dX5_copy_133 : decode cX5_copy 133 = .ok (.imul, 1) := dk_104 (dk_at dksX5_copy_5 17 rfl rfl)
theorem dX5_copy_134 : decode cX5_copy 134 = .ok (.iload 4, 2) := dk_21 4 (dk_at dksX5_copy_5 18 rfl rfl)
theorem dX5_copy_136 : decode cX5_copy 136 = .ok (.iadd, 1) := dk_96 (dk_at dksX5_copy_5 20 rfl rfl)
theorem dX5_copy_137 : decode cX5_copy 137 = .ok (.iload 5, 2) := dk_21 5 (dk_at dksX5_copy_5 21 rfl rfl)
theorem dX5_copy_139 : decode cX5_copy 139 = .ok (.invokestatic 368, 3) := dk_184 1 112 (dk_at dksX5_copy_6 0 rfl rfl)
theorem dX5_copy_142 : decode cX5_copy 142 = .ok (.iload 5, 2) := dk_21 5 (dk_at dksX5_copy_6 3 rfl rfl)
theorem dX5_copy_144 : decode cX5_copy 144 = .ok (.ireturn, 1) := dk_172 (dk_at dksX5_copy_6 5 rfl rfl)
abbrev cX5_image : ByteArray := prog_22_method_115_code
def yX5_image : MethodName := ⟨RX5, "image", "()I"⟩
def dkwX5_image_1 : List UInt8 := [180, 0, 18, 172]
abbrev dktX5_image_1 : List UInt8 := dkwX5_image_1 ++ []
def dkwX5_image_0 : List UInt8 := [42, 42, 180, 0, 18, 181, 2, 18, 42, 180, 0, 15, 3, 42, 180, 0, 22, 3, 16, 13, 184, 1, 112, 42]
abbrev dktX5_image_0 : List UInt8 := dkwX5_image_0 ++ dktX5_image_1
theorem dksX5_image_0 : cX5_image.data.toList.drop 0 = dktX5_image_0 := by decide +kernel
theorem dksX5_image_1 : cX5_image.data.toList.drop 24 = dktX5_image_1 := dk_seg dksX5_image_0 24 rfl rfl
theorem dX5_image_0 : decode cX5_image 0 = .ok (.aload_n 0, 1) := dk_42 (dk_at dksX5_image_0 0 rfl rfl)
theorem dX5_image_1 : decode cX5_image 1 = .ok (.aload_n 0, 1) := dk_42 (dk_at dksX5_image_0 1 rfl rfl)
theorem dX5_image_2 : decode cX5_image 2 = .ok (.getfield 18, 3) := dk_180 0 18 (dk_at dksX5_image_0 2 rfl rfl)
theorem dX5_image_5 : decode cX5_image 5 = .ok (.putfield 530, 3) := dk_181 2 18 (dk_at dksX5_image_0 5 rfl rfl)
theorem dX5_image_8 : decode cX5_image 8 = .ok (.aload_n 0, 1) := dk_42 (dk_at dksX5_image_0 8 rfl rfl)
theorem dX5_image_9 : decode cX5_image 9 = .ok (.getfield 15, 3) := dk_180 0 15 (dk_at dksX5_image_0 9 rfl rfl)
theorem dX5_image_12 : decode cX5_image 12 = .ok (.iconst 0, 1) := dk_3 (dk_at dksX5_image_0 12 rfl rfl)
theorem dX5_image_13 : decode cX5_image 13 = .ok (.aload_n 0, 1) := dk_42 (dk_at dksX5_image_0 13 rfl rfl)
theorem dX5_image_14 : decode cX5_image 14 = .ok (.getfield 22, 3) := dk_180 0 22 (dk_at dksX5_image_0 14 rfl rfl)
theorem dX5_image_17 : decode cX5_image 17 = .ok (.iconst 0, 1) := dk_3 (dk_at dksX5_image_0 17 rfl rfl)
theorem dX5_image_18 : decode cX5_image 18 = .ok (.bipush 13, 2) := dk_16 13 (dk_at dksX5_image_0 18 rfl rfl)
theorem dX5_image_20 : decode cX5_image 20 = .ok (.invokestatic 368, 3) := dk_184 1 112 (dk_at dksX5_image_0 20 rfl rfl)
theorem dX5_image_23 : decode cX5_image 23 = .ok (.aload_n 0, 1) := dk_42 (dk_at dksX5_image_0 23 rfl rfl)
theorem dX5_image_24 : decode cX5_image 24 = .ok (.getfield 18, 3) := dk_180 0 18 (dk_at dksX5_image_1 0 rfl rfl)
theorem dX5_image_27 : decode cX5_image 27 = .ok (.ireturn, 1) := dk_172 (dk_at dksX5_image_1 3 rfl rfl)
abbrev cX5_undo : ByteArray := prog_22_method_116_code
def yX5_undo : MethodName := ⟨RX5, "undo", "()I"⟩
def dkwX5_undo_1 : List UInt8 := [180, 0, 15, 3, 16, 13, 184, 1, 112, 42, 180, 0, 18, 172]
abbrev dktX5_undo_1 : List UInt8 := dkwX5_undo_1 ++ []
def dkwX5_undo_0 : List UInt8 := [42, 180, 2, 18, 154, 0, 6, 16, 253, 172, 42, 42, 180, 2, 18, 181, 0, 18, 42, 180, 0, 22, 3, 42]
abbrev dktX5_undo_0 : List UInt8 := dkwX5_undo_0 ++ dktX5_undo_1
theorem dksX5_undo_0 : cX5_undo.data.toList.drop 0 = dktX5_undo_0 := by decide +kernel
theorem dksX5_undo_1 : cX5_undo.data.toList.drop 24 = dktX5_undo_1 := dk_seg dksX5_undo_0 24 rfl rfl
theorem dX5_undo_0 : decode cX5_undo 0 = .ok (.aload_n 0, 1) := dk_42 (dk_at dksX5_undo_0 0 rfl rfl)
theorem dX5_undo_1 : decode cX5_undo 1 = .ok (.getfield 530, 3) := dk_180 2 18 (dk_at dksX5_undo_0 1 rfl rfl)
theorem dX5_undo_4 : decode cX5_undo 4 = .ok (.ifCond .ne 6, 3) := dk_154 0 6 (dk_at dksX5_undo_0 4 rfl rfl)
theorem dX5_undo_7 : decode cX5_undo 7 = .ok (.bipush (-3), 2) := dk_16 253 (dk_at dksX5_undo_0 7 rfl rfl)
theorem dX5_undo_9 : decode cX5_undo 9 = .ok (.ireturn, 1) := dk_172 (dk_at dksX5_undo_0 9 rfl rfl)
theorem dX5_undo_10 : decode cX5_undo 10 = .ok (.aload_n 0, 1) := dk_42 (dk_at dksX5_undo_0 10 rfl rfl)
theorem dX5_undo_11 : decode cX5_undo 11 = .ok (.aload_n 0, 1) := dk_42 (dk_at dksX5_undo_0 11 rfl rfl)
theorem dX5_undo_12 : decode cX5_undo 12 = .ok (.getfield 530, 3) := dk_180 2 18 (dk_at dksX5_undo_0 12 rfl rfl)
theorem dX5_undo_15 : decode cX5_undo 15 = .ok (.putfield 18, 3) := dk_181 0 18 (dk_at dksX5_undo_0 15 rfl rfl)
theorem dX5_undo_18 : decode cX5_undo 18 = .ok (.aload_n 0, 1) := dk_42 (dk_at dksX5_undo_0 18 rfl rfl)
theorem dX5_undo_19 : decode cX5_undo 19 = .ok (.getfield 22, 3) := dk_180 0 22 (dk_at dksX5_undo_0 19 rfl rfl)
theorem dX5_undo_22 : decode cX5_undo 22 = .ok (.iconst 0, 1) := dk_3 (dk_at dksX5_undo_0 22 rfl rfl)
theorem dX5_undo_23 : decode cX5_undo 23 = .ok (.aload_n 0, 1) := dk_42 (dk_at dksX5_undo_0 23 rfl rfl)
theorem dX5_undo_24 : decode cX5_undo 24 = .ok (.getfield 15, 3) := dk_180 0 15 (dk_at dksX5_undo_1 0 rfl rfl)
theorem dX5_undo_27 : decode cX5_undo 27 = .ok (.iconst 0, 1) := dk_3 (dk_at dksX5_undo_1 3 rfl rfl)
theorem dX5_undo_28 : decode cX5_undo 28 = .ok (.bipush 13, 2) := dk_16 13 (dk_at dksX5_undo_1 4 rfl rfl)
theorem dX5_undo_30 : decode cX5_undo 30 = .ok (.invokestatic 368, 3) := dk_184 1 112 (dk_at dksX5_undo_1 6 rfl rfl)
theorem dX5_undo_33 : decode cX5_undo 33 = .ok (.aload_n 0, 1) := dk_42 (dk_at dksX5_undo_1 9 rfl rfl)
theorem dX5_undo_34 : decode cX5_undo 34 = .ok (.getfield 18, 3) := dk_180 0 18 (dk_at dksX5_undo_1 10 rfl rfl)
theorem dX5_undo_37 : decode cX5_undo 37 = .ok (.ireturn, 1) := dk_172 (dk_at dksX5_undo_1 13 rfl rfl)
theorem q167 : (Jvm.Cond.initialized "BranchNamesModel") ∈ lw_all := lw_g (lw_at lw_m1 16 rfl) rfl
theorem q1158 : (Jvm.Cond.selects "BranchNamesModel" ({ cls := "java/lang/Object", name := "getClass", desc := "()Ljava/lang/Class;" } : Jvm.MethodName) ({ cls := "java/lang/Object", name := "getClass", desc := "()Ljava/lang/Class;" } : Jvm.MethodName)) ∈ lw_all := lw_g (lw_at lw_m5 47 rfl) rfl
theorem q1747 : (Jvm.Cond.instantiable "BranchNamesModel" (61 : Nat)) ∈ lw_all := lw_g (lw_at lw_m7 156 rfl) rfl
theorem q1749 : (Jvm.Cond.instanceMethod ({ cls := "BranchNamesModel", name := "<init>", desc := "()V" } : Jvm.MethodName)) ∈ lw_all := lw_g (lw_at lw_m7 158 rfl) rfl
theorem q1750 : (Jvm.Cond.code ({ cls := "BranchNamesModel", name := "<init>", desc := "()V" } : Jvm.MethodName) prog_22_method_1_code (1 : Nat) (Option.none : Option Jvm.ClassFile.FieldType)) ∈ lw_all := lw_g (lw_at lw_m7 159 rfl) rfl
theorem q1751 : (Jvm.Cond.methodLink "BranchNamesModel" (3 : Nat) ({ cls := "java/lang/Object", name := "<init>", desc := "()V" } : Jvm.MethodName)) ∈ lw_all := lw_g (lw_at lw_m7 160 rfl) rfl
theorem q1752 : (Jvm.Cond.stringRef "BranchNamesModel" (50 : Nat) "meth eth prop but pent hex hept oct non dec undec dodec ") ∈ lw_tbl := lw_at lw_m7 161 rfl
theorem q1753 : (Jvm.Cond.stringRef "BranchNamesModel" (56 : Nat) "di tri tetra penta hexa hepta octa ") ∈ lw_tbl := lw_at lw_m7 162 rfl
theorem q1754 : (Jvm.Cond.fieldLink "BranchNamesModel" (11 : Nat) "BranchNamesModel" "bonds" "[I") ∈ lw_all := lw_g (lw_at lw_m7 163 rfl) rfl
theorem q1755 : (Jvm.Cond.fieldLink "BranchNamesModel" (145 : Nat) "BranchNamesModel" "many" "I") ∈ lw_all := lw_g (lw_at lw_m7 164 rfl) rfl
theorem q1756 : (Jvm.Cond.fieldLink "BranchNamesModel" (15 : Nat) "BranchNamesModel" "drawing" "[I") ∈ lw_all := lw_g (lw_at lw_m7 165 rfl) rfl
theorem q1757 : (Jvm.Cond.fieldLink "BranchNamesModel" (18 : Nat) "BranchNamesModel" "drawnMany" "I") ∈ lw_all := lw_g (lw_at lw_m7 166 rfl) rfl
theorem q1758 : (Jvm.Cond.fieldLink "BranchNamesModel" (22 : Nat) "BranchNamesModel" "kept" "[I") ∈ lw_all := lw_g (lw_at lw_m7 167 rfl) rfl
theorem q1759 : (Jvm.Cond.fieldLink "BranchNamesModel" (530 : Nat) "BranchNamesModel" "keptMany" "I") ∈ lw_all := lw_g (lw_at lw_m7 168 rfl) rfl
theorem q1760 : (Jvm.Cond.fieldLink "BranchNamesModel" (200 : Nat) "BranchNamesModel" "place" "I") ∈ lw_all := lw_g (lw_at lw_m7 169 rfl) rfl
theorem q1761 : (Jvm.Cond.fieldLink "BranchNamesModel" (197 : Nat) "BranchNamesModel" "digits" "I") ∈ lw_all := lw_g (lw_at lw_m7 170 rfl) rfl
theorem q1762 : (Jvm.Cond.fieldLink "BranchNamesModel" (194 : Nat) "BranchNamesModel" "told" "I") ∈ lw_all := lw_g (lw_at lw_m7 171 rfl) rfl
theorem q1763 : (Jvm.Cond.fieldLink "BranchNamesModel" (214 : Nat) "BranchNamesModel" "isListed" "Z") ∈ lw_all := lw_g (lw_at lw_m7 172 rfl) rfl
theorem q1764 : (Jvm.Cond.fieldLink "BranchNamesModel" (25 : Nat) "BranchNamesModel" "keys" "[I") ∈ lw_all := lw_g (lw_at lw_m7 173 rfl) rfl
theorem q1765 : (Jvm.Cond.fieldLink "BranchNamesModel" (28 : Nat) "BranchNamesModel" "listMany" "[I") ∈ lw_all := lw_g (lw_at lw_m7 174 rfl) rfl
theorem q1766 : (Jvm.Cond.fieldLink "BranchNamesModel" (31 : Nat) "BranchNamesModel" "seen" "[I") ∈ lw_all := lw_g (lw_at lw_m7 175 rfl) rfl
theorem q1767 : (Jvm.Cond.fieldLink "BranchNamesModel" (34 : Nat) "BranchNamesModel" "measures" "[I") ∈ lw_all := lw_g (lw_at lw_m7 176 rfl) rfl
theorem q1768 : (Jvm.Cond.fieldLink "BranchNamesModel" (37 : Nat) "BranchNamesModel" "twigs" "[J") ∈ lw_all := lw_g (lw_at lw_m7 177 rfl) rfl
theorem q1769 : (Jvm.Cond.fieldLink "BranchNamesModel" (41 : Nat) "BranchNamesModel" "chain" "[I") ∈ lw_all := lw_g (lw_at lw_m7 178 rfl) rfl
theorem q1770 : (Jvm.Cond.fieldLink "BranchNamesModel" (329 : Nat) "BranchNamesModel" "length" "I") ∈ lw_all := lw_g (lw_at lw_m7 179 rfl) rfl
theorem q1771 : (Jvm.Cond.fieldLink "BranchNamesModel" (44 : Nat) "BranchNamesModel" "numbers" "[I") ∈ lw_all := lw_g (lw_at lw_m7 180 rfl) rfl
theorem q1772 : (Jvm.Cond.fieldLink "BranchNamesModel" (47 : Nat) "BranchNamesModel" "text" "[I") ∈ lw_all := lw_g (lw_at lw_m7 181 rfl) rfl
theorem q1773 : (Jvm.Cond.fieldLink "BranchNamesModel" (267 : Nat) "BranchNamesModel" "top" "I") ∈ lw_all := lw_g (lw_at lw_m7 182 rfl) rfl
theorem q1774 : (Jvm.Cond.fieldLink "BranchNamesModel" (52 : Nat) "BranchNamesModel" "stems" "Ljava/lang/String;") ∈ lw_all := lw_g (lw_at lw_m7 183 rfl) rfl
theorem q1775 : (Jvm.Cond.fieldLink "BranchNamesModel" (58 : Nat) "BranchNamesModel" "manys" "Ljava/lang/String;") ∈ lw_all := lw_g (lw_at lw_m7 184 rfl) rfl
theorem q1776 : (Jvm.Cond.fieldLink "BranchNamesModel" (61 : Nat) "BranchNamesModel" "at" "[I") ∈ lw_all := lw_g (lw_at lw_m7 185 rfl) rfl
theorem q1777 : (Jvm.Cond.fieldLink "BranchNamesModel" (64 : Nat) "BranchNamesModel" "starts" "[I") ∈ lw_all := lw_g (lw_at lw_m7 186 rfl) rfl
theorem q1778 : (Jvm.Cond.fieldLink "BranchNamesModel" (67 : Nat) "BranchNamesModel" "sizes" "[I") ∈ lw_all := lw_g (lw_at lw_m7 187 rfl) rfl
theorem q1779 : (Jvm.Cond.fieldLink "BranchNamesModel" (70 : Nat) "BranchNamesModel" "chains" "[I") ∈ lw_all := lw_g (lw_at lw_m7 188 rfl) rfl
theorem q1780 : (Jvm.Cond.fieldLink "BranchNamesModel" (270 : Nat) "BranchNamesModel" "level" "I") ∈ lw_all := lw_g (lw_at lw_m7 189 rfl) rfl
theorem q1781 : (Jvm.Cond.fieldLink "BranchNamesModel" (73 : Nat) "BranchNamesModel" "bestLength" "[I") ∈ lw_all := lw_g (lw_at lw_m7 190 rfl) rfl
theorem q1782 : (Jvm.Cond.fieldLink "BranchNamesModel" (76 : Nat) "BranchNamesModel" "bestBranches" "[I") ∈ lw_all := lw_g (lw_at lw_m7 191 rfl) rfl
theorem q1783 : (Jvm.Cond.fieldLink "BranchNamesModel" (79 : Nat) "BranchNamesModel" "bestNumbers" "[I") ∈ lw_all := lw_g (lw_at lw_m7 192 rfl) rfl
theorem q1784 : (Jvm.Cond.fieldLink "BranchNamesModel" (82 : Nat) "BranchNamesModel" "tape" "[I") ∈ lw_all := lw_g (lw_at lw_m7 193 rfl) rfl
theorem q1785 : (Jvm.Cond.fieldLink "BranchNamesModel" (417 : Nat) "BranchNamesModel" "taped" "I") ∈ lw_all := lw_g (lw_at lw_m7 194 rfl) rfl
theorem q1786 : (Jvm.Cond.fieldLink "BranchNamesModel" (499 : Nat) "BranchNamesModel" "reads" "I") ∈ lw_all := lw_g (lw_at lw_m7 195 rfl) rfl
theorem q1787 : (Jvm.Cond.fieldLink "BranchNamesModel" (514 : Nat) "BranchNamesModel" "readsWell" "I") ∈ lw_all := lw_g (lw_at lw_m7 196 rfl) rfl
theorem q1788 : (Jvm.Cond.fieldLink "BranchNamesModel" (426 : Nat) "BranchNamesModel" "here" "I") ∈ lw_all := lw_g (lw_at lw_m7 197 rfl) rfl
theorem q1789 : (Jvm.Cond.fieldLink "BranchNamesModel" (423 : Nat) "BranchNamesModel" "reach" "I") ∈ lw_all := lw_g (lw_at lw_m7 198 rfl) rfl
theorem q1790 : (Jvm.Cond.fieldLink "BranchNamesModel" (457 : Nat) "BranchNamesModel" "partMany" "I") ∈ lw_all := lw_g (lw_at lw_m7 199 rfl) rfl
theorem q1791 : (Jvm.Cond.fieldLink "BranchNamesModel" (85 : Nat) "BranchNamesModel" "partGroup" "[I") ∈ lw_all := lw_g (lw_at lw_m7 200 rfl) rfl
theorem q1792 : (Jvm.Cond.fieldLink "BranchNamesModel" (88 : Nat) "BranchNamesModel" "partPlace" "[I") ∈ lw_all := lw_g (lw_at lw_m7 201 rfl) rfl
theorem q1793 : (Jvm.Cond.fieldLink "BranchNamesModel" (91 : Nat) "BranchNamesModel" "partMost" "[I") ∈ lw_all := lw_g (lw_at lw_m7 202 rfl) rfl
theorem q1794 : (Jvm.Cond.fieldLink "BranchNamesModel" (94 : Nat) "BranchNamesModel" "partStem" "[I") ∈ lw_all := lw_g (lw_at lw_m7 203 rfl) rfl
theorem q1795 : (Jvm.Cond.fieldLink "BranchNamesModel" (97 : Nat) "BranchNamesModel" "partInner" "[I") ∈ lw_all := lw_g (lw_at lw_m7 204 rfl) rfl
theorem q1796 : (Jvm.Cond.fieldLink "BranchNamesModel" (100 : Nat) "BranchNamesModel" "partFrom" "[I") ∈ lw_all := lw_g (lw_at lw_m7 205 rfl) rfl
theorem q1797 : (Jvm.Cond.fieldLink "BranchNamesModel" (103 : Nat) "BranchNamesModel" "partTold" "[I") ∈ lw_all := lw_g (lw_at lw_m7 206 rfl) rfl
theorem q1798 : (Jvm.Cond.fieldLink "BranchNamesModel" (106 : Nat) "BranchNamesModel" "toldNumbers" "[I") ∈ lw_all := lw_g (lw_at lw_m7 207 rfl) rfl
theorem q1799 : (Jvm.Cond.fieldLink "BranchNamesModel" (429 : Nat) "BranchNamesModel" "toldMany" "I") ∈ lw_all := lw_g (lw_at lw_m7 208 rfl) rfl
theorem q1800 : (Jvm.Cond.fieldLink "BranchNamesModel" (445 : Nat) "BranchNamesModel" "groups" "I") ∈ lw_all := lw_g (lw_at lw_m7 209 rfl) rfl
theorem q1801 : (Jvm.Cond.fieldLink "BranchNamesModel" (109 : Nat) "BranchNamesModel" "groupStem" "[I") ∈ lw_all := lw_g (lw_at lw_m7 210 rfl) rfl
theorem q1802 : (Jvm.Cond.fieldLink "BranchNamesModel" (112 : Nat) "BranchNamesModel" "madeMany" "[I") ∈ lw_all := lw_g (lw_at lw_m7 211 rfl) rfl
theorem q1803 : (Jvm.Cond.fieldLink "BranchNamesModel" (115 : Nat) "BranchNamesModel" "madeOn" "[I") ∈ lw_all := lw_g (lw_at lw_m7 212 rfl) rfl
theorem q1804 : (Jvm.Cond.fieldLink "BranchNamesModel" (118 : Nat) "BranchNamesModel" "madeBonds" "[I") ∈ lw_all := lw_g (lw_at lw_m7 213 rfl) rfl
theorem q1805 : (Jvm.Cond.fieldLink "BranchNamesModel" (121 : Nat) "BranchNamesModel" "troubles" "[I") ∈ lw_all := lw_g (lw_at lw_m7 214 rfl) rfl
theorem q1806 : (Jvm.Cond.fieldLink "BranchNamesModel" (124 : Nat) "BranchNamesModel" "places" "[I") ∈ lw_all := lw_g (lw_at lw_m7 215 rfl) rfl
theorem q1807 : (Jvm.Cond.fieldLink "BranchNamesModel" (127 : Nat) "BranchNamesModel" "whys" "[I") ∈ lw_all := lw_g (lw_at lw_m7 216 rfl) rfl
theorem q1808 : (Jvm.Cond.fieldLink "BranchNamesModel" (130 : Nat) "BranchNamesModel" "whyPlaces" "[I") ∈ lw_all := lw_g (lw_at lw_m7 217 rfl) rfl
theorem q1809 : (Jvm.Cond.fieldLink "BranchNamesModel" (478 : Nat) "BranchNamesModel" "troubled" "I") ∈ lw_all := lw_g (lw_at lw_m7 218 rfl) rfl
theorem q1810 : (Jvm.Cond.fieldLink "BranchNamesModel" (505 : Nat) "BranchNamesModel" "whyMany" "I") ∈ lw_all := lw_g (lw_at lw_m7 219 rfl) rfl
theorem q1811 : (Jvm.Cond.fieldLink "BranchNamesModel" (133 : Nat) "BranchNamesModel" "sorts" "[I") ∈ lw_all := lw_g (lw_at lw_m7 220 rfl) rfl
theorem q1812 : (Jvm.Cond.fieldLink "BranchNamesModel" (136 : Nat) "BranchNamesModel" "rowMany" "[I") ∈ lw_all := lw_g (lw_at lw_m7 221 rfl) rfl
theorem q1813 : (Jvm.Cond.fieldLink "BranchNamesModel" (139 : Nat) "BranchNamesModel" "items" "[J") ∈ lw_all := lw_g (lw_at lw_m7 222 rfl) rfl
theorem q1814 : (Jvm.Cond.fieldLink "BranchNamesModel" (142 : Nat) "BranchNamesModel" "moved" "[J") ∈ lw_all := lw_g (lw_at lw_m7 223 rfl) rfl
theorem q1815 : (Jvm.Cond.laysFinal "BranchNamesModel" "BranchNamesModel" "bonds" "[I") ∈ lw_all := lw_g (lw_at lw_m7 224 rfl) rfl
theorem q1816 : (Jvm.Cond.soleField "BranchNamesModel" "bonds") ∈ lw_all := lw_g (lw_at lw_m7 225 rfl) rfl
theorem q1817 : (Jvm.Cond.lays "BranchNamesModel" "BranchNamesModel" "many" "I") ∈ lw_all := lw_g (lw_at lw_m7 226 rfl) rfl
theorem q1818 : (Jvm.Cond.soleField "BranchNamesModel" "many") ∈ lw_all := lw_g (lw_at lw_m7 227 rfl) rfl
theorem q1819 : (Jvm.Cond.laysFinal "BranchNamesModel" "BranchNamesModel" "drawing" "[I") ∈ lw_all := lw_g (lw_at lw_m7 228 rfl) rfl
theorem q1820 : (Jvm.Cond.soleField "BranchNamesModel" "drawing") ∈ lw_all := lw_g (lw_at lw_m7 229 rfl) rfl
theorem q1821 : (Jvm.Cond.lays "BranchNamesModel" "BranchNamesModel" "drawnMany" "I") ∈ lw_all := lw_g (lw_at lw_m7 230 rfl) rfl
theorem q1822 : (Jvm.Cond.soleField "BranchNamesModel" "drawnMany") ∈ lw_all := lw_g (lw_at lw_m7 231 rfl) rfl
theorem q1823 : (Jvm.Cond.laysFinal "BranchNamesModel" "BranchNamesModel" "kept" "[I") ∈ lw_all := lw_g (lw_at lw_m7 232 rfl) rfl
theorem q1824 : (Jvm.Cond.soleField "BranchNamesModel" "kept") ∈ lw_all := lw_g (lw_at lw_m7 233 rfl) rfl
theorem q1825 : (Jvm.Cond.lays "BranchNamesModel" "BranchNamesModel" "keptMany" "I") ∈ lw_all := lw_g (lw_at lw_m7 234 rfl) rfl
theorem q1826 : (Jvm.Cond.soleField "BranchNamesModel" "keptMany") ∈ lw_all := lw_g (lw_at lw_m7 235 rfl) rfl
theorem q1827 : (Jvm.Cond.lays "BranchNamesModel" "BranchNamesModel" "place" "I") ∈ lw_all := lw_g (lw_at lw_m7 236 rfl) rfl
theorem q1828 : (Jvm.Cond.soleField "BranchNamesModel" "place") ∈ lw_all := lw_g (lw_at lw_m7 237 rfl) rfl
theorem q1829 : (Jvm.Cond.lays "BranchNamesModel" "BranchNamesModel" "digits" "I") ∈ lw_all := lw_g (lw_at lw_m7 238 rfl) rfl
theorem q1830 : (Jvm.Cond.soleField "BranchNamesModel" "digits") ∈ lw_all := lw_g (lw_at lw_m7 239 rfl) rfl
theorem q1831 : (Jvm.Cond.lays "BranchNamesModel" "BranchNamesModel" "told" "I") ∈ lw_all := lw_g (lw_at lw_m8 0 rfl) rfl
theorem q1832 : (Jvm.Cond.soleField "BranchNamesModel" "told") ∈ lw_all := lw_g (lw_at lw_m8 1 rfl) rfl
theorem q1833 : (Jvm.Cond.lays "BranchNamesModel" "BranchNamesModel" "isListed" "Z") ∈ lw_all := lw_g (lw_at lw_m8 2 rfl) rfl
theorem q1834 : (Jvm.Cond.soleField "BranchNamesModel" "isListed") ∈ lw_all := lw_g (lw_at lw_m8 3 rfl) rfl
theorem q1835 : (Jvm.Cond.laysFinal "BranchNamesModel" "BranchNamesModel" "keys" "[I") ∈ lw_all := lw_g (lw_at lw_m8 4 rfl) rfl
theorem q1836 : (Jvm.Cond.soleField "BranchNamesModel" "keys") ∈ lw_all := lw_g (lw_at lw_m8 5 rfl) rfl
theorem q1837 : (Jvm.Cond.laysFinal "BranchNamesModel" "BranchNamesModel" "listMany" "[I") ∈ lw_all := lw_g (lw_at lw_m8 6 rfl) rfl
theorem q1838 : (Jvm.Cond.soleField "BranchNamesModel" "listMany") ∈ lw_all := lw_g (lw_at lw_m8 7 rfl) rfl
theorem q1839 : (Jvm.Cond.laysFinal "BranchNamesModel" "BranchNamesModel" "seen" "[I") ∈ lw_all := lw_g (lw_at lw_m8 8 rfl) rfl
theorem q1840 : (Jvm.Cond.soleField "BranchNamesModel" "seen") ∈ lw_all := lw_g (lw_at lw_m8 9 rfl) rfl
theorem q1841 : (Jvm.Cond.laysFinal "BranchNamesModel" "BranchNamesModel" "measures" "[I") ∈ lw_all := lw_g (lw_at lw_m8 10 rfl) rfl
theorem q1842 : (Jvm.Cond.soleField "BranchNamesModel" "measures") ∈ lw_all := lw_g (lw_at lw_m8 11 rfl) rfl
theorem q1843 : (Jvm.Cond.laysFinal "BranchNamesModel" "BranchNamesModel" "twigs" "[J") ∈ lw_all := lw_g (lw_at lw_m8 12 rfl) rfl
theorem q1844 : (Jvm.Cond.soleField "BranchNamesModel" "twigs") ∈ lw_all := lw_g (lw_at lw_m8 13 rfl) rfl
theorem q1845 : (Jvm.Cond.laysFinal "BranchNamesModel" "BranchNamesModel" "chain" "[I") ∈ lw_all := lw_g (lw_at lw_m8 14 rfl) rfl
theorem q1846 : (Jvm.Cond.soleField "BranchNamesModel" "chain") ∈ lw_all := lw_g (lw_at lw_m8 15 rfl) rfl
theorem q1847 : (Jvm.Cond.lays "BranchNamesModel" "BranchNamesModel" "length" "I") ∈ lw_all := lw_g (lw_at lw_m8 16 rfl) rfl
theorem q1848 : (Jvm.Cond.soleField "BranchNamesModel" "length") ∈ lw_all := lw_g (lw_at lw_m8 17 rfl) rfl
theorem q1849 : (Jvm.Cond.laysFinal "BranchNamesModel" "BranchNamesModel" "numbers" "[I") ∈ lw_all := lw_g (lw_at lw_m8 18 rfl) rfl
theorem q1850 : (Jvm.Cond.soleField "BranchNamesModel" "numbers") ∈ lw_all := lw_g (lw_at lw_m8 19 rfl) rfl
theorem q1851 : (Jvm.Cond.laysFinal "BranchNamesModel" "BranchNamesModel" "text" "[I") ∈ lw_all := lw_g (lw_at lw_m8 20 rfl) rfl
theorem q1852 : (Jvm.Cond.soleField "BranchNamesModel" "text") ∈ lw_all := lw_g (lw_at lw_m8 21 rfl) rfl
theorem q1853 : (Jvm.Cond.lays "BranchNamesModel" "BranchNamesModel" "top" "I") ∈ lw_all := lw_g (lw_at lw_m8 22 rfl) rfl
theorem q1854 : (Jvm.Cond.soleField "BranchNamesModel" "top") ∈ lw_all := lw_g (lw_at lw_m8 23 rfl) rfl
theorem q1855 : (Jvm.Cond.laysFinal "BranchNamesModel" "BranchNamesModel" "stems" "Ljava/lang/String;") ∈ lw_all := lw_g (lw_at lw_m8 24 rfl) rfl
theorem q1856 : (Jvm.Cond.soleField "BranchNamesModel" "stems") ∈ lw_all := lw_g (lw_at lw_m8 25 rfl) rfl
theorem q1857 : (Jvm.Cond.laysFinal "BranchNamesModel" "BranchNamesModel" "manys" "Ljava/lang/String;") ∈ lw_all := lw_g (lw_at lw_m8 26 rfl) rfl
theorem q1858 : (Jvm.Cond.soleField "BranchNamesModel" "manys") ∈ lw_all := lw_g (lw_at lw_m8 27 rfl) rfl
theorem q1859 : (Jvm.Cond.laysFinal "BranchNamesModel" "BranchNamesModel" "at" "[I") ∈ lw_all := lw_g (lw_at lw_m8 28 rfl) rfl
theorem q1860 : (Jvm.Cond.soleField "BranchNamesModel" "at") ∈ lw_all := lw_g (lw_at lw_m8 29 rfl) rfl
theorem q1861 : (Jvm.Cond.laysFinal "BranchNamesModel" "BranchNamesModel" "starts" "[I") ∈ lw_all := lw_g (lw_at lw_m8 30 rfl) rfl
theorem q1862 : (Jvm.Cond.soleField "BranchNamesModel" "starts") ∈ lw_all := lw_g (lw_at lw_m8 31 rfl) rfl
theorem q1863 : (Jvm.Cond.laysFinal "BranchNamesModel" "BranchNamesModel" "sizes" "[I") ∈ lw_all := lw_g (lw_at lw_m8 32 rfl) rfl
theorem q1864 : (Jvm.Cond.soleField "BranchNamesModel" "sizes") ∈ lw_all := lw_g (lw_at lw_m8 33 rfl) rfl
theorem q1865 : (Jvm.Cond.laysFinal "BranchNamesModel" "BranchNamesModel" "chains" "[I") ∈ lw_all := lw_g (lw_at lw_m8 34 rfl) rfl
theorem q1866 : (Jvm.Cond.soleField "BranchNamesModel" "chains") ∈ lw_all := lw_g (lw_at lw_m8 35 rfl) rfl
theorem q1867 : (Jvm.Cond.lays "BranchNamesModel" "BranchNamesModel" "level" "I") ∈ lw_all := lw_g (lw_at lw_m8 36 rfl) rfl
theorem q1868 : (Jvm.Cond.soleField "BranchNamesModel" "level") ∈ lw_all := lw_g (lw_at lw_m8 37 rfl) rfl
theorem q1869 : (Jvm.Cond.laysFinal "BranchNamesModel" "BranchNamesModel" "bestLength" "[I") ∈ lw_all := lw_g (lw_at lw_m8 38 rfl) rfl
theorem q1870 : (Jvm.Cond.soleField "BranchNamesModel" "bestLength") ∈ lw_all := lw_g (lw_at lw_m8 39 rfl) rfl
theorem q1871 : (Jvm.Cond.laysFinal "BranchNamesModel" "BranchNamesModel" "bestBranches" "[I") ∈ lw_all := lw_g (lw_at lw_m8 40 rfl) rfl
theorem q1872 : (Jvm.Cond.soleField "BranchNamesModel" "bestBranches") ∈ lw_all := lw_g (lw_at lw_m8 41 rfl) rfl
theorem q1873 : (Jvm.Cond.laysFinal "BranchNamesModel" "BranchNamesModel" "bestNumbers" "[I") ∈ lw_all := lw_g (lw_at lw_m8 42 rfl) rfl
theorem q1874 : (Jvm.Cond.soleField "BranchNamesModel" "bestNumbers") ∈ lw_all := lw_g (lw_at lw_m8 43 rfl) rfl
theorem q1875 : (Jvm.Cond.laysFinal "BranchNamesModel" "BranchNamesModel" "tape" "[I") ∈ lw_all := lw_g (lw_at lw_m8 44 rfl) rfl
theorem q1876 : (Jvm.Cond.soleField "BranchNamesModel" "tape") ∈ lw_all := lw_g (lw_at lw_m8 45 rfl) rfl
theorem q1877 : (Jvm.Cond.lays "BranchNamesModel" "BranchNamesModel" "taped" "I") ∈ lw_all := lw_g (lw_at lw_m8 46 rfl) rfl
theorem q1878 : (Jvm.Cond.soleField "BranchNamesModel" "taped") ∈ lw_all := lw_g (lw_at lw_m8 47 rfl) rfl
theorem q1879 : (Jvm.Cond.lays "BranchNamesModel" "BranchNamesModel" "reads" "I") ∈ lw_all := lw_g (lw_at lw_m8 48 rfl) rfl
theorem q1880 : (Jvm.Cond.soleField "BranchNamesModel" "reads") ∈ lw_all := lw_g (lw_at lw_m8 49 rfl) rfl
theorem q1881 : (Jvm.Cond.lays "BranchNamesModel" "BranchNamesModel" "readsWell" "I") ∈ lw_all := lw_g (lw_at lw_m8 50 rfl) rfl
theorem q1882 : (Jvm.Cond.soleField "BranchNamesModel" "readsWell") ∈ lw_all := lw_g (lw_at lw_m8 51 rfl) rfl
theorem q1883 : (Jvm.Cond.lays "BranchNamesModel" "BranchNamesModel" "here" "I") ∈ lw_all := lw_g (lw_at lw_m8 52 rfl) rfl
theorem q1884 : (Jvm.Cond.soleField "BranchNamesModel" "here") ∈ lw_all := lw_g (lw_at lw_m8 53 rfl) rfl
theorem q1885 : (Jvm.Cond.lays "BranchNamesModel" "BranchNamesModel" "reach" "I") ∈ lw_all := lw_g (lw_at lw_m8 54 rfl) rfl
theorem q1886 : (Jvm.Cond.soleField "BranchNamesModel" "reach") ∈ lw_all := lw_g (lw_at lw_m8 55 rfl) rfl
theorem q1887 : (Jvm.Cond.lays "BranchNamesModel" "BranchNamesModel" "partMany" "I") ∈ lw_all := lw_g (lw_at lw_m8 56 rfl) rfl
theorem q1888 : (Jvm.Cond.soleField "BranchNamesModel" "partMany") ∈ lw_all := lw_g (lw_at lw_m8 57 rfl) rfl
theorem q1889 : (Jvm.Cond.laysFinal "BranchNamesModel" "BranchNamesModel" "partGroup" "[I") ∈ lw_all := lw_g (lw_at lw_m8 58 rfl) rfl
theorem q1890 : (Jvm.Cond.soleField "BranchNamesModel" "partGroup") ∈ lw_all := lw_g (lw_at lw_m8 59 rfl) rfl
theorem q1891 : (Jvm.Cond.laysFinal "BranchNamesModel" "BranchNamesModel" "partPlace" "[I") ∈ lw_all := lw_g (lw_at lw_m8 60 rfl) rfl
theorem q1892 : (Jvm.Cond.soleField "BranchNamesModel" "partPlace") ∈ lw_all := lw_g (lw_at lw_m8 61 rfl) rfl
theorem q1893 : (Jvm.Cond.laysFinal "BranchNamesModel" "BranchNamesModel" "partMost" "[I") ∈ lw_all := lw_g (lw_at lw_m8 62 rfl) rfl
theorem q1894 : (Jvm.Cond.soleField "BranchNamesModel" "partMost") ∈ lw_all := lw_g (lw_at lw_m8 63 rfl) rfl
theorem q1895 : (Jvm.Cond.laysFinal "BranchNamesModel" "BranchNamesModel" "partStem" "[I") ∈ lw_all := lw_g (lw_at lw_m8 64 rfl) rfl
theorem q1896 : (Jvm.Cond.soleField "BranchNamesModel" "partStem") ∈ lw_all := lw_g (lw_at lw_m8 65 rfl) rfl
theorem q1897 : (Jvm.Cond.laysFinal "BranchNamesModel" "BranchNamesModel" "partInner" "[I") ∈ lw_all := lw_g (lw_at lw_m8 66 rfl) rfl
theorem q1898 : (Jvm.Cond.soleField "BranchNamesModel" "partInner") ∈ lw_all := lw_g (lw_at lw_m8 67 rfl) rfl
theorem q1899 : (Jvm.Cond.laysFinal "BranchNamesModel" "BranchNamesModel" "partFrom" "[I") ∈ lw_all := lw_g (lw_at lw_m8 68 rfl) rfl
theorem q1900 : (Jvm.Cond.soleField "BranchNamesModel" "partFrom") ∈ lw_all := lw_g (lw_at lw_m8 69 rfl) rfl
theorem q1901 : (Jvm.Cond.laysFinal "BranchNamesModel" "BranchNamesModel" "partTold" "[I") ∈ lw_all := lw_g (lw_at lw_m8 70 rfl) rfl
theorem q1902 : (Jvm.Cond.soleField "BranchNamesModel" "partTold") ∈ lw_all := lw_g (lw_at lw_m8 71 rfl) rfl
theorem q1903 : (Jvm.Cond.laysFinal "BranchNamesModel" "BranchNamesModel" "toldNumbers" "[I") ∈ lw_all := lw_g (lw_at lw_m8 72 rfl) rfl
theorem q1904 : (Jvm.Cond.soleField "BranchNamesModel" "toldNumbers") ∈ lw_all := lw_g (lw_at lw_m8 73 rfl) rfl
theorem q1905 : (Jvm.Cond.lays "BranchNamesModel" "BranchNamesModel" "toldMany" "I") ∈ lw_all := lw_g (lw_at lw_m8 74 rfl) rfl
theorem q1906 : (Jvm.Cond.soleField "BranchNamesModel" "toldMany") ∈ lw_all := lw_g (lw_at lw_m8 75 rfl) rfl
theorem q1907 : (Jvm.Cond.lays "BranchNamesModel" "BranchNamesModel" "groups" "I") ∈ lw_all := lw_g (lw_at lw_m8 76 rfl) rfl
theorem q1908 : (Jvm.Cond.soleField "BranchNamesModel" "groups") ∈ lw_all := lw_g (lw_at lw_m8 77 rfl) rfl
theorem q1909 : (Jvm.Cond.laysFinal "BranchNamesModel" "BranchNamesModel" "groupStem" "[I") ∈ lw_all := lw_g (lw_at lw_m8 78 rfl) rfl
theorem q1910 : (Jvm.Cond.soleField "BranchNamesModel" "groupStem") ∈ lw_all := lw_g (lw_at lw_m8 79 rfl) rfl
theorem q1911 : (Jvm.Cond.laysFinal "BranchNamesModel" "BranchNamesModel" "madeMany" "[I") ∈ lw_all := lw_g (lw_at lw_m8 80 rfl) rfl
theorem q1912 : (Jvm.Cond.soleField "BranchNamesModel" "madeMany") ∈ lw_all := lw_g (lw_at lw_m8 81 rfl) rfl
theorem q1913 : (Jvm.Cond.laysFinal "BranchNamesModel" "BranchNamesModel" "madeOn" "[I") ∈ lw_all := lw_g (lw_at lw_m8 82 rfl) rfl
theorem q1914 : (Jvm.Cond.soleField "BranchNamesModel" "madeOn") ∈ lw_all := lw_g (lw_at lw_m8 83 rfl) rfl
theorem q1915 : (Jvm.Cond.laysFinal "BranchNamesModel" "BranchNamesModel" "madeBonds" "[I") ∈ lw_all := lw_g (lw_at lw_m8 84 rfl) rfl
theorem q1916 : (Jvm.Cond.soleField "BranchNamesModel" "madeBonds") ∈ lw_all := lw_g (lw_at lw_m8 85 rfl) rfl
theorem q1917 : (Jvm.Cond.laysFinal "BranchNamesModel" "BranchNamesModel" "troubles" "[I") ∈ lw_all := lw_g (lw_at lw_m8 86 rfl) rfl
theorem q1918 : (Jvm.Cond.soleField "BranchNamesModel" "troubles") ∈ lw_all := lw_g (lw_at lw_m8 87 rfl) rfl
theorem q1919 : (Jvm.Cond.laysFinal "BranchNamesModel" "BranchNamesModel" "places" "[I") ∈ lw_all := lw_g (lw_at lw_m8 88 rfl) rfl
theorem q1920 : (Jvm.Cond.soleField "BranchNamesModel" "places") ∈ lw_all := lw_g (lw_at lw_m8 89 rfl) rfl
theorem q1921 : (Jvm.Cond.laysFinal "BranchNamesModel" "BranchNamesModel" "whys" "[I") ∈ lw_all := lw_g (lw_at lw_m8 90 rfl) rfl
theorem q1922 : (Jvm.Cond.soleField "BranchNamesModel" "whys") ∈ lw_all := lw_g (lw_at lw_m8 91 rfl) rfl
theorem q1923 : (Jvm.Cond.laysFinal "BranchNamesModel" "BranchNamesModel" "whyPlaces" "[I") ∈ lw_all := lw_g (lw_at lw_m8 92 rfl) rfl
theorem q1924 : (Jvm.Cond.soleField "BranchNamesModel" "whyPlaces") ∈ lw_all := lw_g (lw_at lw_m8 93 rfl) rfl
theorem q1925 : (Jvm.Cond.lays "BranchNamesModel" "BranchNamesModel" "troubled" "I") ∈ lw_all := lw_g (lw_at lw_m8 94 rfl) rfl
theorem q1926 : (Jvm.Cond.soleField "BranchNamesModel" "troubled") ∈ lw_all := lw_g (lw_at lw_m8 95 rfl) rfl
theorem q1927 : (Jvm.Cond.lays "BranchNamesModel" "BranchNamesModel" "whyMany" "I") ∈ lw_all := lw_g (lw_at lw_m8 96 rfl) rfl
theorem q1928 : (Jvm.Cond.soleField "BranchNamesModel" "whyMany") ∈ lw_all := lw_g (lw_at lw_m8 97 rfl) rfl
theorem q1929 : (Jvm.Cond.laysFinal "BranchNamesModel" "BranchNamesModel" "sorts" "[I") ∈ lw_all := lw_g (lw_at lw_m8 98 rfl) rfl
theorem q1930 : (Jvm.Cond.soleField "BranchNamesModel" "sorts") ∈ lw_all := lw_g (lw_at lw_m8 99 rfl) rfl
theorem q1931 : (Jvm.Cond.laysFinal "BranchNamesModel" "BranchNamesModel" "rowMany" "[I") ∈ lw_all := lw_g (lw_at lw_m8 100 rfl) rfl
theorem q1932 : (Jvm.Cond.soleField "BranchNamesModel" "rowMany") ∈ lw_all := lw_g (lw_at lw_m8 101 rfl) rfl
theorem q1933 : (Jvm.Cond.laysFinal "BranchNamesModel" "BranchNamesModel" "items" "[J") ∈ lw_all := lw_g (lw_at lw_m8 102 rfl) rfl
theorem q1934 : (Jvm.Cond.soleField "BranchNamesModel" "items") ∈ lw_all := lw_g (lw_at lw_m8 103 rfl) rfl
theorem q1935 : (Jvm.Cond.laysFinal "BranchNamesModel" "BranchNamesModel" "moved" "[J") ∈ lw_all := lw_g (lw_at lw_m8 104 rfl) rfl
theorem q1936 : (Jvm.Cond.soleField "BranchNamesModel" "moved") ∈ lw_all := lw_g (lw_at lw_m8 105 rfl) rfl
theorem q1937 : (Jvm.Cond.superclass "BranchNamesModel" "java/lang/Object") ∈ lw_all := lw_g (lw_at lw_m8 106 rfl) rfl
theorem q1939 : (Jvm.Cond.instanceMethod ({ cls := "BranchNamesModel", name := "grow", desc := "(I)I" } : Jvm.MethodName)) ∈ lw_all := lw_g (lw_at lw_m8 108 rfl) rfl
theorem q1940 : (Jvm.Cond.selects "BranchNamesModel" ({ cls := "BranchNamesModel", name := "grow", desc := "(I)I" } : Jvm.MethodName) ({ cls := "BranchNamesModel", name := "grow", desc := "(I)I" } : Jvm.MethodName)) ∈ lw_all := lw_g (lw_at lw_m8 109 rfl) rfl
theorem q1941 : (Jvm.Cond.code ({ cls := "BranchNamesModel", name := "grow", desc := "(I)I" } : Jvm.MethodName) prog_22_method_28_code (2 : Nat) (Option.some Jvm.ClassFile.FieldType.int)) ∈ lw_all := lw_g (lw_at lw_m8 110 rfl) rfl
theorem q1942 : (Jvm.Cond.methodLink "BranchNamesModel" (244 : Nat) ({ cls := "BranchNamesModel", name := "isAtom", desc := "(I)Z" } : Jvm.MethodName)) ∈ lw_all := lw_g (lw_at lw_m8 111 rfl) rfl
theorem q1943 : (Jvm.Cond.privateMethod ({ cls := "BranchNamesModel", name := "isAtom", desc := "(I)Z" } : Jvm.MethodName)) ∈ lw_tbl := lw_at lw_m8 112 rfl
theorem q1944 : (Jvm.Cond.instanceMethod ({ cls := "BranchNamesModel", name := "isAtom", desc := "(I)Z" } : Jvm.MethodName)) ∈ lw_all := lw_g (lw_at lw_m8 113 rfl) rfl
theorem q1945 : (Jvm.Cond.code ({ cls := "BranchNamesModel", name := "isAtom", desc := "(I)Z" } : Jvm.MethodName) prog_22_method_6_code (2 : Nat) (Option.some Jvm.ClassFile.FieldType.boolean)) ∈ lw_all := lw_g (lw_at lw_m8 114 rfl) rfl
theorem q1946 : (Jvm.Cond.methodLink "BranchNamesModel" (148 : Nat) ({ cls := "BranchNamesModel", name := "isIn", desc := "(JJJ)Z" } : Jvm.MethodName)) ∈ lw_all := lw_g (lw_at lw_m8 115 rfl) rfl
theorem q1947 : (Jvm.Cond.static ({ cls := "BranchNamesModel", name := "isIn", desc := "(JJJ)Z" } : Jvm.MethodName)) ∈ lw_all := lw_g (lw_at lw_m8 116 rfl) rfl
theorem q1948 : (Jvm.Cond.code ({ cls := "BranchNamesModel", name := "isIn", desc := "(JJJ)Z" } : Jvm.MethodName) prog_22_method_2_code (6 : Nat) (Option.some Jvm.ClassFile.FieldType.boolean)) ∈ lw_all := lw_g (lw_at lw_m8 117 rfl) rfl
theorem q1949 : (Jvm.Cond.methodLink "BranchNamesModel" (160 : Nat) ({ cls := "java/lang/Integer", name := "bitCount", desc := "(I)I" } : Jvm.MethodName)) ∈ lw_all := lw_g (lw_at lw_m8 118 rfl) rfl
theorem q1955 : (Jvm.Cond.methodLink "BranchNamesModel" (241 : Nat) ({ cls := "BranchNamesModel", name := "looksAtDrawing", desc := "()V" } : Jvm.MethodName)) ∈ lw_all := lw_g (lw_at lw_m8 124 rfl) rfl
theorem q1956 : (Jvm.Cond.privateMethod ({ cls := "BranchNamesModel", name := "looksAtDrawing", desc := "()V" } : Jvm.MethodName)) ∈ lw_tbl := lw_at lw_m8 125 rfl
theorem q1957 : (Jvm.Cond.instanceMethod ({ cls := "BranchNamesModel", name := "looksAtDrawing", desc := "()V" } : Jvm.MethodName)) ∈ lw_all := lw_g (lw_at lw_m8 126 rfl) rfl
theorem q1958 : (Jvm.Cond.code ({ cls := "BranchNamesModel", name := "looksAtDrawing", desc := "()V" } : Jvm.MethodName) prog_22_method_3_code (2 : Nat) (Option.none : Option Jvm.ClassFile.FieldType)) ∈ lw_all := lw_g (lw_at lw_m8 127 rfl) rfl
theorem q1959 : (Jvm.Cond.methodLink "BranchNamesModel" (206 : Nat) ({ cls := "BranchNamesModel", name := "binds", desc := "(II)V" } : Jvm.MethodName)) ∈ lw_all := lw_g (lw_at lw_m8 128 rfl) rfl
theorem q1960 : (Jvm.Cond.privateMethod ({ cls := "BranchNamesModel", name := "binds", desc := "(II)V" } : Jvm.MethodName)) ∈ lw_tbl := lw_at lw_m8 129 rfl
theorem q1961 : (Jvm.Cond.instanceMethod ({ cls := "BranchNamesModel", name := "binds", desc := "(II)V" } : Jvm.MethodName)) ∈ lw_all := lw_g (lw_at lw_m8 130 rfl) rfl
theorem q1962 : (Jvm.Cond.code ({ cls := "BranchNamesModel", name := "binds", desc := "(II)V" } : Jvm.MethodName) prog_22_method_7_code (3 : Nat) (Option.none : Option Jvm.ClassFile.FieldType)) ∈ lw_all := lw_g (lw_at lw_m8 131 rfl) rfl
theorem q1963 : (Jvm.Cond.methodLink "BranchNamesModel" (247 : Nat) ({ cls := "BranchNamesModel", name := "draws", desc := "()V" } : Jvm.MethodName)) ∈ lw_all := lw_g (lw_at lw_m8 132 rfl) rfl
theorem q1964 : (Jvm.Cond.privateMethod ({ cls := "BranchNamesModel", name := "draws", desc := "()V" } : Jvm.MethodName)) ∈ lw_tbl := lw_at lw_m8 133 rfl
theorem q1965 : (Jvm.Cond.instanceMethod ({ cls := "BranchNamesModel", name := "draws", desc := "()V" } : Jvm.MethodName)) ∈ lw_all := lw_g (lw_at lw_m8 134 rfl) rfl
theorem q1966 : (Jvm.Cond.code ({ cls := "BranchNamesModel", name := "draws", desc := "()V" } : Jvm.MethodName) prog_22_method_4_code (2 : Nat) (Option.none : Option Jvm.ClassFile.FieldType)) ∈ lw_all := lw_g (lw_at lw_m8 135 rfl) rfl
theorem q1968 : (Jvm.Cond.instanceMethod ({ cls := "BranchNamesModel", name := "cut", desc := "(I)I" } : Jvm.MethodName)) ∈ lw_all := lw_g (lw_at lw_m8 137 rfl) rfl
theorem q1969 : (Jvm.Cond.selects "BranchNamesModel" ({ cls := "BranchNamesModel", name := "cut", desc := "(I)I" } : Jvm.MethodName) ({ cls := "BranchNamesModel", name := "cut", desc := "(I)I" } : Jvm.MethodName)) ∈ lw_all := lw_g (lw_at lw_m8 138 rfl) rfl
theorem q1970 : (Jvm.Cond.code ({ cls := "BranchNamesModel", name := "cut", desc := "(I)I" } : Jvm.MethodName) prog_22_method_29_code (5 : Nat) (Option.some Jvm.ClassFile.FieldType.int)) ∈ lw_all := lw_g (lw_at lw_m8 139 rfl) rfl
theorem q1971 : (Jvm.Cond.methodLink "BranchNamesModel" (250 : Nat) ({ cls := "java/lang/Integer", name := "numberOfTrailingZeros", desc := "(I)I" } : Jvm.MethodName)) ∈ lw_all := lw_g (lw_at lw_m8 140 rfl) rfl
theorem q1975 : (Jvm.Cond.methodLink "BranchNamesModel" (152 : Nat) ({ cls := "BranchNamesModel", name := "has", desc := "(II)Z" } : Jvm.MethodName)) ∈ lw_all := lw_g (lw_at lw_m8 144 rfl) rfl
theorem q1976 : (Jvm.Cond.static ({ cls := "BranchNamesModel", name := "has", desc := "(II)Z" } : Jvm.MethodName)) ∈ lw_all := lw_g (lw_at lw_m8 145 rfl) rfl
theorem q1977 : (Jvm.Cond.code ({ cls := "BranchNamesModel", name := "has", desc := "(II)Z" } : Jvm.MethodName) prog_22_method_5_code (2 : Nat) (Option.some Jvm.ClassFile.FieldType.boolean)) ∈ lw_all := lw_g (lw_at lw_m8 146 rfl) rfl
theorem q1979 : (Jvm.Cond.instanceMethod ({ cls := "BranchNamesModel", name := "take", desc := "(II)I" } : Jvm.MethodName)) ∈ lw_all := lw_g (lw_at lw_m8 148 rfl) rfl
theorem q1980 : (Jvm.Cond.selects "BranchNamesModel" ({ cls := "BranchNamesModel", name := "take", desc := "(II)I" } : Jvm.MethodName) ({ cls := "BranchNamesModel", name := "take", desc := "(II)I" } : Jvm.MethodName)) ∈ lw_all := lw_g (lw_at lw_m8 149 rfl) rfl
theorem q1981 : (Jvm.Cond.code ({ cls := "BranchNamesModel", name := "take", desc := "(II)I" } : Jvm.MethodName) prog_22_method_30_code (3 : Nat) (Option.some Jvm.ClassFile.FieldType.int)) ∈ lw_all := lw_g (lw_at lw_m8 150 rfl) rfl
theorem q1982 : (Jvm.Cond.methodLink "BranchNamesModel" (253 : Nat) ({ cls := "BranchNamesModel", name := "isListed", desc := "(II)Z" } : Jvm.MethodName)) ∈ lw_all := lw_g (lw_at lw_m8 151 rfl) rfl
theorem q1983 : (Jvm.Cond.privateMethod ({ cls := "BranchNamesModel", name := "isListed", desc := "(II)Z" } : Jvm.MethodName)) ∈ lw_tbl := lw_at lw_m8 152 rfl
theorem q1984 : (Jvm.Cond.instanceMethod ({ cls := "BranchNamesModel", name := "isListed", desc := "(II)Z" } : Jvm.MethodName)) ∈ lw_all := lw_g (lw_at lw_m8 153 rfl) rfl
theorem q1985 : (Jvm.Cond.code ({ cls := "BranchNamesModel", name := "isListed", desc := "(II)Z" } : Jvm.MethodName) prog_22_method_23_code (3 : Nat) (Option.some Jvm.ClassFile.FieldType.boolean)) ∈ lw_all := lw_g (lw_at lw_m8 154 rfl) rfl
theorem q1986 : (Jvm.Cond.methodLink "BranchNamesModel" (232 : Nat) ({ cls := "BranchNamesModel", name := "isListOf", desc := "(I)Z" } : Jvm.MethodName)) ∈ lw_all := lw_g (lw_at lw_m8 155 rfl) rfl
theorem q1987 : (Jvm.Cond.privateMethod ({ cls := "BranchNamesModel", name := "isListOf", desc := "(I)Z" } : Jvm.MethodName)) ∈ lw_tbl := lw_at lw_m8 156 rfl
theorem q1988 : (Jvm.Cond.instanceMethod ({ cls := "BranchNamesModel", name := "isListOf", desc := "(I)Z" } : Jvm.MethodName)) ∈ lw_all := lw_g (lw_at lw_m8 157 rfl) rfl
theorem q1989 : (Jvm.Cond.code ({ cls := "BranchNamesModel", name := "isListOf", desc := "(I)Z" } : Jvm.MethodName) prog_22_method_22_code (2 : Nat) (Option.some Jvm.ClassFile.FieldType.boolean)) ∈ lw_all := lw_g (lw_at lw_m8 158 rfl) rfl
theorem q1990 : (Jvm.Cond.methodLink "BranchNamesModel" (227 : Nat) ({ cls := "BranchNamesModel", name := "lists", desc := "()V" } : Jvm.MethodName)) ∈ lw_all := lw_g (lw_at lw_m8 159 rfl) rfl
theorem q1991 : (Jvm.Cond.privateMethod ({ cls := "BranchNamesModel", name := "lists", desc := "()V" } : Jvm.MethodName)) ∈ lw_tbl := lw_at lw_m8 160 rfl
theorem q1992 : (Jvm.Cond.instanceMethod ({ cls := "BranchNamesModel", name := "lists", desc := "()V" } : Jvm.MethodName)) ∈ lw_all := lw_g (lw_at lw_m8 161 rfl) rfl
theorem q1993 : (Jvm.Cond.code ({ cls := "BranchNamesModel", name := "lists", desc := "()V" } : Jvm.MethodName) prog_22_method_21_code (5 : Nat) (Option.none : Option Jvm.ClassFile.FieldType)) ∈ lw_all := lw_g (lw_at lw_m8 162 rfl) rfl
theorem q1994 : (Jvm.Cond.methodLink "BranchNamesModel" (218 : Nat) ({ cls := "BranchNamesModel", name := "keeps", desc := "(II)V" } : Jvm.MethodName)) ∈ lw_all := lw_g (lw_at lw_m8 163 rfl) rfl
theorem q1995 : (Jvm.Cond.privateMethod ({ cls := "BranchNamesModel", name := "keeps", desc := "(II)V" } : Jvm.MethodName)) ∈ lw_tbl := lw_at lw_m8 164 rfl
theorem q1996 : (Jvm.Cond.instanceMethod ({ cls := "BranchNamesModel", name := "keeps", desc := "(II)V" } : Jvm.MethodName)) ∈ lw_all := lw_g (lw_at lw_m8 165 rfl) rfl
theorem q1997 : (Jvm.Cond.code ({ cls := "BranchNamesModel", name := "keeps", desc := "(II)V" } : Jvm.MethodName) prog_22_method_20_code (6 : Nat) (Option.none : Option Jvm.ClassFile.FieldType)) ∈ lw_all := lw_g (lw_at lw_m8 166 rfl) rfl
theorem q1998 : (Jvm.Cond.methodLink "BranchNamesModel" (221 : Nat) ({ cls := "BranchNamesModel", name := "comesFrom", desc := "(II)Z" } : Jvm.MethodName)) ∈ lw_all := lw_g (lw_at lw_m8 167 rfl) rfl
theorem q1999 : (Jvm.Cond.privateMethod ({ cls := "BranchNamesModel", name := "comesFrom", desc := "(II)Z" } : Jvm.MethodName)) ∈ lw_tbl := lw_at lw_m8 168 rfl
theorem q2000 : (Jvm.Cond.instanceMethod ({ cls := "BranchNamesModel", name := "comesFrom", desc := "(II)Z" } : Jvm.MethodName)) ∈ lw_all := lw_g (lw_at lw_m8 169 rfl) rfl
theorem q2001 : (Jvm.Cond.code ({ cls := "BranchNamesModel", name := "comesFrom", desc := "(II)Z" } : Jvm.MethodName) prog_22_method_19_code (4 : Nat) (Option.some Jvm.ClassFile.FieldType.boolean)) ∈ lw_all := lw_g (lw_at lw_m8 170 rfl) rfl
theorem q2002 : (Jvm.Cond.methodLink "BranchNamesModel" (177 : Nat) ({ cls := "BranchNamesModel", name := "power", desc := "(I)I" } : Jvm.MethodName)) ∈ lw_all := lw_g (lw_at lw_m8 171 rfl) rfl
theorem q2003 : (Jvm.Cond.static ({ cls := "BranchNamesModel", name := "power", desc := "(I)I" } : Jvm.MethodName)) ∈ lw_all := lw_g (lw_at lw_m8 172 rfl) rfl
theorem q2004 : (Jvm.Cond.code ({ cls := "BranchNamesModel", name := "power", desc := "(I)I" } : Jvm.MethodName) prog_22_method_8_code (3 : Nat) (Option.some Jvm.ClassFile.FieldType.int)) ∈ lw_all := lw_g (lw_at lw_m8 173 rfl) rfl
theorem q2005 : (Jvm.Cond.methodLink "BranchNamesModel" (210 : Nat) ({ cls := "BranchNamesModel", name := "grows", desc := "(I)Z" } : Jvm.MethodName)) ∈ lw_all := lw_g (lw_at lw_m8 174 rfl) rfl
theorem q2006 : (Jvm.Cond.privateMethod ({ cls := "BranchNamesModel", name := "grows", desc := "(I)Z" } : Jvm.MethodName)) ∈ lw_tbl := lw_at lw_m8 175 rfl
theorem q2007 : (Jvm.Cond.instanceMethod ({ cls := "BranchNamesModel", name := "grows", desc := "(I)Z" } : Jvm.MethodName)) ∈ lw_all := lw_g (lw_at lw_m8 176 rfl) rfl
theorem q2008 : (Jvm.Cond.code ({ cls := "BranchNamesModel", name := "grows", desc := "(I)Z" } : Jvm.MethodName) prog_22_method_18_code (6 : Nat) (Option.some Jvm.ClassFile.FieldType.boolean)) ∈ lw_all := lw_g (lw_at lw_m8 177 rfl) rfl
theorem q2009 : (Jvm.Cond.methodLink "BranchNamesModel" (203 : Nat) ({ cls := "BranchNamesModel", name := "digitAt", desc := "(I)I" } : Jvm.MethodName)) ∈ lw_all := lw_g (lw_at lw_m8 178 rfl) rfl
theorem q2010 : (Jvm.Cond.privateMethod ({ cls := "BranchNamesModel", name := "digitAt", desc := "(I)I" } : Jvm.MethodName)) ∈ lw_tbl := lw_at lw_m8 179 rfl
theorem q2011 : (Jvm.Cond.instanceMethod ({ cls := "BranchNamesModel", name := "digitAt", desc := "(I)I" } : Jvm.MethodName)) ∈ lw_all := lw_g (lw_at lw_m8 180 rfl) rfl
theorem q2012 : (Jvm.Cond.code ({ cls := "BranchNamesModel", name := "digitAt", desc := "(I)I" } : Jvm.MethodName) prog_22_method_17_code (2 : Nat) (Option.some Jvm.ClassFile.FieldType.int)) ∈ lw_all := lw_g (lw_at lw_m8 181 rfl) rfl
theorem q2013 : (Jvm.Cond.methodLink "BranchNamesModel" (169 : Nat) ({ cls := "BranchNamesModel", name := "codeOf", desc := "(II)I" } : Jvm.MethodName)) ∈ lw_all := lw_g (lw_at lw_m8 182 rfl) rfl
theorem q2014 : (Jvm.Cond.privateMethod ({ cls := "BranchNamesModel", name := "codeOf", desc := "(II)I" } : Jvm.MethodName)) ∈ lw_tbl := lw_at lw_m8 183 rfl
theorem q2015 : (Jvm.Cond.instanceMethod ({ cls := "BranchNamesModel", name := "codeOf", desc := "(II)I" } : Jvm.MethodName)) ∈ lw_all := lw_g (lw_at lw_m8 184 rfl) rfl
theorem q2016 : (Jvm.Cond.code ({ cls := "BranchNamesModel", name := "codeOf", desc := "(II)I" } : Jvm.MethodName) prog_22_method_11_code (10 : Nat) (Option.some Jvm.ClassFile.FieldType.int)) ∈ lw_all := lw_g (lw_at lw_m8 185 rfl) rfl
theorem q2017 : (Jvm.Cond.methodLink "BranchNamesModel" (166 : Nat) ({ cls := "BranchNamesModel", name := "twigsOf", desc := "(II)I" } : Jvm.MethodName)) ∈ lw_all := lw_g (lw_at lw_m8 186 rfl) rfl
theorem q2018 : (Jvm.Cond.privateMethod ({ cls := "BranchNamesModel", name := "twigsOf", desc := "(II)I" } : Jvm.MethodName)) ∈ lw_tbl := lw_at lw_m8 187 rfl
theorem q2019 : (Jvm.Cond.instanceMethod ({ cls := "BranchNamesModel", name := "twigsOf", desc := "(II)I" } : Jvm.MethodName)) ∈ lw_all := lw_g (lw_at lw_m8 188 rfl) rfl
theorem q2020 : (Jvm.Cond.code ({ cls := "BranchNamesModel", name := "twigsOf", desc := "(II)I" } : Jvm.MethodName) prog_22_method_10_code (3 : Nat) (Option.some Jvm.ClassFile.FieldType.int)) ∈ lw_all := lw_g (lw_at lw_m8 189 rfl) rfl
theorem q2021 : (Jvm.Cond.methodLink "BranchNamesModel" (172 : Nat) ({ cls := "java/lang/Math", name := "max", desc := "(II)I" } : Jvm.MethodName)) ∈ lw_all := lw_g (lw_at lw_m8 190 rfl) rfl
theorem q2022 : (Jvm.Cond.methodLink "BranchNamesModel" (156 : Nat) ({ cls := "BranchNamesModel", name := "sizeOf", desc := "(II)I" } : Jvm.MethodName)) ∈ lw_all := lw_g (lw_at lw_m8 191 rfl) rfl
theorem q2023 : (Jvm.Cond.privateMethod ({ cls := "BranchNamesModel", name := "sizeOf", desc := "(II)I" } : Jvm.MethodName)) ∈ lw_tbl := lw_at lw_m8 192 rfl
theorem q2024 : (Jvm.Cond.instanceMethod ({ cls := "BranchNamesModel", name := "sizeOf", desc := "(II)I" } : Jvm.MethodName)) ∈ lw_all := lw_g (lw_at lw_m8 193 rfl) rfl
theorem q2025 : (Jvm.Cond.code ({ cls := "BranchNamesModel", name := "sizeOf", desc := "(II)I" } : Jvm.MethodName) prog_22_method_9_code (5 : Nat) (Option.some Jvm.ClassFile.FieldType.int)) ∈ lw_all := lw_g (lw_at lw_m8 194 rfl) rfl
theorem q2026 : (Jvm.Cond.methodLink "BranchNamesModel" (224 : Nat) ({ cls := "BranchNamesModel", name := "keyNow", desc := "()I" } : Jvm.MethodName)) ∈ lw_all := lw_g (lw_at lw_m8 195 rfl) rfl
theorem q2027 : (Jvm.Cond.privateMethod ({ cls := "BranchNamesModel", name := "keyNow", desc := "()I" } : Jvm.MethodName)) ∈ lw_tbl := lw_at lw_m8 196 rfl
theorem q2028 : (Jvm.Cond.instanceMethod ({ cls := "BranchNamesModel", name := "keyNow", desc := "()I" } : Jvm.MethodName)) ∈ lw_all := lw_g (lw_at lw_m8 197 rfl) rfl
theorem q2029 : (Jvm.Cond.code ({ cls := "BranchNamesModel", name := "keyNow", desc := "()I" } : Jvm.MethodName) prog_22_method_16_code (3 : Nat) (Option.some Jvm.ClassFile.FieldType.int)) ∈ lw_all := lw_g (lw_at lw_m8 198 rfl) rfl
theorem q2030 : (Jvm.Cond.methodLink "BranchNamesModel" (191 : Nat) ({ cls := "BranchNamesModel", name := "otherCentre", desc := "()I" } : Jvm.MethodName)) ∈ lw_all := lw_g (lw_at lw_m8 199 rfl) rfl
theorem q2031 : (Jvm.Cond.privateMethod ({ cls := "BranchNamesModel", name := "otherCentre", desc := "()I" } : Jvm.MethodName)) ∈ lw_tbl := lw_at lw_m8 200 rfl
theorem q2032 : (Jvm.Cond.instanceMethod ({ cls := "BranchNamesModel", name := "otherCentre", desc := "()I" } : Jvm.MethodName)) ∈ lw_all := lw_g (lw_at lw_m8 201 rfl) rfl
theorem q2033 : (Jvm.Cond.code ({ cls := "BranchNamesModel", name := "otherCentre", desc := "()I" } : Jvm.MethodName) prog_22_method_15_code (3 : Nat) (Option.some Jvm.ClassFile.FieldType.int)) ∈ lw_all := lw_g (lw_at lw_m8 202 rfl) rfl
theorem q2034 : (Jvm.Cond.methodLink "BranchNamesModel" (187 : Nat) ({ cls := "BranchNamesModel", name := "centre", desc := "()I" } : Jvm.MethodName)) ∈ lw_all := lw_g (lw_at lw_m8 203 rfl) rfl
theorem q2035 : (Jvm.Cond.privateMethod ({ cls := "BranchNamesModel", name := "centre", desc := "()I" } : Jvm.MethodName)) ∈ lw_tbl := lw_at lw_m8 204 rfl
theorem q2036 : (Jvm.Cond.instanceMethod ({ cls := "BranchNamesModel", name := "centre", desc := "()I" } : Jvm.MethodName)) ∈ lw_all := lw_g (lw_at lw_m8 205 rfl) rfl
theorem q2037 : (Jvm.Cond.code ({ cls := "BranchNamesModel", name := "centre", desc := "()I" } : Jvm.MethodName) prog_22_method_14_code (3 : Nat) (Option.some Jvm.ClassFile.FieldType.int)) ∈ lw_all := lw_g (lw_at lw_m8 206 rfl) rfl
theorem q2038 : (Jvm.Cond.methodLink "BranchNamesModel" (184 : Nat) ({ cls := "BranchNamesModel", name := "deepOf", desc := "(II)I" } : Jvm.MethodName)) ∈ lw_all := lw_g (lw_at lw_m8 207 rfl) rfl
theorem q2039 : (Jvm.Cond.privateMethod ({ cls := "BranchNamesModel", name := "deepOf", desc := "(II)I" } : Jvm.MethodName)) ∈ lw_tbl := lw_at lw_m8 208 rfl
theorem q2040 : (Jvm.Cond.instanceMethod ({ cls := "BranchNamesModel", name := "deepOf", desc := "(II)I" } : Jvm.MethodName)) ∈ lw_all := lw_g (lw_at lw_m8 209 rfl) rfl
theorem q2041 : (Jvm.Cond.code ({ cls := "BranchNamesModel", name := "deepOf", desc := "(II)I" } : Jvm.MethodName) prog_22_method_13_code (5 : Nat) (Option.some Jvm.ClassFile.FieldType.int)) ∈ lw_all := lw_g (lw_at lw_m8 210 rfl) rfl
theorem q2042 : (Jvm.Cond.constantLong "BranchNamesModel" (230 : Nat) (10 : Int64)) ∈ lw_all := lw_g (lw_at lw_m8 211 rfl) rfl
theorem q2043 : (Jvm.Cond.methodLink "BranchNamesModel" (255 : Nat) ({ cls := "BranchNamesModel", name := "looksAt", desc := "(II)V" } : Jvm.MethodName)) ∈ lw_all := lw_g (lw_at lw_m8 212 rfl) rfl
theorem q2044 : (Jvm.Cond.privateMethod ({ cls := "BranchNamesModel", name := "looksAt", desc := "(II)V" } : Jvm.MethodName)) ∈ lw_tbl := lw_at lw_m8 213 rfl
theorem q2045 : (Jvm.Cond.instanceMethod ({ cls := "BranchNamesModel", name := "looksAt", desc := "(II)V" } : Jvm.MethodName)) ∈ lw_all := lw_g (lw_at lw_m8 214 rfl) rfl
theorem q2046 : (Jvm.Cond.code ({ cls := "BranchNamesModel", name := "looksAt", desc := "(II)V" } : Jvm.MethodName) prog_22_method_25_code (4 : Nat) (Option.none : Option Jvm.ClassFile.FieldType)) ∈ lw_all := lw_g (lw_at lw_m8 215 rfl) rfl
theorem q2047 : (Jvm.Cond.methodLink "BranchNamesModel" (235 : Nat) ({ cls := "BranchNamesModel", name := "keyOf", desc := "(II)I" } : Jvm.MethodName)) ∈ lw_all := lw_g (lw_at lw_m8 216 rfl) rfl
theorem q2048 : (Jvm.Cond.privateMethod ({ cls := "BranchNamesModel", name := "keyOf", desc := "(II)I" } : Jvm.MethodName)) ∈ lw_tbl := lw_at lw_m8 217 rfl
theorem q2049 : (Jvm.Cond.instanceMethod ({ cls := "BranchNamesModel", name := "keyOf", desc := "(II)I" } : Jvm.MethodName)) ∈ lw_all := lw_g (lw_at lw_m8 218 rfl) rfl
theorem q2050 : (Jvm.Cond.code ({ cls := "BranchNamesModel", name := "keyOf", desc := "(II)I" } : Jvm.MethodName) prog_22_method_24_code (3 : Nat) (Option.some Jvm.ClassFile.FieldType.int)) ∈ lw_all := lw_g (lw_at lw_m8 219 rfl) rfl
theorem q2052 : (Jvm.Cond.instanceMethod ({ cls := "BranchNamesModel", name := "code", desc := "(II)I" } : Jvm.MethodName)) ∈ lw_all := lw_g (lw_at lw_m8 221 rfl) rfl
theorem q2053 : (Jvm.Cond.selects "BranchNamesModel" ({ cls := "BranchNamesModel", name := "code", desc := "(II)I" } : Jvm.MethodName) ({ cls := "BranchNamesModel", name := "code", desc := "(II)I" } : Jvm.MethodName)) ∈ lw_all := lw_g (lw_at lw_m8 222 rfl) rfl
theorem q2054 : (Jvm.Cond.code ({ cls := "BranchNamesModel", name := "code", desc := "(II)I" } : Jvm.MethodName) prog_22_method_31_code (3 : Nat) (Option.some Jvm.ClassFile.FieldType.int)) ∈ lw_all := lw_g (lw_at lw_m8 223 rfl) rfl
theorem q2055 : (Jvm.Cond.constantLong "BranchNamesModel" (258 : Nat) (12 : Int64)) ∈ lw_all := lw_g (lw_at lw_m8 224 rfl) rfl
theorem q2057 : (Jvm.Cond.instanceMethod ({ cls := "BranchNamesModel", name := "drawn", desc := "(I)I" } : Jvm.MethodName)) ∈ lw_all := lw_g (lw_at lw_m8 226 rfl) rfl
theorem q2058 : (Jvm.Cond.selects "BranchNamesModel" ({ cls := "BranchNamesModel", name := "drawn", desc := "(I)I" } : Jvm.MethodName) ({ cls := "BranchNamesModel", name := "drawn", desc := "(I)I" } : Jvm.MethodName)) ∈ lw_all := lw_g (lw_at lw_m8 227 rfl) rfl
theorem q2059 : (Jvm.Cond.code ({ cls := "BranchNamesModel", name := "drawn", desc := "(I)I" } : Jvm.MethodName) prog_22_method_32_code (2 : Nat) (Option.some Jvm.ClassFile.FieldType.int)) ∈ lw_all := lw_g (lw_at lw_m8 228 rfl) rfl
theorem q2060 : (Jvm.Cond.methodLink "BranchNamesModel" (260 : Nat) ({ cls := "BranchNamesModel", name := "numberNow", desc := "()I" } : Jvm.MethodName)) ∈ lw_all := lw_g (lw_at lw_m8 229 rfl) rfl
theorem q2061 : (Jvm.Cond.privateMethod ({ cls := "BranchNamesModel", name := "numberNow", desc := "()I" } : Jvm.MethodName)) ∈ lw_tbl := lw_at lw_m8 230 rfl
theorem q2062 : (Jvm.Cond.instanceMethod ({ cls := "BranchNamesModel", name := "numberNow", desc := "()I" } : Jvm.MethodName)) ∈ lw_all := lw_g (lw_at lw_m8 231 rfl) rfl
theorem q2063 : (Jvm.Cond.code ({ cls := "BranchNamesModel", name := "numberNow", desc := "()I" } : Jvm.MethodName) prog_22_method_26_code (3 : Nat) (Option.some Jvm.ClassFile.FieldType.int)) ∈ lw_all := lw_g (lw_at lw_m8 232 rfl) rfl
theorem q2064 : (Jvm.Cond.methodLink "BranchNamesModel" (238 : Nat) ({ cls := "BranchNamesModel", name := "keyOfDrawing", desc := "()I" } : Jvm.MethodName)) ∈ lw_all := lw_g (lw_at lw_m8 233 rfl) rfl
theorem q2065 : (Jvm.Cond.privateMethod ({ cls := "BranchNamesModel", name := "keyOfDrawing", desc := "()I" } : Jvm.MethodName)) ∈ lw_tbl := lw_at lw_m8 234 rfl
theorem q2066 : (Jvm.Cond.instanceMethod ({ cls := "BranchNamesModel", name := "keyOfDrawing", desc := "()I" } : Jvm.MethodName)) ∈ lw_all := lw_g (lw_at lw_m8 235 rfl) rfl
theorem q2067 : (Jvm.Cond.code ({ cls := "BranchNamesModel", name := "keyOfDrawing", desc := "()I" } : Jvm.MethodName) prog_22_method_27_code (1 : Nat) (Option.some Jvm.ClassFile.FieldType.int)) ∈ lw_all := lw_g (lw_at lw_m8 236 rfl) rfl
theorem q2069 : (Jvm.Cond.instanceMethod ({ cls := "BranchNamesModel", name := "atom", desc := "(II)I" } : Jvm.MethodName)) ∈ lw_all := lw_g (lw_at lw_m8 238 rfl) rfl
theorem q2070 : (Jvm.Cond.selects "BranchNamesModel" ({ cls := "BranchNamesModel", name := "atom", desc := "(II)I" } : Jvm.MethodName) ({ cls := "BranchNamesModel", name := "atom", desc := "(II)I" } : Jvm.MethodName)) ∈ lw_all := lw_g (lw_at lw_m8 239 rfl) rfl
theorem q2071 : (Jvm.Cond.code ({ cls := "BranchNamesModel", name := "atom", desc := "(II)I" } : Jvm.MethodName) prog_22_method_34_code (3 : Nat) (Option.some Jvm.ClassFile.FieldType.int)) ∈ lw_all := lw_g (lw_at lw_m9 0 rfl) rfl
theorem q2072 : (Jvm.Cond.methodLink "BranchNamesModel" (263 : Nat) ({ cls := "BranchNamesModel", name := "alikeTo", desc := "(IZ)I" } : Jvm.MethodName)) ∈ lw_all := lw_g (lw_at lw_m9 1 rfl) rfl
theorem q2073 : (Jvm.Cond.privateMethod ({ cls := "BranchNamesModel", name := "alikeTo", desc := "(IZ)I" } : Jvm.MethodName)) ∈ lw_tbl := lw_at lw_m9 2 rfl
theorem q2074 : (Jvm.Cond.instanceMethod ({ cls := "BranchNamesModel", name := "alikeTo", desc := "(IZ)I" } : Jvm.MethodName)) ∈ lw_all := lw_g (lw_at lw_m9 3 rfl) rfl
theorem q2075 : (Jvm.Cond.code ({ cls := "BranchNamesModel", name := "alikeTo", desc := "(IZ)I" } : Jvm.MethodName) prog_22_method_33_code (7 : Nat) (Option.some Jvm.ClassFile.FieldType.int)) ∈ lw_all := lw_g (lw_at lw_m9 4 rfl) rfl
theorem q2077 : (Jvm.Cond.instanceMethod ({ cls := "BranchNamesModel", name := "bond", desc := "(II)I" } : Jvm.MethodName)) ∈ lw_all := lw_g (lw_at lw_m9 6 rfl) rfl
theorem q2078 : (Jvm.Cond.selects "BranchNamesModel" ({ cls := "BranchNamesModel", name := "bond", desc := "(II)I" } : Jvm.MethodName) ({ cls := "BranchNamesModel", name := "bond", desc := "(II)I" } : Jvm.MethodName)) ∈ lw_all := lw_g (lw_at lw_m9 7 rfl) rfl
theorem q2079 : (Jvm.Cond.code ({ cls := "BranchNamesModel", name := "bond", desc := "(II)I" } : Jvm.MethodName) prog_22_method_35_code (5 : Nat) (Option.some Jvm.ClassFile.FieldType.int)) ∈ lw_all := lw_g (lw_at lw_m9 8 rfl) rfl
theorem q2081 : (Jvm.Cond.instanceMethod ({ cls := "BranchNamesModel", name := "far", desc := "(II)I" } : Jvm.MethodName)) ∈ lw_all := lw_g (lw_at lw_m9 10 rfl) rfl
theorem q2082 : (Jvm.Cond.selects "BranchNamesModel" ({ cls := "BranchNamesModel", name := "far", desc := "(II)I" } : Jvm.MethodName) ({ cls := "BranchNamesModel", name := "far", desc := "(II)I" } : Jvm.MethodName)) ∈ lw_all := lw_g (lw_at lw_m9 11 rfl) rfl
theorem q2083 : (Jvm.Cond.code ({ cls := "BranchNamesModel", name := "far", desc := "(II)I" } : Jvm.MethodName) prog_22_method_36_code (3 : Nat) (Option.some Jvm.ClassFile.FieldType.int)) ∈ lw_all := lw_g (lw_at lw_m9 12 rfl) rfl
theorem q2084 : (Jvm.Cond.methodLink "BranchNamesModel" (180 : Nat) ({ cls := "BranchNamesModel", name := "farOf", desc := "(III)I" } : Jvm.MethodName)) ∈ lw_all := lw_g (lw_at lw_m9 13 rfl) rfl
theorem q2085 : (Jvm.Cond.privateMethod ({ cls := "BranchNamesModel", name := "farOf", desc := "(III)I" } : Jvm.MethodName)) ∈ lw_tbl := lw_at lw_m9 14 rfl
theorem q2086 : (Jvm.Cond.instanceMethod ({ cls := "BranchNamesModel", name := "farOf", desc := "(III)I" } : Jvm.MethodName)) ∈ lw_all := lw_g (lw_at lw_m9 15 rfl) rfl
theorem q2087 : (Jvm.Cond.code ({ cls := "BranchNamesModel", name := "farOf", desc := "(III)I" } : Jvm.MethodName) prog_22_method_12_code (6 : Nat) (Option.some Jvm.ClassFile.FieldType.int)) ∈ lw_all := lw_g (lw_at lw_m9 16 rfl) rfl
theorem q2089 : (Jvm.Cond.instanceMethod ({ cls := "BranchNamesModel", name := "twig", desc := "(III)I" } : Jvm.MethodName)) ∈ lw_all := lw_g (lw_at lw_m9 18 rfl) rfl
theorem q2090 : (Jvm.Cond.selects "BranchNamesModel" ({ cls := "BranchNamesModel", name := "twig", desc := "(III)I" } : Jvm.MethodName) ({ cls := "BranchNamesModel", name := "twig", desc := "(III)I" } : Jvm.MethodName)) ∈ lw_all := lw_g (lw_at lw_m9 19 rfl) rfl
theorem q2091 : (Jvm.Cond.code ({ cls := "BranchNamesModel", name := "twig", desc := "(III)I" } : Jvm.MethodName) prog_22_method_37_code (5 : Nat) (Option.some Jvm.ClassFile.FieldType.int)) ∈ lw_all := lw_g (lw_at lw_m9 20 rfl) rfl
theorem q2092 : (Jvm.Cond.methodLink "BranchNamesModel" (273 : Nat) ({ cls := "BranchNamesModel", name := "names", desc := "(II)I" } : Jvm.MethodName)) ∈ lw_all := lw_g (lw_at lw_m9 21 rfl) rfl
theorem q2093 : (Jvm.Cond.privateMethod ({ cls := "BranchNamesModel", name := "names", desc := "(II)I" } : Jvm.MethodName)) ∈ lw_tbl := lw_at lw_m9 22 rfl
theorem q2094 : (Jvm.Cond.instanceMethod ({ cls := "BranchNamesModel", name := "names", desc := "(II)I" } : Jvm.MethodName)) ∈ lw_all := lw_g (lw_at lw_m9 23 rfl) rfl
theorem q2095 : (Jvm.Cond.code ({ cls := "BranchNamesModel", name := "names", desc := "(II)I" } : Jvm.MethodName) prog_22_method_78_code (10 : Nat) (Option.some Jvm.ClassFile.FieldType.int)) ∈ lw_all := lw_g (lw_at lw_m9 24 rfl) rfl
theorem q2096 : (Jvm.Cond.methodLink "BranchNamesModel" (406 : Nat) ({ cls := "BranchNamesModel", name := "findsBest", desc := "(II)V" } : Jvm.MethodName)) ∈ lw_all := lw_g (lw_at lw_m9 25 rfl) rfl
theorem q2097 : (Jvm.Cond.privateMethod ({ cls := "BranchNamesModel", name := "findsBest", desc := "(II)V" } : Jvm.MethodName)) ∈ lw_tbl := lw_at lw_m9 26 rfl
theorem q2098 : (Jvm.Cond.instanceMethod ({ cls := "BranchNamesModel", name := "findsBest", desc := "(II)V" } : Jvm.MethodName)) ∈ lw_all := lw_g (lw_at lw_m9 27 rfl) rfl
theorem q2099 : (Jvm.Cond.code ({ cls := "BranchNamesModel", name := "findsBest", desc := "(II)V" } : Jvm.MethodName) prog_22_method_77_code (5 : Nat) (Option.none : Option Jvm.ClassFile.FieldType)) ∈ lw_all := lw_g (lw_at lw_m9 28 rfl) rfl
theorem q2100 : (Jvm.Cond.methodLink "BranchNamesModel" (397 : Nat) ({ cls := "BranchNamesModel", name := "isStart", desc := "(III)Z" } : Jvm.MethodName)) ∈ lw_all := lw_g (lw_at lw_m9 29 rfl) rfl
theorem q2101 : (Jvm.Cond.privateMethod ({ cls := "BranchNamesModel", name := "isStart", desc := "(III)Z" } : Jvm.MethodName)) ∈ lw_tbl := lw_at lw_m9 30 rfl
theorem q2102 : (Jvm.Cond.instanceMethod ({ cls := "BranchNamesModel", name := "isStart", desc := "(III)Z" } : Jvm.MethodName)) ∈ lw_all := lw_g (lw_at lw_m9 31 rfl) rfl
theorem q2103 : (Jvm.Cond.code ({ cls := "BranchNamesModel", name := "isStart", desc := "(III)Z" } : Jvm.MethodName) prog_22_method_76_code (4 : Nat) (Option.some Jvm.ClassFile.FieldType.boolean)) ∈ lw_all := lw_g (lw_at lw_m9 32 rfl) rfl
theorem q2104 : (Jvm.Cond.methodLink "BranchNamesModel" (282 : Nat) ({ cls := "BranchNamesModel", name := "lays", desc := "(III)Z" } : Jvm.MethodName)) ∈ lw_all := lw_g (lw_at lw_m9 33 rfl) rfl
theorem q2105 : (Jvm.Cond.privateMethod ({ cls := "BranchNamesModel", name := "lays", desc := "(III)Z" } : Jvm.MethodName)) ∈ lw_tbl := lw_at lw_m9 34 rfl
theorem q2106 : (Jvm.Cond.instanceMethod ({ cls := "BranchNamesModel", name := "lays", desc := "(III)Z" } : Jvm.MethodName)) ∈ lw_all := lw_g (lw_at lw_m9 35 rfl) rfl
theorem q2107 : (Jvm.Cond.code ({ cls := "BranchNamesModel", name := "lays", desc := "(III)Z" } : Jvm.MethodName) prog_22_method_56_code (4 : Nat) (Option.some Jvm.ClassFile.FieldType.boolean)) ∈ lw_all := lw_g (lw_at lw_m9 36 rfl) rfl
theorem q2108 : (Jvm.Cond.methodLink "BranchNamesModel" (332 : Nat) ({ cls := "BranchNamesModel", name := "walks", desc := "(IIII)Z" } : Jvm.MethodName)) ∈ lw_all := lw_g (lw_at lw_m9 37 rfl) rfl
theorem q2109 : (Jvm.Cond.privateMethod ({ cls := "BranchNamesModel", name := "walks", desc := "(IIII)Z" } : Jvm.MethodName)) ∈ lw_tbl := lw_at lw_m9 38 rfl
theorem q2110 : (Jvm.Cond.instanceMethod ({ cls := "BranchNamesModel", name := "walks", desc := "(IIII)Z" } : Jvm.MethodName)) ∈ lw_all := lw_g (lw_at lw_m9 39 rfl) rfl
theorem q2111 : (Jvm.Cond.code ({ cls := "BranchNamesModel", name := "walks", desc := "(IIII)Z" } : Jvm.MethodName) prog_22_method_55_code (6 : Nat) (Option.some Jvm.ClassFile.FieldType.boolean)) ∈ lw_all := lw_g (lw_at lw_m9 40 rfl) rfl
theorem q2112 : (Jvm.Cond.methodLink "BranchNamesModel" (400 : Nat) ({ cls := "BranchNamesModel", name := "isBetter", desc := "(I)I" } : Jvm.MethodName)) ∈ lw_all := lw_g (lw_at lw_m9 41 rfl) rfl
theorem q2113 : (Jvm.Cond.privateMethod ({ cls := "BranchNamesModel", name := "isBetter", desc := "(I)I" } : Jvm.MethodName)) ∈ lw_tbl := lw_at lw_m9 42 rfl
theorem q2114 : (Jvm.Cond.instanceMethod ({ cls := "BranchNamesModel", name := "isBetter", desc := "(I)I" } : Jvm.MethodName)) ∈ lw_all := lw_g (lw_at lw_m9 43 rfl) rfl
theorem q2115 : (Jvm.Cond.code ({ cls := "BranchNamesModel", name := "isBetter", desc := "(I)I" } : Jvm.MethodName) prog_22_method_74_code (4 : Nat) (Option.some Jvm.ClassFile.FieldType.int)) ∈ lw_all := lw_g (lw_at lw_m9 44 rfl) rfl
theorem q2116 : (Jvm.Cond.methodLink "BranchNamesModel" (286 : Nat) ({ cls := "BranchNamesModel", name := "branchesOf", desc := "(I)I" } : Jvm.MethodName)) ∈ lw_all := lw_g (lw_at lw_m9 45 rfl) rfl
theorem q2117 : (Jvm.Cond.privateMethod ({ cls := "BranchNamesModel", name := "branchesOf", desc := "(I)I" } : Jvm.MethodName)) ∈ lw_tbl := lw_at lw_m9 46 rfl
theorem q2118 : (Jvm.Cond.instanceMethod ({ cls := "BranchNamesModel", name := "branchesOf", desc := "(I)I" } : Jvm.MethodName)) ∈ lw_all := lw_g (lw_at lw_m9 47 rfl) rfl
theorem q2119 : (Jvm.Cond.code ({ cls := "BranchNamesModel", name := "branchesOf", desc := "(I)I" } : Jvm.MethodName) prog_22_method_59_code (5 : Nat) (Option.some Jvm.ClassFile.FieldType.int)) ∈ lw_all := lw_g (lw_at lw_m9 48 rfl) rfl
theorem q2120 : (Jvm.Cond.methodLink "BranchNamesModel" (339 : Nat) ({ cls := "BranchNamesModel", name := "isBranch", desc := "(III)Z" } : Jvm.MethodName)) ∈ lw_all := lw_g (lw_at lw_m9 49 rfl) rfl
theorem q2121 : (Jvm.Cond.privateMethod ({ cls := "BranchNamesModel", name := "isBranch", desc := "(III)Z" } : Jvm.MethodName)) ∈ lw_tbl := lw_at lw_m9 50 rfl
theorem q2122 : (Jvm.Cond.instanceMethod ({ cls := "BranchNamesModel", name := "isBranch", desc := "(III)Z" } : Jvm.MethodName)) ∈ lw_all := lw_g (lw_at lw_m9 51 rfl) rfl
theorem q2123 : (Jvm.Cond.code ({ cls := "BranchNamesModel", name := "isBranch", desc := "(III)Z" } : Jvm.MethodName) prog_22_method_58_code (4 : Nat) (Option.some Jvm.ClassFile.FieldType.boolean)) ∈ lw_all := lw_g (lw_at lw_m9 52 rfl) rfl
theorem q2124 : (Jvm.Cond.methodLink "BranchNamesModel" (336 : Nat) ({ cls := "BranchNamesModel", name := "isInChain", desc := "(I)Z" } : Jvm.MethodName)) ∈ lw_all := lw_g (lw_at lw_m9 53 rfl) rfl
theorem q2125 : (Jvm.Cond.privateMethod ({ cls := "BranchNamesModel", name := "isInChain", desc := "(I)Z" } : Jvm.MethodName)) ∈ lw_tbl := lw_at lw_m9 54 rfl
theorem q2126 : (Jvm.Cond.instanceMethod ({ cls := "BranchNamesModel", name := "isInChain", desc := "(I)Z" } : Jvm.MethodName)) ∈ lw_all := lw_g (lw_at lw_m9 55 rfl) rfl
theorem q2127 : (Jvm.Cond.code ({ cls := "BranchNamesModel", name := "isInChain", desc := "(I)Z" } : Jvm.MethodName) prog_22_method_57_code (3 : Nat) (Option.some Jvm.ClassFile.FieldType.boolean)) ∈ lw_all := lw_g (lw_at lw_m9 56 rfl) rfl
theorem q2128 : (Jvm.Cond.methodLink "BranchNamesModel" (403 : Nat) ({ cls := "BranchNamesModel", name := "isBest", desc := "(I)V" } : Jvm.MethodName)) ∈ lw_all := lw_g (lw_at lw_m9 57 rfl) rfl
theorem q2129 : (Jvm.Cond.privateMethod ({ cls := "BranchNamesModel", name := "isBest", desc := "(I)V" } : Jvm.MethodName)) ∈ lw_tbl := lw_at lw_m9 58 rfl
theorem q2130 : (Jvm.Cond.instanceMethod ({ cls := "BranchNamesModel", name := "isBest", desc := "(I)V" } : Jvm.MethodName)) ∈ lw_all := lw_g (lw_at lw_m9 59 rfl) rfl
theorem q2131 : (Jvm.Cond.code ({ cls := "BranchNamesModel", name := "isBest", desc := "(I)V" } : Jvm.MethodName) prog_22_method_75_code (3 : Nat) (Option.none : Option Jvm.ClassFile.FieldType)) ∈ lw_all := lw_g (lw_at lw_m9 60 rfl) rfl
theorem q2132 : (Jvm.Cond.methodLink "BranchNamesModel" (409 : Nat) ({ cls := "BranchNamesModel", name := "namesBy", desc := "(IZ)I" } : Jvm.MethodName)) ∈ lw_all := lw_g (lw_at lw_m9 61 rfl) rfl
theorem q2133 : (Jvm.Cond.privateMethod ({ cls := "BranchNamesModel", name := "namesBy", desc := "(IZ)I" } : Jvm.MethodName)) ∈ lw_tbl := lw_at lw_m9 62 rfl
theorem q2134 : (Jvm.Cond.instanceMethod ({ cls := "BranchNamesModel", name := "namesBy", desc := "(IZ)I" } : Jvm.MethodName)) ∈ lw_all := lw_g (lw_at lw_m9 63 rfl) rfl
theorem q2135 : (Jvm.Cond.code ({ cls := "BranchNamesModel", name := "namesBy", desc := "(IZ)I" } : Jvm.MethodName) prog_22_method_73_code (11 : Nat) (Option.some Jvm.ClassFile.FieldType.int)) ∈ lw_all := lw_g (lw_at lw_m9 64 rfl) rfl
theorem q2136 : (Jvm.Cond.methodLink "BranchNamesModel" (387 : Nat) ({ cls := "BranchNamesModel", name := "namesBranches", desc := "(I)I" } : Jvm.MethodName)) ∈ lw_all := lw_g (lw_at lw_m9 65 rfl) rfl
theorem q2137 : (Jvm.Cond.privateMethod ({ cls := "BranchNamesModel", name := "namesBranches", desc := "(I)I" } : Jvm.MethodName)) ∈ lw_tbl := lw_at lw_m9 66 rfl
theorem q2138 : (Jvm.Cond.instanceMethod ({ cls := "BranchNamesModel", name := "namesBranches", desc := "(I)I" } : Jvm.MethodName)) ∈ lw_all := lw_g (lw_at lw_m9 67 rfl) rfl
theorem q2139 : (Jvm.Cond.code ({ cls := "BranchNamesModel", name := "namesBranches", desc := "(I)I" } : Jvm.MethodName) prog_22_method_70_code (9 : Nat) (Option.some Jvm.ClassFile.FieldType.int)) ∈ lw_all := lw_g (lw_at lw_m9 68 rfl) rfl
theorem q2140 : (Jvm.Cond.methodLink "BranchNamesModel" (368 : Nat) ({ cls := "java/lang/System", name := "arraycopy", desc := "(Ljava/lang/Object;ILjava/lang/Object;II)V" } : Jvm.MethodName)) ∈ lw_all := lw_g (lw_at lw_m9 69 rfl) rfl
theorem q2141 : (Jvm.Cond.methodLink "BranchNamesModel" (390 : Nat) ({ cls := "BranchNamesModel", name := "nextPart", desc := "(III)I" } : Jvm.MethodName)) ∈ lw_all := lw_g (lw_at lw_m9 70 rfl) rfl
theorem q2142 : (Jvm.Cond.privateMethod ({ cls := "BranchNamesModel", name := "nextPart", desc := "(III)I" } : Jvm.MethodName)) ∈ lw_tbl := lw_at lw_m9 71 rfl
theorem q2143 : (Jvm.Cond.instanceMethod ({ cls := "BranchNamesModel", name := "nextPart", desc := "(III)I" } : Jvm.MethodName)) ∈ lw_all := lw_g (lw_at lw_m9 72 rfl) rfl
theorem q2144 : (Jvm.Cond.code ({ cls := "BranchNamesModel", name := "nextPart", desc := "(III)I" } : Jvm.MethodName) prog_22_method_72_code (7 : Nat) (Option.some Jvm.ClassFile.FieldType.int)) ∈ lw_all := lw_g (lw_at lw_m9 73 rfl) rfl
theorem q2145 : (Jvm.Cond.methodLink "BranchNamesModel" (374 : Nat) ({ cls := "BranchNamesModel", name := "comparesNames", desc := "(II)I" } : Jvm.MethodName)) ∈ lw_all := lw_g (lw_at lw_m9 74 rfl) rfl
theorem q2146 : (Jvm.Cond.privateMethod ({ cls := "BranchNamesModel", name := "comparesNames", desc := "(II)I" } : Jvm.MethodName)) ∈ lw_tbl := lw_at lw_m9 75 rfl
theorem q2147 : (Jvm.Cond.instanceMethod ({ cls := "BranchNamesModel", name := "comparesNames", desc := "(II)I" } : Jvm.MethodName)) ∈ lw_all := lw_g (lw_at lw_m9 76 rfl) rfl
theorem q2148 : (Jvm.Cond.code ({ cls := "BranchNamesModel", name := "comparesNames", desc := "(II)I" } : Jvm.MethodName) prog_22_method_69_code (4 : Nat) (Option.some Jvm.ClassFile.FieldType.int)) ∈ lw_all := lw_g (lw_at lw_m9 77 rfl) rfl
theorem q2149 : (Jvm.Cond.methodLink "BranchNamesModel" (361 : Nat) ({ cls := "BranchNamesModel", name := "comparesLetters", desc := "(IIII)I" } : Jvm.MethodName)) ∈ lw_all := lw_g (lw_at lw_m9 78 rfl) rfl
theorem q2150 : (Jvm.Cond.privateMethod ({ cls := "BranchNamesModel", name := "comparesLetters", desc := "(IIII)I" } : Jvm.MethodName)) ∈ lw_tbl := lw_at lw_m9 79 rfl
theorem q2151 : (Jvm.Cond.instanceMethod ({ cls := "BranchNamesModel", name := "comparesLetters", desc := "(IIII)I" } : Jvm.MethodName)) ∈ lw_all := lw_g (lw_at lw_m9 80 rfl) rfl
theorem q2152 : (Jvm.Cond.code ({ cls := "BranchNamesModel", name := "comparesLetters", desc := "(IIII)I" } : Jvm.MethodName) prog_22_method_67_code (7 : Nat) (Option.some Jvm.ClassFile.FieldType.int)) ∈ lw_all := lw_g (lw_at lw_m9 81 rfl) rfl
theorem q2153 : (Jvm.Cond.methodLink "BranchNamesModel" (355 : Nat) ({ cls := "BranchNamesModel", name := "isLetter", desc := "(I)Z" } : Jvm.MethodName)) ∈ lw_all := lw_g (lw_at lw_m9 82 rfl) rfl
theorem q2154 : (Jvm.Cond.static ({ cls := "BranchNamesModel", name := "isLetter", desc := "(I)Z" } : Jvm.MethodName)) ∈ lw_all := lw_g (lw_at lw_m9 83 rfl) rfl
theorem q2155 : (Jvm.Cond.code ({ cls := "BranchNamesModel", name := "isLetter", desc := "(I)Z" } : Jvm.MethodName) prog_22_method_64_code (1 : Nat) (Option.some Jvm.ClassFile.FieldType.boolean)) ∈ lw_all := lw_g (lw_at lw_m9 84 rfl) rfl
theorem q2156 : (Jvm.Cond.methodLink "BranchNamesModel" (365 : Nat) ({ cls := "BranchNamesModel", name := "compares", desc := "(IIII)I" } : Jvm.MethodName)) ∈ lw_all := lw_g (lw_at lw_m9 85 rfl) rfl
theorem q2157 : (Jvm.Cond.privateMethod ({ cls := "BranchNamesModel", name := "compares", desc := "(IIII)I" } : Jvm.MethodName)) ∈ lw_tbl := lw_at lw_m9 86 rfl
theorem q2158 : (Jvm.Cond.instanceMethod ({ cls := "BranchNamesModel", name := "compares", desc := "(IIII)I" } : Jvm.MethodName)) ∈ lw_all := lw_g (lw_at lw_m9 87 rfl) rfl
theorem q2159 : (Jvm.Cond.code ({ cls := "BranchNamesModel", name := "compares", desc := "(IIII)I" } : Jvm.MethodName) prog_22_method_66_code (6 : Nat) (Option.some Jvm.ClassFile.FieldType.int)) ∈ lw_all := lw_g (lw_at lw_m9 88 rfl) rfl
theorem q2160 : (Jvm.Cond.methodLink "BranchNamesModel" (393 : Nat) ({ cls := "BranchNamesModel", name := "putsPart", desc := "(III)V" } : Jvm.MethodName)) ∈ lw_all := lw_g (lw_at lw_m9 89 rfl) rfl
theorem q2161 : (Jvm.Cond.privateMethod ({ cls := "BranchNamesModel", name := "putsPart", desc := "(III)V" } : Jvm.MethodName)) ∈ lw_tbl := lw_at lw_m9 90 rfl
theorem q2162 : (Jvm.Cond.instanceMethod ({ cls := "BranchNamesModel", name := "putsPart", desc := "(III)V" } : Jvm.MethodName)) ∈ lw_all := lw_g (lw_at lw_m9 91 rfl) rfl
theorem q2163 : (Jvm.Cond.code ({ cls := "BranchNamesModel", name := "putsPart", desc := "(III)V" } : Jvm.MethodName) prog_22_method_71_code (7 : Nat) (Option.none : Option Jvm.ClassFile.FieldType)) ∈ lw_all := lw_g (lw_at lw_m9 92 rfl) rfl
theorem q2164 : (Jvm.Cond.methodLink "BranchNamesModel" (352 : Nat) ({ cls := "BranchNamesModel", name := "puts", desc := "(I)V" } : Jvm.MethodName)) ∈ lw_all := lw_g (lw_at lw_m9 93 rfl) rfl
theorem q2165 : (Jvm.Cond.privateMethod ({ cls := "BranchNamesModel", name := "puts", desc := "(I)V" } : Jvm.MethodName)) ∈ lw_tbl := lw_at lw_m9 94 rfl
theorem q2166 : (Jvm.Cond.instanceMethod ({ cls := "BranchNamesModel", name := "puts", desc := "(I)V" } : Jvm.MethodName)) ∈ lw_all := lw_g (lw_at lw_m9 95 rfl) rfl
theorem q2167 : (Jvm.Cond.code ({ cls := "BranchNamesModel", name := "puts", desc := "(I)V" } : Jvm.MethodName) prog_22_method_60_code (2 : Nat) (Option.none : Option Jvm.ClassFile.FieldType)) ∈ lw_all := lw_g (lw_at lw_m9 96 rfl) rfl
theorem q2168 : (Jvm.Cond.methodLink "BranchNamesModel" (377 : Nat) ({ cls := "BranchNamesModel", name := "putsNumber", desc := "(I)V" } : Jvm.MethodName)) ∈ lw_all := lw_g (lw_at lw_m9 97 rfl) rfl
theorem q2169 : (Jvm.Cond.privateMethod ({ cls := "BranchNamesModel", name := "putsNumber", desc := "(I)V" } : Jvm.MethodName)) ∈ lw_tbl := lw_at lw_m9 98 rfl
theorem q2170 : (Jvm.Cond.instanceMethod ({ cls := "BranchNamesModel", name := "putsNumber", desc := "(I)V" } : Jvm.MethodName)) ∈ lw_all := lw_g (lw_at lw_m9 99 rfl) rfl
theorem q2171 : (Jvm.Cond.code ({ cls := "BranchNamesModel", name := "putsNumber", desc := "(I)V" } : Jvm.MethodName) prog_22_method_63_code (2 : Nat) (Option.none : Option Jvm.ClassFile.FieldType)) ∈ lw_all := lw_g (lw_at lw_m9 100 rfl) rfl
theorem q2172 : (Jvm.Cond.methodLink "BranchNamesModel" (380 : Nat) ({ cls := "BranchNamesModel", name := "putsWord", desc := "(Ljava/lang/String;I)V" } : Jvm.MethodName)) ∈ lw_all := lw_g (lw_at lw_m9 101 rfl) rfl
theorem q2173 : (Jvm.Cond.privateMethod ({ cls := "BranchNamesModel", name := "putsWord", desc := "(Ljava/lang/String;I)V" } : Jvm.MethodName)) ∈ lw_tbl := lw_at lw_m9 102 rfl
theorem q2174 : (Jvm.Cond.instanceMethod ({ cls := "BranchNamesModel", name := "putsWord", desc := "(Ljava/lang/String;I)V" } : Jvm.MethodName)) ∈ lw_all := lw_g (lw_at lw_m9 103 rfl) rfl
theorem q2175 : (Jvm.Cond.code ({ cls := "BranchNamesModel", name := "putsWord", desc := "(Ljava/lang/String;I)V" } : Jvm.MethodName) prog_22_method_62_code (4 : Nat) (Option.none : Option Jvm.ClassFile.FieldType)) ∈ lw_all := lw_g (lw_at lw_m9 104 rfl) rfl
theorem q2176 : (Jvm.Cond.methodLink "BranchNamesModel" (348 : Nat) ({ cls := "BranchNamesModel", name := "wordAt", desc := "(Ljava/lang/String;I)I" } : Jvm.MethodName)) ∈ lw_all := lw_g (lw_at lw_m9 105 rfl) rfl
theorem q2177 : (Jvm.Cond.static ({ cls := "BranchNamesModel", name := "wordAt", desc := "(Ljava/lang/String;I)I" } : Jvm.MethodName)) ∈ lw_all := lw_g (lw_at lw_m9 106 rfl) rfl
theorem q2178 : (Jvm.Cond.code ({ cls := "BranchNamesModel", name := "wordAt", desc := "(Ljava/lang/String;I)I" } : Jvm.MethodName) prog_22_method_61_code (4 : Nat) (Option.some Jvm.ClassFile.FieldType.int)) ∈ lw_all := lw_g (lw_at lw_m9 107 rfl) rfl
theorem q2179 : (Jvm.Cond.methodLink "BranchNamesModel" (342 : Nat) ({ cls := "java/lang/String", name := "charAt", desc := "(I)C" } : Jvm.MethodName)) ∈ lw_all := lw_g (lw_at lw_m9 108 rfl) rfl
theorem q2180 : (Jvm.Cond.methodLink "BranchNamesModel" (384 : Nat) ({ cls := "BranchNamesModel", name := "hasDigit", desc := "(II)Z" } : Jvm.MethodName)) ∈ lw_all := lw_g (lw_at lw_m9 109 rfl) rfl
theorem q2181 : (Jvm.Cond.privateMethod ({ cls := "BranchNamesModel", name := "hasDigit", desc := "(II)Z" } : Jvm.MethodName)) ∈ lw_tbl := lw_at lw_m9 110 rfl
theorem q2182 : (Jvm.Cond.instanceMethod ({ cls := "BranchNamesModel", name := "hasDigit", desc := "(II)Z" } : Jvm.MethodName)) ∈ lw_all := lw_g (lw_at lw_m9 111 rfl) rfl
theorem q2183 : (Jvm.Cond.code ({ cls := "BranchNamesModel", name := "hasDigit", desc := "(II)Z" } : Jvm.MethodName) prog_22_method_68_code (4 : Nat) (Option.some Jvm.ClassFile.FieldType.boolean)) ∈ lw_all := lw_g (lw_at lw_m9 112 rfl) rfl
theorem q2184 : (Jvm.Cond.methodLink "BranchNamesModel" (358 : Nat) ({ cls := "BranchNamesModel", name := "isDigit", desc := "(I)Z" } : Jvm.MethodName)) ∈ lw_all := lw_g (lw_at lw_m9 113 rfl) rfl
theorem q2185 : (Jvm.Cond.static ({ cls := "BranchNamesModel", name := "isDigit", desc := "(I)Z" } : Jvm.MethodName)) ∈ lw_all := lw_g (lw_at lw_m9 114 rfl) rfl
theorem q2186 : (Jvm.Cond.code ({ cls := "BranchNamesModel", name := "isDigit", desc := "(I)Z" } : Jvm.MethodName) prog_22_method_65_code (1 : Nat) (Option.some Jvm.ClassFile.FieldType.boolean)) ∈ lw_all := lw_g (lw_at lw_m9 115 rfl) rfl
theorem q2188 : (Jvm.Cond.instanceMethod ({ cls := "BranchNamesModel", name := "measure", desc := "(I)I" } : Jvm.MethodName)) ∈ lw_all := lw_g (lw_at lw_m9 117 rfl) rfl
theorem q2189 : (Jvm.Cond.selects "BranchNamesModel" ({ cls := "BranchNamesModel", name := "measure", desc := "(I)I" } : Jvm.MethodName) ({ cls := "BranchNamesModel", name := "measure", desc := "(I)I" } : Jvm.MethodName)) ∈ lw_all := lw_g (lw_at lw_m9 118 rfl) rfl
theorem q2190 : (Jvm.Cond.code ({ cls := "BranchNamesModel", name := "measure", desc := "(I)I" } : Jvm.MethodName) prog_22_method_46_code (2 : Nat) (Option.some Jvm.ClassFile.FieldType.int)) ∈ lw_all := lw_g (lw_at lw_m9 119 rfl) rfl
theorem q2191 : (Jvm.Cond.methodLink "BranchNamesModel" (304 : Nat) ({ cls := "BranchNamesModel", name := "measured", desc := "(I)I" } : Jvm.MethodName)) ∈ lw_all := lw_g (lw_at lw_m9 120 rfl) rfl
theorem q2192 : (Jvm.Cond.privateMethod ({ cls := "BranchNamesModel", name := "measured", desc := "(I)I" } : Jvm.MethodName)) ∈ lw_tbl := lw_at lw_m9 121 rfl
theorem q2193 : (Jvm.Cond.instanceMethod ({ cls := "BranchNamesModel", name := "measured", desc := "(I)I" } : Jvm.MethodName)) ∈ lw_all := lw_g (lw_at lw_m9 122 rfl) rfl
theorem q2194 : (Jvm.Cond.code ({ cls := "BranchNamesModel", name := "measured", desc := "(I)I" } : Jvm.MethodName) prog_22_method_45_code (2 : Nat) (Option.some Jvm.ClassFile.FieldType.int)) ∈ lw_all := lw_g (lw_at lw_m9 123 rfl) rfl
theorem q2195 : (Jvm.Cond.methodLink "BranchNamesModel" (289 : Nat) ({ cls := "BranchNamesModel", name := "farTogether", desc := "(I)I" } : Jvm.MethodName)) ∈ lw_all := lw_g (lw_at lw_m9 124 rfl) rfl
theorem q2196 : (Jvm.Cond.privateMethod ({ cls := "BranchNamesModel", name := "farTogether", desc := "(I)I" } : Jvm.MethodName)) ∈ lw_tbl := lw_at lw_m9 125 rfl
theorem q2197 : (Jvm.Cond.instanceMethod ({ cls := "BranchNamesModel", name := "farTogether", desc := "(I)I" } : Jvm.MethodName)) ∈ lw_all := lw_g (lw_at lw_m9 126 rfl) rfl
theorem q2198 : (Jvm.Cond.code ({ cls := "BranchNamesModel", name := "farTogether", desc := "(I)I" } : Jvm.MethodName) prog_22_method_38_code (6 : Nat) (Option.some Jvm.ClassFile.FieldType.int)) ∈ lw_all := lw_g (lw_at lw_m9 127 rfl) rfl
theorem q2199 : (Jvm.Cond.methodLink "BranchNamesModel" (292 : Nat) ({ cls := "BranchNamesModel", name := "ends", desc := "()I" } : Jvm.MethodName)) ∈ lw_all := lw_g (lw_at lw_m9 128 rfl) rfl
theorem q2200 : (Jvm.Cond.privateMethod ({ cls := "BranchNamesModel", name := "ends", desc := "()I" } : Jvm.MethodName)) ∈ lw_tbl := lw_at lw_m9 129 rfl
theorem q2201 : (Jvm.Cond.instanceMethod ({ cls := "BranchNamesModel", name := "ends", desc := "()I" } : Jvm.MethodName)) ∈ lw_all := lw_g (lw_at lw_m9 130 rfl) rfl
theorem q2202 : (Jvm.Cond.code ({ cls := "BranchNamesModel", name := "ends", desc := "()I" } : Jvm.MethodName) prog_22_method_39_code (3 : Nat) (Option.some Jvm.ClassFile.FieldType.int)) ∈ lw_all := lw_g (lw_at lw_m9 131 rfl) rfl
theorem q2203 : (Jvm.Cond.methodLink "BranchNamesModel" (295 : Nat) ({ cls := "BranchNamesModel", name := "unlike", desc := "()I" } : Jvm.MethodName)) ∈ lw_all := lw_g (lw_at lw_m9 132 rfl) rfl
theorem q2204 : (Jvm.Cond.privateMethod ({ cls := "BranchNamesModel", name := "unlike", desc := "()I" } : Jvm.MethodName)) ∈ lw_tbl := lw_at lw_m9 133 rfl
theorem q2205 : (Jvm.Cond.instanceMethod ({ cls := "BranchNamesModel", name := "unlike", desc := "()I" } : Jvm.MethodName)) ∈ lw_all := lw_g (lw_at lw_m9 134 rfl) rfl
theorem q2206 : (Jvm.Cond.code ({ cls := "BranchNamesModel", name := "unlike", desc := "()I" } : Jvm.MethodName) prog_22_method_40_code (3 : Nat) (Option.some Jvm.ClassFile.FieldType.int)) ∈ lw_all := lw_g (lw_at lw_m9 135 rfl) rfl
theorem q2207 : (Jvm.Cond.methodLink "BranchNamesModel" (276 : Nat) ({ cls := "BranchNamesModel", name := "waysOf", desc := "(II)I" } : Jvm.MethodName)) ∈ lw_all := lw_g (lw_at lw_m9 136 rfl) rfl
theorem q2208 : (Jvm.Cond.privateMethod ({ cls := "BranchNamesModel", name := "waysOf", desc := "(II)I" } : Jvm.MethodName)) ∈ lw_tbl := lw_at lw_m9 137 rfl
theorem q2209 : (Jvm.Cond.instanceMethod ({ cls := "BranchNamesModel", name := "waysOf", desc := "(II)I" } : Jvm.MethodName)) ∈ lw_all := lw_g (lw_at lw_m9 138 rfl) rfl
theorem q2210 : (Jvm.Cond.code ({ cls := "BranchNamesModel", name := "waysOf", desc := "(II)I" } : Jvm.MethodName) prog_22_method_41_code (7 : Nat) (Option.some Jvm.ClassFile.FieldType.int)) ∈ lw_all := lw_g (lw_at lw_m9 139 rfl) rfl
theorem q2211 : (Jvm.Cond.methodLink "BranchNamesModel" (298 : Nat) ({ cls := "BranchNamesModel", name := "more", desc := "()I" } : Jvm.MethodName)) ∈ lw_all := lw_g (lw_at lw_m9 140 rfl) rfl
theorem q2212 : (Jvm.Cond.privateMethod ({ cls := "BranchNamesModel", name := "more", desc := "()I" } : Jvm.MethodName)) ∈ lw_tbl := lw_at lw_m9 141 rfl
theorem q2213 : (Jvm.Cond.instanceMethod ({ cls := "BranchNamesModel", name := "more", desc := "()I" } : Jvm.MethodName)) ∈ lw_all := lw_g (lw_at lw_m9 142 rfl) rfl
theorem q2214 : (Jvm.Cond.code ({ cls := "BranchNamesModel", name := "more", desc := "()I" } : Jvm.MethodName) prog_22_method_42_code (7 : Nat) (Option.some Jvm.ClassFile.FieldType.int)) ∈ lw_all := lw_g (lw_at lw_m9 143 rfl) rfl
theorem q2215 : (Jvm.Cond.methodLink "BranchNamesModel" (279 : Nat) ({ cls := "BranchNamesModel", name := "longest", desc := "()I" } : Jvm.MethodName)) ∈ lw_all := lw_g (lw_at lw_m9 144 rfl) rfl
theorem q2216 : (Jvm.Cond.privateMethod ({ cls := "BranchNamesModel", name := "longest", desc := "()I" } : Jvm.MethodName)) ∈ lw_tbl := lw_at lw_m9 145 rfl
theorem q2217 : (Jvm.Cond.instanceMethod ({ cls := "BranchNamesModel", name := "longest", desc := "()I" } : Jvm.MethodName)) ∈ lw_all := lw_g (lw_at lw_m9 146 rfl) rfl
theorem q2218 : (Jvm.Cond.code ({ cls := "BranchNamesModel", name := "longest", desc := "()I" } : Jvm.MethodName) prog_22_method_43_code (3 : Nat) (Option.some Jvm.ClassFile.FieldType.int)) ∈ lw_all := lw_g (lw_at lw_m9 147 rfl) rfl
theorem q2219 : (Jvm.Cond.methodLink "BranchNamesModel" (301 : Nat) ({ cls := "BranchNamesModel", name := "mostBranches", desc := "()I" } : Jvm.MethodName)) ∈ lw_all := lw_g (lw_at lw_m9 148 rfl) rfl
theorem q2220 : (Jvm.Cond.privateMethod ({ cls := "BranchNamesModel", name := "mostBranches", desc := "()I" } : Jvm.MethodName)) ∈ lw_tbl := lw_at lw_m9 149 rfl
theorem q2221 : (Jvm.Cond.instanceMethod ({ cls := "BranchNamesModel", name := "mostBranches", desc := "()I" } : Jvm.MethodName)) ∈ lw_all := lw_g (lw_at lw_m9 150 rfl) rfl
theorem q2222 : (Jvm.Cond.code ({ cls := "BranchNamesModel", name := "mostBranches", desc := "()I" } : Jvm.MethodName) prog_22_method_44_code (5 : Nat) (Option.some Jvm.ClassFile.FieldType.int)) ∈ lw_all := lw_g (lw_at lw_m9 151 rfl) rfl
theorem q2224 : (Jvm.Cond.instanceMethod ({ cls := "BranchNamesModel", name := "list", desc := "(I)I" } : Jvm.MethodName)) ∈ lw_all := lw_g (lw_at lw_m9 153 rfl) rfl
theorem q2225 : (Jvm.Cond.selects "BranchNamesModel" ({ cls := "BranchNamesModel", name := "list", desc := "(I)I" } : Jvm.MethodName) ({ cls := "BranchNamesModel", name := "list", desc := "(I)I" } : Jvm.MethodName)) ∈ lw_all := lw_g (lw_at lw_m9 154 rfl) rfl
theorem q2226 : (Jvm.Cond.code ({ cls := "BranchNamesModel", name := "list", desc := "(I)I" } : Jvm.MethodName) prog_22_method_47_code (2 : Nat) (Option.some Jvm.ClassFile.FieldType.int)) ∈ lw_all := lw_g (lw_at lw_m9 155 rfl) rfl
theorem q2228 : (Jvm.Cond.instanceMethod ({ cls := "BranchNamesModel", name := "key", desc := "(II)I" } : Jvm.MethodName)) ∈ lw_all := lw_g (lw_at lw_m9 157 rfl) rfl
theorem q2229 : (Jvm.Cond.selects "BranchNamesModel" ({ cls := "BranchNamesModel", name := "key", desc := "(II)I" } : Jvm.MethodName) ({ cls := "BranchNamesModel", name := "key", desc := "(II)I" } : Jvm.MethodName)) ∈ lw_all := lw_g (lw_at lw_m9 158 rfl) rfl
theorem q2230 : (Jvm.Cond.code ({ cls := "BranchNamesModel", name := "key", desc := "(II)I" } : Jvm.MethodName) prog_22_method_48_code (3 : Nat) (Option.some Jvm.ClassFile.FieldType.int)) ∈ lw_all := lw_g (lw_at lw_m9 159 rfl) rfl
theorem q2232 : (Jvm.Cond.instanceMethod ({ cls := "BranchNamesModel", name := "ranked", desc := "(III)I" } : Jvm.MethodName)) ∈ lw_all := lw_g (lw_at lw_m9 161 rfl) rfl
theorem q2233 : (Jvm.Cond.selects "BranchNamesModel" ({ cls := "BranchNamesModel", name := "ranked", desc := "(III)I" } : Jvm.MethodName) ({ cls := "BranchNamesModel", name := "ranked", desc := "(III)I" } : Jvm.MethodName)) ∈ lw_all := lw_g (lw_at lw_m9 162 rfl) rfl
theorem q2234 : (Jvm.Cond.code ({ cls := "BranchNamesModel", name := "ranked", desc := "(III)I" } : Jvm.MethodName) prog_22_method_49_code (7 : Nat) (Option.some Jvm.ClassFile.FieldType.int)) ∈ lw_all := lw_g (lw_at lw_m9 163 rfl) rfl
theorem q2236 : (Jvm.Cond.instanceMethod ({ cls := "BranchNamesModel", name := "counted", desc := "(II)J" } : Jvm.MethodName)) ∈ lw_all := lw_g (lw_at lw_m9 165 rfl) rfl
theorem q2237 : (Jvm.Cond.selects "BranchNamesModel" ({ cls := "BranchNamesModel", name := "counted", desc := "(II)J" } : Jvm.MethodName) ({ cls := "BranchNamesModel", name := "counted", desc := "(II)J" } : Jvm.MethodName)) ∈ lw_all := lw_g (lw_at lw_m9 166 rfl) rfl
theorem q2238 : (Jvm.Cond.code ({ cls := "BranchNamesModel", name := "counted", desc := "(II)J" } : Jvm.MethodName) prog_22_method_54_code (5 : Nat) (Option.some Jvm.ClassFile.FieldType.long)) ∈ lw_all := lw_g (lw_at lw_m9 167 rfl) rfl
theorem q2239 : (Jvm.Cond.constantLong "BranchNamesModel" (315 : Nat) (4 : Int64)) ∈ lw_all := lw_g (lw_at lw_m9 168 rfl) rfl
theorem q2240 : (Jvm.Cond.constantLong "BranchNamesModel" (317 : Nat) (20 : Int64)) ∈ lw_all := lw_g (lw_at lw_m9 169 rfl) rfl
theorem q2241 : (Jvm.Cond.constantLong "BranchNamesModel" (319 : Nat) (-9223372036854775808 : Int64)) ∈ lw_all := lw_g (lw_at lw_m9 170 rfl) rfl
theorem q2242 : (Jvm.Cond.methodLink "BranchNamesModel" (321 : Nat) ({ cls := "BranchNamesModel", name := "countsTwigs", desc := "(I)V" } : Jvm.MethodName)) ∈ lw_all := lw_g (lw_at lw_m9 171 rfl) rfl
theorem q2243 : (Jvm.Cond.privateMethod ({ cls := "BranchNamesModel", name := "countsTwigs", desc := "(I)V" } : Jvm.MethodName)) ∈ lw_tbl := lw_at lw_m9 172 rfl
theorem q2244 : (Jvm.Cond.instanceMethod ({ cls := "BranchNamesModel", name := "countsTwigs", desc := "(I)V" } : Jvm.MethodName)) ∈ lw_all := lw_g (lw_at lw_m9 173 rfl) rfl
theorem q2245 : (Jvm.Cond.code ({ cls := "BranchNamesModel", name := "countsTwigs", desc := "(I)V" } : Jvm.MethodName) prog_22_method_52_code (3 : Nat) (Option.none : Option Jvm.ClassFile.FieldType)) ∈ lw_all := lw_g (lw_at lw_m9 174 rfl) rfl
theorem q2246 : (Jvm.Cond.methodLink "BranchNamesModel" (311 : Nat) ({ cls := "BranchNamesModel", name := "rowsOf", desc := "(III)J" } : Jvm.MethodName)) ∈ lw_all := lw_g (lw_at lw_m9 175 rfl) rfl
theorem q2247 : (Jvm.Cond.privateMethod ({ cls := "BranchNamesModel", name := "rowsOf", desc := "(III)J" } : Jvm.MethodName)) ∈ lw_tbl := lw_at lw_m9 176 rfl
theorem q2248 : (Jvm.Cond.instanceMethod ({ cls := "BranchNamesModel", name := "rowsOf", desc := "(III)J" } : Jvm.MethodName)) ∈ lw_all := lw_g (lw_at lw_m9 177 rfl) rfl
theorem q2249 : (Jvm.Cond.code ({ cls := "BranchNamesModel", name := "rowsOf", desc := "(III)J" } : Jvm.MethodName) prog_22_method_51_code (8 : Nat) (Option.some Jvm.ClassFile.FieldType.long)) ∈ lw_all := lw_g (lw_at lw_m9 178 rfl) rfl
theorem q2250 : (Jvm.Cond.methodLink "BranchNamesModel" (307 : Nat) ({ cls := "BranchNamesModel", name := "taken", desc := "(JI)J" } : Jvm.MethodName)) ∈ lw_all := lw_g (lw_at lw_m9 179 rfl) rfl
theorem q2251 : (Jvm.Cond.static ({ cls := "BranchNamesModel", name := "taken", desc := "(JI)J" } : Jvm.MethodName)) ∈ lw_all := lw_g (lw_at lw_m9 180 rfl) rfl
theorem q2252 : (Jvm.Cond.code ({ cls := "BranchNamesModel", name := "taken", desc := "(JI)J" } : Jvm.MethodName) prog_22_method_50_code (6 : Nat) (Option.some Jvm.ClassFile.FieldType.long)) ∈ lw_all := lw_g (lw_at lw_m9 181 rfl) rfl
theorem q2253 : (Jvm.Cond.methodLink "BranchNamesModel" (325 : Nat) ({ cls := "BranchNamesModel", name := "pairs", desc := "(I)J" } : Jvm.MethodName)) ∈ lw_all := lw_g (lw_at lw_m9 182 rfl) rfl
theorem q2254 : (Jvm.Cond.privateMethod ({ cls := "BranchNamesModel", name := "pairs", desc := "(I)J" } : Jvm.MethodName)) ∈ lw_tbl := lw_at lw_m9 183 rfl
theorem q2255 : (Jvm.Cond.instanceMethod ({ cls := "BranchNamesModel", name := "pairs", desc := "(I)J" } : Jvm.MethodName)) ∈ lw_all := lw_g (lw_at lw_m9 184 rfl) rfl
theorem q2256 : (Jvm.Cond.code ({ cls := "BranchNamesModel", name := "pairs", desc := "(I)J" } : Jvm.MethodName) prog_22_method_53_code (5 : Nat) (Option.some Jvm.ClassFile.FieldType.long)) ∈ lw_all := lw_g (lw_at lw_m9 185 rfl) rfl
theorem q2258 : (Jvm.Cond.instanceMethod ({ cls := "BranchNamesModel", name := "name", desc := "(I)I" } : Jvm.MethodName)) ∈ lw_all := lw_g (lw_at lw_m9 187 rfl) rfl
theorem q2259 : (Jvm.Cond.selects "BranchNamesModel" ({ cls := "BranchNamesModel", name := "name", desc := "(I)I" } : Jvm.MethodName) ({ cls := "BranchNamesModel", name := "name", desc := "(I)I" } : Jvm.MethodName)) ∈ lw_all := lw_g (lw_at lw_m9 188 rfl) rfl
theorem q2260 : (Jvm.Cond.code ({ cls := "BranchNamesModel", name := "name", desc := "(I)I" } : Jvm.MethodName) prog_22_method_80_code (3 : Nat) (Option.some Jvm.ClassFile.FieldType.int)) ∈ lw_all := lw_g (lw_at lw_m9 189 rfl) rfl
theorem q2261 : (Jvm.Cond.methodLink "BranchNamesModel" (412 : Nat) ({ cls := "BranchNamesModel", name := "namesTree", desc := "()I" } : Jvm.MethodName)) ∈ lw_all := lw_g (lw_at lw_m9 190 rfl) rfl
theorem q2262 : (Jvm.Cond.privateMethod ({ cls := "BranchNamesModel", name := "namesTree", desc := "()I" } : Jvm.MethodName)) ∈ lw_tbl := lw_at lw_m9 191 rfl
theorem q2263 : (Jvm.Cond.instanceMethod ({ cls := "BranchNamesModel", name := "namesTree", desc := "()I" } : Jvm.MethodName)) ∈ lw_all := lw_g (lw_at lw_m9 192 rfl) rfl
theorem q2264 : (Jvm.Cond.code ({ cls := "BranchNamesModel", name := "namesTree", desc := "()I" } : Jvm.MethodName) prog_22_method_79_code (1 : Nat) (Option.some Jvm.ClassFile.FieldType.int)) ∈ lw_all := lw_g (lw_at lw_m9 193 rfl) rfl
theorem q2266 : (Jvm.Cond.instanceMethod ({ cls := "BranchNamesModel", name := "named", desc := "(III)I" } : Jvm.MethodName)) ∈ lw_all := lw_g (lw_at lw_m9 195 rfl) rfl
theorem q2267 : (Jvm.Cond.selects "BranchNamesModel" ({ cls := "BranchNamesModel", name := "named", desc := "(III)I" } : Jvm.MethodName) ({ cls := "BranchNamesModel", name := "named", desc := "(III)I" } : Jvm.MethodName)) ∈ lw_all := lw_g (lw_at lw_m9 196 rfl) rfl
theorem q2268 : (Jvm.Cond.code ({ cls := "BranchNamesModel", name := "named", desc := "(III)I" } : Jvm.MethodName) prog_22_method_81_code (5 : Nat) (Option.some Jvm.ClassFile.FieldType.int)) ∈ lw_all := lw_g (lw_at lw_m9 197 rfl) rfl
theorem q2270 : (Jvm.Cond.instanceMethod ({ cls := "BranchNamesModel", name := "chain", desc := "(I)I" } : Jvm.MethodName)) ∈ lw_all := lw_g (lw_at lw_m9 199 rfl) rfl
theorem q2271 : (Jvm.Cond.selects "BranchNamesModel" ({ cls := "BranchNamesModel", name := "chain", desc := "(I)I" } : Jvm.MethodName) ({ cls := "BranchNamesModel", name := "chain", desc := "(I)I" } : Jvm.MethodName)) ∈ lw_all := lw_g (lw_at lw_m9 200 rfl) rfl
theorem q2272 : (Jvm.Cond.code ({ cls := "BranchNamesModel", name := "chain", desc := "(I)I" } : Jvm.MethodName) prog_22_method_82_code (2 : Nat) (Option.some Jvm.ClassFile.FieldType.int)) ∈ lw_all := lw_g (lw_at lw_m9 201 rfl) rfl
theorem q2274 : (Jvm.Cond.instanceMethod ({ cls := "BranchNamesModel", name := "feed", desc := "(I)I" } : Jvm.MethodName)) ∈ lw_all := lw_g (lw_at lw_m9 203 rfl) rfl
theorem q2275 : (Jvm.Cond.selects "BranchNamesModel" ({ cls := "BranchNamesModel", name := "feed", desc := "(I)I" } : Jvm.MethodName) ({ cls := "BranchNamesModel", name := "feed", desc := "(I)I" } : Jvm.MethodName)) ∈ lw_all := lw_g (lw_at lw_m9 204 rfl) rfl
theorem q2276 : (Jvm.Cond.code ({ cls := "BranchNamesModel", name := "feed", desc := "(I)I" } : Jvm.MethodName) prog_22_method_83_code (2 : Nat) (Option.some Jvm.ClassFile.FieldType.int)) ∈ lw_all := lw_g (lw_at lw_m9 205 rfl) rfl
theorem q2277 : (Jvm.Cond.constantLong "BranchNamesModel" (415 : Nat) (127 : Int64)) ∈ lw_all := lw_g (lw_at lw_m9 206 rfl) rfl
theorem q2279 : (Jvm.Cond.instanceMethod ({ cls := "BranchNamesModel", name := "clear", desc := "()I" } : Jvm.MethodName)) ∈ lw_all := lw_g (lw_at lw_m9 208 rfl) rfl
theorem q2280 : (Jvm.Cond.selects "BranchNamesModel" ({ cls := "BranchNamesModel", name := "clear", desc := "()I" } : Jvm.MethodName) ({ cls := "BranchNamesModel", name := "clear", desc := "()I" } : Jvm.MethodName)) ∈ lw_all := lw_g (lw_at lw_m9 209 rfl) rfl
theorem q2281 : (Jvm.Cond.code ({ cls := "BranchNamesModel", name := "clear", desc := "()I" } : Jvm.MethodName) prog_22_method_84_code (2 : Nat) (Option.some Jvm.ClassFile.FieldType.int)) ∈ lw_all := lw_g (lw_at lw_m9 210 rfl) rfl
theorem q2283 : (Jvm.Cond.instanceMethod ({ cls := "BranchNamesModel", name := "read", desc := "()I" } : Jvm.MethodName)) ∈ lw_all := lw_g (lw_at lw_m9 212 rfl) rfl
theorem q2284 : (Jvm.Cond.selects "BranchNamesModel" ({ cls := "BranchNamesModel", name := "read", desc := "()I" } : Jvm.MethodName) ({ cls := "BranchNamesModel", name := "read", desc := "()I" } : Jvm.MethodName)) ∈ lw_all := lw_g (lw_at lw_m9 213 rfl) rfl
theorem q2285 : (Jvm.Cond.code ({ cls := "BranchNamesModel", name := "read", desc := "()I" } : Jvm.MethodName) prog_22_method_104_code (3 : Nat) (Option.some Jvm.ClassFile.FieldType.int)) ∈ lw_all := lw_g (lw_at lw_m9 214 rfl) rfl
theorem q2286 : (Jvm.Cond.methodLink "BranchNamesModel" (502 : Nat) ({ cls := "BranchNamesModel", name := "takesName", desc := "()Z" } : Jvm.MethodName)) ∈ lw_all := lw_g (lw_at lw_m9 215 rfl) rfl
theorem q2287 : (Jvm.Cond.privateMethod ({ cls := "BranchNamesModel", name := "takesName", desc := "()Z" } : Jvm.MethodName)) ∈ lw_tbl := lw_at lw_m9 216 rfl
theorem q2288 : (Jvm.Cond.instanceMethod ({ cls := "BranchNamesModel", name := "takesName", desc := "()Z" } : Jvm.MethodName)) ∈ lw_all := lw_g (lw_at lw_m9 217 rfl) rfl
theorem q2289 : (Jvm.Cond.code ({ cls := "BranchNamesModel", name := "takesName", desc := "()Z" } : Jvm.MethodName) prog_22_method_95_code (1 : Nat) (Option.some Jvm.ClassFile.FieldType.boolean)) ∈ lw_all := lw_g (lw_at lw_m9 218 rfl) rfl
theorem q2290 : (Jvm.Cond.methodLink "BranchNamesModel" (420 : Nat) ({ cls := "BranchNamesModel", name := "byteAt", desc := "(I)I" } : Jvm.MethodName)) ∈ lw_all := lw_g (lw_at lw_m9 219 rfl) rfl
theorem q2291 : (Jvm.Cond.privateMethod ({ cls := "BranchNamesModel", name := "byteAt", desc := "(I)I" } : Jvm.MethodName)) ∈ lw_tbl := lw_at lw_m9 220 rfl
theorem q2292 : (Jvm.Cond.instanceMethod ({ cls := "BranchNamesModel", name := "byteAt", desc := "(I)I" } : Jvm.MethodName)) ∈ lw_all := lw_g (lw_at lw_m9 221 rfl) rfl
theorem q2293 : (Jvm.Cond.code ({ cls := "BranchNamesModel", name := "byteAt", desc := "(I)I" } : Jvm.MethodName) prog_22_method_85_code (2 : Nat) (Option.some Jvm.ClassFile.FieldType.int)) ∈ lw_all := lw_g (lw_at lw_m9 222 rfl) rfl
theorem q2294 : (Jvm.Cond.constantLong "BranchNamesModel" (472 : Nat) (49 : Int64)) ∈ lw_all := lw_g (lw_at lw_m9 223 rfl) rfl
theorem q2295 : (Jvm.Cond.constantLong "BranchNamesModel" (474 : Nat) (57 : Int64)) ∈ lw_all := lw_g (lw_at lw_m9 224 rfl) rfl
theorem q2296 : (Jvm.Cond.methodLink "BranchNamesModel" (448 : Nat) ({ cls := "BranchNamesModel", name := "takesParts", desc := "(I)Z" } : Jvm.MethodName)) ∈ lw_all := lw_g (lw_at lw_m9 225 rfl) rfl
theorem q2297 : (Jvm.Cond.privateMethod ({ cls := "BranchNamesModel", name := "takesParts", desc := "(I)Z" } : Jvm.MethodName)) ∈ lw_tbl := lw_at lw_m9 226 rfl
theorem q2298 : (Jvm.Cond.instanceMethod ({ cls := "BranchNamesModel", name := "takesParts", desc := "(I)Z" } : Jvm.MethodName)) ∈ lw_all := lw_g (lw_at lw_m9 227 rfl) rfl
theorem q2299 : (Jvm.Cond.code ({ cls := "BranchNamesModel", name := "takesParts", desc := "(I)Z" } : Jvm.MethodName) prog_22_method_94_code (2 : Nat) (Option.some Jvm.ClassFile.FieldType.boolean)) ∈ lw_all := lw_g (lw_at lw_m9 228 rfl) rfl
theorem q2300 : (Jvm.Cond.methodLink "BranchNamesModel" (469 : Nat) ({ cls := "BranchNamesModel", name := "takesPart", desc := "(I)Z" } : Jvm.MethodName)) ∈ lw_all := lw_g (lw_at lw_m9 229 rfl) rfl
theorem q2301 : (Jvm.Cond.privateMethod ({ cls := "BranchNamesModel", name := "takesPart", desc := "(I)Z" } : Jvm.MethodName)) ∈ lw_tbl := lw_at lw_m9 230 rfl
theorem q2302 : (Jvm.Cond.instanceMethod ({ cls := "BranchNamesModel", name := "takesPart", desc := "(I)Z" } : Jvm.MethodName)) ∈ lw_all := lw_g (lw_at lw_m9 231 rfl) rfl
theorem q2303 : (Jvm.Cond.code ({ cls := "BranchNamesModel", name := "takesPart", desc := "(I)Z" } : Jvm.MethodName) prog_22_method_93_code (3 : Nat) (Option.some Jvm.ClassFile.FieldType.boolean)) ∈ lw_all := lw_g (lw_at lw_m9 232 rfl) rfl
theorem q2304 : (Jvm.Cond.methodLink "BranchNamesModel" (460 : Nat) ({ cls := "BranchNamesModel", name := "takesNumber", desc := "()Z" } : Jvm.MethodName)) ∈ lw_all := lw_g (lw_at lw_m9 233 rfl) rfl
theorem q2305 : (Jvm.Cond.privateMethod ({ cls := "BranchNamesModel", name := "takesNumber", desc := "()Z" } : Jvm.MethodName)) ∈ lw_tbl := lw_at lw_m9 234 rfl
theorem q2306 : (Jvm.Cond.instanceMethod ({ cls := "BranchNamesModel", name := "takesNumber", desc := "()Z" } : Jvm.MethodName)) ∈ lw_all := lw_g (lw_at lw_m9 235 rfl) rfl
theorem q2307 : (Jvm.Cond.code ({ cls := "BranchNamesModel", name := "takesNumber", desc := "()Z" } : Jvm.MethodName) prog_22_method_89_code (3 : Nat) (Option.some Jvm.ClassFile.FieldType.boolean)) ∈ lw_all := lw_g (lw_at lw_m9 236 rfl) rfl
theorem q2308 : (Jvm.Cond.methodLink "BranchNamesModel" (463 : Nat) ({ cls := "BranchNamesModel", name := "takes", desc := "(I)Z" } : Jvm.MethodName)) ∈ lw_all := lw_g (lw_at lw_m9 237 rfl) rfl
theorem q2309 : (Jvm.Cond.privateMethod ({ cls := "BranchNamesModel", name := "takes", desc := "(I)Z" } : Jvm.MethodName)) ∈ lw_tbl := lw_at lw_m9 238 rfl
theorem q2310 : (Jvm.Cond.instanceMethod ({ cls := "BranchNamesModel", name := "takes", desc := "(I)Z" } : Jvm.MethodName)) ∈ lw_all := lw_g (lw_at lw_m9 239 rfl) rfl
theorem q2311 : (Jvm.Cond.code ({ cls := "BranchNamesModel", name := "takes", desc := "(I)Z" } : Jvm.MethodName) prog_22_method_88_code (2 : Nat) (Option.some Jvm.ClassFile.FieldType.boolean)) ∈ lw_all := lw_g (lw_at lw_m10 0 rfl) rfl
theorem q2312 : (Jvm.Cond.methodLink "BranchNamesModel" (466 : Nat) ({ cls := "BranchNamesModel", name := "takesWord", desc := "(I)Z" } : Jvm.MethodName)) ∈ lw_all := lw_g (lw_at lw_m10 1 rfl) rfl
theorem q2313 : (Jvm.Cond.privateMethod ({ cls := "BranchNamesModel", name := "takesWord", desc := "(I)Z" } : Jvm.MethodName)) ∈ lw_tbl := lw_at lw_m10 2 rfl
theorem q2314 : (Jvm.Cond.instanceMethod ({ cls := "BranchNamesModel", name := "takesWord", desc := "(I)Z" } : Jvm.MethodName)) ∈ lw_all := lw_g (lw_at lw_m10 3 rfl) rfl
theorem q2315 : (Jvm.Cond.code ({ cls := "BranchNamesModel", name := "takesWord", desc := "(I)Z" } : Jvm.MethodName) prog_22_method_92_code (5 : Nat) (Option.some Jvm.ClassFile.FieldType.boolean)) ∈ lw_all := lw_g (lw_at lw_m10 4 rfl) rfl
theorem q2316 : (Jvm.Cond.methodLink "BranchNamesModel" (432 : Nat) ({ cls := "BranchNamesModel", name := "behind", desc := "(Ljava/lang/String;II)I" } : Jvm.MethodName)) ∈ lw_all := lw_g (lw_at lw_m10 5 rfl) rfl
theorem q2317 : (Jvm.Cond.privateMethod ({ cls := "BranchNamesModel", name := "behind", desc := "(Ljava/lang/String;II)I" } : Jvm.MethodName)) ∈ lw_tbl := lw_at lw_m10 6 rfl
theorem q2318 : (Jvm.Cond.instanceMethod ({ cls := "BranchNamesModel", name := "behind", desc := "(Ljava/lang/String;II)I" } : Jvm.MethodName)) ∈ lw_all := lw_g (lw_at lw_m10 7 rfl) rfl
theorem q2319 : (Jvm.Cond.code ({ cls := "BranchNamesModel", name := "behind", desc := "(Ljava/lang/String;II)I" } : Jvm.MethodName) prog_22_method_86_code (6 : Nat) (Option.some Jvm.ClassFile.FieldType.int)) ∈ lw_all := lw_g (lw_at lw_m10 8 rfl) rfl
theorem q2320 : (Jvm.Cond.methodLink "BranchNamesModel" (442 : Nat) ({ cls := "BranchNamesModel", name := "takesBranch", desc := "(III)Z" } : Jvm.MethodName)) ∈ lw_all := lw_g (lw_at lw_m10 9 rfl) rfl
theorem q2321 : (Jvm.Cond.privateMethod ({ cls := "BranchNamesModel", name := "takesBranch", desc := "(III)Z" } : Jvm.MethodName)) ∈ lw_tbl := lw_at lw_m10 10 rfl
theorem q2322 : (Jvm.Cond.instanceMethod ({ cls := "BranchNamesModel", name := "takesBranch", desc := "(III)Z" } : Jvm.MethodName)) ∈ lw_all := lw_g (lw_at lw_m10 11 rfl) rfl
theorem q2323 : (Jvm.Cond.code ({ cls := "BranchNamesModel", name := "takesBranch", desc := "(III)Z" } : Jvm.MethodName) prog_22_method_91_code (7 : Nat) (Option.some Jvm.ClassFile.FieldType.boolean)) ∈ lw_all := lw_g (lw_at lw_m10 12 rfl) rfl
theorem q2324 : (Jvm.Cond.stringRef "BranchNamesModel" (440 : Nat) "yl ") ∈ lw_tbl := lw_at lw_m10 13 rfl
theorem q2325 : (Jvm.Cond.stringRef "BranchNamesModel" (451 : Nat) "yl) ") ∈ lw_tbl := lw_at lw_m10 14 rfl
theorem q2326 : (Jvm.Cond.methodLink "BranchNamesModel" (453 : Nat) ({ cls := "BranchNamesModel", name := "takesStem", desc := "(ILjava/lang/String;)Z" } : Jvm.MethodName)) ∈ lw_all := lw_g (lw_at lw_m10 15 rfl) rfl
theorem q2327 : (Jvm.Cond.privateMethod ({ cls := "BranchNamesModel", name := "takesStem", desc := "(ILjava/lang/String;)Z" } : Jvm.MethodName)) ∈ lw_tbl := lw_at lw_m10 16 rfl
theorem q2328 : (Jvm.Cond.instanceMethod ({ cls := "BranchNamesModel", name := "takesStem", desc := "(ILjava/lang/String;)Z" } : Jvm.MethodName)) ∈ lw_all := lw_g (lw_at lw_m10 17 rfl) rfl
theorem q2329 : (Jvm.Cond.code ({ cls := "BranchNamesModel", name := "takesStem", desc := "(ILjava/lang/String;)Z" } : Jvm.MethodName) prog_22_method_90_code (6 : Nat) (Option.some Jvm.ClassFile.FieldType.boolean)) ∈ lw_all := lw_g (lw_at lw_m10 18 rfl) rfl
theorem q2330 : (Jvm.Cond.methodLink "BranchNamesModel" (436 : Nat) ({ cls := "BranchNamesModel", name := "fails", desc := "()Z" } : Jvm.MethodName)) ∈ lw_all := lw_g (lw_at lw_m10 19 rfl) rfl
theorem q2331 : (Jvm.Cond.privateMethod ({ cls := "BranchNamesModel", name := "fails", desc := "()Z" } : Jvm.MethodName)) ∈ lw_tbl := lw_at lw_m10 20 rfl
theorem q2332 : (Jvm.Cond.instanceMethod ({ cls := "BranchNamesModel", name := "fails", desc := "()Z" } : Jvm.MethodName)) ∈ lw_all := lw_g (lw_at lw_m10 21 rfl) rfl
theorem q2333 : (Jvm.Cond.code ({ cls := "BranchNamesModel", name := "fails", desc := "()Z" } : Jvm.MethodName) prog_22_method_87_code (1 : Nat) (Option.some Jvm.ClassFile.FieldType.boolean)) ∈ lw_all := lw_g (lw_at lw_m10 22 rfl) rfl
theorem q2334 : (Jvm.Cond.stringRef "BranchNamesModel" (476 : Nat) "ane ") ∈ lw_tbl := lw_at lw_m10 23 rfl
theorem q2335 : (Jvm.Cond.methodLink "BranchNamesModel" (487 : Nat) ({ cls := "BranchNamesModel", name := "makes", desc := "(II)Z" } : Jvm.MethodName)) ∈ lw_all := lw_g (lw_at lw_m10 24 rfl) rfl
theorem q2336 : (Jvm.Cond.privateMethod ({ cls := "BranchNamesModel", name := "makes", desc := "(II)Z" } : Jvm.MethodName)) ∈ lw_tbl := lw_at lw_m10 25 rfl
theorem q2337 : (Jvm.Cond.instanceMethod ({ cls := "BranchNamesModel", name := "makes", desc := "(II)Z" } : Jvm.MethodName)) ∈ lw_all := lw_g (lw_at lw_m10 26 rfl) rfl
theorem q2338 : (Jvm.Cond.code ({ cls := "BranchNamesModel", name := "makes", desc := "(II)Z" } : Jvm.MethodName) prog_22_method_101_code (5 : Nat) (Option.some Jvm.ClassFile.FieldType.boolean)) ∈ lw_all := lw_g (lw_at lw_m10 27 rfl) rfl
theorem q2339 : (Jvm.Cond.methodLink "BranchNamesModel" (493 : Nat) ({ cls := "BranchNamesModel", name := "hangsChain", desc := "(III)V" } : Jvm.MethodName)) ∈ lw_all := lw_g (lw_at lw_m10 28 rfl) rfl
theorem q2340 : (Jvm.Cond.privateMethod ({ cls := "BranchNamesModel", name := "hangsChain", desc := "(III)V" } : Jvm.MethodName)) ∈ lw_tbl := lw_at lw_m10 29 rfl
theorem q2341 : (Jvm.Cond.instanceMethod ({ cls := "BranchNamesModel", name := "hangsChain", desc := "(III)V" } : Jvm.MethodName)) ∈ lw_all := lw_g (lw_at lw_m10 30 rfl) rfl
theorem q2342 : (Jvm.Cond.code ({ cls := "BranchNamesModel", name := "hangsChain", desc := "(III)V" } : Jvm.MethodName) prog_22_method_98_code (5 : Nat) (Option.none : Option Jvm.ClassFile.FieldType)) ∈ lw_all := lw_g (lw_at lw_m10 31 rfl) rfl
theorem q2343 : (Jvm.Cond.methodLink "BranchNamesModel" (481 : Nat) ({ cls := "BranchNamesModel", name := "hangs", desc := "(II)V" } : Jvm.MethodName)) ∈ lw_all := lw_g (lw_at lw_m10 32 rfl) rfl
theorem q2344 : (Jvm.Cond.privateMethod ({ cls := "BranchNamesModel", name := "hangs", desc := "(II)V" } : Jvm.MethodName)) ∈ lw_tbl := lw_at lw_m10 33 rfl
theorem q2345 : (Jvm.Cond.instanceMethod ({ cls := "BranchNamesModel", name := "hangs", desc := "(II)V" } : Jvm.MethodName)) ∈ lw_all := lw_g (lw_at lw_m10 34 rfl) rfl
theorem q2346 : (Jvm.Cond.code ({ cls := "BranchNamesModel", name := "hangs", desc := "(II)V" } : Jvm.MethodName) prog_22_method_97_code (4 : Nat) (Option.none : Option Jvm.ClassFile.FieldType)) ∈ lw_all := lw_g (lw_at lw_m10 35 rfl) rfl
theorem q2347 : (Jvm.Cond.methodLink "BranchNamesModel" (496 : Nat) ({ cls := "BranchNamesModel", name := "makesPart", desc := "(III)Z" } : Jvm.MethodName)) ∈ lw_all := lw_g (lw_at lw_m10 36 rfl) rfl
theorem q2348 : (Jvm.Cond.privateMethod ({ cls := "BranchNamesModel", name := "makesPart", desc := "(III)Z" } : Jvm.MethodName)) ∈ lw_tbl := lw_at lw_m10 37 rfl
theorem q2349 : (Jvm.Cond.instanceMethod ({ cls := "BranchNamesModel", name := "makesPart", desc := "(III)Z" } : Jvm.MethodName)) ∈ lw_all := lw_g (lw_at lw_m10 38 rfl) rfl
theorem q2350 : (Jvm.Cond.code ({ cls := "BranchNamesModel", name := "makesPart", desc := "(III)Z" } : Jvm.MethodName) prog_22_method_100_code (8 : Nat) (Option.some Jvm.ClassFile.FieldType.boolean)) ∈ lw_all := lw_g (lw_at lw_m10 39 rfl) rfl
theorem q2351 : (Jvm.Cond.methodLink "BranchNamesModel" (484 : Nat) ({ cls := "BranchNamesModel", name := "isTrouble", desc := "(II)Z" } : Jvm.MethodName)) ∈ lw_all := lw_g (lw_at lw_m10 40 rfl) rfl
theorem q2352 : (Jvm.Cond.privateMethod ({ cls := "BranchNamesModel", name := "isTrouble", desc := "(II)Z" } : Jvm.MethodName)) ∈ lw_tbl := lw_at lw_m10 41 rfl
theorem q2353 : (Jvm.Cond.instanceMethod ({ cls := "BranchNamesModel", name := "isTrouble", desc := "(II)Z" } : Jvm.MethodName)) ∈ lw_all := lw_g (lw_at lw_m10 42 rfl) rfl
theorem q2354 : (Jvm.Cond.code ({ cls := "BranchNamesModel", name := "isTrouble", desc := "(II)Z" } : Jvm.MethodName) prog_22_method_96_code (4 : Nat) (Option.some Jvm.ClassFile.FieldType.boolean)) ∈ lw_all := lw_g (lw_at lw_m10 43 rfl) rfl
theorem q2355 : (Jvm.Cond.methodLink "BranchNamesModel" (490 : Nat) ({ cls := "BranchNamesModel", name := "hangsTree", desc := "(II)V" } : Jvm.MethodName)) ∈ lw_all := lw_g (lw_at lw_m10 44 rfl) rfl
theorem q2356 : (Jvm.Cond.privateMethod ({ cls := "BranchNamesModel", name := "hangsTree", desc := "(II)V" } : Jvm.MethodName)) ∈ lw_tbl := lw_at lw_m10 45 rfl
theorem q2357 : (Jvm.Cond.instanceMethod ({ cls := "BranchNamesModel", name := "hangsTree", desc := "(II)V" } : Jvm.MethodName)) ∈ lw_all := lw_g (lw_at lw_m10 46 rfl) rfl
theorem q2358 : (Jvm.Cond.code ({ cls := "BranchNamesModel", name := "hangsTree", desc := "(II)V" } : Jvm.MethodName) prog_22_method_99_code (6 : Nat) (Option.none : Option Jvm.ClassFile.FieldType)) ∈ lw_all := lw_g (lw_at lw_m10 47 rfl) rfl
theorem q2359 : (Jvm.Cond.methodLink "BranchNamesModel" (508 : Nat) ({ cls := "BranchNamesModel", name := "drawsMade", desc := "()V" } : Jvm.MethodName)) ∈ lw_all := lw_g (lw_at lw_m10 48 rfl) rfl
theorem q2360 : (Jvm.Cond.privateMethod ({ cls := "BranchNamesModel", name := "drawsMade", desc := "()V" } : Jvm.MethodName)) ∈ lw_tbl := lw_at lw_m10 49 rfl
theorem q2361 : (Jvm.Cond.instanceMethod ({ cls := "BranchNamesModel", name := "drawsMade", desc := "()V" } : Jvm.MethodName)) ∈ lw_all := lw_g (lw_at lw_m10 50 rfl) rfl
theorem q2362 : (Jvm.Cond.code ({ cls := "BranchNamesModel", name := "drawsMade", desc := "()V" } : Jvm.MethodName) prog_22_method_102_code (2 : Nat) (Option.none : Option Jvm.ClassFile.FieldType)) ∈ lw_all := lw_g (lw_at lw_m10 51 rfl) rfl
theorem q2363 : (Jvm.Cond.methodLink "BranchNamesModel" (511 : Nat) ({ cls := "BranchNamesModel", name := "isItsName", desc := "(I)Z" } : Jvm.MethodName)) ∈ lw_all := lw_g (lw_at lw_m10 52 rfl) rfl
theorem q2364 : (Jvm.Cond.privateMethod ({ cls := "BranchNamesModel", name := "isItsName", desc := "(I)Z" } : Jvm.MethodName)) ∈ lw_tbl := lw_at lw_m10 53 rfl
theorem q2365 : (Jvm.Cond.instanceMethod ({ cls := "BranchNamesModel", name := "isItsName", desc := "(I)Z" } : Jvm.MethodName)) ∈ lw_all := lw_g (lw_at lw_m10 54 rfl) rfl
theorem q2366 : (Jvm.Cond.code ({ cls := "BranchNamesModel", name := "isItsName", desc := "(I)Z" } : Jvm.MethodName) prog_22_method_103_code (4 : Nat) (Option.some Jvm.ClassFile.FieldType.boolean)) ∈ lw_all := lw_g (lw_at lw_m10 55 rfl) rfl
theorem q2368 : (Jvm.Cond.instanceMethod ({ cls := "BranchNamesModel", name := "why", desc := "(II)I" } : Jvm.MethodName)) ∈ lw_all := lw_g (lw_at lw_m10 57 rfl) rfl
theorem q2369 : (Jvm.Cond.selects "BranchNamesModel" ({ cls := "BranchNamesModel", name := "why", desc := "(II)I" } : Jvm.MethodName) ({ cls := "BranchNamesModel", name := "why", desc := "(II)I" } : Jvm.MethodName)) ∈ lw_all := lw_g (lw_at lw_m10 58 rfl) rfl
theorem q2370 : (Jvm.Cond.code ({ cls := "BranchNamesModel", name := "why", desc := "(II)I" } : Jvm.MethodName) prog_22_method_105_code (3 : Nat) (Option.some Jvm.ClassFile.FieldType.int)) ∈ lw_all := lw_g (lw_at lw_m10 59 rfl) rfl
theorem q2372 : (Jvm.Cond.instanceMethod ({ cls := "BranchNamesModel", name := "told", desc := "(I)I" } : Jvm.MethodName)) ∈ lw_all := lw_g (lw_at lw_m10 61 rfl) rfl
theorem q2373 : (Jvm.Cond.selects "BranchNamesModel" ({ cls := "BranchNamesModel", name := "told", desc := "(I)I" } : Jvm.MethodName) ({ cls := "BranchNamesModel", name := "told", desc := "(I)I" } : Jvm.MethodName)) ∈ lw_all := lw_g (lw_at lw_m10 62 rfl) rfl
theorem q2374 : (Jvm.Cond.code ({ cls := "BranchNamesModel", name := "told", desc := "(I)I" } : Jvm.MethodName) prog_22_method_106_code (2 : Nat) (Option.some Jvm.ClassFile.FieldType.int)) ∈ lw_all := lw_g (lw_at lw_m10 63 rfl) rfl
theorem q2376 : (Jvm.Cond.instanceMethod ({ cls := "BranchNamesModel", name := "row", desc := "(III)I" } : Jvm.MethodName)) ∈ lw_all := lw_g (lw_at lw_m10 65 rfl) rfl
theorem q2377 : (Jvm.Cond.selects "BranchNamesModel" ({ cls := "BranchNamesModel", name := "row", desc := "(III)I" } : Jvm.MethodName) ({ cls := "BranchNamesModel", name := "row", desc := "(III)I" } : Jvm.MethodName)) ∈ lw_all := lw_g (lw_at lw_m10 66 rfl) rfl
theorem q2378 : (Jvm.Cond.code ({ cls := "BranchNamesModel", name := "row", desc := "(III)I" } : Jvm.MethodName) prog_22_method_108_code (5 : Nat) (Option.some Jvm.ClassFile.FieldType.int)) ∈ lw_all := lw_g (lw_at lw_m10 67 rfl) rfl
theorem q2379 : (Jvm.Cond.methodLink "BranchNamesModel" (519 : Nat) ({ cls := "BranchNamesModel", name := "isRow", desc := "(I)Z" } : Jvm.MethodName)) ∈ lw_all := lw_g (lw_at lw_m10 68 rfl) rfl
theorem q2380 : (Jvm.Cond.static ({ cls := "BranchNamesModel", name := "isRow", desc := "(I)Z" } : Jvm.MethodName)) ∈ lw_all := lw_g (lw_at lw_m10 69 rfl) rfl
theorem q2381 : (Jvm.Cond.code ({ cls := "BranchNamesModel", name := "isRow", desc := "(I)Z" } : Jvm.MethodName) prog_22_method_107_code (1 : Nat) (Option.some Jvm.ClassFile.FieldType.boolean)) ∈ lw_all := lw_g (lw_at lw_m10 70 rfl) rfl
theorem q2382 : (Jvm.Cond.constantLong "BranchNamesModel" (517 : Nat) (3 : Int64)) ∈ lw_all := lw_g (lw_at lw_m10 71 rfl) rfl
theorem q2383 : (Jvm.Cond.constantLong "BranchNamesModel" (522 : Nat) (-1 : Int64)) ∈ lw_all := lw_g (lw_at lw_m10 72 rfl) rfl
theorem q2384 : (Jvm.Cond.constantLong "BranchNamesModel" (524 : Nat) (2 : Int64)) ∈ lw_all := lw_g (lw_at lw_m10 73 rfl) rfl
theorem q2386 : (Jvm.Cond.instanceMethod ({ cls := "BranchNamesModel", name := "put", desc := "(IIJ)I" } : Jvm.MethodName)) ∈ lw_all := lw_g (lw_at lw_m10 75 rfl) rfl
theorem q2387 : (Jvm.Cond.selects "BranchNamesModel" ({ cls := "BranchNamesModel", name := "put", desc := "(IIJ)I" } : Jvm.MethodName) ({ cls := "BranchNamesModel", name := "put", desc := "(IIJ)I" } : Jvm.MethodName)) ∈ lw_all := lw_g (lw_at lw_m10 76 rfl) rfl
theorem q2388 : (Jvm.Cond.code ({ cls := "BranchNamesModel", name := "put", desc := "(IIJ)I" } : Jvm.MethodName) prog_22_method_110_code (5 : Nat) (Option.some Jvm.ClassFile.FieldType.int)) ∈ lw_all := lw_g (lw_at lw_m10 77 rfl) rfl
theorem q2389 : (Jvm.Cond.methodLink "BranchNamesModel" (526 : Nat) ({ cls := "BranchNamesModel", name := "held", desc := "(IJ)J" } : Jvm.MethodName)) ∈ lw_all := lw_g (lw_at lw_m10 78 rfl) rfl
theorem q2390 : (Jvm.Cond.static ({ cls := "BranchNamesModel", name := "held", desc := "(IJ)J" } : Jvm.MethodName)) ∈ lw_all := lw_g (lw_at lw_m10 79 rfl) rfl
theorem q2391 : (Jvm.Cond.code ({ cls := "BranchNamesModel", name := "held", desc := "(IJ)J" } : Jvm.MethodName) prog_22_method_109_code (3 : Nat) (Option.some Jvm.ClassFile.FieldType.long)) ∈ lw_all := lw_g (lw_at lw_m10 80 rfl) rfl
theorem q2393 : (Jvm.Cond.instanceMethod ({ cls := "BranchNamesModel", name := "get", desc := "(II)J" } : Jvm.MethodName)) ∈ lw_all := lw_g (lw_at lw_m10 82 rfl) rfl
theorem q2394 : (Jvm.Cond.selects "BranchNamesModel" ({ cls := "BranchNamesModel", name := "get", desc := "(II)J" } : Jvm.MethodName) ({ cls := "BranchNamesModel", name := "get", desc := "(II)J" } : Jvm.MethodName)) ∈ lw_all := lw_g (lw_at lw_m10 83 rfl) rfl
theorem q2395 : (Jvm.Cond.code ({ cls := "BranchNamesModel", name := "get", desc := "(II)J" } : Jvm.MethodName) prog_22_method_111_code (3 : Nat) (Option.some Jvm.ClassFile.FieldType.long)) ∈ lw_all := lw_g (lw_at lw_m10 84 rfl) rfl
theorem q2397 : (Jvm.Cond.instanceMethod ({ cls := "BranchNamesModel", name := "fill", desc := "(II)I" } : Jvm.MethodName)) ∈ lw_all := lw_g (lw_at lw_m10 86 rfl) rfl
theorem q2398 : (Jvm.Cond.selects "BranchNamesModel" ({ cls := "BranchNamesModel", name := "fill", desc := "(II)I" } : Jvm.MethodName) ({ cls := "BranchNamesModel", name := "fill", desc := "(II)I" } : Jvm.MethodName)) ∈ lw_all := lw_g (lw_at lw_m10 87 rfl) rfl
theorem q2399 : (Jvm.Cond.code ({ cls := "BranchNamesModel", name := "fill", desc := "(II)I" } : Jvm.MethodName) prog_22_method_112_code (4 : Nat) (Option.some Jvm.ClassFile.FieldType.int)) ∈ lw_all := lw_g (lw_at lw_m10 88 rfl) rfl
theorem q2401 : (Jvm.Cond.instanceMethod ({ cls := "BranchNamesModel", name := "judge", desc := "(II)I" } : Jvm.MethodName)) ∈ lw_all := lw_g (lw_at lw_m10 90 rfl) rfl
theorem q2402 : (Jvm.Cond.selects "BranchNamesModel" ({ cls := "BranchNamesModel", name := "judge", desc := "(II)I" } : Jvm.MethodName) ({ cls := "BranchNamesModel", name := "judge", desc := "(II)I" } : Jvm.MethodName)) ∈ lw_all := lw_g (lw_at lw_m10 91 rfl) rfl
theorem q2403 : (Jvm.Cond.code ({ cls := "BranchNamesModel", name := "judge", desc := "(II)I" } : Jvm.MethodName) prog_22_method_113_code (4 : Nat) (Option.some Jvm.ClassFile.FieldType.int)) ∈ lw_all := lw_g (lw_at lw_m10 92 rfl) rfl
theorem q2405 : (Jvm.Cond.instanceMethod ({ cls := "BranchNamesModel", name := "copy", desc := "(IIIII)I" } : Jvm.MethodName)) ∈ lw_all := lw_g (lw_at lw_m10 94 rfl) rfl
theorem q2406 : (Jvm.Cond.selects "BranchNamesModel" ({ cls := "BranchNamesModel", name := "copy", desc := "(IIIII)I" } : Jvm.MethodName) ({ cls := "BranchNamesModel", name := "copy", desc := "(IIIII)I" } : Jvm.MethodName)) ∈ lw_all := lw_g (lw_at lw_m10 95 rfl) rfl
theorem q2407 : (Jvm.Cond.code ({ cls := "BranchNamesModel", name := "copy", desc := "(IIIII)I" } : Jvm.MethodName) prog_22_method_114_code (6 : Nat) (Option.some Jvm.ClassFile.FieldType.int)) ∈ lw_all := lw_g (lw_at lw_m10 96 rfl) rfl
theorem q2409 : (Jvm.Cond.instanceMethod ({ cls := "BranchNamesModel", name := "image", desc := "()I" } : Jvm.MethodName)) ∈ lw_all := lw_g (lw_at lw_m10 98 rfl) rfl
theorem q2410 : (Jvm.Cond.selects "BranchNamesModel" ({ cls := "BranchNamesModel", name := "image", desc := "()I" } : Jvm.MethodName) ({ cls := "BranchNamesModel", name := "image", desc := "()I" } : Jvm.MethodName)) ∈ lw_all := lw_g (lw_at lw_m10 99 rfl) rfl
theorem q2411 : (Jvm.Cond.code ({ cls := "BranchNamesModel", name := "image", desc := "()I" } : Jvm.MethodName) prog_22_method_115_code (1 : Nat) (Option.some Jvm.ClassFile.FieldType.int)) ∈ lw_all := lw_g (lw_at lw_m10 100 rfl) rfl
theorem q2413 : (Jvm.Cond.instanceMethod ({ cls := "BranchNamesModel", name := "undo", desc := "()I" } : Jvm.MethodName)) ∈ lw_all := lw_g (lw_at lw_m10 102 rfl) rfl
theorem q2414 : (Jvm.Cond.selects "BranchNamesModel" ({ cls := "BranchNamesModel", name := "undo", desc := "()I" } : Jvm.MethodName) ({ cls := "BranchNamesModel", name := "undo", desc := "()I" } : Jvm.MethodName)) ∈ lw_all := lw_g (lw_at lw_m10 103 rfl) rfl
theorem q2415 : (Jvm.Cond.code ({ cls := "BranchNamesModel", name := "undo", desc := "()I" } : Jvm.MethodName) prog_22_method_116_code (1 : Nat) (Option.some Jvm.ClassFile.FieldType.int)) ∈ lw_all := lw_g (lw_at lw_m10 104 rfl) rfl
theorem q2438 : (Jvm.Cond.castable "BranchNamesModel" "java/lang/Object") ∈ lw_tbl := lw_at lw_m10 127 rfl
theorem in_X5 : ∀ w ∈ wsX50, w ∈ lw_all := lw_in wsX50 [1815, 1817, 1819, 1821, 1823, 1825, 1827, 1829, 1831, 1833, 1835, 1837, 1839, 1841, 1843, 1845, 1847, 1849, 1851, 1853, 1855, 1857, 1859, 1861, 1863, 1865, 1867, 1869, 1871, 1873, 1875, 1877, 1879, 1881, 1883, 1885, 1887, 1889, 1891, 1893, 1895, 1897, 1899, 1901, 1903, 1905, 1907, 1909, 1911, 1913, 1915, 1917, 1919, 1921, 1923, 1925, 1927, 1929, 1931, 1933, 1935] (by decide +kernel) (by decide +kernel)
