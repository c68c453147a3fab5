/-! java/lang/AbstractStringBuilder -/
set_option maxRecDepth 100000
def RJ0 : String := "java/lang/AbstractStringBuilder"
abbrev cJ0_init : ByteArray := prog_24_method_2_code
def yJ0_init : MethodName := ⟨RJ0, "<init>", "(I)V"⟩
def dkwJ0_init_1 : List UInt8 := [167, 0, 16, 42, 27, 184, 0, 26, 181, 0, 15, 42, 4, 181, 0, 22, 177]
abbrev dktJ0_init_1 : List UInt8 := dkwJ0_init_1 ++ []
def dkwJ0_init_0 : List UInt8 := [42, 183, 0, 3, 178, 0, 18, 153, 0, 18, 42, 27, 188, 8, 181, 0, 15, 42, 3, 181, 0, 22]
abbrev dktJ0_init_0 : List UInt8 := dkwJ0_init_0 ++ dktJ0_init_1
theorem dksJ0_init_0 : cJ0_init.data.toList.drop 0 = dktJ0_init_0 := by decide +kernel
theorem dksJ0_init_1 : cJ0_init.data.toList.drop 22 = dktJ0_init_1 := dk_seg dksJ0_init_0 22 rfl rfl
theorem dJ0_init_0 : decode cJ0_init 0 = .ok (.aload_n 0, 1) := dk_42 (dk_at dksJ0_init_0 0 rfl rfl)
theorem dJ0_init_1 : decode cJ0_init 1 = .ok (.invokespecial 3, 3) := dk_183 0 3 (dk_at dksJ0_init_0 1 rfl rfl)
theorem dJ0_init_4 : decode cJ0_init 4 = .ok (.getstatic 18, 3) := dk_178 0 18 (dk_at dksJ0_init_0 4 rfl rfl)
theorem dJ0_init_7 : decode cJ0_init 7 = .ok (.ifCond .eq 18, 3) := dk_153 0 18 (dk_at dksJ0_init_0 7 rfl rfl)
theorem dJ0_init_10 : decode cJ0_init 10 = .ok (.aload_n 0, 1) := dk_42 (dk_at dksJ0_init_0 10 rfl rfl)
theorem dJ0_init_11 : decode cJ0_init 11 = .ok (.iload_n 1, 1) := dk_27 (dk_at dksJ0_init_0 11 rfl rfl)
theorem dJ0_init_12 : decode cJ0_init 12 = .ok (.newarray .byte, 2) := dk_188_8 (dk_at dksJ0_init_0 12 rfl rfl)
theorem dJ0_init_14 : decode cJ0_init 14 = .ok (.putfield 15, 3) := dk_181 0 15 (dk_at dksJ0_init_0 14 rfl rfl)
theorem dJ0_init_17 : decode cJ0_init 17 = .ok (.aload_n 0, 1) := dk_42 (dk_at dksJ0_init_0 17 rfl rfl)
theorem dJ0_init_18 : decode cJ0_init 18 = .ok (.iconst 0, 1) := dk_3 (dk_at dksJ0_init_0 18 rfl rfl)
theorem dJ0_init_19 : decode cJ0_init 19 = .ok (.putfield 22, 3) := dk_181 0 22 (dk_at dksJ0_init_0 19 rfl rfl)
theorem dJ0_init_22 : decode cJ0_init 22 = .ok (.goto 16, 3) := dk_167 0 16 (dk_at dksJ0_init_1 0 rfl rfl)
theorem dJ0_init_25 : decode cJ0_init 25 = .ok (.aload_n 0, 1) := dk_42 (dk_at dksJ0_init_1 3 rfl rfl)
theorem dJ0_init_26 : decode cJ0_init 26 = .ok (.iload_n 1, 1) := dk_27 (dk_at dksJ0_init_1 4 rfl rfl)
theorem dJ0_init_27 : decode cJ0_init 27 = .ok (.invokestatic 26, 3) := dk_184 0 26 (dk_at dksJ0_init_1 5 rfl rfl)
theorem dJ0_init_30 : decode cJ0_init 30 = .ok (.putfield 15, 3) := dk_181 0 15 (dk_at dksJ0_init_1 8 rfl rfl)
theorem dJ0_init_33 : decode cJ0_init 33 = .ok (.aload_n 0, 1) := dk_42 (dk_at dksJ0_init_1 11 rfl rfl)
theorem dJ0_init_34 : decode cJ0_init 34 = .ok (.iconst 1, 1) := dk_4 (dk_at dksJ0_init_1 12 rfl rfl)
theorem dJ0_init_35 : decode cJ0_init 35 = .ok (.putfield 22, 3) := dk_181 0 22 (dk_at dksJ0_init_1 13 rfl rfl)
theorem dJ0_init_38 : decode cJ0_init 38 = .ok (.return_, 1) := dk_177 (dk_at dksJ0_init_1 16 rfl rfl)
abbrev cJ0_append : ByteArray := prog_24_method_22_code
def yJ0_append : MethodName := ⟨RJ0, "append", "(Ljava/lang/String;)Ljava/lang/AbstractStringBuilder;"⟩
def dkwJ0_append_1 : List UInt8 := [42, 42, 180, 0, 79, 43, 182, 0, 208, 42, 89, 180, 0, 79, 28, 96, 181, 0, 79, 42, 176]
abbrev dktJ0_append_1 : List UInt8 := dkwJ0_append_1 ++ []
def dkwJ0_append_0 : List UInt8 := [43, 199, 0, 8, 42, 182, 0, 204, 176, 43, 182, 0, 32, 61, 42, 42, 180, 0, 79, 28, 96, 182, 0, 100]
abbrev dktJ0_append_0 : List UInt8 := dkwJ0_append_0 ++ dktJ0_append_1
theorem dksJ0_append_0 : cJ0_append.data.toList.drop 0 = dktJ0_append_0 := by decide +kernel
theorem dksJ0_append_1 : cJ0_append.data.toList.drop 24 = dktJ0_append_1 := dk_seg dksJ0_append_0 24 rfl rfl
theorem dJ0_append_0 : decode cJ0_append 0 = .ok (.aload_n 1, 1) := dk_43 (dk_at dksJ0_append_0 0 rfl rfl)
theorem dJ0_append_1 : decode cJ0_append 1 = .ok (.ifnonnull 8, 3) := dk_199 0 8 (dk_at dksJ0_append_0 1 rfl rfl)
theorem dJ0_append_4 : decode cJ0_append 4 = .ok (.aload_n 0, 1) := dk_42 (dk_at dksJ0_append_0 4 rfl rfl)
theorem dJ0_append_5 : decode cJ0_append 5 = .ok (.invokevirtual 204, 3) := dk_182 0 204 (dk_at dksJ0_append_0 5 rfl rfl)
theorem dJ0_append_8 : decode cJ0_append 8 = .ok (.areturn, 1) := dk_176 (dk_at dksJ0_append_0 8 rfl rfl)
theorem dJ0_append_9 : decode cJ0_append 9 = .ok (.aload_n 1, 1) := dk_43 (dk_at dksJ0_append_0 9 rfl rfl)
theorem dJ0_append_10 : decode cJ0_append 10 = .ok (.invokevirtual 32, 3) := dk_182 0 32 (dk_at dksJ0_append_0 10 rfl rfl)
theorem dJ0_append_13 : decode cJ0_append 13 = .ok (.istore_n 2, 1) := dk_61 (dk_at dksJ0_append_0 13 rfl rfl)
theorem dJ0_append_14 : decode cJ0_append 14 = .ok (.aload_n 0, 1) := dk_42 (dk_at dksJ0_append_0 14 rfl rfl)
theorem dJ0_append_15 : decode cJ0_append 15 = .ok (.aload_n 0, 1) := dk_42 (dk_at dksJ0_append_0 15 rfl rfl)
theorem dJ0_append_16 : decode cJ0_append 16 = .ok (.getfield 79, 3) := dk_180 0 79 (dk_at dksJ0_append_0 16 rfl rfl)
theorem dJ0_append_19 : decode cJ0_append 19 = .ok (.iload_n 2, 1) := dk_28 (dk_at dksJ0_append_0 19 rfl rfl)
theorem dJ0_append_20 : decode cJ0_append 20 = .ok (.iadd, 1) := dk_96 (dk_at dksJ0_append_0 20 rfl rfl)
theorem dJ0_append_21 : decode cJ0_append 21 = .ok (.invokevirtual 100, 3) := dk_182 0 100 (dk_at dksJ0_append_0 21 rfl rfl)
theorem dJ0_append_24 : decode cJ0_append 24 = .ok (.aload_n 0, 1) := dk_42 (dk_at dksJ0_append_1 0 rfl rfl)
theorem dJ0_append_25 : decode cJ0_append 25 = .ok (.aload_n 0, 1) := dk_42 (dk_at dksJ0_append_1 1 rfl rfl)
theorem dJ0_append_26 : decode cJ0_append 26 = .ok (.getfield 79, 3) := dk_180 0 79 (dk_at dksJ0_append_1 2 rfl rfl)
theorem dJ0_append_29 : decode cJ0_append 29 = .ok (.aload_n 1, 1) := dk_43 (dk_at dksJ0_append_1 5 rfl rfl)
theorem dJ0_append_30 : decode cJ0_append 30 = .ok (.invokevirtual 208, 3) := dk_182 0 208 (dk_at dksJ0_append_1 6 rfl rfl)
theorem dJ0_append_33 : decode cJ0_append 33 = .ok (.aload_n 0, 1) := dk_42 (dk_at dksJ0_append_1 9 rfl rfl)
theorem dJ0_append_34 : decode cJ0_append 34 = .ok (.dup, 1) := dk_89 (dk_at dksJ0_append_1 10 rfl rfl)
theorem dJ0_append_35 : decode cJ0_append 35 = .ok (.getfield 79, 3) := dk_180 0 79 (dk_at dksJ0_append_1 11 rfl rfl)
theorem dJ0_append_38 : decode cJ0_append 38 = .ok (.iload_n 2, 1) := dk_28 (dk_at dksJ0_append_1 14 rfl rfl)
theorem dJ0_append_39 : decode cJ0_append 39 = .ok (.iadd, 1) := dk_96 (dk_at dksJ0_append_1 15 rfl rfl)
theorem dJ0_append_40 : decode cJ0_append 40 = .ok (.putfield 79, 3) := dk_181 0 79 (dk_at dksJ0_append_1 16 rfl rfl)
theorem dJ0_append_43 : decode cJ0_append 43 = .ok (.aload_n 0, 1) := dk_42 (dk_at dksJ0_append_1 19 rfl rfl)
theorem dJ0_append_44 : decode cJ0_append 44 = .ok (.areturn, 1) := dk_176 (dk_at dksJ0_append_1 20 rfl rfl)
abbrev cJ0_appendNull : ByteArray := prog_24_method_26_code
def yJ0_appendNull : MethodName := ⟨RJ0, "appendNull", "()Ljava/lang/AbstractStringBuilder;"⟩
def dkwJ0_appendNull_3 : List UInt8 := [184, 0, 226, 60, 42, 27, 181, 0, 79, 42, 176]
abbrev dktJ0_appendNull_3 : List UInt8 := dkwJ0_appendNull_3 ++ []
def dkwJ0_appendNull_2 : List UInt8 := [16, 108, 84, 44, 27, 132, 1, 1, 16, 108, 84, 167, 0, 17, 44, 27, 16, 110, 16, 117, 16, 108, 16, 108]
abbrev dktJ0_appendNull_2 : List UInt8 := dkwJ0_appendNull_2 ++ dktJ0_appendNull_3
def dkwJ0_appendNull_1 : List UInt8 := [153, 0, 38, 44, 27, 132, 1, 1, 16, 110, 84, 44, 27, 132, 1, 1, 16, 117, 84, 44, 27, 132, 1, 1]
abbrev dktJ0_appendNull_1 : List UInt8 := dkwJ0_appendNull_1 ++ dktJ0_appendNull_2
def dkwJ0_appendNull_0 : List UInt8 := [42, 42, 180, 0, 79, 7, 96, 182, 0, 100, 42, 180, 0, 79, 60, 42, 180, 0, 15, 77, 42, 182, 0, 83]
abbrev dktJ0_appendNull_0 : List UInt8 := dkwJ0_appendNull_0 ++ dktJ0_appendNull_1
theorem dksJ0_appendNull_0 : cJ0_appendNull.data.toList.drop 0 = dktJ0_appendNull_0 := by decide +kernel
theorem dksJ0_appendNull_1 : cJ0_appendNull.data.toList.drop 24 = dktJ0_appendNull_1 := dk_seg dksJ0_appendNull_0 24 rfl rfl
theorem dksJ0_appendNull_2 : cJ0_appendNull.data.toList.drop 48 = dktJ0_appendNull_2 := dk_seg dksJ0_appendNull_1 24 rfl rfl
theorem dksJ0_appendNull_3 : cJ0_appendNull.data.toList.drop 72 = dktJ0_appendNull_3 := dk_seg dksJ0_appendNull_2 24 rfl rfl
theorem dJ0_appendNull_0 : decode cJ0_appendNull 0 = .ok (.aload_n 0, 1) := dk_42 (dk_at dksJ0_appendNull_0 0 rfl rfl)
theorem dJ0_appendNull_1 : decode cJ0_appendNull 1 = .ok (.aload_n 0, 1) := dk_42 (dk_at dksJ0_appendNull_0 1 rfl rfl)
theorem dJ0_appendNull_2 : decode cJ0_appendNull 2 = .ok (.getfield 79, 3) := dk_180 0 79 (dk_at dksJ0_appendNull_0 2 rfl rfl)
theorem dJ0_appendNull_5 : decode cJ0_appendNull 5 = .ok (.iconst 4, 1) := dk_7 (dk_at dksJ0_appendNull_0 5 rfl rfl)
theorem dJ0_appendNull_6 : decode cJ0_appendNull 6 = .ok (.iadd, 1) := dk_96 (dk_at dksJ0_appendNull_0 6 rfl rfl)
theorem dJ0_appendNull_7 : decode cJ0_appendNull 7 = .ok (.invokevirtual 100, 3) := dk_182 0 100 (dk_at dksJ0_appendNull_0 7 rfl rfl)
theorem dJ0_appendNull_10 : decode cJ0_appendNull 10 = .ok (.aload_n 0, 1) := dk_42 (dk_at dksJ0_appendNull_0 10 rfl rfl)
theorem dJ0_appendNull_11 : decode cJ0_appendNull 11 = .ok (.getfield 79, 3) := dk_180 0 79 (dk_at dksJ0_appendNull_0 11 rfl rfl)
theorem dJ0_appendNull_14 : decode cJ0_appendNull 14 = .ok (.istore_n 1, 1) := dk_60 (dk_at dksJ0_appendNull_0 14 rfl rfl)
theorem dJ0_appendNull_15 : decode cJ0_appendNull 15 = .ok (.aload_n 0, 1) := dk_42 (dk_at dksJ0_appendNull_0 15 rfl rfl)
theorem dJ0_appendNull_16 : decode cJ0_appendNull 16 = .ok (.getfield 15, 3) := dk_180 0 15 (dk_at dksJ0_appendNull_0 16 rfl rfl)
theorem dJ0_appendNull_19 : decode cJ0_appendNull 19 = .ok (.astore_n 2, 1) := dk_77 (dk_at dksJ0_appendNull_0 19 rfl rfl)
theorem dJ0_appendNull_20 : decode cJ0_appendNull 20 = .ok (.aload_n 0, 1) := dk_42 (dk_at dksJ0_appendNull_0 20 rfl rfl)
theorem dJ0_appendNull_21 : decode cJ0_appendNull 21 = .ok (.invokevirtual 83, 3) := dk_182 0 83 (dk_at dksJ0_appendNull_0 21 rfl rfl)
theorem dJ0_appendNull_24 : decode cJ0_appendNull 24 = .ok (.ifCond .eq 38, 3) := dk_153 0 38 (dk_at dksJ0_appendNull_1 0 rfl rfl)
theorem dJ0_appendNull_27 : decode cJ0_appendNull 27 = .ok (.aload_n 2, 1) := dk_44 (dk_at dksJ0_appendNull_1 3 rfl rfl)
theorem dJ0_appendNull_28 : decode cJ0_appendNull 28 = .ok (.iload_n 1, 1) := dk_27 (dk_at dksJ0_appendNull_1 4 rfl rfl)
theorem dJ0_appendNull_29 : decode cJ0_appendNull 29 = .ok (.iinc 1 1, 3) := dk_132 1 1 (dk_at dksJ0_appendNull_1 5 rfl rfl)
theorem dJ0_appendNull_32 : decode cJ0_appendNull 32 = .ok (.bipush 110, 2) := dk_16 110 (dk_at dksJ0_appendNull_1 8 rfl rfl)
theorem dJ0_appendNull_34 : decode cJ0_appendNull 34 = .ok (.bastore, 1) := dk_84 (dk_at dksJ0_appendNull_1 10 rfl rfl)
theorem dJ0_appendNull_35 : decode cJ0_appendNull 35 = .ok (.aload_n 2, 1) := dk_44 (dk_at dksJ0_appendNull_1 11 rfl rfl)
theorem dJ0_appendNull_36 : decode cJ0_appendNull 36 = .ok (.iload_n 1, 1) := dk_27 (dk_at dksJ0_appendNull_1 12 rfl rfl)
theorem dJ0_appendNull_37 : decode cJ0_appendNull 37 = .ok (.iinc 1 1, 3) := dk_132 1 1 (dk_at dksJ0_appendNull_1 13 rfl rfl)
theorem dJ0_appendNull_40 : decode cJ0_appendNull 40 = .ok (.bipush 117, 2) := dk_16 117 (dk_at dksJ0_appendNull_1 16 rfl rfl)
theorem dJ0_appendNull_42 : decode cJ0_appendNull 42 = .ok (.bastore, 1) := dk_84 (dk_at dksJ0_appendNull_1 18 rfl rfl)
theorem dJ0_appendNull_43 : decode cJ0_appendNull 43 = .ok (.aload_n 2, 1) := dk_44 (dk_at dksJ0_appendNull_1 19 rfl rfl)
theorem dJ0_appendNull_44 : decode cJ0_appendNull 44 = .ok (.iload_n 1, 1) := dk_27 (dk_at dksJ0_appendNull_1 20 rfl rfl)
theorem dJ0_appendNull_45 : decode cJ0_appendNull 45 = .ok (.iinc 1 1, 3) := dk_132 1 1 (dk_at dksJ0_appendNull_1 21 rfl rfl)
theorem dJ0_appendNull_48 : decode cJ0_appendNull 48 = .ok (.bipush 108, 2) := dk_16 108 (dk_at dksJ0_appendNull_2 0 rfl rfl)
theorem dJ0_appendNull_50 : decode cJ0_appendNull 50 = .ok (.bastore, 1) := dk_84 (dk_at dksJ0_appendNull_2 2 rfl rfl)
theorem dJ0_appendNull_51 : decode cJ0_appendNull 51 = .ok (.aload_n 2, 1) := dk_44 (dk_at dksJ0_appendNull_2 3 rfl rfl)
theorem dJ0_appendNull_52 : decode cJ0_appendNull 52 = .ok (.iload_n 1, 1) := dk_27 (dk_at dksJ0_appendNull_2 4 rfl rfl)
theorem dJ0_appendNull_53 : decode cJ0_appendNull 53 = .ok (.iinc 1 1, 3) := dk_132 1 1 (dk_at dksJ0_appendNull_2 5 rfl rfl)
theorem dJ0_appendNull_56 : decode cJ0_appendNull 56 = .ok (.bipush 108, 2) := dk_16 108 (dk_at dksJ0_appendNull_2 8 rfl rfl)
theorem dJ0_appendNull_58 : decode cJ0_appendNull 58 = .ok (.bastore, 1) := dk_84 (dk_at dksJ0_appendNull_2 10 rfl rfl)
theorem dJ0_appendNull_59 : decode cJ0_appendNull 59 = .ok (.goto 17, 3) := dk_167 0 17 (dk_at dksJ0_appendNull_2 11 rfl rfl)
theorem dJ0_appendNull_62 : decode cJ0_appendNull 62 = .ok (.aload_n 2, 1) := dk_44 (dk_at dksJ0_appendNull_2 14 rfl rfl)
theorem dJ0_appendNull_63 : decode cJ0_appendNull 63 = .ok (.iload_n 1, 1) := dk_27 (dk_at dksJ0_appendNull_2 15 rfl rfl)
theorem dJ0_appendNull_64 : decode cJ0_appendNull 64 = .ok (.bipush 110, 2) := dk_16 110 (dk_at dksJ0_appendNull_2 16 rfl rfl)
theorem dJ0_appendNull_66 : decode cJ0_appendNull 66 = .ok (.bipush 117, 2) := dk_16 117 (dk_at dksJ0_appendNull_2 18 rfl rfl)
theorem dJ0_appendNull_68 : decode cJ0_appendNull 68 = .ok (.bipush 108, 2) := dk_16 108 (dk_at dksJ0_appendNull_2 20 rfl rfl)
theorem dJ0_appendNull_70 : decode cJ0_appendNull 70 = .ok (.bipush 108, 2) := dk_16 108 (dk_at dksJ0_appendNull_2 22 rfl rfl)
theorem dJ0_appendNull_72 : decode cJ0_appendNull 72 = .ok (.invokestatic 226, 3) := dk_184 0 226 (dk_at dksJ0_appendNull_3 0 rfl rfl)
theorem dJ0_appendNull_75 : decode cJ0_appendNull 75 = .ok (.istore_n 1, 1) := dk_60 (dk_at dksJ0_appendNull_3 3 rfl rfl)
theorem dJ0_appendNull_76 : decode cJ0_appendNull 76 = .ok (.aload_n 0, 1) := dk_42 (dk_at dksJ0_appendNull_3 4 rfl rfl)
theorem dJ0_appendNull_77 : decode cJ0_appendNull 77 = .ok (.iload_n 1, 1) := dk_27 (dk_at dksJ0_appendNull_3 5 rfl rfl)
theorem dJ0_appendNull_78 : decode cJ0_appendNull 78 = .ok (.putfield 79, 3) := dk_181 0 79 (dk_at dksJ0_appendNull_3 6 rfl rfl)
theorem dJ0_appendNull_81 : decode cJ0_appendNull 81 = .ok (.aload_n 0, 1) := dk_42 (dk_at dksJ0_appendNull_3 9 rfl rfl)
theorem dJ0_appendNull_82 : decode cJ0_appendNull 82 = .ok (.areturn, 1) := dk_176 (dk_at dksJ0_appendNull_3 10 rfl rfl)
abbrev cJ0_ensureCapacityInternal : ByteArray := prog_24_method_9_code
def yJ0_ensureCapacityInternal : MethodName := ⟨RJ0, "ensureCapacityInternal", "(I)V"⟩
def dkwJ0_ensureCapacityInternal_1 : List UInt8 := [182, 0, 104, 42, 180, 0, 22, 120, 184, 0, 108, 181, 0, 15, 177]
abbrev dktJ0_ensureCapacityInternal_1 : List UInt8 := dkwJ0_ensureCapacityInternal_1 ++ []
def dkwJ0_ensureCapacityInternal_0 : List UInt8 := [42, 180, 0, 15, 190, 42, 180, 0, 22, 122, 61, 27, 28, 100, 158, 0, 24, 42, 42, 180, 0, 15, 42, 27]
abbrev dktJ0_ensureCapacityInternal_0 : List UInt8 := dkwJ0_ensureCapacityInternal_0 ++ dktJ0_ensureCapacityInternal_1
theorem dksJ0_ensureCapacityInternal_0 : cJ0_ensureCapacityInternal.data.toList.drop 0 = dktJ0_ensureCapacityInternal_0 := by decide +kernel
theorem dksJ0_ensureCapacityInternal_1 : cJ0_ensureCapacityInternal.data.toList.drop 24 = dktJ0_ensureCapacityInternal_1 := dk_seg dksJ0_ensureCapacityInternal_0 24 rfl rfl
theorem dJ0_ensureCapacityInternal_0 : decode cJ0_ensureCapacityInternal 0 = .ok (.aload_n 0, 1) := dk_42 (dk_at dksJ0_ensureCapacityInternal_0 0 rfl rfl)
theorem dJ0_ensureCapacityInternal_1 : decode cJ0_ensureCapacityInternal 1 = .ok (.getfield 15, 3) := dk_180 0 15 (dk_at dksJ0_ensureCapacityInternal_0 1 rfl rfl)
theorem dJ0_ensureCapacityInternal_4 : decode cJ0_ensureCapacityInternal 4 = .ok (.arraylength, 1) := dk_190 (dk_at dksJ0_ensureCapacityInternal_0 4 rfl rfl)
theorem dJ0_ensureCapacityInternal_5 : decode cJ0_ensureCapacityInternal 5 = .ok (.aload_n 0, 1) := dk_42 (dk_at dksJ0_ensureCapacityInternal_0 5 rfl rfl)
theorem dJ0_ensureCapacityInternal_6 : decode cJ0_ensureCapacityInternal 6 = .ok (.getfield 22, 3) := dk_180 0 22 (dk_at dksJ0_ensureCapacityInternal_0 6 rfl rfl)
theorem dJ0_ensureCapacityInternal_9 : decode cJ0_ensureCapacityInternal 9 = .ok (.ishr, 1) := dk_122 (dk_at dksJ0_ensureCapacityInternal_0 9 rfl rfl)
theorem dJ0_ensureCapacityInternal_10 : decode cJ0_ensureCapacityInternal 10 = .ok (.istore_n 2, 1) := dk_61 (dk_at dksJ0_ensureCapacityInternal_0 10 rfl rfl)
theorem dJ0_ensureCapacityInternal_11 : decode cJ0_ensureCapacityInternal 11 = .ok (.iload_n 1, 1) := dk_27 (dk_at dksJ0_ensureCapacityInternal_0 11 rfl rfl)
theorem dJ0_ensureCapacityInternal_12 : decode cJ0_ensureCapacityInternal 12 = .ok (.iload_n 2, 1) := dk_28 (dk_at dksJ0_ensureCapacityInternal_0 12 rfl rfl)
theorem dJ0_ensureCapacityInternal_13 : decode cJ0_ensureCapacityInternal 13 = .ok (.isub, 1) := dk_100 (dk_at dksJ0_ensureCapacityInternal_0 13 rfl rfl)
theorem dJ0_ensureCapacityInternal_14 : decode cJ0_ensureCapacityInternal 14 = .ok (.ifCond .le 24, 3) := dk_158 0 24 (dk_at dksJ0_ensureCapacityInternal_0 14 rfl rfl)
theorem dJ0_ensureCapacityInternal_17 : decode cJ0_ensureCapacityInternal 17 = .ok (.aload_n 0, 1) := dk_42 (dk_at dksJ0_ensureCapacityInternal_0 17 rfl rfl)
theorem dJ0_ensureCapacityInternal_18 : decode cJ0_ensureCapacityInternal 18 = .ok (.aload_n 0, 1) := dk_42 (dk_at dksJ0_ensureCapacityInternal_0 18 rfl rfl)
theorem dJ0_ensureCapacityInternal_19 : decode cJ0_ensureCapacityInternal 19 = .ok (.getfield 15, 3) := dk_180 0 15 (dk_at dksJ0_ensureCapacityInternal_0 19 rfl rfl)
theorem dJ0_ensureCapacityInternal_22 : decode cJ0_ensureCapacityInternal 22 = .ok (.aload_n 0, 1) := dk_42 (dk_at dksJ0_ensureCapacityInternal_0 22 rfl rfl)
theorem dJ0_ensureCapacityInternal_23 : decode cJ0_ensureCapacityInternal 23 = .ok (.iload_n 1, 1) := dk_27 (dk_at dksJ0_ensureCapacityInternal_0 23 rfl rfl)
theorem dJ0_ensureCapacityInternal_24 : decode cJ0_ensureCapacityInternal 24 = .ok (.invokevirtual 104, 3) := dk_182 0 104 (dk_at dksJ0_ensureCapacityInternal_1 0 rfl rfl)
theorem dJ0_ensureCapacityInternal_27 : decode cJ0_ensureCapacityInternal 27 = .ok (.aload_n 0, 1) := dk_42 (dk_at dksJ0_ensureCapacityInternal_1 3 rfl rfl)
theorem dJ0_ensureCapacityInternal_28 : decode cJ0_ensureCapacityInternal 28 = .ok (.getfield 22, 3) := dk_180 0 22 (dk_at dksJ0_ensureCapacityInternal_1 4 rfl rfl)
theorem dJ0_ensureCapacityInternal_31 : decode cJ0_ensureCapacityInternal 31 = .ok (.ishl, 1) := dk_120 (dk_at dksJ0_ensureCapacityInternal_1 7 rfl rfl)
theorem dJ0_ensureCapacityInternal_32 : decode cJ0_ensureCapacityInternal 32 = .ok (.invokestatic 108, 3) := dk_184 0 108 (dk_at dksJ0_ensureCapacityInternal_1 8 rfl rfl)
theorem dJ0_ensureCapacityInternal_35 : decode cJ0_ensureCapacityInternal 35 = .ok (.putfield 15, 3) := dk_181 0 15 (dk_at dksJ0_ensureCapacityInternal_1 11 rfl rfl)
theorem dJ0_ensureCapacityInternal_38 : decode cJ0_ensureCapacityInternal 38 = .ok (.return_, 1) := dk_177 (dk_at dksJ0_ensureCapacityInternal_1 14 rfl rfl)
abbrev cJ0_newCapacity : ByteArray := prog_24_method_10_code
def yJ0_newCapacity : MethodName := ⟨RJ0, "newCapacity", "(I)I"⟩
def dkwJ0_newCapacity_2 : List UInt8 := [183, 0, 124, 191, 21, 5, 42, 180, 0, 22, 122, 172]
abbrev dktJ0_newCapacity_2 : List UInt8 := dkwJ0_newCapacity_2 ++ []
def dkwJ0_newCapacity_1 : List UInt8 := [180, 0, 22, 120, 96, 184, 0, 114, 54, 5, 21, 5, 18, 39, 160, 0, 13, 187, 0, 120, 89, 18, 122]
abbrev dktJ0_newCapacity_1 : List UInt8 := dkwJ0_newCapacity_1 ++ dktJ0_newCapacity_2
def dkwJ0_newCapacity_0 : List UInt8 := [42, 180, 0, 15, 190, 61, 27, 42, 180, 0, 22, 120, 62, 29, 28, 100, 54, 4, 28, 21, 4, 28, 5, 42]
abbrev dktJ0_newCapacity_0 : List UInt8 := dkwJ0_newCapacity_0 ++ dktJ0_newCapacity_1
theorem dksJ0_newCapacity_0 : cJ0_newCapacity.data.toList.drop 0 = dktJ0_newCapacity_0 := by decide +kernel
theorem dksJ0_newCapacity_1 : cJ0_newCapacity.data.toList.drop 24 = dktJ0_newCapacity_1 := dk_seg dksJ0_newCapacity_0 24 rfl rfl
theorem dksJ0_newCapacity_2 : cJ0_newCapacity.data.toList.drop 47 = dktJ0_newCapacity_2 := dk_seg dksJ0_newCapacity_1 23 rfl rfl
theorem dJ0_newCapacity_0 : decode cJ0_newCapacity 0 = .ok (.aload_n 0, 1) := dk_42 (dk_at dksJ0_newCapacity_0 0 rfl rfl)
theorem dJ0_newCapacity_1 : decode cJ0_newCapacity 1 = .ok (.getfield 15, 3) := dk_180 0 15 (dk_at dksJ0_newCapacity_0 1 rfl rfl)
theorem dJ0_newCapacity_4 : decode cJ0_newCapacity 4 = .ok (.arraylength, 1) := dk_190 (dk_at dksJ0_newCapacity_0 4 rfl rfl)
theorem dJ0_newCapacity_5 : decode cJ0_newCapacity 5 = .ok (.istore_n 2, 1) := dk_61 (dk_at dksJ0_newCapacity_0 5 rfl rfl)
theorem dJ0_newCapacity_6 : decode cJ0_newCapacity 6 = .ok (.iload_n 1, 1) := dk_27 (dk_at dksJ0_newCapacity_0 6 rfl rfl)
theorem dJ0_newCapacity_7 : decode cJ0_newCapacity 7 = .ok (.aload_n 0, 1) := dk_42 (dk_at dksJ0_newCapacity_0 7 rfl rfl)
theorem dJ0_newCapacity_8 : decode cJ0_newCapacity 8 = .ok (.getfield 22, 3) := dk_180 0 22 (dk_at dksJ0_newCapacity_0 8 rfl rfl)
theorem dJ0_newCapacity_11 : decode cJ0_newCapacity 11 = .ok (.ishl, 1) := dk_120 (dk_at dksJ0_newCapacity_0 11 rfl rfl)
theorem dJ0_newCapacity_12 : decode cJ0_newCapacity 12 = .ok (.istore_n 3, 1) := dk_62 (dk_at dksJ0_newCapacity_0 12 rfl rfl)
theorem dJ0_newCapacity_13 : decode cJ0_newCapacity 13 = .ok (.iload_n 3, 1) := dk_29 (dk_at dksJ0_newCapacity_0 13 rfl rfl)
theorem dJ0_newCapacity_14 : decode cJ0_newCapacity 14 = .ok (.iload_n 2, 1) := dk_28 (dk_at dksJ0_newCapacity_0 14 rfl rfl)
theorem dJ0_newCapacity_15 : decode cJ0_newCapacity 15 = .ok (.isub, 1) := dk_100 (dk_at dksJ0_newCapacity_0 15 rfl rfl)
theorem dJ0_newCapacity_16 : decode cJ0_newCapacity 16 = .ok (.istore 4, 2) := dk_54 4 (dk_at dksJ0_newCapacity_0 16 rfl rfl)
theorem dJ0_newCapacity_18 : decode cJ0_newCapacity 18 = .ok (.iload_n 2, 1) := dk_28 (dk_at dksJ0_newCapacity_0 18 rfl rfl)
theorem dJ0_newCapacity_19 : decode cJ0_newCapacity 19 = .ok (.iload 4, 2) := dk_21 4 (dk_at dksJ0_newCapacity_0 19 rfl rfl)
theorem dJ0_newCapacity_21 : decode cJ0_newCapacity 21 = .ok (.iload_n 2, 1) := dk_28 (dk_at dksJ0_newCapacity_0 21 rfl rfl)
theorem dJ0_newCapacity_22 : decode cJ0_newCapacity 22 = .ok (.iconst 2, 1) := dk_5 (dk_at dksJ0_newCapacity_0 22 rfl rfl)
theorem dJ0_newCapacity_23 : decode cJ0_newCapacity 23 = .ok (.aload_n 0, 1) := dk_42 (dk_at dksJ0_newCapacity_0 23 rfl rfl)
theorem dJ0_newCapacity_24 : decode cJ0_newCapacity 24 = .ok (.getfield 22, 3) := dk_180 0 22 (dk_at dksJ0_newCapacity_1 0 rfl rfl)
theorem dJ0_newCapacity_27 : decode cJ0_newCapacity 27 = .ok (.ishl, 1) := dk_120 (dk_at dksJ0_newCapacity_1 3 rfl rfl)
theorem dJ0_newCapacity_28 : decode cJ0_newCapacity 28 = .ok (.iadd, 1) := dk_96 (dk_at dksJ0_newCapacity_1 4 rfl rfl)
theorem dJ0_newCapacity_29 : decode cJ0_newCapacity 29 = .ok (.invokestatic 114, 3) := dk_184 0 114 (dk_at dksJ0_newCapacity_1 5 rfl rfl)
theorem dJ0_newCapacity_32 : decode cJ0_newCapacity 32 = .ok (.istore 5, 2) := dk_54 5 (dk_at dksJ0_newCapacity_1 8 rfl rfl)
theorem dJ0_newCapacity_34 : decode cJ0_newCapacity 34 = .ok (.iload 5, 2) := dk_21 5 (dk_at dksJ0_newCapacity_1 10 rfl rfl)
theorem dJ0_newCapacity_36 : decode cJ0_newCapacity 36 = .ok (.ldc 39, 2) := dk_18 39 (dk_at dksJ0_newCapacity_1 12 rfl rfl)
theorem dJ0_newCapacity_38 : decode cJ0_newCapacity 38 = .ok (.if_icmp .ne 13, 3) := dk_160 0 13 (dk_at dksJ0_newCapacity_1 14 rfl rfl)
theorem dJ0_newCapacity_41 : decode cJ0_newCapacity 41 = .ok (.new 120, 3) := dk_187 0 120 (dk_at dksJ0_newCapacity_1 17 rfl rfl)
theorem dJ0_newCapacity_44 : decode cJ0_newCapacity 44 = .ok (.dup, 1) := dk_89 (dk_at dksJ0_newCapacity_1 20 rfl rfl)
theorem dJ0_newCapacity_45 : decode cJ0_newCapacity 45 = .ok (.ldc 122, 2) := dk_18 122 (dk_at dksJ0_newCapacity_1 21 rfl rfl)
theorem dJ0_newCapacity_47 : decode cJ0_newCapacity 47 = .ok (.invokespecial 124, 3) := dk_183 0 124 (dk_at dksJ0_newCapacity_2 0 rfl rfl)
theorem dJ0_newCapacity_50 : decode cJ0_newCapacity 50 = .ok (.athrow, 1) := dk_191 (dk_at dksJ0_newCapacity_2 3 rfl rfl)
theorem dJ0_newCapacity_51 : decode cJ0_newCapacity 51 = .ok (.iload 5, 2) := dk_21 5 (dk_at dksJ0_newCapacity_2 4 rfl rfl)
theorem dJ0_newCapacity_53 : decode cJ0_newCapacity 53 = .ok (.aload_n 0, 1) := dk_42 (dk_at dksJ0_newCapacity_2 6 rfl rfl)
theorem dJ0_newCapacity_54 : decode cJ0_newCapacity 54 = .ok (.getfield 22, 3) := dk_180 0 22 (dk_at dksJ0_newCapacity_2 7 rfl rfl)
theorem dJ0_newCapacity_57 : decode cJ0_newCapacity 57 = .ok (.ishr, 1) := dk_122 (dk_at dksJ0_newCapacity_2 10 rfl rfl)
theorem dJ0_newCapacity_58 : decode cJ0_newCapacity 58 = .ok (.ireturn, 1) := dk_172 (dk_at dksJ0_newCapacity_2 11 rfl rfl)
abbrev cJ0_isLatin1 : ByteArray := prog_24_method_68_code
def yJ0_isLatin1 : MethodName := ⟨RJ0, "isLatin1", "()Z"⟩
def dkwJ0_isLatin1_0 : List UInt8 := [178, 0, 18, 153, 0, 14, 42, 180, 0, 22, 154, 0, 7, 4, 167, 0, 4, 3, 172]
abbrev dktJ0_isLatin1_0 : List UInt8 := dkwJ0_isLatin1_0 ++ []
theorem dksJ0_isLatin1_0 : cJ0_isLatin1.data.toList.drop 0 = dktJ0_isLatin1_0 := by decide +kernel
theorem dJ0_isLatin1_0 : decode cJ0_isLatin1 0 = .ok (.getstatic 18, 3) := dk_178 0 18 (dk_at dksJ0_isLatin1_0 0 rfl rfl)
theorem dJ0_isLatin1_3 : decode cJ0_isLatin1 3 = .ok (.ifCond .eq 14, 3) := dk_153 0 14 (dk_at dksJ0_isLatin1_0 3 rfl rfl)
theorem dJ0_isLatin1_6 : decode cJ0_isLatin1 6 = .ok (.aload_n 0, 1) := dk_42 (dk_at dksJ0_isLatin1_0 6 rfl rfl)
theorem dJ0_isLatin1_7 : decode cJ0_isLatin1 7 = .ok (.getfield 22, 3) := dk_180 0 22 (dk_at dksJ0_isLatin1_0 7 rfl rfl)
theorem dJ0_isLatin1_10 : decode cJ0_isLatin1 10 = .ok (.ifCond .ne 7, 3) := dk_154 0 7 (dk_at dksJ0_isLatin1_0 10 rfl rfl)
theorem dJ0_isLatin1_13 : decode cJ0_isLatin1 13 = .ok (.iconst 1, 1) := dk_4 (dk_at dksJ0_isLatin1_0 13 rfl rfl)
theorem dJ0_isLatin1_14 : decode cJ0_isLatin1 14 = .ok (.goto 4, 3) := dk_167 0 4 (dk_at dksJ0_isLatin1_0 14 rfl rfl)
theorem dJ0_isLatin1_17 : decode cJ0_isLatin1 17 = .ok (.iconst 0, 1) := dk_3 (dk_at dksJ0_isLatin1_0 17 rfl rfl)
theorem dJ0_isLatin1_18 : decode cJ0_isLatin1 18 = .ok (.ireturn, 1) := dk_172 (dk_at dksJ0_isLatin1_0 18 rfl rfl)
abbrev cJ0_putStringAt : ByteArray := prog_24_method_73_code
def yJ0_putStringAt : MethodName := ⟨RJ0, "putStringAt", "(ILjava/lang/String;)V"⟩
def dkwJ0_putStringAt_0 : List UInt8 := [42, 44, 182, 1, 141, 44, 42, 180, 0, 15, 27, 42, 180, 0, 22, 182, 1, 143, 177]
abbrev dktJ0_putStringAt_0 : List UInt8 := dkwJ0_putStringAt_0 ++ []
theorem dksJ0_putStringAt_0 : cJ0_putStringAt.data.toList.drop 0 = dktJ0_putStringAt_0 := by decide +kernel
theorem dJ0_putStringAt_0 : decode cJ0_putStringAt 0 = .ok (.aload_n 0, 1) := dk_42 (dk_at dksJ0_putStringAt_0 0 rfl rfl)
theorem dJ0_putStringAt_1 : decode cJ0_putStringAt 1 = .ok (.aload_n 2, 1) := dk_44 (dk_at dksJ0_putStringAt_0 1 rfl rfl)
theorem dJ0_putStringAt_2 : decode cJ0_putStringAt 2 = .ok (.invokevirtual 397, 3) := dk_182 1 141 (dk_at dksJ0_putStringAt_0 2 rfl rfl)
theorem dJ0_putStringAt_5 : decode cJ0_putStringAt 5 = .ok (.aload_n 2, 1) := dk_44 (dk_at dksJ0_putStringAt_0 5 rfl rfl)
theorem dJ0_putStringAt_6 : decode cJ0_putStringAt 6 = .ok (.aload_n 0, 1) := dk_42 (dk_at dksJ0_putStringAt_0 6 rfl rfl)
theorem dJ0_putStringAt_7 : decode cJ0_putStringAt 7 = .ok (.getfield 15, 3) := dk_180 0 15 (dk_at dksJ0_putStringAt_0 7 rfl rfl)
theorem dJ0_putStringAt_10 : decode cJ0_putStringAt 10 = .ok (.iload_n 1, 1) := dk_27 (dk_at dksJ0_putStringAt_0 10 rfl rfl)
theorem dJ0_putStringAt_11 : decode cJ0_putStringAt 11 = .ok (.aload_n 0, 1) := dk_42 (dk_at dksJ0_putStringAt_0 11 rfl rfl)
theorem dJ0_putStringAt_12 : decode cJ0_putStringAt 12 = .ok (.getfield 22, 3) := dk_180 0 22 (dk_at dksJ0_putStringAt_0 12 rfl rfl)
theorem dJ0_putStringAt_15 : decode cJ0_putStringAt 15 = .ok (.invokevirtual 399, 3) := dk_182 1 143 (dk_at dksJ0_putStringAt_0 15 rfl rfl)
theorem dJ0_putStringAt_18 : decode cJ0_putStringAt 18 = .ok (.return_, 1) := dk_177 (dk_at dksJ0_putStringAt_0 18 rfl rfl)
abbrev cJ0_inflateIfNeededFor : ByteArray := prog_24_method_71_code
def yJ0_inflateIfNeededFor : MethodName := ⟨RJ0, "inflateIfNeededFor", "(Ljava/lang/String;)V"⟩
def dkwJ0_inflateIfNeededFor_0 : List UInt8 := [178, 0, 18, 153, 0, 18, 42, 180, 0, 22, 43, 182, 0, 40, 159, 0, 7, 42, 182, 0, 195, 177]
abbrev dktJ0_inflateIfNeededFor_0 : List UInt8 := dkwJ0_inflateIfNeededFor_0 ++ []
theorem dksJ0_inflateIfNeededFor_0 : cJ0_inflateIfNeededFor.data.toList.drop 0 = dktJ0_inflateIfNeededFor_0 := by decide +kernel
theorem dJ0_inflateIfNeededFor_0 : decode cJ0_inflateIfNeededFor 0 = .ok (.getstatic 18, 3) := dk_178 0 18 (dk_at dksJ0_inflateIfNeededFor_0 0 rfl rfl)
theorem dJ0_inflateIfNeededFor_3 : decode cJ0_inflateIfNeededFor 3 = .ok (.ifCond .eq 18, 3) := dk_153 0 18 (dk_at dksJ0_inflateIfNeededFor_0 3 rfl rfl)
theorem dJ0_inflateIfNeededFor_6 : decode cJ0_inflateIfNeededFor 6 = .ok (.aload_n 0, 1) := dk_42 (dk_at dksJ0_inflateIfNeededFor_0 6 rfl rfl)
theorem dJ0_inflateIfNeededFor_7 : decode cJ0_inflateIfNeededFor 7 = .ok (.getfield 22, 3) := dk_180 0 22 (dk_at dksJ0_inflateIfNeededFor_0 7 rfl rfl)
theorem dJ0_inflateIfNeededFor_10 : decode cJ0_inflateIfNeededFor 10 = .ok (.aload_n 1, 1) := dk_43 (dk_at dksJ0_inflateIfNeededFor_0 10 rfl rfl)
theorem dJ0_inflateIfNeededFor_11 : decode cJ0_inflateIfNeededFor 11 = .ok (.invokevirtual 40, 3) := dk_182 0 40 (dk_at dksJ0_inflateIfNeededFor_0 11 rfl rfl)
theorem dJ0_inflateIfNeededFor_14 : decode cJ0_inflateIfNeededFor 14 = .ok (.if_icmp .eq 7, 3) := dk_159 0 7 (dk_at dksJ0_inflateIfNeededFor_0 14 rfl rfl)
theorem dJ0_inflateIfNeededFor_17 : decode cJ0_inflateIfNeededFor 17 = .ok (.aload_n 0, 1) := dk_42 (dk_at dksJ0_inflateIfNeededFor_0 17 rfl rfl)
theorem dJ0_inflateIfNeededFor_18 : decode cJ0_inflateIfNeededFor 18 = .ok (.invokevirtual 195, 3) := dk_182 0 195 (dk_at dksJ0_inflateIfNeededFor_0 18 rfl rfl)
theorem dJ0_inflateIfNeededFor_21 : decode cJ0_inflateIfNeededFor 21 = .ok (.return_, 1) := dk_177 (dk_at dksJ0_inflateIfNeededFor_0 21 rfl rfl)
abbrev cJ0_inflate : ByteArray := prog_24_method_11_code
def yJ0_inflate : MethodName := ⟨RJ0, "inflate", "()V"⟩
def dkwJ0_inflate_1 : List UInt8 := [42, 180, 0, 79, 184, 0, 125, 42, 43, 181, 0, 15, 42, 4, 181, 0, 22, 177]
abbrev dktJ0_inflate_1 : List UInt8 := dkwJ0_inflate_1 ++ []
def dkwJ0_inflate_0 : List UInt8 := [42, 182, 0, 83, 154, 0, 4, 177, 42, 180, 0, 15, 190, 184, 0, 26, 76, 42, 180, 0, 15, 3, 43, 3]
abbrev dktJ0_inflate_0 : List UInt8 := dkwJ0_inflate_0 ++ dktJ0_inflate_1
theorem dksJ0_inflate_0 : cJ0_inflate.data.toList.drop 0 = dktJ0_inflate_0 := by decide +kernel
theorem dksJ0_inflate_1 : cJ0_inflate.data.toList.drop 24 = dktJ0_inflate_1 := dk_seg dksJ0_inflate_0 24 rfl rfl
theorem dJ0_inflate_0 : decode cJ0_inflate 0 = .ok (.aload_n 0, 1) := dk_42 (dk_at dksJ0_inflate_0 0 rfl rfl)
theorem dJ0_inflate_1 : decode cJ0_inflate 1 = .ok (.invokevirtual 83, 3) := dk_182 0 83 (dk_at dksJ0_inflate_0 1 rfl rfl)
theorem dJ0_inflate_4 : decode cJ0_inflate 4 = .ok (.ifCond .ne 4, 3) := dk_154 0 4 (dk_at dksJ0_inflate_0 4 rfl rfl)
theorem dJ0_inflate_7 : decode cJ0_inflate 7 = .ok (.return_, 1) := dk_177 (dk_at dksJ0_inflate_0 7 rfl rfl)
theorem dJ0_inflate_8 : decode cJ0_inflate 8 = .ok (.aload_n 0, 1) := dk_42 (dk_at dksJ0_inflate_0 8 rfl rfl)
theorem dJ0_inflate_9 : decode cJ0_inflate 9 = .ok (.getfield 15, 3) := dk_180 0 15 (dk_at dksJ0_inflate_0 9 rfl rfl)
theorem dJ0_inflate_12 : decode cJ0_inflate 12 = .ok (.arraylength, 1) := dk_190 (dk_at dksJ0_inflate_0 12 rfl rfl)
theorem dJ0_inflate_13 : decode cJ0_inflate 13 = .ok (.invokestatic 26, 3) := dk_184 0 26 (dk_at dksJ0_inflate_0 13 rfl rfl)
theorem dJ0_inflate_16 : decode cJ0_inflate 16 = .ok (.astore_n 1, 1) := dk_76 (dk_at dksJ0_inflate_0 16 rfl rfl)
theorem dJ0_inflate_17 : decode cJ0_inflate 17 = .ok (.aload_n 0, 1) := dk_42 (dk_at dksJ0_inflate_0 17 rfl rfl)
theorem dJ0_inflate_18 : decode cJ0_inflate 18 = .ok (.getfield 15, 3) := dk_180 0 15 (dk_at dksJ0_inflate_0 18 rfl rfl)
theorem dJ0_inflate_21 : decode cJ0_inflate 21 = .ok (.iconst 0, 1) := dk_3 (dk_at dksJ0_inflate_0 21 rfl rfl)
theorem dJ0_inflate_22 : decode cJ0_inflate 22 = .ok (.aload_n 1, 1) := dk_43 (dk_at dksJ0_inflate_0 22 rfl rfl)
theorem dJ0_inflate_23 : decode cJ0_inflate 23 = .ok (.iconst 0, 1) := dk_3 (dk_at dksJ0_inflate_0 23 rfl rfl)
theorem dJ0_inflate_24 : decode cJ0_inflate 24 = .ok (.aload_n 0, 1) := dk_42 (dk_at dksJ0_inflate_1 0 rfl rfl)
theorem dJ0_inflate_25 : decode cJ0_inflate 25 = .ok (.getfield 79, 3) := dk_180 0 79 (dk_at dksJ0_inflate_1 1 rfl rfl)
theorem dJ0_inflate_28 : decode cJ0_inflate 28 = .ok (.invokestatic 125, 3) := dk_184 0 125 (dk_at dksJ0_inflate_1 4 rfl rfl)
theorem dJ0_inflate_31 : decode cJ0_inflate 31 = .ok (.aload_n 0, 1) := dk_42 (dk_at dksJ0_inflate_1 7 rfl rfl)
theorem dJ0_inflate_32 : decode cJ0_inflate 32 = .ok (.aload_n 1, 1) := dk_43 (dk_at dksJ0_inflate_1 8 rfl rfl)
theorem dJ0_inflate_33 : decode cJ0_inflate 33 = .ok (.putfield 15, 3) := dk_181 0 15 (dk_at dksJ0_inflate_1 9 rfl rfl)
theorem dJ0_inflate_36 : decode cJ0_inflate 36 = .ok (.aload_n 0, 1) := dk_42 (dk_at dksJ0_inflate_1 12 rfl rfl)
theorem dJ0_inflate_37 : decode cJ0_inflate 37 = .ok (.iconst 1, 1) := dk_4 (dk_at dksJ0_inflate_1 13 rfl rfl)
theorem dJ0_inflate_38 : decode cJ0_inflate 38 = .ok (.putfield 22, 3) := dk_181 0 22 (dk_at dksJ0_inflate_1 14 rfl rfl)
theorem dJ0_inflate_41 : decode cJ0_inflate 41 = .ok (.return_, 1) := dk_177 (dk_at dksJ0_inflate_1 17 rfl rfl)
abbrev cJ0_getValue : ByteArray := prog_24_method_64_code
def yJ0_getValue : MethodName := ⟨RJ0, "getValue", "()[B"⟩
theorem dJ0_getValue_0 : decode cJ0_getValue 0 = .ok (.aload_n 0, 1) := by decide +kernel
theorem dJ0_getValue_1 : decode cJ0_getValue 1 = .ok (.getfield 15, 3) := by decide +kernel
theorem dJ0_getValue_4 : decode cJ0_getValue 4 = .ok (.areturn, 1) := by decide +kernel
abbrev cJ0_length : ByteArray := prog_24_method_6_code
def yJ0_length : MethodName := ⟨RJ0, "length", "()I"⟩
theorem dJ0_length_0 : decode cJ0_length 0 = .ok (.aload_n 0, 1) := by decide +kernel
theorem dJ0_length_1 : decode cJ0_length 1 = .ok (.getfield 79, 3) := by decide +kernel
theorem dJ0_length_4 : decode cJ0_length 4 = .ok (.ireturn, 1) := by decide +kernel
abbrev cJ0_append_2 : ByteArray := prog_24_method_31_code
def yJ0_append_2 : MethodName := ⟨RJ0, "append", "(C)Ljava/lang/AbstractStringBuilder;"⟩
def dkwJ0_append_2_3 : List UInt8 := [181, 0, 79, 27, 184, 0, 197, 42, 176]
abbrev dktJ0_append_2_3 : List UInt8 := dkwJ0_append_2_3 ++ []
def dkwJ0_append_2_2 : List UInt8 := [182, 0, 83, 153, 0, 7, 42, 182, 0, 195, 42, 180, 0, 15, 42, 89, 180, 0, 79, 90, 4, 96]
abbrev dktJ0_append_2_2 : List UInt8 := dkwJ0_append_2_2 ++ dktJ0_append_2_3
def dkwJ0_append_2_1 : List UInt8 := [42, 180, 0, 15, 42, 89, 180, 0, 79, 90, 4, 96, 181, 0, 79, 27, 145, 84, 167, 0, 33, 42]
abbrev dktJ0_append_2_1 : List UInt8 := dkwJ0_append_2_1 ++ dktJ0_append_2_2
def dkwJ0_append_2_0 : List UInt8 := [42, 42, 180, 0, 79, 4, 96, 182, 0, 100, 42, 182, 0, 83, 153, 0, 31, 27, 184, 0, 191, 153, 0, 24]
abbrev dktJ0_append_2_0 : List UInt8 := dkwJ0_append_2_0 ++ dktJ0_append_2_1
theorem dksJ0_append_2_0 : cJ0_append_2.data.toList.drop 0 = dktJ0_append_2_0 := by decide +kernel
theorem dksJ0_append_2_1 : cJ0_append_2.data.toList.drop 24 = dktJ0_append_2_1 := dk_seg dksJ0_append_2_0 24 rfl rfl
theorem dksJ0_append_2_2 : cJ0_append_2.data.toList.drop 46 = dktJ0_append_2_2 := dk_seg dksJ0_append_2_1 22 rfl rfl
theorem dksJ0_append_2_3 : cJ0_append_2.data.toList.drop 68 = dktJ0_append_2_3 := dk_seg dksJ0_append_2_2 22 rfl rfl
theorem dJ0_append_2_0 : decode cJ0_append_2 0 = .ok (.aload_n 0, 1) := dk_42 (dk_at dksJ0_append_2_0 0 rfl rfl)
theorem dJ0_append_2_1 : decode cJ0_append_2 1 = .ok (.aload_n 0, 1) := dk_42 (dk_at dksJ0_append_2_0 1 rfl rfl)
theorem dJ0_append_2_2 : decode cJ0_append_2 2 = .ok (.getfield 79, 3) := dk_180 0 79 (dk_at dksJ0_append_2_0 2 rfl rfl)
theorem dJ0_append_2_5 : decode cJ0_append_2 5 = .ok (.iconst 1, 1) := dk_4 (dk_at dksJ0_append_2_0 5 rfl rfl)
theorem dJ0_append_2_6 : decode cJ0_append_2 6 = .ok (.iadd, 1) := dk_96 (dk_at dksJ0_append_2_0 6 rfl rfl)
theorem dJ0_append_2_7 : decode cJ0_append_2 7 = .ok (.invokevirtual 100, 3) := dk_182 0 100 (dk_at dksJ0_append_2_0 7 rfl rfl)
theorem dJ0_append_2_10 : decode cJ0_append_2 10 = .ok (.aload_n 0, 1) := dk_42 (dk_at dksJ0_append_2_0 10 rfl rfl)
theorem dJ0_append_2_11 : decode cJ0_append_2 11 = .ok (.invokevirtual 83, 3) := dk_182 0 83 (dk_at dksJ0_append_2_0 11 rfl rfl)
theorem dJ0_append_2_14 : decode cJ0_append_2 14 = .ok (.ifCond .eq 31, 3) := dk_153 0 31 (dk_at dksJ0_append_2_0 14 rfl rfl)
theorem dJ0_append_2_17 : decode cJ0_append_2 17 = .ok (.iload_n 1, 1) := dk_27 (dk_at dksJ0_append_2_0 17 rfl rfl)
theorem dJ0_append_2_18 : decode cJ0_append_2 18 = .ok (.invokestatic 191, 3) := dk_184 0 191 (dk_at dksJ0_append_2_0 18 rfl rfl)
theorem dJ0_append_2_21 : decode cJ0_append_2 21 = .ok (.ifCond .eq 24, 3) := dk_153 0 24 (dk_at dksJ0_append_2_0 21 rfl rfl)
theorem dJ0_append_2_24 : decode cJ0_append_2 24 = .ok (.aload_n 0, 1) := dk_42 (dk_at dksJ0_append_2_1 0 rfl rfl)
theorem dJ0_append_2_25 : decode cJ0_append_2 25 = .ok (.getfield 15, 3) := dk_180 0 15 (dk_at dksJ0_append_2_1 1 rfl rfl)
theorem dJ0_append_2_28 : decode cJ0_append_2 28 = .ok (.aload_n 0, 1) := dk_42 (dk_at dksJ0_append_2_1 4 rfl rfl)
theorem dJ0_append_2_29 : decode cJ0_append_2 29 = .ok (.dup, 1) := dk_89 (dk_at dksJ0_append_2_1 5 rfl rfl)
theorem dJ0_append_2_30 : decode cJ0_append_2 30 = .ok (.getfield 79, 3) := dk_180 0 79 (dk_at dksJ0_append_2_1 6 rfl rfl)
theorem dJ0_append_2_33 : decode cJ0_append_2 33 = .ok (.dup_x1, 1) := dk_90 (dk_at dksJ0_append_2_1 9 rfl rfl)
theorem dJ0_append_2_34 : decode cJ0_append_2 34 = .ok (.iconst 1, 1) := dk_4 (dk_at dksJ0_append_2_1 10 rfl rfl)
theorem dJ0_append_2_35 : decode cJ0_append_2 35 = .ok (.iadd, 1) := dk_96 (dk_at dksJ0_append_2_1 11 rfl rfl)
theorem dJ0_append_2_36 : decode cJ0_append_2 36 = .ok (.putfield 79, 3) := dk_181 0 79 (dk_at dksJ0_append_2_1 12 rfl rfl)
theorem dJ0_append_2_39 : decode cJ0_append_2 39 = .ok (.iload_n 1, 1) := dk_27 (dk_at dksJ0_append_2_1 15 rfl rfl)
theorem dJ0_append_2_40 : decode cJ0_append_2 40 = .ok (.i2b, 1) := dk_145 (dk_at dksJ0_append_2_1 16 rfl rfl)
theorem dJ0_append_2_41 : decode cJ0_append_2 41 = .ok (.bastore, 1) := dk_84 (dk_at dksJ0_append_2_1 17 rfl rfl)
theorem dJ0_append_2_42 : decode cJ0_append_2 42 = .ok (.goto 33, 3) := dk_167 0 33 (dk_at dksJ0_append_2_1 18 rfl rfl)
theorem dJ0_append_2_45 : decode cJ0_append_2 45 = .ok (.aload_n 0, 1) := dk_42 (dk_at dksJ0_append_2_1 21 rfl rfl)
theorem dJ0_append_2_46 : decode cJ0_append_2 46 = .ok (.invokevirtual 83, 3) := dk_182 0 83 (dk_at dksJ0_append_2_2 0 rfl rfl)
theorem dJ0_append_2_49 : decode cJ0_append_2 49 = .ok (.ifCond .eq 7, 3) := dk_153 0 7 (dk_at dksJ0_append_2_2 3 rfl rfl)
theorem dJ0_append_2_52 : decode cJ0_append_2 52 = .ok (.aload_n 0, 1) := dk_42 (dk_at dksJ0_append_2_2 6 rfl rfl)
theorem dJ0_append_2_53 : decode cJ0_append_2 53 = .ok (.invokevirtual 195, 3) := dk_182 0 195 (dk_at dksJ0_append_2_2 7 rfl rfl)
theorem dJ0_append_2_56 : decode cJ0_append_2 56 = .ok (.aload_n 0, 1) := dk_42 (dk_at dksJ0_append_2_2 10 rfl rfl)
theorem dJ0_append_2_57 : decode cJ0_append_2 57 = .ok (.getfield 15, 3) := dk_180 0 15 (dk_at dksJ0_append_2_2 11 rfl rfl)
theorem dJ0_append_2_60 : decode cJ0_append_2 60 = .ok (.aload_n 0, 1) := dk_42 (dk_at dksJ0_append_2_2 14 rfl rfl)
theorem dJ0_append_2_61 : decode cJ0_append_2 61 = .ok (.dup, 1) := dk_89 (dk_at dksJ0_append_2_2 15 rfl rfl)
theorem dJ0_append_2_62 : decode cJ0_append_2 62 = .ok (.getfield 79, 3) := dk_180 0 79 (dk_at dksJ0_append_2_2 16 rfl rfl)
theorem dJ0_append_2_65 : decode cJ0_append_2 65 = .ok (.dup_x1, 1) := dk_90 (dk_at dksJ0_append_2_2 19 rfl rfl)
theorem dJ0_append_2_66 : decode cJ0_append_2 66 = .ok (.iconst 1, 1) := dk_4 (dk_at dksJ0_append_2_2 20 rfl rfl)
theorem dJ0_append_2_67 : decode cJ0_append_2 67 = .ok (.iadd, 1) := dk_96 (dk_at dksJ0_append_2_2 21 rfl rfl)
theorem dJ0_append_2_68 : decode cJ0_append_2 68 = .ok (.putfield 79, 3) := dk_181 0 79 (dk_at dksJ0_append_2_3 0 rfl rfl)
theorem dJ0_append_2_71 : decode cJ0_append_2 71 = .ok (.iload_n 1, 1) := dk_27 (dk_at dksJ0_append_2_3 3 rfl rfl)
theorem dJ0_append_2_72 : decode cJ0_append_2 72 = .ok (.invokestatic 197, 3) := dk_184 0 197 (dk_at dksJ0_append_2_3 4 rfl rfl)
theorem dJ0_append_2_75 : decode cJ0_append_2 75 = .ok (.aload_n 0, 1) := dk_42 (dk_at dksJ0_append_2_3 7 rfl rfl)
theorem dJ0_append_2_76 : decode cJ0_append_2 76 = .ok (.areturn, 1) := dk_176 (dk_at dksJ0_append_2_3 8 rfl rfl)
abbrev cJ0_append_3 : ByteArray := prog_24_method_32_code
def yJ0_append_3 : MethodName := ⟨RJ0, "append", "(I)Ljava/lang/AbstractStringBuilder;"⟩
def dkwJ0_append_3_2 : List UInt8 := [42, 29, 181, 0, 79, 42, 176]
abbrev dktJ0_append_3_2 : List UInt8 := dkwJ0_append_3_2 ++ []
def dkwJ0_append_3_1 : List UInt8 := [27, 29, 42, 180, 0, 15, 184, 0, 248, 87, 167, 0, 14, 27, 28, 29, 42, 180, 0, 15, 184, 0, 251, 87]
abbrev dktJ0_append_3_1 : List UInt8 := dkwJ0_append_3_1 ++ dktJ0_append_3_2
def dkwJ0_append_3_0 : List UInt8 := [42, 180, 0, 79, 61, 28, 27, 184, 0, 245, 96, 62, 42, 29, 182, 0, 100, 42, 182, 0, 83, 153, 0, 16]
abbrev dktJ0_append_3_0 : List UInt8 := dkwJ0_append_3_0 ++ dktJ0_append_3_1
theorem dksJ0_append_3_0 : cJ0_append_3.data.toList.drop 0 = dktJ0_append_3_0 := by decide +kernel
theorem dksJ0_append_3_1 : cJ0_append_3.data.toList.drop 24 = dktJ0_append_3_1 := dk_seg dksJ0_append_3_0 24 rfl rfl
theorem dksJ0_append_3_2 : cJ0_append_3.data.toList.drop 48 = dktJ0_append_3_2 := dk_seg dksJ0_append_3_1 24 rfl rfl
theorem dJ0_append_3_0 : decode cJ0_append_3 0 = .ok (.aload_n 0, 1) := dk_42 (dk_at dksJ0_append_3_0 0 rfl rfl)
theorem dJ0_append_3_1 : decode cJ0_append_3 1 = .ok (.getfield 79, 3) := dk_180 0 79 (dk_at dksJ0_append_3_0 1 rfl rfl)
theorem dJ0_append_3_4 : decode cJ0_append_3 4 = .ok (.istore_n 2, 1) := dk_61 (dk_at dksJ0_append_3_0 4 rfl rfl)
theorem dJ0_append_3_5 : decode cJ0_append_3 5 = .ok (.iload_n 2, 1) := dk_28 (dk_at dksJ0_append_3_0 5 rfl rfl)
theorem dJ0_append_3_6 : decode cJ0_append_3 6 = .ok (.iload_n 1, 1) := dk_27 (dk_at dksJ0_append_3_0 6 rfl rfl)
theorem dJ0_append_3_7 : decode cJ0_append_3 7 = .ok (.invokestatic 245, 3) := dk_184 0 245 (dk_at dksJ0_append_3_0 7 rfl rfl)
theorem dJ0_append_3_10 : decode cJ0_append_3 10 = .ok (.iadd, 1) := dk_96 (dk_at dksJ0_append_3_0 10 rfl rfl)
theorem dJ0_append_3_11 : decode cJ0_append_3 11 = .ok (.istore_n 3, 1) := dk_62 (dk_at dksJ0_append_3_0 11 rfl rfl)
theorem dJ0_append_3_12 : decode cJ0_append_3 12 = .ok (.aload_n 0, 1) := dk_42 (dk_at dksJ0_append_3_0 12 rfl rfl)
theorem dJ0_append_3_13 : decode cJ0_append_3 13 = .ok (.iload_n 3, 1) := dk_29 (dk_at dksJ0_append_3_0 13 rfl rfl)
theorem dJ0_append_3_14 : decode cJ0_append_3 14 = .ok (.invokevirtual 100, 3) := dk_182 0 100 (dk_at dksJ0_append_3_0 14 rfl rfl)
theorem dJ0_append_3_17 : decode cJ0_append_3 17 = .ok (.aload_n 0, 1) := dk_42 (dk_at dksJ0_append_3_0 17 rfl rfl)
theorem dJ0_append_3_18 : decode cJ0_append_3 18 = .ok (.invokevirtual 83, 3) := dk_182 0 83 (dk_at dksJ0_append_3_0 18 rfl rfl)
theorem dJ0_append_3_21 : decode cJ0_append_3 21 = .ok (.ifCond .eq 16, 3) := dk_153 0 16 (dk_at dksJ0_append_3_0 21 rfl rfl)
theorem dJ0_append_3_24 : decode cJ0_append_3 24 = .ok (.iload_n 1, 1) := dk_27 (dk_at dksJ0_append_3_1 0 rfl rfl)
theorem dJ0_append_3_25 : decode cJ0_append_3 25 = .ok (.iload_n 3, 1) := dk_29 (dk_at dksJ0_append_3_1 1 rfl rfl)
theorem dJ0_append_3_26 : decode cJ0_append_3 26 = .ok (.aload_n 0, 1) := dk_42 (dk_at dksJ0_append_3_1 2 rfl rfl)
theorem dJ0_append_3_27 : decode cJ0_append_3 27 = .ok (.getfield 15, 3) := dk_180 0 15 (dk_at dksJ0_append_3_1 3 rfl rfl)
theorem dJ0_append_3_30 : decode cJ0_append_3 30 = .ok (.invokestatic 248, 3) := dk_184 0 248 (dk_at dksJ0_append_3_1 6 rfl rfl)
theorem dJ0_append_3_33 : decode cJ0_append_3 33 = .ok (.pop, 1) := dk_87 (dk_at dksJ0_append_3_1 9 rfl rfl)
theorem dJ0_append_3_34 : decode cJ0_append_3 34 = .ok (.goto 14, 3) := dk_167 0 14 (dk_at dksJ0_append_3_1 10 rfl rfl)
theorem dJ0_append_3_37 : decode cJ0_append_3 37 = .ok (.iload_n 1, 1) := dk_27 (dk_at dksJ0_append_3_1 13 rfl rfl)
theorem dJ0_append_3_38 : decode cJ0_append_3 38 = .ok (.iload_n 2, 1) := dk_28 (dk_at dksJ0_append_3_1 14 rfl rfl)
theorem dJ0_append_3_39 : decode cJ0_append_3 39 = .ok (.iload_n 3, 1) := dk_29 (dk_at dksJ0_append_3_1 15 rfl rfl)
theorem dJ0_append_3_40 : decode cJ0_append_3 40 = .ok (.aload_n 0, 1) := dk_42 (dk_at dksJ0_append_3_1 16 rfl rfl)
theorem dJ0_append_3_41 : decode cJ0_append_3 41 = .ok (.getfield 15, 3) := dk_180 0 15 (dk_at dksJ0_append_3_1 17 rfl rfl)
theorem dJ0_append_3_44 : decode cJ0_append_3 44 = .ok (.invokestatic 251, 3) := dk_184 0 251 (dk_at dksJ0_append_3_1 20 rfl rfl)
theorem dJ0_append_3_47 : decode cJ0_append_3 47 = .ok (.pop, 1) := dk_87 (dk_at dksJ0_append_3_1 23 rfl rfl)
theorem dJ0_append_3_48 : decode cJ0_append_3 48 = .ok (.aload_n 0, 1) := dk_42 (dk_at dksJ0_append_3_2 0 rfl rfl)
theorem dJ0_append_3_49 : decode cJ0_append_3 49 = .ok (.iload_n 3, 1) := dk_29 (dk_at dksJ0_append_3_2 1 rfl rfl)
theorem dJ0_append_3_50 : decode cJ0_append_3 50 = .ok (.putfield 79, 3) := dk_181 0 79 (dk_at dksJ0_append_3_2 2 rfl rfl)
theorem dJ0_append_3_53 : decode cJ0_append_3 53 = .ok (.aload_n 0, 1) := dk_42 (dk_at dksJ0_append_3_2 5 rfl rfl)
theorem dJ0_append_3_54 : decode cJ0_append_3 54 = .ok (.areturn, 1) := dk_176 (dk_at dksJ0_append_3_2 6 rfl rfl)
theorem q154 : (Jvm.Cond.initialized "java/lang/AbstractStringBuilder") ∈ lw_all := lw_g (lw_at lw_m1 3 rfl) rfl
theorem q278 : (Jvm.Cond.instanceMethod ({ cls := "java/lang/AbstractStringBuilder", name := "<init>", desc := "(I)V" } : Jvm.MethodName)) ∈ lw_all := lw_g (lw_at lw_m1 127 rfl) rfl
theorem q279 : (Jvm.Cond.code ({ cls := "java/lang/AbstractStringBuilder", name := "<init>", desc := "(I)V" } : Jvm.MethodName) prog_24_method_2_code (2 : Nat) (Option.none : Option Jvm.ClassFile.FieldType)) ∈ lw_all := lw_g (lw_at lw_m1 128 rfl) rfl
theorem q280 : (Jvm.Cond.methodLink "java/lang/AbstractStringBuilder" (3 : Nat) ({ cls := "java/lang/Object", name := "<init>", desc := "()V" } : Jvm.MethodName)) ∈ lw_all := lw_g (lw_at lw_m1 129 rfl) rfl
theorem q281 : (Jvm.Cond.fieldLink "java/lang/AbstractStringBuilder" (18 : Nat) "java/lang/String" "COMPACT_STRINGS" "Z") ∈ lw_all := lw_g (lw_at lw_m1 130 rfl) rfl
theorem q283 : (Jvm.Cond.methodLink "java/lang/AbstractStringBuilder" (26 : Nat) ({ cls := "java/lang/StringUTF16", name := "newBytesFor", desc := "(I)[B" } : Jvm.MethodName)) ∈ lw_all := lw_g (lw_at lw_m1 132 rfl) rfl
theorem q290 : (Jvm.Cond.fieldLink "java/lang/AbstractStringBuilder" (15 : Nat) "java/lang/AbstractStringBuilder" "value" "[B") ∈ lw_all := lw_g (lw_at lw_m1 139 rfl) rfl
theorem q291 : (Jvm.Cond.fieldLink "java/lang/AbstractStringBuilder" (22 : Nat) "java/lang/AbstractStringBuilder" "coder" "B") ∈ lw_all := lw_g (lw_at lw_m1 140 rfl) rfl
theorem q293 : (Jvm.Cond.fieldLink "java/lang/AbstractStringBuilder" (79 : Nat) "java/lang/AbstractStringBuilder" "count" "I") ∈ lw_all := lw_g (lw_at lw_m1 142 rfl) rfl
theorem q295 : (Jvm.Cond.soleField "java/lang/AbstractStringBuilder" "value") ∈ lw_all := lw_g (lw_at lw_m1 144 rfl) rfl
theorem q297 : (Jvm.Cond.soleField "java/lang/AbstractStringBuilder" "coder") ∈ lw_all := lw_g (lw_at lw_m1 146 rfl) rfl
theorem q299 : (Jvm.Cond.soleField "java/lang/AbstractStringBuilder" "maybeLatin1") ∈ lw_all := lw_g (lw_at lw_m1 148 rfl) rfl
theorem q301 : (Jvm.Cond.soleField "java/lang/AbstractStringBuilder" "count") ∈ lw_all := lw_g (lw_at lw_m1 150 rfl) rfl
theorem q310 : (Jvm.Cond.instanceMethod ({ cls := "java/lang/AbstractStringBuilder", name := "append", desc := "(Ljava/lang/String;)Ljava/lang/AbstractStringBuilder;" } : Jvm.MethodName)) ∈ lw_all := lw_g (lw_at lw_m1 159 rfl) rfl
theorem q311 : (Jvm.Cond.code ({ cls := "java/lang/AbstractStringBuilder", name := "append", desc := "(Ljava/lang/String;)Ljava/lang/AbstractStringBuilder;" } : Jvm.MethodName) prog_24_method_22_code (3 : Nat) (Option.some (Jvm.ClassFile.FieldType.object "java/lang/AbstractStringBuilder"))) ∈ lw_all := lw_g (lw_at lw_m1 160 rfl) rfl
theorem q312 : (Jvm.Cond.methodLink "java/lang/AbstractStringBuilder" (204 : Nat) ({ cls := "java/lang/AbstractStringBuilder", name := "appendNull", desc := "()Ljava/lang/AbstractStringBuilder;" } : Jvm.MethodName)) ∈ lw_all := lw_g (lw_at lw_m1 161 rfl) rfl
theorem q313 : (Jvm.Cond.privateMethod ({ cls := "java/lang/AbstractStringBuilder", name := "appendNull", desc := "()Ljava/lang/AbstractStringBuilder;" } : Jvm.MethodName)) ∈ lw_tbl := lw_at lw_m1 162 rfl
theorem q314 : (Jvm.Cond.instanceMethod ({ cls := "java/lang/AbstractStringBuilder", name := "appendNull", desc := "()Ljava/lang/AbstractStringBuilder;" } : Jvm.MethodName)) ∈ lw_all := lw_g (lw_at lw_m1 163 rfl) rfl
theorem q315 : (Jvm.Cond.code ({ cls := "java/lang/AbstractStringBuilder", name := "appendNull", desc := "()Ljava/lang/AbstractStringBuilder;" } : Jvm.MethodName) prog_24_method_26_code (3 : Nat) (Option.some (Jvm.ClassFile.FieldType.object "java/lang/AbstractStringBuilder"))) ∈ lw_all := lw_g (lw_at lw_m1 164 rfl) rfl
theorem q316 : (Jvm.Cond.methodLink "java/lang/AbstractStringBuilder" (100 : Nat) ({ cls := "java/lang/AbstractStringBuilder", name := "ensureCapacityInternal", desc := "(I)V" } : Jvm.MethodName)) ∈ lw_all := lw_g (lw_at lw_m1 165 rfl) rfl
theorem q317 : (Jvm.Cond.privateMethod ({ cls := "java/lang/AbstractStringBuilder", name := "ensureCapacityInternal", desc := "(I)V" } : Jvm.MethodName)) ∈ lw_tbl := lw_at lw_m1 166 rfl
theorem q318 : (Jvm.Cond.instanceMethod ({ cls := "java/lang/AbstractStringBuilder", name := "ensureCapacityInternal", desc := "(I)V" } : Jvm.MethodName)) ∈ lw_all := lw_g (lw_at lw_m1 167 rfl) rfl
theorem q319 : (Jvm.Cond.code ({ cls := "java/lang/AbstractStringBuilder", name := "ensureCapacityInternal", desc := "(I)V" } : Jvm.MethodName) prog_24_method_9_code (3 : Nat) (Option.none : Option Jvm.ClassFile.FieldType)) ∈ lw_all := lw_g (lw_at lw_m1 168 rfl) rfl
theorem q320 : (Jvm.Cond.methodLink "java/lang/AbstractStringBuilder" (104 : Nat) ({ cls := "java/lang/AbstractStringBuilder", name := "newCapacity", desc := "(I)I" } : Jvm.MethodName)) ∈ lw_all := lw_g (lw_at lw_m1 169 rfl) rfl
theorem q321 : (Jvm.Cond.privateMethod ({ cls := "java/lang/AbstractStringBuilder", name := "newCapacity", desc := "(I)I" } : Jvm.MethodName)) ∈ lw_tbl := lw_at lw_m1 170 rfl
theorem q322 : (Jvm.Cond.instanceMethod ({ cls := "java/lang/AbstractStringBuilder", name := "newCapacity", desc := "(I)I" } : Jvm.MethodName)) ∈ lw_all := lw_g (lw_at lw_m1 171 rfl) rfl
theorem q323 : (Jvm.Cond.code ({ cls := "java/lang/AbstractStringBuilder", name := "newCapacity", desc := "(I)I" } : Jvm.MethodName) prog_24_method_10_code (6 : Nat) (Option.some Jvm.ClassFile.FieldType.int)) ∈ lw_all := lw_g (lw_at lw_m1 172 rfl) rfl
theorem q324 : (Jvm.Cond.methodLink "java/lang/AbstractStringBuilder" (114 : Nat) ({ cls := "jdk/internal/util/ArraysSupport", name := "newLength", desc := "(III)I" } : Jvm.MethodName)) ∈ lw_all := lw_g (lw_at lw_m1 173 rfl) rfl
theorem q334 : (Jvm.Cond.constant "java/lang/AbstractStringBuilder" (39 : Nat) (2147483647 : Int32)) ∈ lw_all := lw_g (lw_at lw_m1 183 rfl) rfl
theorem q335 : (Jvm.Cond.methodLink "java/lang/AbstractStringBuilder" (108 : Nat) ({ cls := "java/util/Arrays", name := "copyOf", desc := "([BI)[B" } : Jvm.MethodName)) ∈ lw_all := lw_g (lw_at lw_m1 184 rfl) rfl
theorem q351 : (Jvm.Cond.methodLink "java/lang/AbstractStringBuilder" (83 : Nat) ({ cls := "java/lang/AbstractStringBuilder", name := "isLatin1", desc := "()Z" } : Jvm.MethodName)) ∈ lw_all := lw_g (lw_at lw_m1 200 rfl) rfl
theorem q352 : (Jvm.Cond.instanceMethod ({ cls := "java/lang/AbstractStringBuilder", name := "isLatin1", desc := "()Z" } : Jvm.MethodName)) ∈ lw_all := lw_g (lw_at lw_m1 201 rfl) rfl
theorem q353 : (Jvm.Cond.sameMethod "java/lang/AbstractStringBuilder" "java/lang/AbstractStringBuilder" "isLatin1" "()Z") ∈ lw_all := lw_g (lw_at lw_m1 202 rfl) rfl
theorem q355 : (Jvm.Cond.code ({ cls := "java/lang/AbstractStringBuilder", name := "isLatin1", desc := "()Z" } : Jvm.MethodName) prog_24_method_68_code (1 : Nat) (Option.some Jvm.ClassFile.FieldType.boolean)) ∈ lw_all := lw_g (lw_at lw_m1 204 rfl) rfl
theorem q356 : (Jvm.Cond.methodLink "java/lang/AbstractStringBuilder" (226 : Nat) ({ cls := "java/lang/StringUTF16", name := "putCharsAt", desc := "([BICCCC)I" } : Jvm.MethodName)) ∈ lw_all := lw_g (lw_at lw_m1 205 rfl) rfl
theorem q382 : (Jvm.Cond.methodLink "java/lang/AbstractStringBuilder" (32 : Nat) ({ cls := "java/lang/String", name := "length", desc := "()I" } : Jvm.MethodName)) ∈ lw_all := lw_g (lw_at lw_m1 231 rfl) rfl
theorem q391 : (Jvm.Cond.methodLink "java/lang/AbstractStringBuilder" (208 : Nat) ({ cls := "java/lang/AbstractStringBuilder", name := "putStringAt", desc := "(ILjava/lang/String;)V" } : Jvm.MethodName)) ∈ lw_all := lw_g (lw_at lw_m2 0 rfl) rfl
theorem q392 : (Jvm.Cond.privateMethod ({ cls := "java/lang/AbstractStringBuilder", name := "putStringAt", desc := "(ILjava/lang/String;)V" } : Jvm.MethodName)) ∈ lw_tbl := lw_at lw_m2 1 rfl
theorem q393 : (Jvm.Cond.instanceMethod ({ cls := "java/lang/AbstractStringBuilder", name := "putStringAt", desc := "(ILjava/lang/String;)V" } : Jvm.MethodName)) ∈ lw_all := lw_g (lw_at lw_m2 2 rfl) rfl
theorem q394 : (Jvm.Cond.code ({ cls := "java/lang/AbstractStringBuilder", name := "putStringAt", desc := "(ILjava/lang/String;)V" } : Jvm.MethodName) prog_24_method_73_code (3 : Nat) (Option.none : Option Jvm.ClassFile.FieldType)) ∈ lw_all := lw_g (lw_at lw_m2 3 rfl) rfl
theorem q395 : (Jvm.Cond.methodLink "java/lang/AbstractStringBuilder" (397 : Nat) ({ cls := "java/lang/AbstractStringBuilder", name := "inflateIfNeededFor", desc := "(Ljava/lang/String;)V" } : Jvm.MethodName)) ∈ lw_all := lw_g (lw_at lw_m2 4 rfl) rfl
theorem q396 : (Jvm.Cond.privateMethod ({ cls := "java/lang/AbstractStringBuilder", name := "inflateIfNeededFor", desc := "(Ljava/lang/String;)V" } : Jvm.MethodName)) ∈ lw_tbl := lw_at lw_m2 5 rfl
theorem q397 : (Jvm.Cond.instanceMethod ({ cls := "java/lang/AbstractStringBuilder", name := "inflateIfNeededFor", desc := "(Ljava/lang/String;)V" } : Jvm.MethodName)) ∈ lw_all := lw_g (lw_at lw_m2 6 rfl) rfl
theorem q398 : (Jvm.Cond.code ({ cls := "java/lang/AbstractStringBuilder", name := "inflateIfNeededFor", desc := "(Ljava/lang/String;)V" } : Jvm.MethodName) prog_24_method_71_code (2 : Nat) (Option.none : Option Jvm.ClassFile.FieldType)) ∈ lw_all := lw_g (lw_at lw_m2 7 rfl) rfl
theorem q399 : (Jvm.Cond.methodLink "java/lang/AbstractStringBuilder" (40 : Nat) ({ cls := "java/lang/String", name := "coder", desc := "()B" } : Jvm.MethodName)) ∈ lw_all := lw_g (lw_at lw_m2 8 rfl) rfl
theorem q400 : (Jvm.Cond.methodLink "java/lang/AbstractStringBuilder" (195 : Nat) ({ cls := "java/lang/AbstractStringBuilder", name := "inflate", desc := "()V" } : Jvm.MethodName)) ∈ lw_all := lw_g (lw_at lw_m2 9 rfl) rfl
theorem q401 : (Jvm.Cond.privateMethod ({ cls := "java/lang/AbstractStringBuilder", name := "inflate", desc := "()V" } : Jvm.MethodName)) ∈ lw_tbl := lw_at lw_m2 10 rfl
theorem q402 : (Jvm.Cond.instanceMethod ({ cls := "java/lang/AbstractStringBuilder", name := "inflate", desc := "()V" } : Jvm.MethodName)) ∈ lw_all := lw_g (lw_at lw_m2 11 rfl) rfl
theorem q403 : (Jvm.Cond.code ({ cls := "java/lang/AbstractStringBuilder", name := "inflate", desc := "()V" } : Jvm.MethodName) prog_24_method_11_code (2 : Nat) (Option.none : Option Jvm.ClassFile.FieldType)) ∈ lw_all := lw_g (lw_at lw_m2 12 rfl) rfl
theorem q404 : (Jvm.Cond.methodLink "java/lang/AbstractStringBuilder" (125 : Nat) ({ cls := "java/lang/StringLatin1", name := "inflate", desc := "([BI[BII)V" } : Jvm.MethodName)) ∈ lw_all := lw_g (lw_at lw_m2 13 rfl) rfl
theorem q419 : (Jvm.Cond.methodLink "java/lang/AbstractStringBuilder" (399 : Nat) ({ cls := "java/lang/String", name := "getBytes", desc := "([BIB)V" } : Jvm.MethodName)) ∈ lw_all := lw_g (lw_at lw_m2 28 rfl) rfl
theorem q440 : (Jvm.Cond.instanceMethod ({ cls := "java/lang/AbstractStringBuilder", name := "getValue", desc := "()[B" } : Jvm.MethodName)) ∈ lw_all := lw_g (lw_at lw_m2 49 rfl) rfl
theorem q441 : (Jvm.Cond.sameMethod "java/lang/AbstractStringBuilder" "java/lang/AbstractStringBuilder" "getValue" "()[B") ∈ lw_all := lw_g (lw_at lw_m2 50 rfl) rfl
theorem q443 : (Jvm.Cond.code ({ cls := "java/lang/AbstractStringBuilder", name := "getValue", desc := "()[B" } : Jvm.MethodName) prog_24_method_64_code (1 : Nat) (Option.some (Jvm.ClassFile.FieldType.array Jvm.ClassFile.FieldType.byte))) ∈ lw_all := lw_g (lw_at lw_m2 52 rfl) rfl
theorem q445 : (Jvm.Cond.instanceMethod ({ cls := "java/lang/AbstractStringBuilder", name := "length", desc := "()I" } : Jvm.MethodName)) ∈ lw_all := lw_g (lw_at lw_m2 54 rfl) rfl
theorem q446 : (Jvm.Cond.sameMethod "java/lang/AbstractStringBuilder" "java/lang/AbstractStringBuilder" "length" "()I") ∈ lw_all := lw_g (lw_at lw_m2 55 rfl) rfl
theorem q451 : (Jvm.Cond.code ({ cls := "java/lang/AbstractStringBuilder", name := "length", desc := "()I" } : Jvm.MethodName) prog_24_method_6_code (1 : Nat) (Option.some Jvm.ClassFile.FieldType.int)) ∈ lw_all := lw_g (lw_at lw_m2 60 rfl) rfl
theorem q1093 : (Jvm.Cond.instanceMethod ({ cls := "java/lang/AbstractStringBuilder", name := "append", desc := "(C)Ljava/lang/AbstractStringBuilder;" } : Jvm.MethodName)) ∈ lw_all := lw_g (lw_at lw_m4 222 rfl) rfl
theorem q1094 : (Jvm.Cond.code ({ cls := "java/lang/AbstractStringBuilder", name := "append", desc := "(C)Ljava/lang/AbstractStringBuilder;" } : Jvm.MethodName) prog_24_method_31_code (2 : Nat) (Option.some (Jvm.ClassFile.FieldType.object "java/lang/AbstractStringBuilder"))) ∈ lw_all := lw_g (lw_at lw_m4 223 rfl) rfl
theorem q1095 : (Jvm.Cond.methodLink "java/lang/AbstractStringBuilder" (191 : Nat) ({ cls := "java/lang/StringLatin1", name := "canEncode", desc := "(C)Z" } : Jvm.MethodName)) ∈ lw_all := lw_g (lw_at lw_m4 224 rfl) rfl
theorem q1098 : (Jvm.Cond.methodLink "java/lang/AbstractStringBuilder" (197 : Nat) ({ cls := "java/lang/StringUTF16", name := "putCharSB", desc := "([BII)V" } : Jvm.MethodName)) ∈ lw_all := lw_g (lw_at lw_m4 227 rfl) rfl
theorem q1189 : (Jvm.Cond.instanceMethod ({ cls := "java/lang/AbstractStringBuilder", name := "append", desc := "(I)Ljava/lang/AbstractStringBuilder;" } : Jvm.MethodName)) ∈ lw_all := lw_g (lw_at lw_m5 78 rfl) rfl
theorem q1190 : (Jvm.Cond.code ({ cls := "java/lang/AbstractStringBuilder", name := "append", desc := "(I)Ljava/lang/AbstractStringBuilder;" } : Jvm.MethodName) prog_24_method_32_code (4 : Nat) (Option.some (Jvm.ClassFile.FieldType.object "java/lang/AbstractStringBuilder"))) ∈ lw_all := lw_g (lw_at lw_m5 79 rfl) rfl
theorem q1191 : (Jvm.Cond.methodLink "java/lang/AbstractStringBuilder" (245 : Nat) ({ cls := "java/lang/Integer", name := "stringSize", desc := "(I)I" } : Jvm.MethodName)) ∈ lw_all := lw_g (lw_at lw_m5 80 rfl) rfl
theorem q1194 : (Jvm.Cond.methodLink "java/lang/AbstractStringBuilder" (248 : Nat) ({ cls := "java/lang/Integer", name := "getChars", desc := "(II[B)I" } : Jvm.MethodName)) ∈ lw_all := lw_g (lw_at lw_m5 83 rfl) rfl
theorem q1201 : (Jvm.Cond.methodLink "java/lang/AbstractStringBuilder" (251 : Nat) ({ cls := "java/lang/StringUTF16", name := "getChars", desc := "(III[B)I" } : Jvm.MethodName)) ∈ lw_all := lw_g (lw_at lw_m5 90 rfl) rfl
theorem q2417 : (Jvm.Cond.sameMethod "java/lang/AbstractStringBuilder" "java/lang/AbstractStringBuilder" "append" "(Ljava/lang/String;)Ljava/lang/AbstractStringBuilder;") ∈ lw_all := lw_g (lw_at lw_m10 106 rfl) rfl
theorem q2418 : (Jvm.Cond.sameMethod "java/lang/AbstractStringBuilder" "java/lang/AbstractStringBuilder" "appendNull" "()Ljava/lang/AbstractStringBuilder;") ∈ lw_all := lw_g (lw_at lw_m10 107 rfl) rfl
theorem q2419 : (Jvm.Cond.sameMethod "java/lang/AbstractStringBuilder" "java/lang/AbstractStringBuilder" "ensureCapacityInternal" "(I)V") ∈ lw_all := lw_g (lw_at lw_m10 108 rfl) rfl
theorem q2420 : (Jvm.Cond.sameMethod "java/lang/AbstractStringBuilder" "java/lang/AbstractStringBuilder" "newCapacity" "(I)I") ∈ lw_all := lw_g (lw_at lw_m10 109 rfl) rfl
theorem q2421 : (Jvm.Cond.sameMethod "java/lang/AbstractStringBuilder" "java/lang/AbstractStringBuilder" "putStringAt" "(ILjava/lang/String;)V") ∈ lw_all := lw_g (lw_at lw_m10 110 rfl) rfl
theorem q2422 : (Jvm.Cond.sameMethod "java/lang/AbstractStringBuilder" "java/lang/AbstractStringBuilder" "inflateIfNeededFor" "(Ljava/lang/String;)V") ∈ lw_all := lw_g (lw_at lw_m10 111 rfl) rfl
theorem q2423 : (Jvm.Cond.sameMethod "java/lang/AbstractStringBuilder" "java/lang/AbstractStringBuilder" "inflate" "()V") ∈ lw_all := lw_g (lw_at lw_m10 112 rfl) rfl
theorem q2424 : (Jvm.Cond.sameMethod "java/lang/AbstractStringBuilder" "java/lang/AbstractStringBuilder" "append" "(C)Ljava/lang/AbstractStringBuilder;") ∈ lw_all := lw_g (lw_at lw_m10 113 rfl) rfl
theorem q2425 : (Jvm.Cond.sameMethod "java/lang/AbstractStringBuilder" "java/lang/AbstractStringBuilder" "append" "(I)Ljava/lang/AbstractStringBuilder;") ∈ lw_all := lw_g (lw_at lw_m10 114 rfl) rfl
/-! java/lang/StringBuilder -/
set_option maxRecDepth 100000
def RJ1 : String := "java/lang/StringBuilder"
def TJ1 : u_T := fun k => match k with
  | 0 => ("java/lang/AbstractStringBuilder", "value", "[B", false)
  | 1 => ("java/lang/AbstractStringBuilder", "coder", "B", false)
  | 2 => ("java/lang/AbstractStringBuilder", "maybeLatin1", "Z", false)
  | _ => ("java/lang/AbstractStringBuilder", "count", "I", false)
def tyJ1 : Nat → FieldType := fun k => match k with
  | 0 => .array .byte
  | 1 => .byte
  | 2 => .boolean
  | _ => .int
abbrev wsJ10 : List Cond := u_ws RJ1 TJ1 4
theorem nmJ1 : ∀ a, a < 4 → ∀ b, b < 4 → a ≠ b → (TJ1 a).2.1 ≠ (TJ1 b).2.1 := by decide +kernel
theorem tyJ1_ok : ∀ k, k < 4 → parseFieldDescriptor (TJ1 k).2.2.1 = some (tyJ1 k) := by decide +kernel
abbrev cJ1_init : ByteArray := prog_35_method_1_code
def yJ1_init : MethodName := ⟨RJ1, "<init>", "()V"⟩
def dkwJ1_init_0 : List UInt8 := [42, 16, 16, 183, 0, 1, 177]
abbrev dktJ1_init_0 : List UInt8 := dkwJ1_init_0 ++ []
theorem dksJ1_init_0 : cJ1_init.data.toList.drop 0 = dktJ1_init_0 := by decide +kernel
theorem dJ1_init_0 : decode cJ1_init 0 = .ok (.aload_n 0, 1) := dk_42 (dk_at dksJ1_init_0 0 rfl rfl)
theorem dJ1_init_1 : decode cJ1_init 1 = .ok (.bipush 16, 2) := dk_16 16 (dk_at dksJ1_init_0 1 rfl rfl)
theorem dJ1_init_3 : decode cJ1_init 3 = .ok (.invokespecial 1, 3) := dk_183 0 1 (dk_at dksJ1_init_0 3 rfl rfl)
theorem dJ1_init_6 : decode cJ1_init 6 = .ok (.return_, 1) := dk_177 (dk_at dksJ1_init_0 6 rfl rfl)
abbrev cJ1_append : ByteArray := prog_35_method_7_code
def yJ1_append : MethodName := ⟨RJ1, "append", "(Ljava/lang/String;)Ljava/lang/StringBuilder;"⟩
def dkwJ1_append_0 : List UInt8 := [42, 43, 183, 0, 29, 87, 42, 176]
abbrev dktJ1_append_0 : List UInt8 := dkwJ1_append_0 ++ []
theorem dksJ1_append_0 : cJ1_append.data.toList.drop 0 = dktJ1_append_0 := by decide +kernel
theorem dJ1_append_0 : decode cJ1_append 0 = .ok (.aload_n 0, 1) := dk_42 (dk_at dksJ1_append_0 0 rfl rfl)
theorem dJ1_append_1 : decode cJ1_append 1 = .ok (.aload_n 1, 1) := dk_43 (dk_at dksJ1_append_0 1 rfl rfl)
theorem dJ1_append_2 : decode cJ1_append 2 = .ok (.invokespecial 29, 3) := dk_183 0 29 (dk_at dksJ1_append_0 2 rfl rfl)
theorem dJ1_append_5 : decode cJ1_append 5 = .ok (.pop, 1) := dk_87 (dk_at dksJ1_append_0 5 rfl rfl)
theorem dJ1_append_6 : decode cJ1_append 6 = .ok (.aload_n 0, 1) := dk_42 (dk_at dksJ1_append_0 6 rfl rfl)
theorem dJ1_append_7 : decode cJ1_append 7 = .ok (.areturn, 1) := dk_176 (dk_at dksJ1_append_0 7 rfl rfl)
abbrev cJ1_toString : ByteArray := prog_35_method_42_code
def yJ1_toString : MethodName := ⟨RJ1, "toString", "()Ljava/lang/String;"⟩
def dkwJ1_toString_0 : List UInt8 := [187, 0, 18, 89, 42, 183, 0, 137, 176]
abbrev dktJ1_toString_0 : List UInt8 := dkwJ1_toString_0 ++ []
theorem dksJ1_toString_0 : cJ1_toString.data.toList.drop 0 = dktJ1_toString_0 := by decide +kernel
theorem dJ1_toString_0 : decode cJ1_toString 0 = .ok (.new 18, 3) := dk_187 0 18 (dk_at dksJ1_toString_0 0 rfl rfl)
theorem dJ1_toString_3 : decode cJ1_toString 3 = .ok (.dup, 1) := dk_89 (dk_at dksJ1_toString_0 3 rfl rfl)
theorem dJ1_toString_4 : decode cJ1_toString 4 = .ok (.aload_n 0, 1) := dk_42 (dk_at dksJ1_toString_0 4 rfl rfl)
theorem dJ1_toString_5 : decode cJ1_toString 5 = .ok (.invokespecial 137, 3) := dk_183 0 137 (dk_at dksJ1_toString_0 5 rfl rfl)
theorem dJ1_toString_8 : decode cJ1_toString 8 = .ok (.areturn, 1) := dk_176 (dk_at dksJ1_toString_0 8 rfl rfl)
abbrev cJ1_length : ByteArray := prog_35_method_93_code
def yJ1_length : MethodName := ⟨RJ1, "length", "()I"⟩
theorem dJ1_length_0 : decode cJ1_length 0 = .ok (.aload_n 0, 1) := by decide +kernel
theorem dJ1_length_1 : decode cJ1_length 1 = .ok (.invokespecial 343, 3) := by decide +kernel
theorem dJ1_length_4 : decode cJ1_length 4 = .ok (.ireturn, 1) := by decide +kernel
abbrev cJ1_append_2 : ByteArray := prog_35_method_14_code
def yJ1_append_2 : MethodName := ⟨RJ1, "append", "(C)Ljava/lang/StringBuilder;"⟩
def dkwJ1_append_2_0 : List UInt8 := [42, 27, 183, 0, 50, 87, 42, 176]
abbrev dktJ1_append_2_0 : List UInt8 := dkwJ1_append_2_0 ++ []
theorem dksJ1_append_2_0 : cJ1_append_2.data.toList.drop 0 = dktJ1_append_2_0 := by decide +kernel
theorem dJ1_append_2_0 : decode cJ1_append_2 0 = .ok (.aload_n 0, 1) := dk_42 (dk_at dksJ1_append_2_0 0 rfl rfl)
theorem dJ1_append_2_1 : decode cJ1_append_2 1 = .ok (.iload_n 1, 1) := dk_27 (dk_at dksJ1_append_2_0 1 rfl rfl)
theorem dJ1_append_2_2 : decode cJ1_append_2 2 = .ok (.invokespecial 50, 3) := dk_183 0 50 (dk_at dksJ1_append_2_0 2 rfl rfl)
theorem dJ1_append_2_5 : decode cJ1_append_2 5 = .ok (.pop, 1) := dk_87 (dk_at dksJ1_append_2_0 5 rfl rfl)
theorem dJ1_append_2_6 : decode cJ1_append_2 6 = .ok (.aload_n 0, 1) := dk_42 (dk_at dksJ1_append_2_0 6 rfl rfl)
theorem dJ1_append_2_7 : decode cJ1_append_2 7 = .ok (.areturn, 1) := dk_176 (dk_at dksJ1_append_2_0 7 rfl rfl)
abbrev cJ1_append_3 : ByteArray := prog_35_method_15_code
def yJ1_append_3 : MethodName := ⟨RJ1, "append", "(I)Ljava/lang/StringBuilder;"⟩
def dkwJ1_append_3_0 : List UInt8 := [42, 27, 183, 0, 53, 87, 42, 176]
abbrev dktJ1_append_3_0 : List UInt8 := dkwJ1_append_3_0 ++ []
theorem dksJ1_append_3_0 : cJ1_append_3.data.toList.drop 0 = dktJ1_append_3_0 := by decide +kernel
theorem dJ1_append_3_0 : decode cJ1_append_3 0 = .ok (.aload_n 0, 1) := dk_42 (dk_at dksJ1_append_3_0 0 rfl rfl)
theorem dJ1_append_3_1 : decode cJ1_append_3 1 = .ok (.iload_n 1, 1) := dk_27 (dk_at dksJ1_append_3_0 1 rfl rfl)
theorem dJ1_append_3_2 : decode cJ1_append_3 2 = .ok (.invokespecial 53, 3) := dk_183 0 53 (dk_at dksJ1_append_3_0 2 rfl rfl)
theorem dJ1_append_3_5 : decode cJ1_append_3 5 = .ok (.pop, 1) := dk_87 (dk_at dksJ1_append_3_0 5 rfl rfl)
theorem dJ1_append_3_6 : decode cJ1_append_3 6 = .ok (.aload_n 0, 1) := dk_42 (dk_at dksJ1_append_3_0 6 rfl rfl)
theorem dJ1_append_3_7 : decode cJ1_append_3 7 = .ok (.areturn, 1) := dk_176 (dk_at dksJ1_append_3_0 7 rfl rfl)
theorem q155 : (Jvm.Cond.initialized "java/lang/StringBuilder") ∈ lw_all := lw_g (lw_at lw_m1 4 rfl) rfl
theorem q273 : (Jvm.Cond.instantiable "java/lang/StringBuilder" (4 : Nat)) ∈ lw_all := lw_g (lw_at lw_m1 122 rfl) rfl
theorem q275 : (Jvm.Cond.instanceMethod ({ cls := "java/lang/StringBuilder", name := "<init>", desc := "()V" } : Jvm.MethodName)) ∈ lw_all := lw_g (lw_at lw_m1 124 rfl) rfl
theorem q276 : (Jvm.Cond.code ({ cls := "java/lang/StringBuilder", name := "<init>", desc := "()V" } : Jvm.MethodName) prog_35_method_1_code (1 : Nat) (Option.none : Option Jvm.ClassFile.FieldType)) ∈ lw_all := lw_g (lw_at lw_m1 125 rfl) rfl
theorem q277 : (Jvm.Cond.methodLink "java/lang/StringBuilder" (1 : Nat) ({ cls := "java/lang/AbstractStringBuilder", name := "<init>", desc := "(I)V" } : Jvm.MethodName)) ∈ lw_all := lw_g (lw_at lw_m1 126 rfl) rfl
theorem q294 : (Jvm.Cond.lays "java/lang/StringBuilder" "java/lang/AbstractStringBuilder" "value" "[B") ∈ lw_all := lw_g (lw_at lw_m1 143 rfl) rfl
theorem q296 : (Jvm.Cond.lays "java/lang/StringBuilder" "java/lang/AbstractStringBuilder" "coder" "B") ∈ lw_all := lw_g (lw_at lw_m1 145 rfl) rfl
theorem q298 : (Jvm.Cond.lays "java/lang/StringBuilder" "java/lang/AbstractStringBuilder" "maybeLatin1" "Z") ∈ lw_all := lw_g (lw_at lw_m1 147 rfl) rfl
theorem q300 : (Jvm.Cond.lays "java/lang/StringBuilder" "java/lang/AbstractStringBuilder" "count" "I") ∈ lw_all := lw_g (lw_at lw_m1 149 rfl) rfl
theorem q302 : (Jvm.Cond.superclass "java/lang/StringBuilder" "java/lang/AbstractStringBuilder") ∈ lw_all := lw_g (lw_at lw_m1 151 rfl) rfl
theorem q306 : (Jvm.Cond.instanceMethod ({ cls := "java/lang/StringBuilder", name := "append", desc := "(Ljava/lang/String;)Ljava/lang/StringBuilder;" } : Jvm.MethodName)) ∈ lw_all := lw_g (lw_at lw_m1 155 rfl) rfl
theorem q307 : (Jvm.Cond.selects "java/lang/StringBuilder" ({ cls := "java/lang/StringBuilder", name := "append", desc := "(Ljava/lang/String;)Ljava/lang/StringBuilder;" } : Jvm.MethodName) ({ cls := "java/lang/StringBuilder", name := "append", desc := "(Ljava/lang/String;)Ljava/lang/StringBuilder;" } : Jvm.MethodName)) ∈ lw_all := lw_g (lw_at lw_m1 156 rfl) rfl
theorem q308 : (Jvm.Cond.code ({ cls := "java/lang/StringBuilder", name := "append", desc := "(Ljava/lang/String;)Ljava/lang/StringBuilder;" } : Jvm.MethodName) prog_35_method_7_code (2 : Nat) (Option.some (Jvm.ClassFile.FieldType.object "java/lang/StringBuilder"))) ∈ lw_all := lw_g (lw_at lw_m1 157 rfl) rfl
theorem q309 : (Jvm.Cond.methodLink "java/lang/StringBuilder" (29 : Nat) ({ cls := "java/lang/AbstractStringBuilder", name := "append", desc := "(Ljava/lang/String;)Ljava/lang/AbstractStringBuilder;" } : Jvm.MethodName)) ∈ lw_all := lw_g (lw_at lw_m1 158 rfl) rfl
theorem q354 : (Jvm.Cond.selects "java/lang/StringBuilder" ({ cls := "java/lang/AbstractStringBuilder", name := "isLatin1", desc := "()Z" } : Jvm.MethodName) ({ cls := "java/lang/AbstractStringBuilder", name := "isLatin1", desc := "()Z" } : Jvm.MethodName)) ∈ lw_all := lw_g (lw_at lw_m1 203 rfl) rfl
theorem q427 : (Jvm.Cond.instanceMethod ({ cls := "java/lang/StringBuilder", name := "toString", desc := "()Ljava/lang/String;" } : Jvm.MethodName)) ∈ lw_all := lw_g (lw_at lw_m2 36 rfl) rfl
theorem q428 : (Jvm.Cond.selects "java/lang/StringBuilder" ({ cls := "java/lang/StringBuilder", name := "toString", desc := "()Ljava/lang/String;" } : Jvm.MethodName) ({ cls := "java/lang/StringBuilder", name := "toString", desc := "()Ljava/lang/String;" } : Jvm.MethodName)) ∈ lw_all := lw_g (lw_at lw_m2 37 rfl) rfl
theorem q429 : (Jvm.Cond.code ({ cls := "java/lang/StringBuilder", name := "toString", desc := "()Ljava/lang/String;" } : Jvm.MethodName) prog_35_method_42_code (1 : Nat) (Option.some (Jvm.ClassFile.FieldType.object "java/lang/String"))) ∈ lw_all := lw_g (lw_at lw_m2 38 rfl) rfl
theorem q430 : (Jvm.Cond.classLink "java/lang/StringBuilder" (18 : Nat) "java/lang/String") ∈ lw_all := lw_g (lw_at lw_m2 39 rfl) rfl
theorem q432 : (Jvm.Cond.methodLink "java/lang/StringBuilder" (137 : Nat) ({ cls := "java/lang/String", name := "<init>", desc := "(Ljava/lang/StringBuilder;)V" } : Jvm.MethodName)) ∈ lw_all := lw_g (lw_at lw_m2 41 rfl) rfl
theorem q442 : (Jvm.Cond.selects "java/lang/StringBuilder" ({ cls := "java/lang/AbstractStringBuilder", name := "getValue", desc := "()[B" } : Jvm.MethodName) ({ cls := "java/lang/AbstractStringBuilder", name := "getValue", desc := "()[B" } : Jvm.MethodName)) ∈ lw_all := lw_g (lw_at lw_m2 51 rfl) rfl
theorem q447 : (Jvm.Cond.selects "java/lang/StringBuilder" ({ cls := "java/lang/AbstractStringBuilder", name := "length", desc := "()I" } : Jvm.MethodName) ({ cls := "java/lang/StringBuilder", name := "length", desc := "()I" } : Jvm.MethodName)) ∈ lw_all := lw_g (lw_at lw_m2 56 rfl) rfl
theorem q448 : (Jvm.Cond.instanceMethod ({ cls := "java/lang/StringBuilder", name := "length", desc := "()I" } : Jvm.MethodName)) ∈ lw_all := lw_g (lw_at lw_m2 57 rfl) rfl
theorem q449 : (Jvm.Cond.code ({ cls := "java/lang/StringBuilder", name := "length", desc := "()I" } : Jvm.MethodName) prog_35_method_93_code (1 : Nat) (Option.some Jvm.ClassFile.FieldType.int)) ∈ lw_all := lw_g (lw_at lw_m2 58 rfl) rfl
theorem q450 : (Jvm.Cond.methodLink "java/lang/StringBuilder" (343 : Nat) ({ cls := "java/lang/AbstractStringBuilder", name := "length", desc := "()I" } : Jvm.MethodName)) ∈ lw_all := lw_g (lw_at lw_m2 59 rfl) rfl
theorem q1089 : (Jvm.Cond.instanceMethod ({ cls := "java/lang/StringBuilder", name := "append", desc := "(C)Ljava/lang/StringBuilder;" } : Jvm.MethodName)) ∈ lw_all := lw_g (lw_at lw_m4 218 rfl) rfl
theorem q1090 : (Jvm.Cond.selects "java/lang/StringBuilder" ({ cls := "java/lang/StringBuilder", name := "append", desc := "(C)Ljava/lang/StringBuilder;" } : Jvm.MethodName) ({ cls := "java/lang/StringBuilder", name := "append", desc := "(C)Ljava/lang/StringBuilder;" } : Jvm.MethodName)) ∈ lw_all := lw_g (lw_at lw_m4 219 rfl) rfl
theorem q1091 : (Jvm.Cond.code ({ cls := "java/lang/StringBuilder", name := "append", desc := "(C)Ljava/lang/StringBuilder;" } : Jvm.MethodName) prog_35_method_14_code (2 : Nat) (Option.some (Jvm.ClassFile.FieldType.object "java/lang/StringBuilder"))) ∈ lw_all := lw_g (lw_at lw_m4 220 rfl) rfl
theorem q1092 : (Jvm.Cond.methodLink "java/lang/StringBuilder" (50 : Nat) ({ cls := "java/lang/AbstractStringBuilder", name := "append", desc := "(C)Ljava/lang/AbstractStringBuilder;" } : Jvm.MethodName)) ∈ lw_all := lw_g (lw_at lw_m4 221 rfl) rfl
theorem q1160 : (Jvm.Cond.selects "java/lang/StringBuilder" ({ cls := "java/lang/Object", name := "getClass", desc := "()Ljava/lang/Class;" } : Jvm.MethodName) ({ cls := "java/lang/Object", name := "getClass", desc := "()Ljava/lang/Class;" } : Jvm.MethodName)) ∈ lw_all := lw_g (lw_at lw_m5 49 rfl) rfl
theorem q1185 : (Jvm.Cond.instanceMethod ({ cls := "java/lang/StringBuilder", name := "append", desc := "(I)Ljava/lang/StringBuilder;" } : Jvm.MethodName)) ∈ lw_all := lw_g (lw_at lw_m5 74 rfl) rfl
theorem q1186 : (Jvm.Cond.selects "java/lang/StringBuilder" ({ cls := "java/lang/StringBuilder", name := "append", desc := "(I)Ljava/lang/StringBuilder;" } : Jvm.MethodName) ({ cls := "java/lang/StringBuilder", name := "append", desc := "(I)Ljava/lang/StringBuilder;" } : Jvm.MethodName)) ∈ lw_all := lw_g (lw_at lw_m5 75 rfl) rfl
theorem q1187 : (Jvm.Cond.code ({ cls := "java/lang/StringBuilder", name := "append", desc := "(I)Ljava/lang/StringBuilder;" } : Jvm.MethodName) prog_35_method_15_code (2 : Nat) (Option.some (Jvm.ClassFile.FieldType.object "java/lang/StringBuilder"))) ∈ lw_all := lw_g (lw_at lw_m5 76 rfl) rfl
theorem q1188 : (Jvm.Cond.methodLink "java/lang/StringBuilder" (53 : Nat) ({ cls := "java/lang/AbstractStringBuilder", name := "append", desc := "(I)Ljava/lang/AbstractStringBuilder;" } : Jvm.MethodName)) ∈ lw_all := lw_g (lw_at lw_m5 77 rfl) rfl
theorem q2434 : (Jvm.Cond.castable "java/lang/StringBuilder" "java/lang/Object") ∈ lw_tbl := lw_at lw_m10 123 rfl
theorem in_J1 : ∀ w ∈ wsJ10, w ∈ lw_all := lw_in wsJ10 [294, 296, 298, 300] (by decide +kernel) (by decide +kernel)
/-! java/util/AbstractCollection -/
set_option maxRecDepth 100000
def RJ10 : String := "java/util/AbstractCollection"
abbrev cJ10_init : ByteArray := prog_42_method_1_code
def yJ10_init : MethodName := ⟨RJ10, "<init>", "()V"⟩
theorem dJ10_init_0 : decode cJ10_init 0 = .ok (.aload_n 0, 1) := by decide +kernel
theorem dJ10_init_1 : decode cJ10_init 1 = .ok (.invokespecial 1, 3) := by decide +kernel
theorem dJ10_init_4 : decode cJ10_init 4 = .ok (.return_, 1) := by decide +kernel
theorem q170 : (Jvm.Cond.initialized "java/util/AbstractCollection") ∈ lw_all := lw_g (lw_at lw_m1 19 rfl) rfl
theorem q1010 : (Jvm.Cond.instanceMethod ({ cls := "java/util/AbstractCollection", name := "<init>", desc := "()V" } : Jvm.MethodName)) ∈ lw_all := lw_g (lw_at lw_m4 139 rfl) rfl
theorem q1011 : (Jvm.Cond.code ({ cls := "java/util/AbstractCollection", name := "<init>", desc := "()V" } : Jvm.MethodName) prog_42_method_1_code (1 : Nat) (Option.none : Option Jvm.ClassFile.FieldType)) ∈ lw_all := lw_g (lw_at lw_m4 140 rfl) rfl
theorem q1012 : (Jvm.Cond.methodLink "java/util/AbstractCollection" (1 : Nat) ({ cls := "java/lang/Object", name := "<init>", desc := "()V" } : Jvm.MethodName)) ∈ lw_all := lw_g (lw_at lw_m4 141 rfl) rfl
/-! java/util/AbstractList -/
set_option maxRecDepth 100000
def RJ11 : String := "java/util/AbstractList"
abbrev cJ11_init : ByteArray := prog_43_method_1_code
def yJ11_init : MethodName := ⟨RJ11, "<init>", "()V"⟩
def dkwJ11_init_0 : List UInt8 := [42, 183, 0, 1, 42, 3, 181, 0, 7, 177]
abbrev dktJ11_init_0 : List UInt8 := dkwJ11_init_0 ++ []
theorem dksJ11_init_0 : cJ11_init.data.toList.drop 0 = dktJ11_init_0 := by decide +kernel
theorem dJ11_init_0 : decode cJ11_init 0 = .ok (.aload_n 0, 1) := dk_42 (dk_at dksJ11_init_0 0 rfl rfl)
theorem dJ11_init_1 : decode cJ11_init 1 = .ok (.invokespecial 1, 3) := dk_183 0 1 (dk_at dksJ11_init_0 1 rfl rfl)
theorem dJ11_init_4 : decode cJ11_init 4 = .ok (.aload_n 0, 1) := dk_42 (dk_at dksJ11_init_0 4 rfl rfl)
theorem dJ11_init_5 : decode cJ11_init 5 = .ok (.iconst 0, 1) := dk_3 (dk_at dksJ11_init_0 5 rfl rfl)
theorem dJ11_init_6 : decode cJ11_init 6 = .ok (.putfield 7, 3) := dk_181 0 7 (dk_at dksJ11_init_0 6 rfl rfl)
theorem dJ11_init_9 : decode cJ11_init 9 = .ok (.return_, 1) := dk_177 (dk_at dksJ11_init_0 9 rfl rfl)
theorem q171 : (Jvm.Cond.initialized "java/util/AbstractList") ∈ lw_all := lw_g (lw_at lw_m1 20 rfl) rfl
theorem q1007 : (Jvm.Cond.instanceMethod ({ cls := "java/util/AbstractList", name := "<init>", desc := "()V" } : Jvm.MethodName)) ∈ lw_all := lw_g (lw_at lw_m4 136 rfl) rfl
theorem q1008 : (Jvm.Cond.code ({ cls := "java/util/AbstractList", name := "<init>", desc := "()V" } : Jvm.MethodName) prog_43_method_1_code (1 : Nat) (Option.none : Option Jvm.ClassFile.FieldType)) ∈ lw_all := lw_g (lw_at lw_m4 137 rfl) rfl
theorem q1009 : (Jvm.Cond.methodLink "java/util/AbstractList" (1 : Nat) ({ cls := "java/util/AbstractCollection", name := "<init>", desc := "()V" } : Jvm.MethodName)) ∈ lw_all := lw_g (lw_at lw_m4 138 rfl) rfl
theorem q1017 : (Jvm.Cond.fieldLink "java/util/AbstractList" (7 : Nat) "java/util/AbstractList" "modCount" "I") ∈ lw_all := lw_g (lw_at lw_m4 146 rfl) rfl
theorem q1025 : (Jvm.Cond.soleField "java/util/AbstractList" "modCount") ∈ lw_all := lw_g (lw_at lw_m4 154 rfl) rfl
/-! java/util/ArrayList -/
set_option maxRecDepth 100000
def RJ12 : String := "java/util/ArrayList"
def TJ12 : u_T := fun k => match k with
  | 0 => ("java/util/AbstractList", "modCount", "I", false)
  | 1 => ("java/util/ArrayList", "elementData", "[Ljava/lang/Object;", false)
  | _ => ("java/util/ArrayList", "size", "I", false)
def tyJ12 : Nat → FieldType := fun k => match k with
  | 0 => .int
  | 1 => .array (.object "java/lang/Object")
  | _ => .int
abbrev wsJ120 : List Cond := u_ws RJ12 TJ12 3
theorem nmJ12 : ∀ a, a < 3 → ∀ b, b < 3 → a ≠ b → (TJ12 a).2.1 ≠ (TJ12 b).2.1 := by decide +kernel
theorem tyJ12_ok : ∀ k, k < 3 → parseFieldDescriptor (TJ12 k).2.2.1 = some (tyJ12 k) := by decide +kernel
abbrev cJ12_init : ByteArray := prog_44_method_2_code
def yJ12_init : MethodName := ⟨RJ12, "<init>", "()V"⟩
def dkwJ12_init_0 : List UInt8 := [42, 183, 0, 1, 42, 178, 0, 39, 181, 0, 9, 177]
abbrev dktJ12_init_0 : List UInt8 := dkwJ12_init_0 ++ []
theorem dksJ12_init_0 : cJ12_init.data.toList.drop 0 = dktJ12_init_0 := by decide +kernel
theorem dJ12_init_0 : decode cJ12_init 0 = .ok (.aload_n 0, 1) := dk_42 (dk_at dksJ12_init_0 0 rfl rfl)
theorem dJ12_init_1 : decode cJ12_init 1 = .ok (.invokespecial 1, 3) := dk_183 0 1 (dk_at dksJ12_init_0 1 rfl rfl)
theorem dJ12_init_4 : decode cJ12_init 4 = .ok (.aload_n 0, 1) := dk_42 (dk_at dksJ12_init_0 4 rfl rfl)
theorem dJ12_init_5 : decode cJ12_init 5 = .ok (.getstatic 39, 3) := dk_178 0 39 (dk_at dksJ12_init_0 5 rfl rfl)
theorem dJ12_init_8 : decode cJ12_init 8 = .ok (.putfield 9, 3) := dk_181 0 9 (dk_at dksJ12_init_0 8 rfl rfl)
theorem dJ12_init_11 : decode cJ12_init 11 = .ok (.return_, 1) := dk_177 (dk_at dksJ12_init_0 11 rfl rfl)
abbrev cJ12_size : ByteArray := prog_44_method_8_code
def yJ12_size : MethodName := ⟨RJ12, "size", "()I"⟩
theorem dJ12_size_0 : decode cJ12_size 0 = .ok (.aload_n 0, 1) := by decide +kernel
theorem dJ12_size_1 : decode cJ12_size 1 = .ok (.getfield 48, 3) := by decide +kernel
theorem dJ12_size_4 : decode cJ12_size 4 = .ok (.ireturn, 1) := by decide +kernel
abbrev cJ12_get : ByteArray := prog_44_method_20_code
def yJ12_get : MethodName := ⟨RJ12, "get", "(I)Ljava/lang/Object;"⟩
def dkwJ12_get_0 : List UInt8 := [27, 42, 180, 0, 48, 184, 0, 118, 87, 42, 27, 182, 0, 123, 176]
abbrev dktJ12_get_0 : List UInt8 := dkwJ12_get_0 ++ []
theorem dksJ12_get_0 : cJ12_get.data.toList.drop 0 = dktJ12_get_0 := by decide +kernel
theorem dJ12_get_0 : decode cJ12_get 0 = .ok (.iload_n 1, 1) := dk_27 (dk_at dksJ12_get_0 0 rfl rfl)
theorem dJ12_get_1 : decode cJ12_get 1 = .ok (.aload_n 0, 1) := dk_42 (dk_at dksJ12_get_0 1 rfl rfl)
theorem dJ12_get_2 : decode cJ12_get 2 = .ok (.getfield 48, 3) := dk_180 0 48 (dk_at dksJ12_get_0 2 rfl rfl)
theorem dJ12_get_5 : decode cJ12_get 5 = .ok (.invokestatic 118, 3) := dk_184 0 118 (dk_at dksJ12_get_0 5 rfl rfl)
theorem dJ12_get_8 : decode cJ12_get 8 = .ok (.pop, 1) := dk_87 (dk_at dksJ12_get_0 8 rfl rfl)
theorem dJ12_get_9 : decode cJ12_get 9 = .ok (.aload_n 0, 1) := dk_42 (dk_at dksJ12_get_0 9 rfl rfl)
theorem dJ12_get_10 : decode cJ12_get 10 = .ok (.iload_n 1, 1) := dk_27 (dk_at dksJ12_get_0 10 rfl rfl)
theorem dJ12_get_11 : decode cJ12_get 11 = .ok (.invokevirtual 123, 3) := dk_182 0 123 (dk_at dksJ12_get_0 11 rfl rfl)
theorem dJ12_get_14 : decode cJ12_get 14 = .ok (.areturn, 1) := dk_176 (dk_at dksJ12_get_0 14 rfl rfl)
abbrev cJ12_elementData : ByteArray := prog_44_method_18_code
def yJ12_elementData : MethodName := ⟨RJ12, "elementData", "(I)Ljava/lang/Object;"⟩
def dkwJ12_elementData_0 : List UInt8 := [42, 180, 0, 9, 27, 50, 176]
abbrev dktJ12_elementData_0 : List UInt8 := dkwJ12_elementData_0 ++ []
theorem dksJ12_elementData_0 : cJ12_elementData.data.toList.drop 0 = dktJ12_elementData_0 := by decide +kernel
theorem dJ12_elementData_0 : decode cJ12_elementData 0 = .ok (.aload_n 0, 1) := dk_42 (dk_at dksJ12_elementData_0 0 rfl rfl)
theorem dJ12_elementData_1 : decode cJ12_elementData 1 = .ok (.getfield 9, 3) := dk_180 0 9 (dk_at dksJ12_elementData_0 1 rfl rfl)
theorem dJ12_elementData_4 : decode cJ12_elementData 4 = .ok (.iload_n 1, 1) := dk_27 (dk_at dksJ12_elementData_0 4 rfl rfl)
theorem dJ12_elementData_5 : decode cJ12_elementData 5 = .ok (.aaload, 1) := dk_50 (dk_at dksJ12_elementData_0 5 rfl rfl)
theorem dJ12_elementData_6 : decode cJ12_elementData 6 = .ok (.areturn, 1) := dk_176 (dk_at dksJ12_elementData_0 6 rfl rfl)
abbrev cJ12_add : ByteArray := prog_44_method_26_code
def yJ12_add : MethodName := ⟨RJ12, "add", "(ILjava/lang/Object;)V"⟩
def dkwJ12_add_2 : List UInt8 := [29, 27, 100, 184, 0, 112, 25, 4, 27, 44, 83, 42, 29, 4, 96, 181, 0, 48, 177]
abbrev dktJ12_add_2 : List UInt8 := dkwJ12_add_2 ++ []
def dkwJ12_add_1 : List UInt8 := [180, 0, 9, 89, 58, 4, 190, 160, 0, 9, 42, 182, 0, 129, 58, 4, 25, 4, 27, 25, 4, 27, 4, 96]
abbrev dktJ12_add_1 : List UInt8 := dkwJ12_add_1 ++ dktJ12_add_2
def dkwJ12_add_0 : List UInt8 := [42, 27, 182, 0, 135, 42, 89, 180, 0, 63, 4, 96, 181, 0, 63, 42, 180, 0, 48, 89, 62, 42]
abbrev dktJ12_add_0 : List UInt8 := dkwJ12_add_0 ++ dktJ12_add_1
theorem dksJ12_add_0 : cJ12_add.data.toList.drop 0 = dktJ12_add_0 := by decide +kernel
theorem dksJ12_add_1 : cJ12_add.data.toList.drop 22 = dktJ12_add_1 := dk_seg dksJ12_add_0 22 rfl rfl
theorem dksJ12_add_2 : cJ12_add.data.toList.drop 46 = dktJ12_add_2 := dk_seg dksJ12_add_1 24 rfl rfl
theorem dJ12_add_0 : decode cJ12_add 0 = .ok (.aload_n 0, 1) := dk_42 (dk_at dksJ12_add_0 0 rfl rfl)
theorem dJ12_add_1 : decode cJ12_add 1 = .ok (.iload_n 1, 1) := dk_27 (dk_at dksJ12_add_0 1 rfl rfl)
theorem dJ12_add_2 : decode cJ12_add 2 = .ok (.invokevirtual 135, 3) := dk_182 0 135 (dk_at dksJ12_add_0 2 rfl rfl)
theorem dJ12_add_5 : decode cJ12_add 5 = .ok (.aload_n 0, 1) := dk_42 (dk_at dksJ12_add_0 5 rfl rfl)
theorem dJ12_add_6 : decode cJ12_add 6 = .ok (.dup, 1) := dk_89 (dk_at dksJ12_add_0 6 rfl rfl)
theorem dJ12_add_7 : decode cJ12_add 7 = .ok (.getfield 63, 3) := dk_180 0 63 (dk_at dksJ12_add_0 7 rfl rfl)
theorem dJ12_add_10 : decode cJ12_add 10 = .ok (.iconst 1, 1) := dk_4 (dk_at dksJ12_add_0 10 rfl rfl)
theorem dJ12_add_11 : decode cJ12_add 11 = .ok (.iadd, 1) := dk_96 (dk_at dksJ12_add_0 11 rfl rfl)
theorem dJ12_add_12 : decode cJ12_add 12 = .ok (.putfield 63, 3) := dk_181 0 63 (dk_at dksJ12_add_0 12 rfl rfl)
theorem dJ12_add_15 : decode cJ12_add 15 = .ok (.aload_n 0, 1) := dk_42 (dk_at dksJ12_add_0 15 rfl rfl)
theorem dJ12_add_16 : decode cJ12_add 16 = .ok (.getfield 48, 3) := dk_180 0 48 (dk_at dksJ12_add_0 16 rfl rfl)
theorem dJ12_add_19 : decode cJ12_add 19 = .ok (.dup, 1) := dk_89 (dk_at dksJ12_add_0 19 rfl rfl)
theorem dJ12_add_20 : decode cJ12_add 20 = .ok (.istore_n 3, 1) := dk_62 (dk_at dksJ12_add_0 20 rfl rfl)
theorem dJ12_add_21 : decode cJ12_add 21 = .ok (.aload_n 0, 1) := dk_42 (dk_at dksJ12_add_0 21 rfl rfl)
theorem dJ12_add_22 : decode cJ12_add 22 = .ok (.getfield 9, 3) := dk_180 0 9 (dk_at dksJ12_add_1 0 rfl rfl)
theorem dJ12_add_25 : decode cJ12_add 25 = .ok (.dup, 1) := dk_89 (dk_at dksJ12_add_1 3 rfl rfl)
theorem dJ12_add_26 : decode cJ12_add 26 = .ok (.astore 4, 2) := dk_58 4 (dk_at dksJ12_add_1 4 rfl rfl)
theorem dJ12_add_28 : decode cJ12_add 28 = .ok (.arraylength, 1) := dk_190 (dk_at dksJ12_add_1 6 rfl rfl)
theorem dJ12_add_29 : decode cJ12_add 29 = .ok (.if_icmp .ne 9, 3) := dk_160 0 9 (dk_at dksJ12_add_1 7 rfl rfl)
theorem dJ12_add_32 : decode cJ12_add 32 = .ok (.aload_n 0, 1) := dk_42 (dk_at dksJ12_add_1 10 rfl rfl)
theorem dJ12_add_33 : decode cJ12_add 33 = .ok (.invokevirtual 129, 3) := dk_182 0 129 (dk_at dksJ12_add_1 11 rfl rfl)
theorem dJ12_add_36 : decode cJ12_add 36 = .ok (.astore 4, 2) := dk_58 4 (dk_at dksJ12_add_1 14 rfl rfl)
theorem dJ12_add_38 : decode cJ12_add 38 = .ok (.aload 4, 2) := dk_25 4 (dk_at dksJ12_add_1 16 rfl rfl)
theorem dJ12_add_40 : decode cJ12_add 40 = .ok (.iload_n 1, 1) := dk_27 (dk_at dksJ12_add_1 18 rfl rfl)
theorem dJ12_add_41 : decode cJ12_add 41 = .ok (.aload 4, 2) := dk_25 4 (dk_at dksJ12_add_1 19 rfl rfl)
theorem dJ12_add_43 : decode cJ12_add 43 = .ok (.iload_n 1, 1) := dk_27 (dk_at dksJ12_add_1 21 rfl rfl)
theorem dJ12_add_44 : decode cJ12_add 44 = .ok (.iconst 1, 1) := dk_4 (dk_at dksJ12_add_1 22 rfl rfl)
theorem dJ12_add_45 : decode cJ12_add 45 = .ok (.iadd, 1) := dk_96 (dk_at dksJ12_add_1 23 rfl rfl)
theorem dJ12_add_46 : decode cJ12_add 46 = .ok (.iload_n 3, 1) := dk_29 (dk_at dksJ12_add_2 0 rfl rfl)
theorem dJ12_add_47 : decode cJ12_add 47 = .ok (.iload_n 1, 1) := dk_27 (dk_at dksJ12_add_2 1 rfl rfl)
theorem dJ12_add_48 : decode cJ12_add 48 = .ok (.isub, 1) := dk_100 (dk_at dksJ12_add_2 2 rfl rfl)
theorem dJ12_add_49 : decode cJ12_add 49 = .ok (.invokestatic 112, 3) := dk_184 0 112 (dk_at dksJ12_add_2 3 rfl rfl)
theorem dJ12_add_52 : decode cJ12_add 52 = .ok (.aload 4, 2) := dk_25 4 (dk_at dksJ12_add_2 6 rfl rfl)
theorem dJ12_add_54 : decode cJ12_add 54 = .ok (.iload_n 1, 1) := dk_27 (dk_at dksJ12_add_2 8 rfl rfl)
theorem dJ12_add_55 : decode cJ12_add 55 = .ok (.aload_n 2, 1) := dk_44 (dk_at dksJ12_add_2 9 rfl rfl)
theorem dJ12_add_56 : decode cJ12_add 56 = .ok (.aastore, 1) := dk_83 (dk_at dksJ12_add_2 10 rfl rfl)
theorem dJ12_add_57 : decode cJ12_add 57 = .ok (.aload_n 0, 1) := dk_42 (dk_at dksJ12_add_2 11 rfl rfl)
theorem dJ12_add_58 : decode cJ12_add 58 = .ok (.iload_n 3, 1) := dk_29 (dk_at dksJ12_add_2 12 rfl rfl)
theorem dJ12_add_59 : decode cJ12_add 59 = .ok (.iconst 1, 1) := dk_4 (dk_at dksJ12_add_2 13 rfl rfl)
theorem dJ12_add_60 : decode cJ12_add 60 = .ok (.iadd, 1) := dk_96 (dk_at dksJ12_add_2 14 rfl rfl)
theorem dJ12_add_61 : decode cJ12_add 61 = .ok (.putfield 48, 3) := dk_181 0 48 (dk_at dksJ12_add_2 15 rfl rfl)
theorem dJ12_add_64 : decode cJ12_add 64 = .ok (.return_, 1) := dk_177 (dk_at dksJ12_add_2 18 rfl rfl)
abbrev cJ12_rangeCheckForAdd : ByteArray := prog_44_method_45_code
def yJ12_rangeCheckForAdd : MethodName := ⟨RJ12, "rangeCheckForAdd", "(I)V"⟩
def dkwJ12_rangeCheckForAdd_1 : List UInt8 := [191, 177]
abbrev dktJ12_rangeCheckForAdd_1 : List UInt8 := dkwJ12_rangeCheckForAdd_1 ++ []
def dkwJ12_rangeCheckForAdd_0 : List UInt8 := [27, 42, 180, 0, 48, 163, 0, 7, 27, 156, 0, 16, 187, 0, 187, 89, 42, 27, 182, 0, 198, 183, 0, 193]
abbrev dktJ12_rangeCheckForAdd_0 : List UInt8 := dkwJ12_rangeCheckForAdd_0 ++ dktJ12_rangeCheckForAdd_1
theorem dksJ12_rangeCheckForAdd_0 : cJ12_rangeCheckForAdd.data.toList.drop 0 = dktJ12_rangeCheckForAdd_0 := by decide +kernel
theorem dksJ12_rangeCheckForAdd_1 : cJ12_rangeCheckForAdd.data.toList.drop 24 = dktJ12_rangeCheckForAdd_1 := dk_seg dksJ12_rangeCheckForAdd_0 24 rfl rfl
theorem dJ12_rangeCheckForAdd_0 : decode cJ12_rangeCheckForAdd 0 = .ok (.iload_n 1, 1) := dk_27 (dk_at dksJ12_rangeCheckForAdd_0 0 rfl rfl)
theorem dJ12_rangeCheckForAdd_1 : decode cJ12_rangeCheckForAdd 1 = .ok (.aload_n 0, 1) := dk_42 (dk_at dksJ12_rangeCheckForAdd_0 1 rfl rfl)
theorem dJ12_rangeCheckForAdd_2 : decode cJ12_rangeCheckForAdd 2 = .ok (.getfield 48, 3) := dk_180 0 48 (dk_at dksJ12_rangeCheckForAdd_0 2 rfl rfl)
theorem dJ12_rangeCheckForAdd_5 : decode cJ12_rangeCheckForAdd 5 = .ok (.if_icmp .gt 7, 3) := dk_163 0 7 (dk_at dksJ12_rangeCheckForAdd_0 5 rfl rfl)
theorem dJ12_rangeCheckForAdd_8 : decode cJ12_rangeCheckForAdd 8 = .ok (.iload_n 1, 1) := dk_27 (dk_at dksJ12_rangeCheckForAdd_0 8 rfl rfl)
theorem dJ12_rangeCheckForAdd_9 : decode cJ12_rangeCheckForAdd 9 = .ok (.ifCond .ge 16, 3) := dk_156 0 16 (dk_at dksJ12_rangeCheckForAdd_0 9 rfl rfl)
theorem dJ12_rangeCheckForAdd_12 : decode cJ12_rangeCheckForAdd 12 = .ok (.new 187, 3) := dk_187 0 187 (dk_at dksJ12_rangeCheckForAdd_0 12 rfl rfl)
theorem dJ12_rangeCheckForAdd_15 : decode cJ12_rangeCheckForAdd 15 = .ok (.dup, 1) := dk_89 (dk_at dksJ12_rangeCheckForAdd_0 15 rfl rfl)
theorem dJ12_rangeCheckForAdd_16 : decode cJ12_rangeCheckForAdd 16 = .ok (.aload_n 0, 1) := dk_42 (dk_at dksJ12_rangeCheckForAdd_0 16 rfl rfl)
theorem dJ12_rangeCheckForAdd_17 : decode cJ12_rangeCheckForAdd 17 = .ok (.iload_n 1, 1) := dk_27 (dk_at dksJ12_rangeCheckForAdd_0 17 rfl rfl)
theorem dJ12_rangeCheckForAdd_18 : decode cJ12_rangeCheckForAdd 18 = .ok (.invokevirtual 198, 3) := dk_182 0 198 (dk_at dksJ12_rangeCheckForAdd_0 18 rfl rfl)
theorem dJ12_rangeCheckForAdd_21 : decode cJ12_rangeCheckForAdd 21 = .ok (.invokespecial 193, 3) := dk_183 0 193 (dk_at dksJ12_rangeCheckForAdd_0 21 rfl rfl)
theorem dJ12_rangeCheckForAdd_24 : decode cJ12_rangeCheckForAdd 24 = .ok (.athrow, 1) := dk_191 (dk_at dksJ12_rangeCheckForAdd_1 0 rfl rfl)
theorem dJ12_rangeCheckForAdd_25 : decode cJ12_rangeCheckForAdd 25 = .ok (.return_, 1) := dk_177 (dk_at dksJ12_rangeCheckForAdd_1 1 rfl rfl)
abbrev cJ12_grow : ByteArray := prog_44_method_7_code
def yJ12_grow : MethodName := ⟨RJ12, "grow", "()[Ljava/lang/Object;"⟩
def dkwJ12_grow_0 : List UInt8 := [42, 42, 180, 0, 48, 4, 96, 182, 0, 69, 176]
abbrev dktJ12_grow_0 : List UInt8 := dkwJ12_grow_0 ++ []
theorem dksJ12_grow_0 : cJ12_grow.data.toList.drop 0 = dktJ12_grow_0 := by decide +kernel
theorem dJ12_grow_0 : decode cJ12_grow 0 = .ok (.aload_n 0, 1) := dk_42 (dk_at dksJ12_grow_0 0 rfl rfl)
theorem dJ12_grow_1 : decode cJ12_grow 1 = .ok (.aload_n 0, 1) := dk_42 (dk_at dksJ12_grow_0 1 rfl rfl)
theorem dJ12_grow_2 : decode cJ12_grow 2 = .ok (.getfield 48, 3) := dk_180 0 48 (dk_at dksJ12_grow_0 2 rfl rfl)
theorem dJ12_grow_5 : decode cJ12_grow 5 = .ok (.iconst 1, 1) := dk_4 (dk_at dksJ12_grow_0 5 rfl rfl)
theorem dJ12_grow_6 : decode cJ12_grow 6 = .ok (.iadd, 1) := dk_96 (dk_at dksJ12_grow_0 6 rfl rfl)
theorem dJ12_grow_7 : decode cJ12_grow 7 = .ok (.invokevirtual 69, 3) := dk_182 0 69 (dk_at dksJ12_grow_0 7 rfl rfl)
theorem dJ12_grow_10 : decode cJ12_grow 10 = .ok (.areturn, 1) := dk_176 (dk_at dksJ12_grow_0 10 rfl rfl)
abbrev cJ12_grow_2 : ByteArray := prog_44_method_6_code
def yJ12_grow_2 : MethodName := ⟨RJ12, "grow", "(I)[Ljava/lang/Object;"⟩
def dkwJ12_grow_2_2 : List UInt8 := [27, 184, 0, 79, 189, 0, 7, 90, 181, 0, 9, 176]
abbrev dktJ12_grow_2_2 : List UInt8 := dkwJ12_grow_2_2 ++ []
def dkwJ12_grow_2_1 : List UInt8 := [28, 4, 122, 184, 0, 73, 62, 42, 42, 180, 0, 9, 29, 184, 0, 66, 90, 181, 0, 9, 176, 42, 16, 10]
abbrev dktJ12_grow_2_1 : List UInt8 := dkwJ12_grow_2_1 ++ dktJ12_grow_2_2
def dkwJ12_grow_2_0 : List UInt8 := [42, 180, 0, 9, 190, 61, 28, 157, 0, 13, 42, 180, 0, 9, 178, 0, 39, 165, 0, 28, 28, 27, 28, 100]
abbrev dktJ12_grow_2_0 : List UInt8 := dkwJ12_grow_2_0 ++ dktJ12_grow_2_1
theorem dksJ12_grow_2_0 : cJ12_grow_2.data.toList.drop 0 = dktJ12_grow_2_0 := by decide +kernel
theorem dksJ12_grow_2_1 : cJ12_grow_2.data.toList.drop 24 = dktJ12_grow_2_1 := dk_seg dksJ12_grow_2_0 24 rfl rfl
theorem dksJ12_grow_2_2 : cJ12_grow_2.data.toList.drop 48 = dktJ12_grow_2_2 := dk_seg dksJ12_grow_2_1 24 rfl rfl
theorem dJ12_grow_2_0 : decode cJ12_grow_2 0 = .ok (.aload_n 0, 1) := dk_42 (dk_at dksJ12_grow_2_0 0 rfl rfl)
theorem dJ12_grow_2_1 : decode cJ12_grow_2 1 = .ok (.getfield 9, 3) := dk_180 0 9 (dk_at dksJ12_grow_2_0 1 rfl rfl)
theorem dJ12_grow_2_4 : decode cJ12_grow_2 4 = .ok (.arraylength, 1) := dk_190 (dk_at dksJ12_grow_2_0 4 rfl rfl)
theorem dJ12_grow_2_5 : decode cJ12_grow_2 5 = .ok (.istore_n 2, 1) := dk_61 (dk_at dksJ12_grow_2_0 5 rfl rfl)
theorem dJ12_grow_2_6 : decode cJ12_grow_2 6 = .ok (.iload_n 2, 1) := dk_28 (dk_at dksJ12_grow_2_0 6 rfl rfl)
theorem dJ12_grow_2_7 : decode cJ12_grow_2 7 = .ok (.ifCond .gt 13, 3) := dk_157 0 13 (dk_at dksJ12_grow_2_0 7 rfl rfl)
theorem dJ12_grow_2_10 : decode cJ12_grow_2 10 = .ok (.aload_n 0, 1) := dk_42 (dk_at dksJ12_grow_2_0 10 rfl rfl)
theorem dJ12_grow_2_11 : decode cJ12_grow_2 11 = .ok (.getfield 9, 3) := dk_180 0 9 (dk_at dksJ12_grow_2_0 11 rfl rfl)
theorem dJ12_grow_2_14 : decode cJ12_grow_2 14 = .ok (.getstatic 39, 3) := dk_178 0 39 (dk_at dksJ12_grow_2_0 14 rfl rfl)
theorem dJ12_grow_2_17 : decode cJ12_grow_2 17 = .ok (.if_acmp .eq 28, 3) := dk_165 0 28 (dk_at dksJ12_grow_2_0 17 rfl rfl)
theorem dJ12_grow_2_20 : decode cJ12_grow_2 20 = .ok (.iload_n 2, 1) := dk_28 (dk_at dksJ12_grow_2_0 20 rfl rfl)
theorem dJ12_grow_2_21 : decode cJ12_grow_2 21 = .ok (.iload_n 1, 1) := dk_27 (dk_at dksJ12_grow_2_0 21 rfl rfl)
theorem dJ12_grow_2_22 : decode cJ12_grow_2 22 = .ok (.iload_n 2, 1) := dk_28 (dk_at dksJ12_grow_2_0 22 rfl rfl)
theorem dJ12_grow_2_23 : decode cJ12_grow_2 23 = .ok (.isub, 1) := dk_100 (dk_at dksJ12_grow_2_0 23 rfl rfl)
theorem dJ12_grow_2_24 : decode cJ12_grow_2 24 = .ok (.iload_n 2, 1) := dk_28 (dk_at dksJ12_grow_2_1 0 rfl rfl)
theorem dJ12_grow_2_25 : decode cJ12_grow_2 25 = .ok (.iconst 1, 1) := dk_4 (dk_at dksJ12_grow_2_1 1 rfl rfl)
theorem dJ12_grow_2_26 : decode cJ12_grow_2 26 = .ok (.ishr, 1) := dk_122 (dk_at dksJ12_grow_2_1 2 rfl rfl)
theorem dJ12_grow_2_27 : decode cJ12_grow_2 27 = .ok (.invokestatic 73, 3) := dk_184 0 73 (dk_at dksJ12_grow_2_1 3 rfl rfl)
theorem dJ12_grow_2_30 : decode cJ12_grow_2 30 = .ok (.istore_n 3, 1) := dk_62 (dk_at dksJ12_grow_2_1 6 rfl rfl)
theorem dJ12_grow_2_31 : decode cJ12_grow_2 31 = .ok (.aload_n 0, 1) := dk_42 (dk_at dksJ12_grow_2_1 7 rfl rfl)
theorem dJ12_grow_2_32 : decode cJ12_grow_2 32 = .ok (.aload_n 0, 1) := dk_42 (dk_at dksJ12_grow_2_1 8 rfl rfl)
theorem dJ12_grow_2_33 : decode cJ12_grow_2 33 = .ok (.getfield 9, 3) := dk_180 0 9 (dk_at dksJ12_grow_2_1 9 rfl rfl)
theorem dJ12_grow_2_36 : decode cJ12_grow_2 36 = .ok (.iload_n 3, 1) := dk_29 (dk_at dksJ12_grow_2_1 12 rfl rfl)
theorem dJ12_grow_2_37 : decode cJ12_grow_2 37 = .ok (.invokestatic 66, 3) := dk_184 0 66 (dk_at dksJ12_grow_2_1 13 rfl rfl)
theorem dJ12_grow_2_40 : decode cJ12_grow_2 40 = .ok (.dup_x1, 1) := dk_90 (dk_at dksJ12_grow_2_1 16 rfl rfl)
theorem dJ12_grow_2_41 : decode cJ12_grow_2 41 = .ok (.putfield 9, 3) := dk_181 0 9 (dk_at dksJ12_grow_2_1 17 rfl rfl)
theorem dJ12_grow_2_44 : decode cJ12_grow_2 44 = .ok (.areturn, 1) := dk_176 (dk_at dksJ12_grow_2_1 20 rfl rfl)
theorem dJ12_grow_2_45 : decode cJ12_grow_2 45 = .ok (.aload_n 0, 1) := dk_42 (dk_at dksJ12_grow_2_1 21 rfl rfl)
theorem dJ12_grow_2_46 : decode cJ12_grow_2 46 = .ok (.bipush 10, 2) := dk_16 10 (dk_at dksJ12_grow_2_1 22 rfl rfl)
theorem dJ12_grow_2_48 : decode cJ12_grow_2 48 = .ok (.iload_n 1, 1) := dk_27 (dk_at dksJ12_grow_2_2 0 rfl rfl)
theorem dJ12_grow_2_49 : decode cJ12_grow_2 49 = .ok (.invokestatic 79, 3) := dk_184 0 79 (dk_at dksJ12_grow_2_2 1 rfl rfl)
theorem dJ12_grow_2_52 : decode cJ12_grow_2 52 = .ok (.anewarray 7, 3) := dk_189 0 7 (dk_at dksJ12_grow_2_2 4 rfl rfl)
theorem dJ12_grow_2_55 : decode cJ12_grow_2 55 = .ok (.dup_x1, 1) := dk_90 (dk_at dksJ12_grow_2_2 7 rfl rfl)
theorem dJ12_grow_2_56 : decode cJ12_grow_2 56 = .ok (.putfield 9, 3) := dk_181 0 9 (dk_at dksJ12_grow_2_2 8 rfl rfl)
theorem dJ12_grow_2_59 : decode cJ12_grow_2 59 = .ok (.areturn, 1) := dk_176 (dk_at dksJ12_grow_2_2 11 rfl rfl)
abbrev cJ12_add_2 : ByteArray := prog_44_method_25_code
def yJ12_add_2 : MethodName := ⟨RJ12, "add", "(Ljava/lang/Object;)Z"⟩
def dkwJ12_add_2_1 : List UInt8 := [172]
abbrev dktJ12_add_2_1 : List UInt8 := dkwJ12_add_2_1 ++ []
def dkwJ12_add_2_0 : List UInt8 := [42, 89, 180, 0, 63, 4, 96, 181, 0, 63, 42, 43, 42, 180, 0, 9, 42, 180, 0, 48, 182, 0, 131, 4]
abbrev dktJ12_add_2_0 : List UInt8 := dkwJ12_add_2_0 ++ dktJ12_add_2_1
theorem dksJ12_add_2_0 : cJ12_add_2.data.toList.drop 0 = dktJ12_add_2_0 := by decide +kernel
theorem dksJ12_add_2_1 : cJ12_add_2.data.toList.drop 24 = dktJ12_add_2_1 := dk_seg dksJ12_add_2_0 24 rfl rfl
theorem dJ12_add_2_0 : decode cJ12_add_2 0 = .ok (.aload_n 0, 1) := dk_42 (dk_at dksJ12_add_2_0 0 rfl rfl)
theorem dJ12_add_2_1 : decode cJ12_add_2 1 = .ok (.dup, 1) := dk_89 (dk_at dksJ12_add_2_0 1 rfl rfl)
theorem dJ12_add_2_2 : decode cJ12_add_2 2 = .ok (.getfield 63, 3) := dk_180 0 63 (dk_at dksJ12_add_2_0 2 rfl rfl)
theorem dJ12_add_2_5 : decode cJ12_add_2 5 = .ok (.iconst 1, 1) := dk_4 (dk_at dksJ12_add_2_0 5 rfl rfl)
theorem dJ12_add_2_6 : decode cJ12_add_2 6 = .ok (.iadd, 1) := dk_96 (dk_at dksJ12_add_2_0 6 rfl rfl)
theorem dJ12_add_2_7 : decode cJ12_add_2 7 = .ok (.putfield 63, 3) := dk_181 0 63 (dk_at dksJ12_add_2_0 7 rfl rfl)
theorem dJ12_add_2_10 : decode cJ12_add_2 10 = .ok (.aload_n 0, 1) := dk_42 (dk_at dksJ12_add_2_0 10 rfl rfl)
theorem dJ12_add_2_11 : decode cJ12_add_2 11 = .ok (.aload_n 1, 1) := dk_43 (dk_at dksJ12_add_2_0 11 rfl rfl)
theorem dJ12_add_2_12 : decode cJ12_add_2 12 = .ok (.aload_n 0, 1) := dk_42 (dk_at dksJ12_add_2_0 12 rfl rfl)
theorem dJ12_add_2_13 : decode cJ12_add_2 13 = .ok (.getfield 9, 3) := dk_180 0 9 (dk_at dksJ12_add_2_0 13 rfl rfl)
theorem dJ12_add_2_16 : decode cJ12_add_2 16 = .ok (.aload_n 0, 1) := dk_42 (dk_at dksJ12_add_2_0 16 rfl rfl)
theorem dJ12_add_2_17 : decode cJ12_add_2 17 = .ok (.getfield 48, 3) := dk_180 0 48 (dk_at dksJ12_add_2_0 17 rfl rfl)
theorem dJ12_add_2_20 : decode cJ12_add_2 20 = .ok (.invokevirtual 131, 3) := dk_182 0 131 (dk_at dksJ12_add_2_0 20 rfl rfl)
theorem dJ12_add_2_23 : decode cJ12_add_2 23 = .ok (.iconst 1, 1) := dk_4 (dk_at dksJ12_add_2_0 23 rfl rfl)
theorem dJ12_add_2_24 : decode cJ12_add_2 24 = .ok (.ireturn, 1) := dk_172 (dk_at dksJ12_add_2_1 0 rfl rfl)
abbrev cJ12_add_3 : ByteArray := prog_44_method_24_code
def yJ12_add_3 : MethodName := ⟨RJ12, "add", "(Ljava/lang/Object;[Ljava/lang/Object;I)V"⟩
def dkwJ12_add_3_0 : List UInt8 := [29, 44, 190, 160, 0, 8, 42, 182, 0, 129, 77, 44, 29, 43, 83, 42, 29, 4, 96, 181, 0, 48, 177]
abbrev dktJ12_add_3_0 : List UInt8 := dkwJ12_add_3_0 ++ []
theorem dksJ12_add_3_0 : cJ12_add_3.data.toList.drop 0 = dktJ12_add_3_0 := by decide +kernel
theorem dJ12_add_3_0 : decode cJ12_add_3 0 = .ok (.iload_n 3, 1) := dk_29 (dk_at dksJ12_add_3_0 0 rfl rfl)
theorem dJ12_add_3_1 : decode cJ12_add_3 1 = .ok (.aload_n 2, 1) := dk_44 (dk_at dksJ12_add_3_0 1 rfl rfl)
theorem dJ12_add_3_2 : decode cJ12_add_3 2 = .ok (.arraylength, 1) := dk_190 (dk_at dksJ12_add_3_0 2 rfl rfl)
theorem dJ12_add_3_3 : decode cJ12_add_3 3 = .ok (.if_icmp .ne 8, 3) := dk_160 0 8 (dk_at dksJ12_add_3_0 3 rfl rfl)
theorem dJ12_add_3_6 : decode cJ12_add_3 6 = .ok (.aload_n 0, 1) := dk_42 (dk_at dksJ12_add_3_0 6 rfl rfl)
theorem dJ12_add_3_7 : decode cJ12_add_3 7 = .ok (.invokevirtual 129, 3) := dk_182 0 129 (dk_at dksJ12_add_3_0 7 rfl rfl)
theorem dJ12_add_3_10 : decode cJ12_add_3 10 = .ok (.astore_n 2, 1) := dk_77 (dk_at dksJ12_add_3_0 10 rfl rfl)
theorem dJ12_add_3_11 : decode cJ12_add_3 11 = .ok (.aload_n 2, 1) := dk_44 (dk_at dksJ12_add_3_0 11 rfl rfl)
theorem dJ12_add_3_12 : decode cJ12_add_3 12 = .ok (.iload_n 3, 1) := dk_29 (dk_at dksJ12_add_3_0 12 rfl rfl)
theorem dJ12_add_3_13 : decode cJ12_add_3 13 = .ok (.aload_n 1, 1) := dk_43 (dk_at dksJ12_add_3_0 13 rfl rfl)
theorem dJ12_add_3_14 : decode cJ12_add_3 14 = .ok (.aastore, 1) := dk_83 (dk_at dksJ12_add_3_0 14 rfl rfl)
theorem dJ12_add_3_15 : decode cJ12_add_3 15 = .ok (.aload_n 0, 1) := dk_42 (dk_at dksJ12_add_3_0 15 rfl rfl)
theorem dJ12_add_3_16 : decode cJ12_add_3 16 = .ok (.iload_n 3, 1) := dk_29 (dk_at dksJ12_add_3_0 16 rfl rfl)
theorem dJ12_add_3_17 : decode cJ12_add_3 17 = .ok (.iconst 1, 1) := dk_4 (dk_at dksJ12_add_3_0 17 rfl rfl)
theorem dJ12_add_3_18 : decode cJ12_add_3 18 = .ok (.iadd, 1) := dk_96 (dk_at dksJ12_add_3_0 18 rfl rfl)
theorem dJ12_add_3_19 : decode cJ12_add_3 19 = .ok (.putfield 48, 3) := dk_181 0 48 (dk_at dksJ12_add_3_0 19 rfl rfl)
theorem dJ12_add_3_22 : decode cJ12_add_3 22 = .ok (.return_, 1) := dk_177 (dk_at dksJ12_add_3_0 22 rfl rfl)
theorem q172 : (Jvm.Cond.initialized "java/util/ArrayList") ∈ lw_all := lw_g (lw_at lw_m1 21 rfl) rfl
theorem q1002 : (Jvm.Cond.instantiable "java/util/ArrayList" (3 : Nat)) ∈ lw_all := lw_g (lw_at lw_m4 131 rfl) rfl
theorem q1004 : (Jvm.Cond.instanceMethod ({ cls := "java/util/ArrayList", name := "<init>", desc := "()V" } : Jvm.MethodName)) ∈ lw_all := lw_g (lw_at lw_m4 133 rfl) rfl
theorem q1005 : (Jvm.Cond.code ({ cls := "java/util/ArrayList", name := "<init>", desc := "()V" } : Jvm.MethodName) prog_44_method_2_code (1 : Nat) (Option.none : Option Jvm.ClassFile.FieldType)) ∈ lw_all := lw_g (lw_at lw_m4 134 rfl) rfl
theorem q1006 : (Jvm.Cond.methodLink "java/util/ArrayList" (1 : Nat) ({ cls := "java/util/AbstractList", name := "<init>", desc := "()V" } : Jvm.MethodName)) ∈ lw_all := lw_g (lw_at lw_m4 135 rfl) rfl
theorem q1013 : (Jvm.Cond.fieldLink "java/util/ArrayList" (39 : Nat) "java/util/ArrayList" "DEFAULTCAPACITY_EMPTY_ELEMENTDATA" "[Ljava/lang/Object;") ∈ lw_all := lw_g (lw_at lw_m4 142 rfl) rfl
theorem q1014 : (Jvm.Cond.laysStatic "java/util/ArrayList" "DEFAULTCAPACITY_EMPTY_ELEMENTDATA" "[Ljava/lang/Object;") ∈ lw_tbl := lw_at lw_m4 143 rfl
theorem q1015 : (Jvm.Cond.fieldLink "java/util/ArrayList" (9 : Nat) "java/util/ArrayList" "elementData" "[Ljava/lang/Object;") ∈ lw_all := lw_g (lw_at lw_m4 144 rfl) rfl
theorem q1016 : (Jvm.Cond.fieldLink "java/util/ArrayList" (48 : Nat) "java/util/ArrayList" "size" "I") ∈ lw_all := lw_g (lw_at lw_m4 145 rfl) rfl
theorem q1018 : (Jvm.Cond.fieldLink "java/util/ArrayList" (63 : Nat) "java/util/ArrayList" "modCount" "I") ∈ lw_all := lw_g (lw_at lw_m4 147 rfl) rfl
theorem q1019 : (Jvm.Cond.sameField "java/util/ArrayList" "java/util/AbstractList" "modCount" "I") ∈ lw_all := lw_g (lw_at lw_m4 148 rfl) rfl
theorem q1020 : (Jvm.Cond.lays "java/util/ArrayList" "java/util/ArrayList" "elementData" "[Ljava/lang/Object;") ∈ lw_all := lw_g (lw_at lw_m4 149 rfl) rfl
theorem q1021 : (Jvm.Cond.soleField "java/util/ArrayList" "elementData") ∈ lw_all := lw_g (lw_at lw_m4 150 rfl) rfl
theorem q1022 : (Jvm.Cond.lays "java/util/ArrayList" "java/util/ArrayList" "size" "I") ∈ lw_all := lw_g (lw_at lw_m4 151 rfl) rfl
theorem q1023 : (Jvm.Cond.soleField "java/util/ArrayList" "size") ∈ lw_all := lw_g (lw_at lw_m4 152 rfl) rfl
theorem q1024 : (Jvm.Cond.lays "java/util/ArrayList" "java/util/AbstractList" "modCount" "I") ∈ lw_all := lw_g (lw_at lw_m4 153 rfl) rfl
theorem q1026 : (Jvm.Cond.superclass "java/util/ArrayList" "java/util/AbstractList") ∈ lw_all := lw_g (lw_at lw_m4 155 rfl) rfl
theorem q1031 : (Jvm.Cond.instanceMethod ({ cls := "java/util/ArrayList", name := "size", desc := "()I" } : Jvm.MethodName)) ∈ lw_all := lw_g (lw_at lw_m4 160 rfl) rfl
theorem q1032 : (Jvm.Cond.selects "java/util/ArrayList" ({ cls := "java/util/ArrayList", name := "size", desc := "()I" } : Jvm.MethodName) ({ cls := "java/util/ArrayList", name := "size", desc := "()I" } : Jvm.MethodName)) ∈ lw_all := lw_g (lw_at lw_m4 161 rfl) rfl
theorem q1033 : (Jvm.Cond.code ({ cls := "java/util/ArrayList", name := "size", desc := "()I" } : Jvm.MethodName) prog_44_method_8_code (1 : Nat) (Option.some Jvm.ClassFile.FieldType.int)) ∈ lw_all := lw_g (lw_at lw_m4 162 rfl) rfl
theorem q1035 : (Jvm.Cond.instanceMethod ({ cls := "java/util/ArrayList", name := "get", desc := "(I)Ljava/lang/Object;" } : Jvm.MethodName)) ∈ lw_all := lw_g (lw_at lw_m4 164 rfl) rfl
theorem q1036 : (Jvm.Cond.selects "java/util/ArrayList" ({ cls := "java/util/ArrayList", name := "get", desc := "(I)Ljava/lang/Object;" } : Jvm.MethodName) ({ cls := "java/util/ArrayList", name := "get", desc := "(I)Ljava/lang/Object;" } : Jvm.MethodName)) ∈ lw_all := lw_g (lw_at lw_m4 165 rfl) rfl
theorem q1037 : (Jvm.Cond.code ({ cls := "java/util/ArrayList", name := "get", desc := "(I)Ljava/lang/Object;" } : Jvm.MethodName) prog_44_method_20_code (2 : Nat) (Option.some (Jvm.ClassFile.FieldType.object "java/lang/Object"))) ∈ lw_all := lw_g (lw_at lw_m4 166 rfl) rfl
theorem q1038 : (Jvm.Cond.methodLink "java/util/ArrayList" (118 : Nat) ({ cls := "java/util/Objects", name := "checkIndex", desc := "(II)I" } : Jvm.MethodName)) ∈ lw_all := lw_g (lw_at lw_m4 167 rfl) rfl
theorem q1044 : (Jvm.Cond.methodLink "java/util/ArrayList" (123 : Nat) ({ cls := "java/util/ArrayList", name := "elementData", desc := "(I)Ljava/lang/Object;" } : Jvm.MethodName)) ∈ lw_all := lw_g (lw_at lw_m4 173 rfl) rfl
theorem q1045 : (Jvm.Cond.instanceMethod ({ cls := "java/util/ArrayList", name := "elementData", desc := "(I)Ljava/lang/Object;" } : Jvm.MethodName)) ∈ lw_all := lw_g (lw_at lw_m4 174 rfl) rfl
theorem q1046 : (Jvm.Cond.selects "java/util/ArrayList" ({ cls := "java/util/ArrayList", name := "elementData", desc := "(I)Ljava/lang/Object;" } : Jvm.MethodName) ({ cls := "java/util/ArrayList", name := "elementData", desc := "(I)Ljava/lang/Object;" } : Jvm.MethodName)) ∈ lw_all := lw_g (lw_at lw_m4 175 rfl) rfl
theorem q1047 : (Jvm.Cond.code ({ cls := "java/util/ArrayList", name := "elementData", desc := "(I)Ljava/lang/Object;" } : Jvm.MethodName) prog_44_method_18_code (2 : Nat) (Option.some (Jvm.ClassFile.FieldType.object "java/lang/Object"))) ∈ lw_all := lw_g (lw_at lw_m4 176 rfl) rfl
theorem q1122 : (Jvm.Cond.instanceMethod ({ cls := "java/util/ArrayList", name := "add", desc := "(ILjava/lang/Object;)V" } : Jvm.MethodName)) ∈ lw_all := lw_g (lw_at lw_m5 11 rfl) rfl
theorem q1123 : (Jvm.Cond.selects "java/util/ArrayList" ({ cls := "java/util/ArrayList", name := "add", desc := "(ILjava/lang/Object;)V" } : Jvm.MethodName) ({ cls := "java/util/ArrayList", name := "add", desc := "(ILjava/lang/Object;)V" } : Jvm.MethodName)) ∈ lw_all := lw_g (lw_at lw_m5 12 rfl) rfl
theorem q1124 : (Jvm.Cond.code ({ cls := "java/util/ArrayList", name := "add", desc := "(ILjava/lang/Object;)V" } : Jvm.MethodName) prog_44_method_26_code (5 : Nat) (Option.none : Option Jvm.ClassFile.FieldType)) ∈ lw_all := lw_g (lw_at lw_m5 13 rfl) rfl
theorem q1125 : (Jvm.Cond.methodLink "java/util/ArrayList" (135 : Nat) ({ cls := "java/util/ArrayList", name := "rangeCheckForAdd", desc := "(I)V" } : Jvm.MethodName)) ∈ lw_all := lw_g (lw_at lw_m5 14 rfl) rfl
theorem q1126 : (Jvm.Cond.privateMethod ({ cls := "java/util/ArrayList", name := "rangeCheckForAdd", desc := "(I)V" } : Jvm.MethodName)) ∈ lw_tbl := lw_at lw_m5 15 rfl
theorem q1127 : (Jvm.Cond.instanceMethod ({ cls := "java/util/ArrayList", name := "rangeCheckForAdd", desc := "(I)V" } : Jvm.MethodName)) ∈ lw_all := lw_g (lw_at lw_m5 16 rfl) rfl
theorem q1128 : (Jvm.Cond.code ({ cls := "java/util/ArrayList", name := "rangeCheckForAdd", desc := "(I)V" } : Jvm.MethodName) prog_44_method_45_code (2 : Nat) (Option.none : Option Jvm.ClassFile.FieldType)) ∈ lw_all := lw_g (lw_at lw_m5 17 rfl) rfl
theorem q1129 : (Jvm.Cond.methodLink "java/util/ArrayList" (129 : Nat) ({ cls := "java/util/ArrayList", name := "grow", desc := "()[Ljava/lang/Object;" } : Jvm.MethodName)) ∈ lw_all := lw_g (lw_at lw_m5 18 rfl) rfl
theorem q1130 : (Jvm.Cond.privateMethod ({ cls := "java/util/ArrayList", name := "grow", desc := "()[Ljava/lang/Object;" } : Jvm.MethodName)) ∈ lw_tbl := lw_at lw_m5 19 rfl
theorem q1131 : (Jvm.Cond.instanceMethod ({ cls := "java/util/ArrayList", name := "grow", desc := "()[Ljava/lang/Object;" } : Jvm.MethodName)) ∈ lw_all := lw_g (lw_at lw_m5 20 rfl) rfl
theorem q1132 : (Jvm.Cond.code ({ cls := "java/util/ArrayList", name := "grow", desc := "()[Ljava/lang/Object;" } : Jvm.MethodName) prog_44_method_7_code (1 : Nat) (Option.some (Jvm.ClassFile.FieldType.array (Jvm.ClassFile.FieldType.object "java/lang/Object")))) ∈ lw_all := lw_g (lw_at lw_m5 21 rfl) rfl
theorem q1133 : (Jvm.Cond.methodLink "java/util/ArrayList" (69 : Nat) ({ cls := "java/util/ArrayList", name := "grow", desc := "(I)[Ljava/lang/Object;" } : Jvm.MethodName)) ∈ lw_all := lw_g (lw_at lw_m5 22 rfl) rfl
theorem q1134 : (Jvm.Cond.privateMethod ({ cls := "java/util/ArrayList", name := "grow", desc := "(I)[Ljava/lang/Object;" } : Jvm.MethodName)) ∈ lw_tbl := lw_at lw_m5 23 rfl
theorem q1135 : (Jvm.Cond.instanceMethod ({ cls := "java/util/ArrayList", name := "grow", desc := "(I)[Ljava/lang/Object;" } : Jvm.MethodName)) ∈ lw_all := lw_g (lw_at lw_m5 24 rfl) rfl
theorem q1136 : (Jvm.Cond.code ({ cls := "java/util/ArrayList", name := "grow", desc := "(I)[Ljava/lang/Object;" } : Jvm.MethodName) prog_44_method_6_code (4 : Nat) (Option.some (Jvm.ClassFile.FieldType.array (Jvm.ClassFile.FieldType.object "java/lang/Object")))) ∈ lw_all := lw_g (lw_at lw_m5 25 rfl) rfl
theorem q1137 : (Jvm.Cond.methodLink "java/util/ArrayList" (73 : Nat) ({ cls := "jdk/internal/util/ArraysSupport", name := "newLength", desc := "(III)I" } : Jvm.MethodName)) ∈ lw_all := lw_g (lw_at lw_m5 26 rfl) rfl
theorem q1138 : (Jvm.Cond.methodLink "java/util/ArrayList" (66 : Nat) ({ cls := "java/util/Arrays", name := "copyOf", desc := "([Ljava/lang/Object;I)[Ljava/lang/Object;" } : Jvm.MethodName)) ∈ lw_all := lw_g (lw_at lw_m5 27 rfl) rfl
theorem q1161 : (Jvm.Cond.selects "java/util/ArrayList" ({ cls := "java/lang/Object", name := "getClass", desc := "()Ljava/lang/Class;" } : Jvm.MethodName) ({ cls := "java/lang/Object", name := "getClass", desc := "()Ljava/lang/Class;" } : Jvm.MethodName)) ∈ lw_all := lw_g (lw_at lw_m5 50 rfl) rfl
theorem q1169 : (Jvm.Cond.methodLink "java/util/ArrayList" (79 : Nat) ({ cls := "java/lang/Math", name := "max", desc := "(II)I" } : Jvm.MethodName)) ∈ lw_all := lw_g (lw_at lw_m5 58 rfl) rfl
theorem q1170 : (Jvm.Cond.classLink "java/util/ArrayList" (7 : Nat) "java/lang/Object") ∈ lw_all := lw_g (lw_at lw_m5 59 rfl) rfl
theorem q1171 : (Jvm.Cond.methodLink "java/util/ArrayList" (112 : Nat) ({ cls := "java/lang/System", name := "arraycopy", desc := "(Ljava/lang/Object;ILjava/lang/Object;II)V" } : Jvm.MethodName)) ∈ lw_all := lw_g (lw_at lw_m5 60 rfl) rfl
theorem q1496 : (Jvm.Cond.instanceMethod ({ cls := "java/util/ArrayList", name := "add", desc := "(Ljava/lang/Object;)Z" } : Jvm.MethodName)) ∈ lw_all := lw_g (lw_at lw_m6 145 rfl) rfl
theorem q1497 : (Jvm.Cond.selects "java/util/ArrayList" ({ cls := "java/util/ArrayList", name := "add", desc := "(Ljava/lang/Object;)Z" } : Jvm.MethodName) ({ cls := "java/util/ArrayList", name := "add", desc := "(Ljava/lang/Object;)Z" } : Jvm.MethodName)) ∈ lw_all := lw_g (lw_at lw_m6 146 rfl) rfl
theorem q1498 : (Jvm.Cond.code ({ cls := "java/util/ArrayList", name := "add", desc := "(Ljava/lang/Object;)Z" } : Jvm.MethodName) prog_44_method_25_code (2 : Nat) (Option.some Jvm.ClassFile.FieldType.boolean)) ∈ lw_all := lw_g (lw_at lw_m6 147 rfl) rfl
theorem q1499 : (Jvm.Cond.methodLink "java/util/ArrayList" (131 : Nat) ({ cls := "java/util/ArrayList", name := "add", desc := "(Ljava/lang/Object;[Ljava/lang/Object;I)V" } : Jvm.MethodName)) ∈ lw_all := lw_g (lw_at lw_m6 148 rfl) rfl
theorem q1500 : (Jvm.Cond.privateMethod ({ cls := "java/util/ArrayList", name := "add", desc := "(Ljava/lang/Object;[Ljava/lang/Object;I)V" } : Jvm.MethodName)) ∈ lw_tbl := lw_at lw_m6 149 rfl
theorem q1501 : (Jvm.Cond.instanceMethod ({ cls := "java/util/ArrayList", name := "add", desc := "(Ljava/lang/Object;[Ljava/lang/Object;I)V" } : Jvm.MethodName)) ∈ lw_all := lw_g (lw_at lw_m6 150 rfl) rfl
theorem q1502 : (Jvm.Cond.code ({ cls := "java/util/ArrayList", name := "add", desc := "(Ljava/lang/Object;[Ljava/lang/Object;I)V" } : Jvm.MethodName) prog_44_method_24_code (4 : Nat) (Option.none : Option Jvm.ClassFile.FieldType)) ∈ lw_all := lw_g (lw_at lw_m6 151 rfl) rfl
theorem q2439 : (Jvm.Cond.castable "java/util/ArrayList" "java/lang/Object") ∈ lw_tbl := lw_at lw_m10 128 rfl
theorem in_J12 : ∀ w ∈ wsJ120, w ∈ lw_all := lw_in wsJ120 [1024, 1020, 1022] (by decide +kernel) (by decide +kernel)
/-! java/util/Objects -/
set_option maxRecDepth 100000
def RJ13 : String := "java/util/Objects"
abbrev cJ13_checkIndex : ByteArray := prog_48_method_17_code
def yJ13_checkIndex : MethodName := ⟨RJ13, "checkIndex", "(II)I"⟩
def dkwJ13_checkIndex_0 : List UInt8 := [26, 27, 1, 184, 0, 105, 172]
abbrev dktJ13_checkIndex_0 : List UInt8 := dkwJ13_checkIndex_0 ++ []
theorem dksJ13_checkIndex_0 : cJ13_checkIndex.data.toList.drop 0 = dktJ13_checkIndex_0 := by decide +kernel
theorem dJ13_checkIndex_0 : decode cJ13_checkIndex 0 = .ok (.iload_n 0, 1) := dk_26 (dk_at dksJ13_checkIndex_0 0 rfl rfl)
theorem dJ13_checkIndex_1 : decode cJ13_checkIndex 1 = .ok (.iload_n 1, 1) := dk_27 (dk_at dksJ13_checkIndex_0 1 rfl rfl)
theorem dJ13_checkIndex_2 : decode cJ13_checkIndex 2 = .ok (.aconst_null, 1) := dk_1 (dk_at dksJ13_checkIndex_0 2 rfl rfl)
theorem dJ13_checkIndex_3 : decode cJ13_checkIndex 3 = .ok (.invokestatic 105, 3) := dk_184 0 105 (dk_at dksJ13_checkIndex_0 3 rfl rfl)
theorem dJ13_checkIndex_6 : decode cJ13_checkIndex 6 = .ok (.ireturn, 1) := dk_172 (dk_at dksJ13_checkIndex_0 6 rfl rfl)
theorem q173 : (Jvm.Cond.initialized "java/util/Objects") ∈ lw_all := lw_g (lw_at lw_m1 22 rfl) rfl
theorem q1039 : (Jvm.Cond.static ({ cls := "java/util/Objects", name := "checkIndex", desc := "(II)I" } : Jvm.MethodName)) ∈ lw_all := lw_g (lw_at lw_m4 168 rfl) rfl
theorem q1040 : (Jvm.Cond.code ({ cls := "java/util/Objects", name := "checkIndex", desc := "(II)I" } : Jvm.MethodName) prog_48_method_17_code (2 : Nat) (Option.some Jvm.ClassFile.FieldType.int)) ∈ lw_all := lw_g (lw_at lw_m4 169 rfl) rfl
theorem q1041 : (Jvm.Cond.methodLink "java/util/Objects" (105 : Nat) ({ cls := "jdk/internal/util/Preconditions", name := "checkIndex", desc := "(IILjava/util/function/BiFunction;)I" } : Jvm.MethodName)) ∈ lw_all := lw_g (lw_at lw_m4 170 rfl) rfl
/-! java/lang/Throwable -/
set_option maxRecDepth 100000
def RJ14 : String := "java/lang/Throwable"
def TJ14 : u_T := fun k => match k with
  | 0 => ("java/lang/Throwable", "cause", "Ljava/lang/Throwable;", false)
  | 1 => ("java/lang/Throwable", "stackTrace", "[Ljava/lang/StackTraceElement;", false)
  | 2 => ("java/lang/Throwable", "suppressedExceptions", "Ljava/util/List;", false)
  | 3 => ("java/lang/Throwable", "detailMessage", "Ljava/lang/String;", false)
  | _ => ("java/lang/Throwable", "backtrace", "Ljava/lang/Object;", false)
def tyJ14 : Nat → FieldType := fun k => match k with
  | 0 => .object "java/lang/Throwable"
  | 1 => .array (.object "java/lang/StackTraceElement")
  | 2 => .object "java/util/List"
  | 3 => .object "java/lang/String"
  | _ => .object "java/lang/Object"
abbrev wsJ140 : List Cond := u_ws RJ14 TJ14 5
theorem nmJ14 : ∀ a, a < 5 → ∀ b, b < 5 → a ≠ b → (TJ14 a).2.1 ≠ (TJ14 b).2.1 := by decide +kernel
theorem tyJ14_ok : ∀ k, k < 5 → parseFieldDescriptor (TJ14 k).2.2.1 = some (tyJ14 k) := by decide +kernel
abbrev cJ14_init : ByteArray := prog_39_method_1_code
def yJ14_init : MethodName := ⟨RJ14, "<init>", "()V"⟩
def dkwJ14_init_1 : List UInt8 := [182, 0, 27, 87, 177]
abbrev dktJ14_init_1 : List UInt8 := dkwJ14_init_1 ++ []
def dkwJ14_init_0 : List UInt8 := [42, 183, 0, 1, 42, 42, 181, 0, 7, 42, 178, 0, 13, 181, 0, 17, 42, 178, 0, 20, 181, 0, 24, 42]
abbrev dktJ14_init_0 : List UInt8 := dkwJ14_init_0 ++ dktJ14_init_1
theorem dksJ14_init_0 : cJ14_init.data.toList.drop 0 = dktJ14_init_0 := by decide +kernel
theorem dksJ14_init_1 : cJ14_init.data.toList.drop 24 = dktJ14_init_1 := dk_seg dksJ14_init_0 24 rfl rfl
theorem dJ14_init_0 : decode cJ14_init 0 = .ok (.aload_n 0, 1) := dk_42 (dk_at dksJ14_init_0 0 rfl rfl)
theorem dJ14_init_1 : decode cJ14_init 1 = .ok (.invokespecial 1, 3) := dk_183 0 1 (dk_at dksJ14_init_0 1 rfl rfl)
theorem dJ14_init_4 : decode cJ14_init 4 = .ok (.aload_n 0, 1) := dk_42 (dk_at dksJ14_init_0 4 rfl rfl)
theorem dJ14_init_5 : decode cJ14_init 5 = .ok (.aload_n 0, 1) := dk_42 (dk_at dksJ14_init_0 5 rfl rfl)
theorem dJ14_init_6 : decode cJ14_init 6 = .ok (.putfield 7, 3) := dk_181 0 7 (dk_at dksJ14_init_0 6 rfl rfl)
theorem dJ14_init_9 : decode cJ14_init 9 = .ok (.aload_n 0, 1) := dk_42 (dk_at dksJ14_init_0 9 rfl rfl)
theorem dJ14_init_10 : decode cJ14_init 10 = .ok (.getstatic 13, 3) := dk_178 0 13 (dk_at dksJ14_init_0 10 rfl rfl)
theorem dJ14_init_13 : decode cJ14_init 13 = .ok (.putfield 17, 3) := dk_181 0 17 (dk_at dksJ14_init_0 13 rfl rfl)
theorem dJ14_init_16 : decode cJ14_init 16 = .ok (.aload_n 0, 1) := dk_42 (dk_at dksJ14_init_0 16 rfl rfl)
theorem dJ14_init_17 : decode cJ14_init 17 = .ok (.getstatic 20, 3) := dk_178 0 20 (dk_at dksJ14_init_0 17 rfl rfl)
theorem dJ14_init_20 : decode cJ14_init 20 = .ok (.putfield 24, 3) := dk_181 0 24 (dk_at dksJ14_init_0 20 rfl rfl)
theorem dJ14_init_23 : decode cJ14_init 23 = .ok (.aload_n 0, 1) := dk_42 (dk_at dksJ14_init_0 23 rfl rfl)
theorem dJ14_init_24 : decode cJ14_init 24 = .ok (.invokevirtual 27, 3) := dk_182 0 27 (dk_at dksJ14_init_1 0 rfl rfl)
theorem dJ14_init_27 : decode cJ14_init 27 = .ok (.pop, 1) := dk_87 (dk_at dksJ14_init_1 3 rfl rfl)
theorem dJ14_init_28 : decode cJ14_init 28 = .ok (.return_, 1) := dk_177 (dk_at dksJ14_init_1 4 rfl rfl)
abbrev cJ14_init_2 : ByteArray := prog_39_method_5_code
def yJ14_init_2 : MethodName := ⟨RJ14, "<init>", "(Ljava/lang/String;Ljava/lang/Throwable;ZZ)V"⟩
def dkwJ14_init_2_2 : List UInt8 := [44, 181, 0, 7, 29, 154, 0, 8, 42, 1, 181, 0, 24, 177]
abbrev dktJ14_init_2_2 : List UInt8 := dkwJ14_init_2_2 ++ []
def dkwJ14_init_2_1 : List UInt8 := [21, 4, 153, 0, 11, 42, 182, 0, 27, 87, 167, 0, 8, 42, 1, 181, 0, 17, 42, 43, 181, 0, 31, 42]
abbrev dktJ14_init_2_1 : List UInt8 := dkwJ14_init_2_1 ++ dktJ14_init_2_2
def dkwJ14_init_2_0 : List UInt8 := [42, 183, 0, 1, 42, 42, 181, 0, 7, 42, 178, 0, 13, 181, 0, 17, 42, 178, 0, 20, 181, 0, 24]
abbrev dktJ14_init_2_0 : List UInt8 := dkwJ14_init_2_0 ++ dktJ14_init_2_1
theorem dksJ14_init_2_0 : cJ14_init_2.data.toList.drop 0 = dktJ14_init_2_0 := by decide +kernel
theorem dksJ14_init_2_1 : cJ14_init_2.data.toList.drop 23 = dktJ14_init_2_1 := dk_seg dksJ14_init_2_0 23 rfl rfl
theorem dksJ14_init_2_2 : cJ14_init_2.data.toList.drop 47 = dktJ14_init_2_2 := dk_seg dksJ14_init_2_1 24 rfl rfl
theorem dJ14_init_2_0 : decode cJ14_init_2 0 = .ok (.aload_n 0, 1) := dk_42 (dk_at dksJ14_init_2_0 0 rfl rfl)
theorem dJ14_init_2_1 : decode cJ14_init_2 1 = .ok (.invokespecial 1, 3) := dk_183 0 1 (dk_at dksJ14_init_2_0 1 rfl rfl)
theorem dJ14_init_2_4 : decode cJ14_init_2 4 = .ok (.aload_n 0, 1) := dk_42 (dk_at dksJ14_init_2_0 4 rfl rfl)
theorem dJ14_init_2_5 : decode cJ14_init_2 5 = .ok (.aload_n 0, 1) := dk_42 (dk_at dksJ14_init_2_0 5 rfl rfl)
theorem dJ14_init_2_6 : decode cJ14_init_2 6 = .ok (.putfield 7, 3) := dk_181 0 7 (dk_at dksJ14_init_2_0 6 rfl rfl)
theorem dJ14_init_2_9 : decode cJ14_init_2 9 = .ok (.aload_n 0, 1) := dk_42 (dk_at dksJ14_init_2_0 9 rfl rfl)
theorem dJ14_init_2_10 : decode cJ14_init_2 10 = .ok (.getstatic 13, 3) := dk_178 0 13 (dk_at dksJ14_init_2_0 10 rfl rfl)
theorem dJ14_init_2_13 : decode cJ14_init_2 13 = .ok (.putfield 17, 3) := dk_181 0 17 (dk_at dksJ14_init_2_0 13 rfl rfl)
theorem dJ14_init_2_16 : decode cJ14_init_2 16 = .ok (.aload_n 0, 1) := dk_42 (dk_at dksJ14_init_2_0 16 rfl rfl)
theorem dJ14_init_2_17 : decode cJ14_init_2 17 = .ok (.getstatic 20, 3) := dk_178 0 20 (dk_at dksJ14_init_2_0 17 rfl rfl)
theorem dJ14_init_2_20 : decode cJ14_init_2 20 = .ok (.putfield 24, 3) := dk_181 0 24 (dk_at dksJ14_init_2_0 20 rfl rfl)
theorem dJ14_init_2_23 : decode cJ14_init_2 23 = .ok (.iload 4, 2) := dk_21 4 (dk_at dksJ14_init_2_1 0 rfl rfl)
theorem dJ14_init_2_25 : decode cJ14_init_2 25 = .ok (.ifCond .eq 11, 3) := dk_153 0 11 (dk_at dksJ14_init_2_1 2 rfl rfl)
theorem dJ14_init_2_28 : decode cJ14_init_2 28 = .ok (.aload_n 0, 1) := dk_42 (dk_at dksJ14_init_2_1 5 rfl rfl)
theorem dJ14_init_2_29 : decode cJ14_init_2 29 = .ok (.invokevirtual 27, 3) := dk_182 0 27 (dk_at dksJ14_init_2_1 6 rfl rfl)
theorem dJ14_init_2_32 : decode cJ14_init_2 32 = .ok (.pop, 1) := dk_87 (dk_at dksJ14_init_2_1 9 rfl rfl)
theorem dJ14_init_2_33 : decode cJ14_init_2 33 = .ok (.goto 8, 3) := dk_167 0 8 (dk_at dksJ14_init_2_1 10 rfl rfl)
theorem dJ14_init_2_36 : decode cJ14_init_2 36 = .ok (.aload_n 0, 1) := dk_42 (dk_at dksJ14_init_2_1 13 rfl rfl)
theorem dJ14_init_2_37 : decode cJ14_init_2 37 = .ok (.aconst_null, 1) := dk_1 (dk_at dksJ14_init_2_1 14 rfl rfl)
theorem dJ14_init_2_38 : decode cJ14_init_2 38 = .ok (.putfield 17, 3) := dk_181 0 17 (dk_at dksJ14_init_2_1 15 rfl rfl)
theorem dJ14_init_2_41 : decode cJ14_init_2 41 = .ok (.aload_n 0, 1) := dk_42 (dk_at dksJ14_init_2_1 18 rfl rfl)
theorem dJ14_init_2_42 : decode cJ14_init_2 42 = .ok (.aload_n 1, 1) := dk_43 (dk_at dksJ14_init_2_1 19 rfl rfl)
theorem dJ14_init_2_43 : decode cJ14_init_2 43 = .ok (.putfield 31, 3) := dk_181 0 31 (dk_at dksJ14_init_2_1 20 rfl rfl)
theorem dJ14_init_2_46 : decode cJ14_init_2 46 = .ok (.aload_n 0, 1) := dk_42 (dk_at dksJ14_init_2_1 23 rfl rfl)
theorem dJ14_init_2_47 : decode cJ14_init_2 47 = .ok (.aload_n 2, 1) := dk_44 (dk_at dksJ14_init_2_2 0 rfl rfl)
theorem dJ14_init_2_48 : decode cJ14_init_2 48 = .ok (.putfield 7, 3) := dk_181 0 7 (dk_at dksJ14_init_2_2 1 rfl rfl)
theorem dJ14_init_2_51 : decode cJ14_init_2 51 = .ok (.iload_n 3, 1) := dk_29 (dk_at dksJ14_init_2_2 4 rfl rfl)
theorem dJ14_init_2_52 : decode cJ14_init_2 52 = .ok (.ifCond .ne 8, 3) := dk_154 0 8 (dk_at dksJ14_init_2_2 5 rfl rfl)
theorem dJ14_init_2_55 : decode cJ14_init_2 55 = .ok (.aload_n 0, 1) := dk_42 (dk_at dksJ14_init_2_2 8 rfl rfl)
theorem dJ14_init_2_56 : decode cJ14_init_2 56 = .ok (.aconst_null, 1) := dk_1 (dk_at dksJ14_init_2_2 9 rfl rfl)
theorem dJ14_init_2_57 : decode cJ14_init_2 57 = .ok (.putfield 24, 3) := dk_181 0 24 (dk_at dksJ14_init_2_2 10 rfl rfl)
theorem dJ14_init_2_60 : decode cJ14_init_2 60 = .ok (.return_, 1) := dk_177 (dk_at dksJ14_init_2_2 13 rfl rfl)
theorem q178 : (Jvm.Cond.initialized "java/lang/Throwable") ∈ lw_all := lw_g (lw_at lw_m1 27 rfl) rfl
theorem q1394 : (Jvm.Cond.declares ({ cls := "java/lang/Throwable", name := "<init>", desc := "()V" } : Jvm.MethodName)) ∈ lw_tbl := lw_at lw_m6 43 rfl
theorem q1395 : (Jvm.Cond.declares ({ cls := "java/lang/Throwable", name := "<init>", desc := "(Ljava/lang/String;)V" } : Jvm.MethodName)) ∈ lw_tbl := lw_at lw_m6 44 rfl
theorem q1399 : (Jvm.Cond.lays "java/lang/Throwable" "java/lang/Throwable" "cause" "Ljava/lang/Throwable;") ∈ lw_all := lw_g (lw_at lw_m6 48 rfl) rfl
theorem q1401 : (Jvm.Cond.lays "java/lang/Throwable" "java/lang/Throwable" "stackTrace" "[Ljava/lang/StackTraceElement;") ∈ lw_all := lw_g (lw_at lw_m6 50 rfl) rfl
theorem q1403 : (Jvm.Cond.lays "java/lang/Throwable" "java/lang/Throwable" "suppressedExceptions" "Ljava/util/List;") ∈ lw_all := lw_g (lw_at lw_m6 52 rfl) rfl
theorem q1405 : (Jvm.Cond.lays "java/lang/Throwable" "java/lang/Throwable" "detailMessage" "Ljava/lang/String;") ∈ lw_all := lw_g (lw_at lw_m6 54 rfl) rfl
theorem q1407 : (Jvm.Cond.lays "java/lang/Throwable" "java/lang/Throwable" "backtrace" "Ljava/lang/Object;") ∈ lw_all := lw_g (lw_at lw_m6 56 rfl) rfl
theorem q1408 : (Jvm.Cond.fieldLink "java/lang/Throwable" (198 : Nat) "java/lang/Throwable" "backtrace" "Ljava/lang/Object;") ∈ lw_all := lw_g (lw_at lw_m6 57 rfl) rfl
theorem q1409 : (Jvm.Cond.superclass "java/lang/Throwable" "java/lang/Object") ∈ lw_all := lw_g (lw_at lw_m6 58 rfl) rfl
theorem q1410 : (Jvm.Cond.instanceMethod ({ cls := "java/lang/Throwable", name := "<init>", desc := "()V" } : Jvm.MethodName)) ∈ lw_all := lw_g (lw_at lw_m6 59 rfl) rfl
theorem q1411 : (Jvm.Cond.code ({ cls := "java/lang/Throwable", name := "<init>", desc := "()V" } : Jvm.MethodName) prog_39_method_1_code (1 : Nat) (Option.none : Option Jvm.ClassFile.FieldType)) ∈ lw_all := lw_g (lw_at lw_m6 60 rfl) rfl
theorem q1412 : (Jvm.Cond.methodLink "java/lang/Throwable" (1 : Nat) ({ cls := "java/lang/Object", name := "<init>", desc := "()V" } : Jvm.MethodName)) ∈ lw_all := lw_g (lw_at lw_m6 61 rfl) rfl
theorem q1413 : (Jvm.Cond.fieldLink "java/lang/Throwable" (13 : Nat) "java/lang/Throwable" "UNASSIGNED_STACK" "[Ljava/lang/StackTraceElement;") ∈ lw_all := lw_g (lw_at lw_m6 62 rfl) rfl
theorem q1414 : (Jvm.Cond.laysStatic "java/lang/Throwable" "UNASSIGNED_STACK" "[Ljava/lang/StackTraceElement;") ∈ lw_tbl := lw_at lw_m6 63 rfl
theorem q1415 : (Jvm.Cond.fieldLink "java/lang/Throwable" (20 : Nat) "java/lang/Throwable" "SUPPRESSED_SENTINEL" "Ljava/util/List;") ∈ lw_all := lw_g (lw_at lw_m6 64 rfl) rfl
theorem q1416 : (Jvm.Cond.laysStatic "java/lang/Throwable" "SUPPRESSED_SENTINEL" "Ljava/util/List;") ∈ lw_tbl := lw_at lw_m6 65 rfl
theorem q1417 : (Jvm.Cond.methodLink "java/lang/Throwable" (27 : Nat) ({ cls := "java/lang/Throwable", name := "fillInStackTrace", desc := "()Ljava/lang/Throwable;" } : Jvm.MethodName)) ∈ lw_all := lw_g (lw_at lw_m6 66 rfl) rfl
theorem q1418 : (Jvm.Cond.instanceMethod ({ cls := "java/lang/Throwable", name := "fillInStackTrace", desc := "()Ljava/lang/Throwable;" } : Jvm.MethodName)) ∈ lw_all := lw_g (lw_at lw_m6 67 rfl) rfl
theorem q1419 : (Jvm.Cond.sameMethod "java/lang/Throwable" "java/lang/Throwable" "fillInStackTrace" "()Ljava/lang/Throwable;") ∈ lw_all := lw_g (lw_at lw_m6 68 rfl) rfl
theorem q1421 : (Jvm.Cond.codeSync ({ cls := "java/lang/Throwable", name := "fillInStackTrace", desc := "()Ljava/lang/Throwable;" } : Jvm.MethodName) prog_39_method_18_code (1 : Nat) (Option.some (Jvm.ClassFile.FieldType.object "java/lang/Throwable"))) ∈ lw_all := lw_g (lw_at lw_m6 70 rfl) rfl
theorem q1422 : (Jvm.Cond.methodLink "java/lang/Throwable" (202 : Nat) ({ cls := "java/lang/Throwable", name := "fillInStackTrace", desc := "(I)Ljava/lang/Throwable;" } : Jvm.MethodName)) ∈ lw_all := lw_g (lw_at lw_m6 71 rfl) rfl
theorem q1423 : (Jvm.Cond.privateMethod ({ cls := "java/lang/Throwable", name := "fillInStackTrace", desc := "(I)Ljava/lang/Throwable;" } : Jvm.MethodName)) ∈ lw_tbl := lw_at lw_m6 72 rfl
theorem q1424 : (Jvm.Cond.instanceMethod ({ cls := "java/lang/Throwable", name := "fillInStackTrace", desc := "(I)Ljava/lang/Throwable;" } : Jvm.MethodName)) ∈ lw_all := lw_g (lw_at lw_m6 73 rfl) rfl
theorem q1425 : (Jvm.Cond.instantiable "java/lang/Throwable" (6 : Nat)) ∈ lw_all := lw_g (lw_at lw_m6 74 rfl) rfl
theorem q1426 : (Jvm.Cond.native ({ cls := "java/lang/Throwable", name := "fillInStackTrace", desc := "(I)Ljava/lang/Throwable;" } : Jvm.MethodName)) ∈ lw_all := lw_g (lw_at lw_m6 75 rfl) rfl
theorem q1437 : (Jvm.Cond.instanceMethod ({ cls := "java/lang/Throwable", name := "<init>", desc := "(Ljava/lang/String;Ljava/lang/Throwable;ZZ)V" } : Jvm.MethodName)) ∈ lw_all := lw_g (lw_at lw_m6 86 rfl) rfl
theorem q1438 : (Jvm.Cond.code ({ cls := "java/lang/Throwable", name := "<init>", desc := "(Ljava/lang/String;Ljava/lang/Throwable;ZZ)V" } : Jvm.MethodName) prog_39_method_5_code (5 : Nat) (Option.none : Option Jvm.ClassFile.FieldType)) ∈ lw_all := lw_g (lw_at lw_m6 87 rfl) rfl
theorem q1440 : (Jvm.Cond.fieldLink "java/lang/Throwable" (198 : Nat) "java/lang/Throwable" "backtrace" "Ljava/lang/Object;") ∈ lw_all := lw_g (lw_at lw_m6 89 rfl) rfl
theorem q1441 : (Jvm.Cond.fieldLink "java/lang/Throwable" (31 : Nat) "java/lang/Throwable" "detailMessage" "Ljava/lang/String;") ∈ lw_all := lw_g (lw_at lw_m6 90 rfl) rfl
theorem q1442 : (Jvm.Cond.fieldLink "java/lang/Throwable" (7 : Nat) "java/lang/Throwable" "cause" "Ljava/lang/Throwable;") ∈ lw_all := lw_g (lw_at lw_m6 91 rfl) rfl
theorem q1443 : (Jvm.Cond.fieldLink "java/lang/Throwable" (17 : Nat) "java/lang/Throwable" "stackTrace" "[Ljava/lang/StackTraceElement;") ∈ lw_all := lw_g (lw_at lw_m6 92 rfl) rfl
theorem q1444 : (Jvm.Cond.fieldLink "java/lang/Throwable" (24 : Nat) "java/lang/Throwable" "suppressedExceptions" "Ljava/util/List;") ∈ lw_all := lw_g (lw_at lw_m6 93 rfl) rfl
theorem q1447 : (Jvm.Cond.soleField "java/lang/Throwable" "backtrace") ∈ lw_all := lw_g (lw_at lw_m6 96 rfl) rfl
theorem q1448 : (Jvm.Cond.soleField "java/lang/Throwable" "detailMessage") ∈ lw_all := lw_g (lw_at lw_m6 97 rfl) rfl
theorem q1449 : (Jvm.Cond.soleField "java/lang/Throwable" "cause") ∈ lw_all := lw_g (lw_at lw_m6 98 rfl) rfl
theorem q1450 : (Jvm.Cond.soleField "java/lang/Throwable" "stackTrace") ∈ lw_all := lw_g (lw_at lw_m6 99 rfl) rfl
theorem q1452 : (Jvm.Cond.soleField "java/lang/Throwable" "depth") ∈ lw_all := lw_g (lw_at lw_m6 101 rfl) rfl
theorem q1453 : (Jvm.Cond.soleField "java/lang/Throwable" "suppressedExceptions") ∈ lw_all := lw_g (lw_at lw_m6 102 rfl) rfl
theorem q1556 : (Jvm.Cond.instanceMethod ({ cls := "java/lang/Throwable", name := "getCause", desc := "()Ljava/lang/Throwable;" } : Jvm.MethodName)) ∈ lw_all := lw_g (lw_at lw_m6 205 rfl) rfl
theorem q1557 : (Jvm.Cond.sameMethod "java/lang/Throwable" "java/lang/Throwable" "getCause" "()Ljava/lang/Throwable;") ∈ lw_all := lw_g (lw_at lw_m6 206 rfl) rfl
theorem q1560 : (Jvm.Cond.codeSync ({ cls := "java/lang/Throwable", name := "getCause", desc := "()Ljava/lang/Throwable;" } : Jvm.MethodName) prog_39_method_8_code (1 : Nat) (Option.some (Jvm.ClassFile.FieldType.object "java/lang/Throwable"))) ∈ lw_all := lw_g (lw_at lw_m6 209 rfl) rfl
theorem q2426 : (Jvm.Cond.sameMethod "java/lang/Throwable" "java/lang/Throwable" "fillInStackTrace" "(I)Ljava/lang/Throwable;") ∈ lw_all := lw_g (lw_at lw_m10 115 rfl) rfl
theorem q2449 : (Jvm.Cond.castable "java/lang/Throwable" "java/lang/Object") ∈ lw_tbl := lw_at lw_m10 138 rfl
theorem in_J14 : ∀ w ∈ wsJ140, w ∈ lw_all := lw_in wsJ140 [1399, 1401, 1403, 1405, 1407] (by decide +kernel) (by decide +kernel)
/-! java/lang/Exception -/
set_option maxRecDepth 100000
def RJ15 : String := "java/lang/Exception"
abbrev cJ15_init : ByteArray := prog_29_method_5_code
def yJ15_init : MethodName := ⟨RJ15, "<init>", "(Ljava/lang/String;Ljava/lang/Throwable;ZZ)V"⟩
def dkwJ15_init_0 : List UInt8 := [42, 43, 44, 29, 21, 4, 183, 0, 16, 177]
abbrev dktJ15_init_0 : List UInt8 := dkwJ15_init_0 ++ []
theorem dksJ15_init_0 : cJ15_init.data.toList.drop 0 = dktJ15_init_0 := by decide +kernel
theorem dJ15_init_0 : decode cJ15_init 0 = .ok (.aload_n 0, 1) := dk_42 (dk_at dksJ15_init_0 0 rfl rfl)
theorem dJ15_init_1 : decode cJ15_init 1 = .ok (.aload_n 1, 1) := dk_43 (dk_at dksJ15_init_0 1 rfl rfl)
theorem dJ15_init_2 : decode cJ15_init 2 = .ok (.aload_n 2, 1) := dk_44 (dk_at dksJ15_init_0 2 rfl rfl)
theorem dJ15_init_3 : decode cJ15_init 3 = .ok (.iload_n 3, 1) := dk_29 (dk_at dksJ15_init_0 3 rfl rfl)
theorem dJ15_init_4 : decode cJ15_init 4 = .ok (.iload 4, 2) := dk_21 4 (dk_at dksJ15_init_0 4 rfl rfl)
theorem dJ15_init_6 : decode cJ15_init 6 = .ok (.invokespecial 16, 3) := dk_183 0 16 (dk_at dksJ15_init_0 6 rfl rfl)
theorem dJ15_init_9 : decode cJ15_init 9 = .ok (.return_, 1) := dk_177 (dk_at dksJ15_init_0 9 rfl rfl)
theorem q179 : (Jvm.Cond.initialized "java/lang/Exception") ∈ lw_all := lw_g (lw_at lw_m1 28 rfl) rfl
theorem q1392 : (Jvm.Cond.declares ({ cls := "java/lang/Exception", name := "<init>", desc := "()V" } : Jvm.MethodName)) ∈ lw_tbl := lw_at lw_m6 41 rfl
theorem q1393 : (Jvm.Cond.declares ({ cls := "java/lang/Exception", name := "<init>", desc := "(Ljava/lang/String;)V" } : Jvm.MethodName)) ∈ lw_tbl := lw_at lw_m6 42 rfl
theorem q1434 : (Jvm.Cond.instanceMethod ({ cls := "java/lang/Exception", name := "<init>", desc := "(Ljava/lang/String;Ljava/lang/Throwable;ZZ)V" } : Jvm.MethodName)) ∈ lw_all := lw_g (lw_at lw_m6 83 rfl) rfl
theorem q1435 : (Jvm.Cond.code ({ cls := "java/lang/Exception", name := "<init>", desc := "(Ljava/lang/String;Ljava/lang/Throwable;ZZ)V" } : Jvm.MethodName) prog_29_method_5_code (5 : Nat) (Option.none : Option Jvm.ClassFile.FieldType)) ∈ lw_all := lw_g (lw_at lw_m6 84 rfl) rfl
theorem q1436 : (Jvm.Cond.methodLink "java/lang/Exception" (16 : Nat) ({ cls := "java/lang/Throwable", name := "<init>", desc := "(Ljava/lang/String;Ljava/lang/Throwable;ZZ)V" } : Jvm.MethodName)) ∈ lw_all := lw_g (lw_at lw_m6 85 rfl) rfl
/-! java/lang/Object -/
set_option maxRecDepth 100000
def RJ16 : String := "java/lang/Object"
abbrev cJ16_init : ByteArray := object_method_1_code
def yJ16_init : MethodName := ⟨RJ16, "<init>", "()V"⟩
theorem dJ16_init_0 : decode cJ16_init 0 = .ok (.return_, 1) := by decide +kernel
theorem q192 : (Jvm.Cond.instanceMethod ({ cls := "java/lang/Object", name := "<init>", desc := "()V" } : Jvm.MethodName)) ∈ lw_all := lw_g (lw_at lw_m1 41 rfl) rfl
theorem q193 : (Jvm.Cond.code ({ cls := "java/lang/Object", name := "<init>", desc := "()V" } : Jvm.MethodName) object_method_1_code (1 : Nat) (Option.none : Option Jvm.ClassFile.FieldType)) ∈ lw_all := lw_g (lw_at lw_m1 42 rfl) rfl
theorem q340 : (Jvm.Cond.native ({ cls := "java/lang/Object", name := "clone", desc := "()Ljava/lang/Object;" } : Jvm.MethodName)) ∈ lw_all := lw_g (lw_at lw_m1 189 rfl) rfl
theorem q341 : (Jvm.Cond.instanceMethod ({ cls := "java/lang/Object", name := "clone", desc := "()Ljava/lang/Object;" } : Jvm.MethodName)) ∈ lw_all := lw_g (lw_at lw_m1 190 rfl) rfl
theorem q1142 : (Jvm.Cond.instanceMethod ({ cls := "java/lang/Object", name := "getClass", desc := "()Ljava/lang/Class;" } : Jvm.MethodName)) ∈ lw_all := lw_g (lw_at lw_m5 31 rfl) rfl
theorem q1143 : (Jvm.Cond.sameMethod "java/lang/Object" "java/lang/Object" "getClass" "()Ljava/lang/Class;") ∈ lw_all := lw_g (lw_at lw_m5 32 rfl) rfl
theorem q1162 : (Jvm.Cond.native ({ cls := "java/lang/Object", name := "getClass", desc := "()Ljava/lang/Class;" } : Jvm.MethodName)) ∈ lw_all := lw_g (lw_at lw_m5 51 rfl) rfl
theorem q2427 : (Jvm.Cond.initialized "java/lang/Object") ∈ lw_all := lw_g (lw_at lw_m10 116 rfl) rfl
theorem q2452 : (Jvm.Cond.declares ({ cls := "java/lang/Object", name := "getClass", desc := "()Ljava/lang/Class;" } : Jvm.MethodName)) ∈ lw_tbl := lw_at lw_m10 141 rfl
theorem q2464 : (Jvm.Cond.instantiable "java/lang/Object" (0 : Nat)) ∈ lw_all := lw_g (lw_at lw_m10 153 rfl) rfl
/-! java/lang/String -/
set_option maxRecDepth 100000
def RJ2 : String := "java/lang/String"
def TJ2 : u_T := fun k => match k with
  | 0 => ("java/lang/String", "value", "[B", true)
  | 1 => ("java/lang/String", "coder", "B", true)
  | 2 => ("java/lang/String", "hash", "I", false)
  | _ => ("java/lang/String", "hashIsZero", "Z", false)
def tyJ2 : Nat → FieldType := fun k => match k with
  | 0 => .array .byte
  | 1 => .byte
  | 2 => .int
  | _ => .boolean
abbrev wsJ20 : List Cond := u_ws RJ2 TJ2 4
theorem nmJ2 : ∀ a, a < 4 → ∀ b, b < 4 → a ≠ b → (TJ2 a).2.1 ≠ (TJ2 b).2.1 := by decide +kernel
theorem tyJ2_ok : ∀ k, k < 4 → parseFieldDescriptor (TJ2 k).2.2.1 = some (tyJ2 k) := by decide +kernel
abbrev cJ2_checkBoundsBeginEnd : ByteArray := prog_34_method_158_code
def yJ2_checkBoundsBeginEnd : MethodName := ⟨RJ2, "checkBoundsBeginEnd", "(III)V"⟩
def dkwJ2_checkBoundsBeginEnd_0 : List UInt8 := [26, 27, 28, 178, 4, 29, 184, 4, 38, 87, 177]
abbrev dktJ2_checkBoundsBeginEnd_0 : List UInt8 := dkwJ2_checkBoundsBeginEnd_0 ++ []
theorem dksJ2_checkBoundsBeginEnd_0 : cJ2_checkBoundsBeginEnd.data.toList.drop 0 = dktJ2_checkBoundsBeginEnd_0 := by decide +kernel
theorem dJ2_checkBoundsBeginEnd_0 : decode cJ2_checkBoundsBeginEnd 0 = .ok (.iload_n 0, 1) := dk_26 (dk_at dksJ2_checkBoundsBeginEnd_0 0 rfl rfl)
theorem dJ2_checkBoundsBeginEnd_1 : decode cJ2_checkBoundsBeginEnd 1 = .ok (.iload_n 1, 1) := dk_27 (dk_at dksJ2_checkBoundsBeginEnd_0 1 rfl rfl)
theorem dJ2_checkBoundsBeginEnd_2 : decode cJ2_checkBoundsBeginEnd 2 = .ok (.iload_n 2, 1) := dk_28 (dk_at dksJ2_checkBoundsBeginEnd_0 2 rfl rfl)
theorem dJ2_checkBoundsBeginEnd_3 : decode cJ2_checkBoundsBeginEnd 3 = .ok (.getstatic 1053, 3) := dk_178 4 29 (dk_at dksJ2_checkBoundsBeginEnd_0 3 rfl rfl)
theorem dJ2_checkBoundsBeginEnd_6 : decode cJ2_checkBoundsBeginEnd 6 = .ok (.invokestatic 1062, 3) := dk_184 4 38 (dk_at dksJ2_checkBoundsBeginEnd_0 6 rfl rfl)
theorem dJ2_checkBoundsBeginEnd_9 : decode cJ2_checkBoundsBeginEnd 9 = .ok (.pop, 1) := dk_87 (dk_at dksJ2_checkBoundsBeginEnd_0 9 rfl rfl)
theorem dJ2_checkBoundsBeginEnd_10 : decode cJ2_checkBoundsBeginEnd 10 = .ok (.return_, 1) := dk_177 (dk_at dksJ2_checkBoundsBeginEnd_0 10 rfl rfl)
abbrev cJ2_length : ByteArray := prog_34_method_54_code
def yJ2_length : MethodName := ⟨RJ2, "length", "()I"⟩
def dkwJ2_length_0 : List UInt8 := [42, 180, 0, 9, 190, 42, 182, 1, 79, 122, 172]
abbrev dktJ2_length_0 : List UInt8 := dkwJ2_length_0 ++ []
theorem dksJ2_length_0 : cJ2_length.data.toList.drop 0 = dktJ2_length_0 := by decide +kernel
theorem dJ2_length_0 : decode cJ2_length 0 = .ok (.aload_n 0, 1) := dk_42 (dk_at dksJ2_length_0 0 rfl rfl)
theorem dJ2_length_1 : decode cJ2_length 1 = .ok (.getfield 9, 3) := dk_180 0 9 (dk_at dksJ2_length_0 1 rfl rfl)
theorem dJ2_length_4 : decode cJ2_length 4 = .ok (.arraylength, 1) := dk_190 (dk_at dksJ2_length_0 4 rfl rfl)
theorem dJ2_length_5 : decode cJ2_length 5 = .ok (.aload_n 0, 1) := dk_42 (dk_at dksJ2_length_0 5 rfl rfl)
theorem dJ2_length_6 : decode cJ2_length 6 = .ok (.invokevirtual 335, 3) := dk_182 1 79 (dk_at dksJ2_length_0 6 rfl rfl)
theorem dJ2_length_9 : decode cJ2_length 9 = .ok (.ishr, 1) := dk_122 (dk_at dksJ2_length_0 9 rfl rfl)
theorem dJ2_length_10 : decode cJ2_length 10 = .ok (.ireturn, 1) := dk_172 (dk_at dksJ2_length_0 10 rfl rfl)
abbrev cJ2_coder : ByteArray := prog_34_method_152_code
def yJ2_coder : MethodName := ⟨RJ2, "coder", "()B"⟩
def dkwJ2_coder_0 : List UInt8 := [178, 0, 38, 153, 0, 10, 42, 180, 0, 15, 167, 0, 4, 4, 172]
abbrev dktJ2_coder_0 : List UInt8 := dkwJ2_coder_0 ++ []
theorem dksJ2_coder_0 : cJ2_coder.data.toList.drop 0 = dktJ2_coder_0 := by decide +kernel
theorem dJ2_coder_0 : decode cJ2_coder 0 = .ok (.getstatic 38, 3) := dk_178 0 38 (dk_at dksJ2_coder_0 0 rfl rfl)
theorem dJ2_coder_3 : decode cJ2_coder 3 = .ok (.ifCond .eq 10, 3) := dk_153 0 10 (dk_at dksJ2_coder_0 3 rfl rfl)
theorem dJ2_coder_6 : decode cJ2_coder 6 = .ok (.aload_n 0, 1) := dk_42 (dk_at dksJ2_coder_0 6 rfl rfl)
theorem dJ2_coder_7 : decode cJ2_coder 7 = .ok (.getfield 15, 3) := dk_180 0 15 (dk_at dksJ2_coder_0 7 rfl rfl)
theorem dJ2_coder_10 : decode cJ2_coder 10 = .ok (.goto 4, 3) := dk_167 0 4 (dk_at dksJ2_coder_0 10 rfl rfl)
theorem dJ2_coder_13 : decode cJ2_coder 13 = .ok (.iconst 1, 1) := dk_4 (dk_at dksJ2_coder_0 13 rfl rfl)
theorem dJ2_coder_14 : decode cJ2_coder 14 = .ok (.ireturn, 1) := dk_172 (dk_at dksJ2_coder_0 14 rfl rfl)
abbrev cJ2_checkBoundsOffCount : ByteArray := prog_34_method_157_code
def yJ2_checkBoundsOffCount : MethodName := ⟨RJ2, "checkBoundsOffCount", "(III)I"⟩
def dkwJ2_checkBoundsOffCount_0 : List UInt8 := [26, 27, 28, 178, 4, 29, 184, 4, 41, 172]
abbrev dktJ2_checkBoundsOffCount_0 : List UInt8 := dkwJ2_checkBoundsOffCount_0 ++ []
theorem dksJ2_checkBoundsOffCount_0 : cJ2_checkBoundsOffCount.data.toList.drop 0 = dktJ2_checkBoundsOffCount_0 := by decide +kernel
theorem dJ2_checkBoundsOffCount_0 : decode cJ2_checkBoundsOffCount 0 = .ok (.iload_n 0, 1) := dk_26 (dk_at dksJ2_checkBoundsOffCount_0 0 rfl rfl)
theorem dJ2_checkBoundsOffCount_1 : decode cJ2_checkBoundsOffCount 1 = .ok (.iload_n 1, 1) := dk_27 (dk_at dksJ2_checkBoundsOffCount_0 1 rfl rfl)
theorem dJ2_checkBoundsOffCount_2 : decode cJ2_checkBoundsOffCount 2 = .ok (.iload_n 2, 1) := dk_28 (dk_at dksJ2_checkBoundsOffCount_0 2 rfl rfl)
theorem dJ2_checkBoundsOffCount_3 : decode cJ2_checkBoundsOffCount 3 = .ok (.getstatic 1053, 3) := dk_178 4 29 (dk_at dksJ2_checkBoundsOffCount_0 3 rfl rfl)
theorem dJ2_checkBoundsOffCount_6 : decode cJ2_checkBoundsOffCount 6 = .ok (.invokestatic 1065, 3) := dk_184 4 41 (dk_at dksJ2_checkBoundsOffCount_0 6 rfl rfl)
theorem dJ2_checkBoundsOffCount_9 : decode cJ2_checkBoundsOffCount 9 = .ok (.ireturn, 1) := dk_172 (dk_at dksJ2_checkBoundsOffCount_0 9 rfl rfl)
abbrev cJ2_getBytes : ByteArray := prog_34_method_147_code
def yJ2_getBytes : MethodName := ⟨RJ2, "getBytes", "([BIB)V"⟩
def dkwJ2_getBytes_1 : List UInt8 := [184, 0, 212, 167, 0, 18, 42, 180, 0, 9, 3, 43, 28, 42, 180, 0, 9, 190, 184, 0, 106, 177]
abbrev dktJ2_getBytes_1 : List UInt8 := dkwJ2_getBytes_1 ++ []
def dkwJ2_getBytes_0 : List UInt8 := [42, 182, 1, 79, 29, 160, 0, 23, 42, 180, 0, 9, 3, 43, 28, 29, 120, 42, 180, 0, 9, 190]
abbrev dktJ2_getBytes_0 : List UInt8 := dkwJ2_getBytes_0 ++ dktJ2_getBytes_1
theorem dksJ2_getBytes_0 : cJ2_getBytes.data.toList.drop 0 = dktJ2_getBytes_0 := by decide +kernel
theorem dksJ2_getBytes_1 : cJ2_getBytes.data.toList.drop 22 = dktJ2_getBytes_1 := dk_seg dksJ2_getBytes_0 22 rfl rfl
theorem dJ2_getBytes_0 : decode cJ2_getBytes 0 = .ok (.aload_n 0, 1) := dk_42 (dk_at dksJ2_getBytes_0 0 rfl rfl)
theorem dJ2_getBytes_1 : decode cJ2_getBytes 1 = .ok (.invokevirtual 335, 3) := dk_182 1 79 (dk_at dksJ2_getBytes_0 1 rfl rfl)
theorem dJ2_getBytes_4 : decode cJ2_getBytes 4 = .ok (.iload_n 3, 1) := dk_29 (dk_at dksJ2_getBytes_0 4 rfl rfl)
theorem dJ2_getBytes_5 : decode cJ2_getBytes 5 = .ok (.if_icmp .ne 23, 3) := dk_160 0 23 (dk_at dksJ2_getBytes_0 5 rfl rfl)
theorem dJ2_getBytes_8 : decode cJ2_getBytes 8 = .ok (.aload_n 0, 1) := dk_42 (dk_at dksJ2_getBytes_0 8 rfl rfl)
theorem dJ2_getBytes_9 : decode cJ2_getBytes 9 = .ok (.getfield 9, 3) := dk_180 0 9 (dk_at dksJ2_getBytes_0 9 rfl rfl)
theorem dJ2_getBytes_12 : decode cJ2_getBytes 12 = .ok (.iconst 0, 1) := dk_3 (dk_at dksJ2_getBytes_0 12 rfl rfl)
theorem dJ2_getBytes_13 : decode cJ2_getBytes 13 = .ok (.aload_n 1, 1) := dk_43 (dk_at dksJ2_getBytes_0 13 rfl rfl)
theorem dJ2_getBytes_14 : decode cJ2_getBytes 14 = .ok (.iload_n 2, 1) := dk_28 (dk_at dksJ2_getBytes_0 14 rfl rfl)
theorem dJ2_getBytes_15 : decode cJ2_getBytes 15 = .ok (.iload_n 3, 1) := dk_29 (dk_at dksJ2_getBytes_0 15 rfl rfl)
theorem dJ2_getBytes_16 : decode cJ2_getBytes 16 = .ok (.ishl, 1) := dk_120 (dk_at dksJ2_getBytes_0 16 rfl rfl)
theorem dJ2_getBytes_17 : decode cJ2_getBytes 17 = .ok (.aload_n 0, 1) := dk_42 (dk_at dksJ2_getBytes_0 17 rfl rfl)
theorem dJ2_getBytes_18 : decode cJ2_getBytes 18 = .ok (.getfield 9, 3) := dk_180 0 9 (dk_at dksJ2_getBytes_0 18 rfl rfl)
theorem dJ2_getBytes_21 : decode cJ2_getBytes 21 = .ok (.arraylength, 1) := dk_190 (dk_at dksJ2_getBytes_0 21 rfl rfl)
theorem dJ2_getBytes_22 : decode cJ2_getBytes 22 = .ok (.invokestatic 212, 3) := dk_184 0 212 (dk_at dksJ2_getBytes_1 0 rfl rfl)
theorem dJ2_getBytes_25 : decode cJ2_getBytes 25 = .ok (.goto 18, 3) := dk_167 0 18 (dk_at dksJ2_getBytes_1 3 rfl rfl)
theorem dJ2_getBytes_28 : decode cJ2_getBytes 28 = .ok (.aload_n 0, 1) := dk_42 (dk_at dksJ2_getBytes_1 6 rfl rfl)
theorem dJ2_getBytes_29 : decode cJ2_getBytes 29 = .ok (.getfield 9, 3) := dk_180 0 9 (dk_at dksJ2_getBytes_1 7 rfl rfl)
theorem dJ2_getBytes_32 : decode cJ2_getBytes 32 = .ok (.iconst 0, 1) := dk_3 (dk_at dksJ2_getBytes_1 10 rfl rfl)
theorem dJ2_getBytes_33 : decode cJ2_getBytes 33 = .ok (.aload_n 1, 1) := dk_43 (dk_at dksJ2_getBytes_1 11 rfl rfl)
theorem dJ2_getBytes_34 : decode cJ2_getBytes 34 = .ok (.iload_n 2, 1) := dk_28 (dk_at dksJ2_getBytes_1 12 rfl rfl)
theorem dJ2_getBytes_35 : decode cJ2_getBytes 35 = .ok (.aload_n 0, 1) := dk_42 (dk_at dksJ2_getBytes_1 13 rfl rfl)
theorem dJ2_getBytes_36 : decode cJ2_getBytes 36 = .ok (.getfield 9, 3) := dk_180 0 9 (dk_at dksJ2_getBytes_1 14 rfl rfl)
theorem dJ2_getBytes_39 : decode cJ2_getBytes 39 = .ok (.arraylength, 1) := dk_190 (dk_at dksJ2_getBytes_1 17 rfl rfl)
theorem dJ2_getBytes_40 : decode cJ2_getBytes 40 = .ok (.invokestatic 106, 3) := dk_184 0 106 (dk_at dksJ2_getBytes_1 18 rfl rfl)
theorem dJ2_getBytes_43 : decode cJ2_getBytes 43 = .ok (.return_, 1) := dk_177 (dk_at dksJ2_getBytes_1 21 rfl rfl)
abbrev cJ2_init : ByteArray := prog_34_method_53_code
def yJ2_init : MethodName := ⟨RJ2, "<init>", "(Ljava/lang/StringBuilder;)V"⟩
def dkwJ2_init_0 : List UInt8 := [42, 43, 1, 183, 1, 233, 177]
abbrev dktJ2_init_0 : List UInt8 := dkwJ2_init_0 ++ []
theorem dksJ2_init_0 : cJ2_init.data.toList.drop 0 = dktJ2_init_0 := by decide +kernel
theorem dJ2_init_0 : decode cJ2_init 0 = .ok (.aload_n 0, 1) := dk_42 (dk_at dksJ2_init_0 0 rfl rfl)
theorem dJ2_init_1 : decode cJ2_init 1 = .ok (.aload_n 1, 1) := dk_43 (dk_at dksJ2_init_0 1 rfl rfl)
theorem dJ2_init_2 : decode cJ2_init 2 = .ok (.aconst_null, 1) := dk_1 (dk_at dksJ2_init_0 2 rfl rfl)
theorem dJ2_init_3 : decode cJ2_init 3 = .ok (.invokespecial 489, 3) := dk_183 1 233 (dk_at dksJ2_init_0 3 rfl rfl)
theorem dJ2_init_6 : decode cJ2_init 6 = .ok (.return_, 1) := dk_177 (dk_at dksJ2_init_0 6 rfl rfl)
abbrev cJ2_init_2 : ByteArray := prog_34_method_150_code
def yJ2_init_2 : MethodName := ⟨RJ2, "<init>", "(Ljava/lang/AbstractStringBuilder;Ljava/lang/Void;)V"⟩
def dkwJ2_init_2_4 : List UInt8 := [181, 0, 9, 177]
abbrev dktJ2_init_2_4 : List UInt8 := dkwJ2_init_2_4 ++ []
def dkwJ2_init_2_3 : List UInt8 := [184, 0, 47, 181, 0, 15, 177, 42, 4, 181, 0, 15, 42, 45, 3, 21, 4, 4, 120, 184, 0, 54]
abbrev dktJ2_init_2_3 : List UInt8 := dkwJ2_init_2_3 ++ dktJ2_init_2_4
def dkwJ2_init_2_2 : List UInt8 := [180, 4, 24, 153, 0, 28, 42, 45, 3, 21, 4, 184, 4, 27, 181, 0, 9, 42, 42, 180, 0, 9, 21, 4]
abbrev dktJ2_init_2_2 : List UInt8 := dkwJ2_init_2_2 ++ dktJ2_init_2_3
def dkwJ2_init_2_1 : List UInt8 := [181, 0, 15, 42, 45, 3, 21, 4, 184, 0, 54, 181, 0, 9, 167, 0, 59, 178, 0, 38, 153, 0, 35, 43]
abbrev dktJ2_init_2_1 : List UInt8 := dkwJ2_init_2_1 ++ dktJ2_init_2_2
def dkwJ2_init_2_0 : List UInt8 := [42, 183, 0, 1, 43, 182, 2, 40, 78, 43, 182, 2, 37, 54, 4, 43, 182, 4, 23, 153, 0, 22, 42, 3]
abbrev dktJ2_init_2_0 : List UInt8 := dkwJ2_init_2_0 ++ dktJ2_init_2_1
theorem dksJ2_init_2_0 : cJ2_init_2.data.toList.drop 0 = dktJ2_init_2_0 := by decide +kernel
theorem dksJ2_init_2_1 : cJ2_init_2.data.toList.drop 24 = dktJ2_init_2_1 := dk_seg dksJ2_init_2_0 24 rfl rfl
theorem dksJ2_init_2_2 : cJ2_init_2.data.toList.drop 48 = dktJ2_init_2_2 := dk_seg dksJ2_init_2_1 24 rfl rfl
theorem dksJ2_init_2_3 : cJ2_init_2.data.toList.drop 72 = dktJ2_init_2_3 := dk_seg dksJ2_init_2_2 24 rfl rfl
theorem dksJ2_init_2_4 : cJ2_init_2.data.toList.drop 94 = dktJ2_init_2_4 := dk_seg dksJ2_init_2_3 22 rfl rfl
theorem dJ2_init_2_0 : decode cJ2_init_2 0 = .ok (.aload_n 0, 1) := dk_42 (dk_at dksJ2_init_2_0 0 rfl rfl)
theorem dJ2_init_2_1 : decode cJ2_init_2 1 = .ok (.invokespecial 1, 3) := dk_183 0 1 (dk_at dksJ2_init_2_0 1 rfl rfl)
theorem dJ2_init_2_4 : decode cJ2_init_2 4 = .ok (.aload_n 1, 1) := dk_43 (dk_at dksJ2_init_2_0 4 rfl rfl)
theorem dJ2_init_2_5 : decode cJ2_init_2 5 = .ok (.invokevirtual 552, 3) := dk_182 2 40 (dk_at dksJ2_init_2_0 5 rfl rfl)
theorem dJ2_init_2_8 : decode cJ2_init_2 8 = .ok (.astore_n 3, 1) := dk_78 (dk_at dksJ2_init_2_0 8 rfl rfl)
theorem dJ2_init_2_9 : decode cJ2_init_2 9 = .ok (.aload_n 1, 1) := dk_43 (dk_at dksJ2_init_2_0 9 rfl rfl)
theorem dJ2_init_2_10 : decode cJ2_init_2 10 = .ok (.invokevirtual 549, 3) := dk_182 2 37 (dk_at dksJ2_init_2_0 10 rfl rfl)
theorem dJ2_init_2_13 : decode cJ2_init_2 13 = .ok (.istore 4, 2) := dk_54 4 (dk_at dksJ2_init_2_0 13 rfl rfl)
theorem dJ2_init_2_15 : decode cJ2_init_2 15 = .ok (.aload_n 1, 1) := dk_43 (dk_at dksJ2_init_2_0 15 rfl rfl)
theorem dJ2_init_2_16 : decode cJ2_init_2 16 = .ok (.invokevirtual 1047, 3) := dk_182 4 23 (dk_at dksJ2_init_2_0 16 rfl rfl)
theorem dJ2_init_2_19 : decode cJ2_init_2 19 = .ok (.ifCond .eq 22, 3) := dk_153 0 22 (dk_at dksJ2_init_2_0 19 rfl rfl)
theorem dJ2_init_2_22 : decode cJ2_init_2 22 = .ok (.aload_n 0, 1) := dk_42 (dk_at dksJ2_init_2_0 22 rfl rfl)
theorem dJ2_init_2_23 : decode cJ2_init_2 23 = .ok (.iconst 0, 1) := dk_3 (dk_at dksJ2_init_2_0 23 rfl rfl)
theorem dJ2_init_2_24 : decode cJ2_init_2 24 = .ok (.putfield 15, 3) := dk_181 0 15 (dk_at dksJ2_init_2_1 0 rfl rfl)
theorem dJ2_init_2_27 : decode cJ2_init_2 27 = .ok (.aload_n 0, 1) := dk_42 (dk_at dksJ2_init_2_1 3 rfl rfl)
theorem dJ2_init_2_28 : decode cJ2_init_2 28 = .ok (.aload_n 3, 1) := dk_45 (dk_at dksJ2_init_2_1 4 rfl rfl)
theorem dJ2_init_2_29 : decode cJ2_init_2 29 = .ok (.iconst 0, 1) := dk_3 (dk_at dksJ2_init_2_1 5 rfl rfl)
theorem dJ2_init_2_30 : decode cJ2_init_2 30 = .ok (.iload 4, 2) := dk_21 4 (dk_at dksJ2_init_2_1 6 rfl rfl)
theorem dJ2_init_2_32 : decode cJ2_init_2 32 = .ok (.invokestatic 54, 3) := dk_184 0 54 (dk_at dksJ2_init_2_1 8 rfl rfl)
theorem dJ2_init_2_35 : decode cJ2_init_2 35 = .ok (.putfield 9, 3) := dk_181 0 9 (dk_at dksJ2_init_2_1 11 rfl rfl)
theorem dJ2_init_2_38 : decode cJ2_init_2 38 = .ok (.goto 59, 3) := dk_167 0 59 (dk_at dksJ2_init_2_1 14 rfl rfl)
theorem dJ2_init_2_41 : decode cJ2_init_2 41 = .ok (.getstatic 38, 3) := dk_178 0 38 (dk_at dksJ2_init_2_1 17 rfl rfl)
theorem dJ2_init_2_44 : decode cJ2_init_2 44 = .ok (.ifCond .eq 35, 3) := dk_153 0 35 (dk_at dksJ2_init_2_1 20 rfl rfl)
theorem dJ2_init_2_47 : decode cJ2_init_2 47 = .ok (.aload_n 1, 1) := dk_43 (dk_at dksJ2_init_2_1 23 rfl rfl)
theorem dJ2_init_2_48 : decode cJ2_init_2 48 = .ok (.getfield 1048, 3) := dk_180 4 24 (dk_at dksJ2_init_2_2 0 rfl rfl)
theorem dJ2_init_2_51 : decode cJ2_init_2 51 = .ok (.ifCond .eq 28, 3) := dk_153 0 28 (dk_at dksJ2_init_2_2 3 rfl rfl)
theorem dJ2_init_2_54 : decode cJ2_init_2 54 = .ok (.aload_n 0, 1) := dk_42 (dk_at dksJ2_init_2_2 6 rfl rfl)
theorem dJ2_init_2_55 : decode cJ2_init_2 55 = .ok (.aload_n 3, 1) := dk_45 (dk_at dksJ2_init_2_2 7 rfl rfl)
theorem dJ2_init_2_56 : decode cJ2_init_2 56 = .ok (.iconst 0, 1) := dk_3 (dk_at dksJ2_init_2_2 8 rfl rfl)
theorem dJ2_init_2_57 : decode cJ2_init_2 57 = .ok (.iload 4, 2) := dk_21 4 (dk_at dksJ2_init_2_2 9 rfl rfl)
theorem dJ2_init_2_59 : decode cJ2_init_2 59 = .ok (.invokestatic 1051, 3) := dk_184 4 27 (dk_at dksJ2_init_2_2 11 rfl rfl)
theorem dJ2_init_2_62 : decode cJ2_init_2 62 = .ok (.putfield 9, 3) := dk_181 0 9 (dk_at dksJ2_init_2_2 14 rfl rfl)
theorem dJ2_init_2_65 : decode cJ2_init_2 65 = .ok (.aload_n 0, 1) := dk_42 (dk_at dksJ2_init_2_2 17 rfl rfl)
theorem dJ2_init_2_66 : decode cJ2_init_2 66 = .ok (.aload_n 0, 1) := dk_42 (dk_at dksJ2_init_2_2 18 rfl rfl)
theorem dJ2_init_2_67 : decode cJ2_init_2 67 = .ok (.getfield 9, 3) := dk_180 0 9 (dk_at dksJ2_init_2_2 19 rfl rfl)
theorem dJ2_init_2_70 : decode cJ2_init_2 70 = .ok (.iload 4, 2) := dk_21 4 (dk_at dksJ2_init_2_2 22 rfl rfl)
theorem dJ2_init_2_72 : decode cJ2_init_2 72 = .ok (.invokestatic 47, 3) := dk_184 0 47 (dk_at dksJ2_init_2_3 0 rfl rfl)
theorem dJ2_init_2_75 : decode cJ2_init_2 75 = .ok (.putfield 15, 3) := dk_181 0 15 (dk_at dksJ2_init_2_3 3 rfl rfl)
theorem dJ2_init_2_78 : decode cJ2_init_2 78 = .ok (.return_, 1) := dk_177 (dk_at dksJ2_init_2_3 6 rfl rfl)
theorem dJ2_init_2_79 : decode cJ2_init_2 79 = .ok (.aload_n 0, 1) := dk_42 (dk_at dksJ2_init_2_3 7 rfl rfl)
theorem dJ2_init_2_80 : decode cJ2_init_2 80 = .ok (.iconst 1, 1) := dk_4 (dk_at dksJ2_init_2_3 8 rfl rfl)
theorem dJ2_init_2_81 : decode cJ2_init_2 81 = .ok (.putfield 15, 3) := dk_181 0 15 (dk_at dksJ2_init_2_3 9 rfl rfl)
theorem dJ2_init_2_84 : decode cJ2_init_2 84 = .ok (.aload_n 0, 1) := dk_42 (dk_at dksJ2_init_2_3 12 rfl rfl)
theorem dJ2_init_2_85 : decode cJ2_init_2 85 = .ok (.aload_n 3, 1) := dk_45 (dk_at dksJ2_init_2_3 13 rfl rfl)
theorem dJ2_init_2_86 : decode cJ2_init_2 86 = .ok (.iconst 0, 1) := dk_3 (dk_at dksJ2_init_2_3 14 rfl rfl)
theorem dJ2_init_2_87 : decode cJ2_init_2 87 = .ok (.iload 4, 2) := dk_21 4 (dk_at dksJ2_init_2_3 15 rfl rfl)
theorem dJ2_init_2_89 : decode cJ2_init_2 89 = .ok (.iconst 1, 1) := dk_4 (dk_at dksJ2_init_2_3 17 rfl rfl)
theorem dJ2_init_2_90 : decode cJ2_init_2 90 = .ok (.ishl, 1) := dk_120 (dk_at dksJ2_init_2_3 18 rfl rfl)
theorem dJ2_init_2_91 : decode cJ2_init_2 91 = .ok (.invokestatic 54, 3) := dk_184 0 54 (dk_at dksJ2_init_2_3 19 rfl rfl)
theorem dJ2_init_2_94 : decode cJ2_init_2 94 = .ok (.putfield 9, 3) := dk_181 0 9 (dk_at dksJ2_init_2_4 0 rfl rfl)
theorem dJ2_init_2_97 : decode cJ2_init_2 97 = .ok (.return_, 1) := dk_177 (dk_at dksJ2_init_2_4 3 rfl rfl)
abbrev cJ2_charAt : ByteArray := prog_34_method_56_code
def yJ2_charAt : MethodName := ⟨RJ2, "charAt", "(I)C"⟩
def dkwJ2_charAt_1 : List UInt8 := [172]
abbrev dktJ2_charAt_1 : List UInt8 := dkwJ2_charAt_1 ++ []
def dkwJ2_charAt_0 : List UInt8 := [42, 182, 1, 236, 153, 0, 12, 42, 180, 0, 9, 27, 184, 1, 239, 172, 42, 180, 0, 9, 27, 184, 1, 242]
abbrev dktJ2_charAt_0 : List UInt8 := dkwJ2_charAt_0 ++ dktJ2_charAt_1
theorem dksJ2_charAt_0 : cJ2_charAt.data.toList.drop 0 = dktJ2_charAt_0 := by decide +kernel
theorem dksJ2_charAt_1 : cJ2_charAt.data.toList.drop 24 = dktJ2_charAt_1 := dk_seg dksJ2_charAt_0 24 rfl rfl
theorem dJ2_charAt_0 : decode cJ2_charAt 0 = .ok (.aload_n 0, 1) := dk_42 (dk_at dksJ2_charAt_0 0 rfl rfl)
theorem dJ2_charAt_1 : decode cJ2_charAt 1 = .ok (.invokevirtual 492, 3) := dk_182 1 236 (dk_at dksJ2_charAt_0 1 rfl rfl)
theorem dJ2_charAt_4 : decode cJ2_charAt 4 = .ok (.ifCond .eq 12, 3) := dk_153 0 12 (dk_at dksJ2_charAt_0 4 rfl rfl)
theorem dJ2_charAt_7 : decode cJ2_charAt 7 = .ok (.aload_n 0, 1) := dk_42 (dk_at dksJ2_charAt_0 7 rfl rfl)
theorem dJ2_charAt_8 : decode cJ2_charAt 8 = .ok (.getfield 9, 3) := dk_180 0 9 (dk_at dksJ2_charAt_0 8 rfl rfl)
theorem dJ2_charAt_11 : decode cJ2_charAt 11 = .ok (.iload_n 1, 1) := dk_27 (dk_at dksJ2_charAt_0 11 rfl rfl)
theorem dJ2_charAt_12 : decode cJ2_charAt 12 = .ok (.invokestatic 495, 3) := dk_184 1 239 (dk_at dksJ2_charAt_0 12 rfl rfl)
theorem dJ2_charAt_15 : decode cJ2_charAt 15 = .ok (.ireturn, 1) := dk_172 (dk_at dksJ2_charAt_0 15 rfl rfl)
theorem dJ2_charAt_16 : decode cJ2_charAt 16 = .ok (.aload_n 0, 1) := dk_42 (dk_at dksJ2_charAt_0 16 rfl rfl)
theorem dJ2_charAt_17 : decode cJ2_charAt 17 = .ok (.getfield 9, 3) := dk_180 0 9 (dk_at dksJ2_charAt_0 17 rfl rfl)
theorem dJ2_charAt_20 : decode cJ2_charAt 20 = .ok (.iload_n 1, 1) := dk_27 (dk_at dksJ2_charAt_0 20 rfl rfl)
theorem dJ2_charAt_21 : decode cJ2_charAt 21 = .ok (.invokestatic 498, 3) := dk_184 1 242 (dk_at dksJ2_charAt_0 21 rfl rfl)
theorem dJ2_charAt_24 : decode cJ2_charAt 24 = .ok (.ireturn, 1) := dk_172 (dk_at dksJ2_charAt_1 0 rfl rfl)
abbrev cJ2_isLatin1 : ByteArray := prog_34_method_154_code
def yJ2_isLatin1 : MethodName := ⟨RJ2, "isLatin1", "()Z"⟩
def dkwJ2_isLatin1_0 : List UInt8 := [178, 0, 38, 153, 0, 14, 42, 180, 0, 15, 154, 0, 7, 4, 167, 0, 4, 3, 172]
abbrev dktJ2_isLatin1_0 : List UInt8 := dkwJ2_isLatin1_0 ++ []
theorem dksJ2_isLatin1_0 : cJ2_isLatin1.data.toList.drop 0 = dktJ2_isLatin1_0 := by decide +kernel
theorem dJ2_isLatin1_0 : decode cJ2_isLatin1 0 = .ok (.getstatic 38, 3) := dk_178 0 38 (dk_at dksJ2_isLatin1_0 0 rfl rfl)
theorem dJ2_isLatin1_3 : decode cJ2_isLatin1 3 = .ok (.ifCond .eq 14, 3) := dk_153 0 14 (dk_at dksJ2_isLatin1_0 3 rfl rfl)
theorem dJ2_isLatin1_6 : decode cJ2_isLatin1 6 = .ok (.aload_n 0, 1) := dk_42 (dk_at dksJ2_isLatin1_0 6 rfl rfl)
theorem dJ2_isLatin1_7 : decode cJ2_isLatin1 7 = .ok (.getfield 15, 3) := dk_180 0 15 (dk_at dksJ2_isLatin1_0 7 rfl rfl)
theorem dJ2_isLatin1_10 : decode cJ2_isLatin1 10 = .ok (.ifCond .ne 7, 3) := dk_154 0 7 (dk_at dksJ2_isLatin1_0 10 rfl rfl)
theorem dJ2_isLatin1_13 : decode cJ2_isLatin1 13 = .ok (.iconst 1, 1) := dk_4 (dk_at dksJ2_isLatin1_0 13 rfl rfl)
theorem dJ2_isLatin1_14 : decode cJ2_isLatin1 14 = .ok (.goto 4, 3) := dk_167 0 4 (dk_at dksJ2_isLatin1_0 14 rfl rfl)
theorem dJ2_isLatin1_17 : decode cJ2_isLatin1 17 = .ok (.iconst 0, 1) := dk_3 (dk_at dksJ2_isLatin1_0 17 rfl rfl)
theorem dJ2_isLatin1_18 : decode cJ2_isLatin1 18 = .ok (.ireturn, 1) := dk_172 (dk_at dksJ2_isLatin1_0 18 rfl rfl)
abbrev cJ2_checkIndex : ByteArray := prog_34_method_155_code
def yJ2_checkIndex : MethodName := ⟨RJ2, "checkIndex", "(II)V"⟩
def dkwJ2_checkIndex_0 : List UInt8 := [26, 27, 178, 4, 29, 184, 4, 35, 87, 177]
abbrev dktJ2_checkIndex_0 : List UInt8 := dkwJ2_checkIndex_0 ++ []
theorem dksJ2_checkIndex_0 : cJ2_checkIndex.data.toList.drop 0 = dktJ2_checkIndex_0 := by decide +kernel
theorem dJ2_checkIndex_0 : decode cJ2_checkIndex 0 = .ok (.iload_n 0, 1) := dk_26 (dk_at dksJ2_checkIndex_0 0 rfl rfl)
theorem dJ2_checkIndex_1 : decode cJ2_checkIndex 1 = .ok (.iload_n 1, 1) := dk_27 (dk_at dksJ2_checkIndex_0 1 rfl rfl)
theorem dJ2_checkIndex_2 : decode cJ2_checkIndex 2 = .ok (.getstatic 1053, 3) := dk_178 4 29 (dk_at dksJ2_checkIndex_0 2 rfl rfl)
theorem dJ2_checkIndex_5 : decode cJ2_checkIndex 5 = .ok (.invokestatic 1059, 3) := dk_184 4 35 (dk_at dksJ2_checkIndex_0 5 rfl rfl)
theorem dJ2_checkIndex_8 : decode cJ2_checkIndex 8 = .ok (.pop, 1) := dk_87 (dk_at dksJ2_checkIndex_0 8 rfl rfl)
theorem dJ2_checkIndex_9 : decode cJ2_checkIndex 9 = .ok (.return_, 1) := dk_177 (dk_at dksJ2_checkIndex_0 9 rfl rfl)
theorem q156 : (Jvm.Cond.initialized "java/lang/String") ∈ lw_all := lw_g (lw_at lw_m1 5 rfl) rfl
theorem q282 : (Jvm.Cond.laysStatic "java/lang/String" "COMPACT_STRINGS" "Z") ∈ lw_tbl := lw_at lw_m1 131 rfl
theorem q292 : (Jvm.Cond.fieldLink "java/lang/String" (1048 : Nat) "java/lang/AbstractStringBuilder" "maybeLatin1" "Z") ∈ lw_all := lw_g (lw_at lw_m1 141 rfl) rfl
theorem q366 : (Jvm.Cond.static ({ cls := "java/lang/String", name := "checkBoundsBeginEnd", desc := "(III)V" } : Jvm.MethodName)) ∈ lw_all := lw_g (lw_at lw_m1 215 rfl) rfl
theorem q367 : (Jvm.Cond.code ({ cls := "java/lang/String", name := "checkBoundsBeginEnd", desc := "(III)V" } : Jvm.MethodName) prog_34_method_158_code (3 : Nat) (Option.none : Option Jvm.ClassFile.FieldType)) ∈ lw_all := lw_g (lw_at lw_m1 216 rfl) rfl
theorem q368 : (Jvm.Cond.fieldLink "java/lang/String" (1053 : Nat) "jdk/internal/util/Preconditions" "SIOOBE_FORMATTER" "Ljava/util/function/BiFunction;") ∈ lw_all := lw_g (lw_at lw_m1 217 rfl) rfl
theorem q370 : (Jvm.Cond.methodLink "java/lang/String" (1062 : Nat) ({ cls := "jdk/internal/util/Preconditions", name := "checkFromToIndex", desc := "(IIILjava/util/function/BiFunction;)I" } : Jvm.MethodName)) ∈ lw_all := lw_g (lw_at lw_m1 219 rfl) rfl
theorem q383 : (Jvm.Cond.instanceMethod ({ cls := "java/lang/String", name := "length", desc := "()I" } : Jvm.MethodName)) ∈ lw_all := lw_g (lw_at lw_m1 232 rfl) rfl
theorem q384 : (Jvm.Cond.selects "java/lang/String" ({ cls := "java/lang/String", name := "length", desc := "()I" } : Jvm.MethodName) ({ cls := "java/lang/String", name := "length", desc := "()I" } : Jvm.MethodName)) ∈ lw_all := lw_g (lw_at lw_m1 233 rfl) rfl
theorem q385 : (Jvm.Cond.code ({ cls := "java/lang/String", name := "length", desc := "()I" } : Jvm.MethodName) prog_34_method_54_code (1 : Nat) (Option.some Jvm.ClassFile.FieldType.int)) ∈ lw_all := lw_g (lw_at lw_m1 234 rfl) rfl
theorem q386 : (Jvm.Cond.methodLink "java/lang/String" (335 : Nat) ({ cls := "java/lang/String", name := "coder", desc := "()B" } : Jvm.MethodName)) ∈ lw_all := lw_g (lw_at lw_m1 235 rfl) rfl
theorem q387 : (Jvm.Cond.instanceMethod ({ cls := "java/lang/String", name := "coder", desc := "()B" } : Jvm.MethodName)) ∈ lw_all := lw_g (lw_at lw_m1 236 rfl) rfl
theorem q388 : (Jvm.Cond.selects "java/lang/String" ({ cls := "java/lang/String", name := "coder", desc := "()B" } : Jvm.MethodName) ({ cls := "java/lang/String", name := "coder", desc := "()B" } : Jvm.MethodName)) ∈ lw_all := lw_g (lw_at lw_m1 237 rfl) rfl
theorem q389 : (Jvm.Cond.code ({ cls := "java/lang/String", name := "coder", desc := "()B" } : Jvm.MethodName) prog_34_method_152_code (1 : Nat) (Option.some Jvm.ClassFile.FieldType.byte)) ∈ lw_all := lw_g (lw_at lw_m1 238 rfl) rfl
theorem q390 : (Jvm.Cond.fieldLink "java/lang/String" (38 : Nat) "java/lang/String" "COMPACT_STRINGS" "Z") ∈ lw_all := lw_g (lw_at lw_m1 239 rfl) rfl
theorem q414 : (Jvm.Cond.static ({ cls := "java/lang/String", name := "checkBoundsOffCount", desc := "(III)I" } : Jvm.MethodName)) ∈ lw_all := lw_g (lw_at lw_m2 23 rfl) rfl
theorem q415 : (Jvm.Cond.code ({ cls := "java/lang/String", name := "checkBoundsOffCount", desc := "(III)I" } : Jvm.MethodName) prog_34_method_157_code (3 : Nat) (Option.some Jvm.ClassFile.FieldType.int)) ∈ lw_all := lw_g (lw_at lw_m2 24 rfl) rfl
theorem q416 : (Jvm.Cond.methodLink "java/lang/String" (1065 : Nat) ({ cls := "jdk/internal/util/Preconditions", name := "checkFromIndexSize", desc := "(IIILjava/util/function/BiFunction;)I" } : Jvm.MethodName)) ∈ lw_all := lw_g (lw_at lw_m2 25 rfl) rfl
theorem q420 : (Jvm.Cond.instanceMethod ({ cls := "java/lang/String", name := "getBytes", desc := "([BIB)V" } : Jvm.MethodName)) ∈ lw_all := lw_g (lw_at lw_m2 29 rfl) rfl
theorem q421 : (Jvm.Cond.selects "java/lang/String" ({ cls := "java/lang/String", name := "getBytes", desc := "([BIB)V" } : Jvm.MethodName) ({ cls := "java/lang/String", name := "getBytes", desc := "([BIB)V" } : Jvm.MethodName)) ∈ lw_all := lw_g (lw_at lw_m2 30 rfl) rfl
theorem q422 : (Jvm.Cond.code ({ cls := "java/lang/String", name := "getBytes", desc := "([BIB)V" } : Jvm.MethodName) prog_34_method_147_code (4 : Nat) (Option.none : Option Jvm.ClassFile.FieldType)) ∈ lw_all := lw_g (lw_at lw_m2 31 rfl) rfl
theorem q423 : (Jvm.Cond.methodLink "java/lang/String" (212 : Nat) ({ cls := "java/lang/System", name := "arraycopy", desc := "(Ljava/lang/Object;ILjava/lang/Object;II)V" } : Jvm.MethodName)) ∈ lw_all := lw_g (lw_at lw_m2 32 rfl) rfl
theorem q424 : (Jvm.Cond.methodLink "java/lang/String" (106 : Nat) ({ cls := "java/lang/StringLatin1", name := "inflate", desc := "([BI[BII)V" } : Jvm.MethodName)) ∈ lw_all := lw_g (lw_at lw_m2 33 rfl) rfl
theorem q431 : (Jvm.Cond.instantiable "java/lang/String" (4 : Nat)) ∈ lw_all := lw_g (lw_at lw_m2 40 rfl) rfl
theorem q433 : (Jvm.Cond.instanceMethod ({ cls := "java/lang/String", name := "<init>", desc := "(Ljava/lang/StringBuilder;)V" } : Jvm.MethodName)) ∈ lw_all := lw_g (lw_at lw_m2 42 rfl) rfl
theorem q434 : (Jvm.Cond.code ({ cls := "java/lang/String", name := "<init>", desc := "(Ljava/lang/StringBuilder;)V" } : Jvm.MethodName) prog_34_method_53_code (2 : Nat) (Option.none : Option Jvm.ClassFile.FieldType)) ∈ lw_all := lw_g (lw_at lw_m2 43 rfl) rfl
theorem q435 : (Jvm.Cond.methodLink "java/lang/String" (489 : Nat) ({ cls := "java/lang/String", name := "<init>", desc := "(Ljava/lang/AbstractStringBuilder;Ljava/lang/Void;)V" } : Jvm.MethodName)) ∈ lw_all := lw_g (lw_at lw_m2 44 rfl) rfl
theorem q436 : (Jvm.Cond.instanceMethod ({ cls := "java/lang/String", name := "<init>", desc := "(Ljava/lang/AbstractStringBuilder;Ljava/lang/Void;)V" } : Jvm.MethodName)) ∈ lw_all := lw_g (lw_at lw_m2 45 rfl) rfl
theorem q437 : (Jvm.Cond.code ({ cls := "java/lang/String", name := "<init>", desc := "(Ljava/lang/AbstractStringBuilder;Ljava/lang/Void;)V" } : Jvm.MethodName) prog_34_method_150_code (5 : Nat) (Option.none : Option Jvm.ClassFile.FieldType)) ∈ lw_all := lw_g (lw_at lw_m2 46 rfl) rfl
theorem q438 : (Jvm.Cond.methodLink "java/lang/String" (1 : Nat) ({ cls := "java/lang/Object", name := "<init>", desc := "()V" } : Jvm.MethodName)) ∈ lw_all := lw_g (lw_at lw_m2 47 rfl) rfl
theorem q439 : (Jvm.Cond.methodLink "java/lang/String" (552 : Nat) ({ cls := "java/lang/AbstractStringBuilder", name := "getValue", desc := "()[B" } : Jvm.MethodName)) ∈ lw_all := lw_g (lw_at lw_m2 48 rfl) rfl
theorem q444 : (Jvm.Cond.methodLink "java/lang/String" (549 : Nat) ({ cls := "java/lang/AbstractStringBuilder", name := "length", desc := "()I" } : Jvm.MethodName)) ∈ lw_all := lw_g (lw_at lw_m2 53 rfl) rfl
theorem q452 : (Jvm.Cond.methodLink "java/lang/String" (1047 : Nat) ({ cls := "java/lang/AbstractStringBuilder", name := "isLatin1", desc := "()Z" } : Jvm.MethodName)) ∈ lw_all := lw_g (lw_at lw_m2 61 rfl) rfl
theorem q453 : (Jvm.Cond.methodLink "java/lang/String" (54 : Nat) ({ cls := "java/util/Arrays", name := "copyOfRange", desc := "([BII)[B" } : Jvm.MethodName)) ∈ lw_all := lw_g (lw_at lw_m2 62 rfl) rfl
theorem q462 : (Jvm.Cond.methodLink "java/lang/String" (1051 : Nat) ({ cls := "java/lang/StringUTF16", name := "compress", desc := "([BII)[B" } : Jvm.MethodName)) ∈ lw_all := lw_g (lw_at lw_m2 71 rfl) rfl
theorem q472 : (Jvm.Cond.methodLink "java/lang/String" (47 : Nat) ({ cls := "java/lang/StringUTF16", name := "coderFromArrayLen", desc := "([BI)B" } : Jvm.MethodName)) ∈ lw_all := lw_g (lw_at lw_m2 81 rfl) rfl
theorem q475 : (Jvm.Cond.fieldLink "java/lang/String" (9 : Nat) "java/lang/String" "value" "[B") ∈ lw_all := lw_g (lw_at lw_m2 84 rfl) rfl
theorem q476 : (Jvm.Cond.fieldLink "java/lang/String" (15 : Nat) "java/lang/String" "coder" "B") ∈ lw_all := lw_g (lw_at lw_m2 85 rfl) rfl
theorem q477 : (Jvm.Cond.laysFinal "java/lang/String" "java/lang/String" "value" "[B") ∈ lw_all := lw_g (lw_at lw_m2 86 rfl) rfl
theorem q478 : (Jvm.Cond.soleField "java/lang/String" "value") ∈ lw_all := lw_g (lw_at lw_m2 87 rfl) rfl
theorem q479 : (Jvm.Cond.laysFinal "java/lang/String" "java/lang/String" "coder" "B") ∈ lw_all := lw_g (lw_at lw_m2 88 rfl) rfl
theorem q480 : (Jvm.Cond.soleField "java/lang/String" "coder") ∈ lw_all := lw_g (lw_at lw_m2 89 rfl) rfl
theorem q481 : (Jvm.Cond.lays "java/lang/String" "java/lang/String" "hash" "I") ∈ lw_all := lw_g (lw_at lw_m2 90 rfl) rfl
theorem q482 : (Jvm.Cond.soleField "java/lang/String" "hash") ∈ lw_all := lw_g (lw_at lw_m2 91 rfl) rfl
theorem q483 : (Jvm.Cond.lays "java/lang/String" "java/lang/String" "hashIsZero" "Z") ∈ lw_all := lw_g (lw_at lw_m2 92 rfl) rfl
theorem q484 : (Jvm.Cond.soleField "java/lang/String" "hashIsZero") ∈ lw_all := lw_g (lw_at lw_m2 93 rfl) rfl
theorem q485 : (Jvm.Cond.superclass "java/lang/String" "java/lang/Object") ∈ lw_all := lw_g (lw_at lw_m2 94 rfl) rfl
theorem q1054 : (Jvm.Cond.instanceMethod ({ cls := "java/lang/String", name := "charAt", desc := "(I)C" } : Jvm.MethodName)) ∈ lw_all := lw_g (lw_at lw_m4 183 rfl) rfl
theorem q1055 : (Jvm.Cond.selects "java/lang/String" ({ cls := "java/lang/String", name := "charAt", desc := "(I)C" } : Jvm.MethodName) ({ cls := "java/lang/String", name := "charAt", desc := "(I)C" } : Jvm.MethodName)) ∈ lw_all := lw_g (lw_at lw_m4 184 rfl) rfl
theorem q1056 : (Jvm.Cond.code ({ cls := "java/lang/String", name := "charAt", desc := "(I)C" } : Jvm.MethodName) prog_34_method_56_code (2 : Nat) (Option.some Jvm.ClassFile.FieldType.char)) ∈ lw_all := lw_g (lw_at lw_m4 185 rfl) rfl
theorem q1057 : (Jvm.Cond.methodLink "java/lang/String" (492 : Nat) ({ cls := "java/lang/String", name := "isLatin1", desc := "()Z" } : Jvm.MethodName)) ∈ lw_all := lw_g (lw_at lw_m4 186 rfl) rfl
theorem q1058 : (Jvm.Cond.instanceMethod ({ cls := "java/lang/String", name := "isLatin1", desc := "()Z" } : Jvm.MethodName)) ∈ lw_all := lw_g (lw_at lw_m4 187 rfl) rfl
theorem q1059 : (Jvm.Cond.selects "java/lang/String" ({ cls := "java/lang/String", name := "isLatin1", desc := "()Z" } : Jvm.MethodName) ({ cls := "java/lang/String", name := "isLatin1", desc := "()Z" } : Jvm.MethodName)) ∈ lw_all := lw_g (lw_at lw_m4 188 rfl) rfl
theorem q1060 : (Jvm.Cond.code ({ cls := "java/lang/String", name := "isLatin1", desc := "()Z" } : Jvm.MethodName) prog_34_method_154_code (1 : Nat) (Option.some Jvm.ClassFile.FieldType.boolean)) ∈ lw_all := lw_g (lw_at lw_m4 189 rfl) rfl
theorem q1061 : (Jvm.Cond.methodLink "java/lang/String" (495 : Nat) ({ cls := "java/lang/StringLatin1", name := "charAt", desc := "([BI)C" } : Jvm.MethodName)) ∈ lw_all := lw_g (lw_at lw_m4 190 rfl) rfl
theorem q1065 : (Jvm.Cond.static ({ cls := "java/lang/String", name := "checkIndex", desc := "(II)V" } : Jvm.MethodName)) ∈ lw_all := lw_g (lw_at lw_m4 194 rfl) rfl
theorem q1066 : (Jvm.Cond.code ({ cls := "java/lang/String", name := "checkIndex", desc := "(II)V" } : Jvm.MethodName) prog_34_method_155_code (2 : Nat) (Option.none : Option Jvm.ClassFile.FieldType)) ∈ lw_all := lw_g (lw_at lw_m4 195 rfl) rfl
theorem q1067 : (Jvm.Cond.methodLink "java/lang/String" (1059 : Nat) ({ cls := "jdk/internal/util/Preconditions", name := "checkIndex", desc := "(IILjava/util/function/BiFunction;)I" } : Jvm.MethodName)) ∈ lw_all := lw_g (lw_at lw_m4 196 rfl) rfl
theorem q1068 : (Jvm.Cond.methodLink "java/lang/String" (498 : Nat) ({ cls := "java/lang/StringUTF16", name := "charAt", desc := "([BI)C" } : Jvm.MethodName)) ∈ lw_all := lw_g (lw_at lw_m4 197 rfl) rfl
theorem q1159 : (Jvm.Cond.selects "java/lang/String" ({ cls := "java/lang/Object", name := "getClass", desc := "()Ljava/lang/Class;" } : Jvm.MethodName) ({ cls := "java/lang/Object", name := "getClass", desc := "()Ljava/lang/Class;" } : Jvm.MethodName)) ∈ lw_all := lw_g (lw_at lw_m5 48 rfl) rfl
theorem q2428 : (Jvm.Cond.castable "java/lang/String" "java/lang/Object") ∈ lw_tbl := lw_at lw_m10 117 rfl
theorem in_J2 : ∀ w ∈ wsJ20, w ∈ lw_all := lw_in wsJ20 [477, 479, 481, 483] (by decide +kernel) (by decide +kernel)
/-! java/lang/StringUTF16 -/
set_option maxRecDepth 100000
def RJ3 : String := "java/lang/StringUTF16"
abbrev cJ3_newBytesFor : ByteArray := prog_37_method_2_code
def yJ3_newBytesFor : MethodName := ⟨RJ3, "newBytesFor", "(I)[B"⟩
def dkwJ3_newBytesFor_0 : List UInt8 := [26, 184, 0, 11, 188, 8, 176]
abbrev dktJ3_newBytesFor_0 : List UInt8 := dkwJ3_newBytesFor_0 ++ []
theorem dksJ3_newBytesFor_0 : cJ3_newBytesFor.data.toList.drop 0 = dktJ3_newBytesFor_0 := by decide +kernel
theorem dJ3_newBytesFor_0 : decode cJ3_newBytesFor 0 = .ok (.iload_n 0, 1) := dk_26 (dk_at dksJ3_newBytesFor_0 0 rfl rfl)
theorem dJ3_newBytesFor_1 : decode cJ3_newBytesFor 1 = .ok (.invokestatic 11, 3) := dk_184 0 11 (dk_at dksJ3_newBytesFor_0 1 rfl rfl)
theorem dJ3_newBytesFor_4 : decode cJ3_newBytesFor 4 = .ok (.newarray .byte, 2) := dk_188_8 (dk_at dksJ3_newBytesFor_0 4 rfl rfl)
theorem dJ3_newBytesFor_6 : decode cJ3_newBytesFor 6 = .ok (.areturn, 1) := dk_176 (dk_at dksJ3_newBytesFor_0 6 rfl rfl)
abbrev cJ3_newBytesLength : ByteArray := prog_37_method_3_code
def yJ3_newBytesLength : MethodName := ⟨RJ3, "newBytesLength", "(I)I"⟩
def dkwJ3_newBytesLength_2 : List UInt8 := [182, 0, 32, 182, 0, 37, 183, 0, 41, 191, 26, 4, 120, 172]
abbrev dktJ3_newBytesLength_2 : List UInt8 := dkwJ3_newBytesLength_2 ++ []
def dkwJ3_newBytesLength_1 : List UInt8 := [187, 0, 23, 89, 183, 0, 25, 18, 26, 182, 0, 28, 26, 182, 0, 32, 18, 35, 182, 0, 28, 18, 20]
abbrev dktJ3_newBytesLength_1 : List UInt8 := dkwJ3_newBytesLength_1 ++ dktJ3_newBytesLength_2
def dkwJ3_newBytesLength_0 : List UInt8 := [26, 156, 0, 11, 187, 0, 17, 89, 183, 0, 19, 191, 26, 18, 20, 161, 0, 40, 187, 0, 21, 89]
abbrev dktJ3_newBytesLength_0 : List UInt8 := dkwJ3_newBytesLength_0 ++ dktJ3_newBytesLength_1
theorem dksJ3_newBytesLength_0 : cJ3_newBytesLength.data.toList.drop 0 = dktJ3_newBytesLength_0 := by decide +kernel
theorem dksJ3_newBytesLength_1 : cJ3_newBytesLength.data.toList.drop 22 = dktJ3_newBytesLength_1 := dk_seg dksJ3_newBytesLength_0 22 rfl rfl
theorem dksJ3_newBytesLength_2 : cJ3_newBytesLength.data.toList.drop 45 = dktJ3_newBytesLength_2 := dk_seg dksJ3_newBytesLength_1 23 rfl rfl
theorem dJ3_newBytesLength_0 : decode cJ3_newBytesLength 0 = .ok (.iload_n 0, 1) := dk_26 (dk_at dksJ3_newBytesLength_0 0 rfl rfl)
theorem dJ3_newBytesLength_1 : decode cJ3_newBytesLength 1 = .ok (.ifCond .ge 11, 3) := dk_156 0 11 (dk_at dksJ3_newBytesLength_0 1 rfl rfl)
theorem dJ3_newBytesLength_4 : decode cJ3_newBytesLength 4 = .ok (.new 17, 3) := dk_187 0 17 (dk_at dksJ3_newBytesLength_0 4 rfl rfl)
theorem dJ3_newBytesLength_7 : decode cJ3_newBytesLength 7 = .ok (.dup, 1) := dk_89 (dk_at dksJ3_newBytesLength_0 7 rfl rfl)
theorem dJ3_newBytesLength_8 : decode cJ3_newBytesLength 8 = .ok (.invokespecial 19, 3) := dk_183 0 19 (dk_at dksJ3_newBytesLength_0 8 rfl rfl)
theorem dJ3_newBytesLength_11 : decode cJ3_newBytesLength 11 = .ok (.athrow, 1) := dk_191 (dk_at dksJ3_newBytesLength_0 11 rfl rfl)
theorem dJ3_newBytesLength_12 : decode cJ3_newBytesLength 12 = .ok (.iload_n 0, 1) := dk_26 (dk_at dksJ3_newBytesLength_0 12 rfl rfl)
theorem dJ3_newBytesLength_13 : decode cJ3_newBytesLength 13 = .ok (.ldc 20, 2) := dk_18 20 (dk_at dksJ3_newBytesLength_0 13 rfl rfl)
theorem dJ3_newBytesLength_15 : decode cJ3_newBytesLength 15 = .ok (.if_icmp .lt 40, 3) := dk_161 0 40 (dk_at dksJ3_newBytesLength_0 15 rfl rfl)
theorem dJ3_newBytesLength_18 : decode cJ3_newBytesLength 18 = .ok (.new 21, 3) := dk_187 0 21 (dk_at dksJ3_newBytesLength_0 18 rfl rfl)
theorem dJ3_newBytesLength_21 : decode cJ3_newBytesLength 21 = .ok (.dup, 1) := dk_89 (dk_at dksJ3_newBytesLength_0 21 rfl rfl)
theorem dJ3_newBytesLength_22 : decode cJ3_newBytesLength 22 = .ok (.new 23, 3) := dk_187 0 23 (dk_at dksJ3_newBytesLength_1 0 rfl rfl)
theorem dJ3_newBytesLength_25 : decode cJ3_newBytesLength 25 = .ok (.dup, 1) := dk_89 (dk_at dksJ3_newBytesLength_1 3 rfl rfl)
theorem dJ3_newBytesLength_26 : decode cJ3_newBytesLength 26 = .ok (.invokespecial 25, 3) := dk_183 0 25 (dk_at dksJ3_newBytesLength_1 4 rfl rfl)
theorem dJ3_newBytesLength_29 : decode cJ3_newBytesLength 29 = .ok (.ldc 26, 2) := dk_18 26 (dk_at dksJ3_newBytesLength_1 7 rfl rfl)
theorem dJ3_newBytesLength_31 : decode cJ3_newBytesLength 31 = .ok (.invokevirtual 28, 3) := dk_182 0 28 (dk_at dksJ3_newBytesLength_1 9 rfl rfl)
theorem dJ3_newBytesLength_34 : decode cJ3_newBytesLength 34 = .ok (.iload_n 0, 1) := dk_26 (dk_at dksJ3_newBytesLength_1 12 rfl rfl)
theorem dJ3_newBytesLength_35 : decode cJ3_newBytesLength 35 = .ok (.invokevirtual 32, 3) := dk_182 0 32 (dk_at dksJ3_newBytesLength_1 13 rfl rfl)
theorem dJ3_newBytesLength_38 : decode cJ3_newBytesLength 38 = .ok (.ldc 35, 2) := dk_18 35 (dk_at dksJ3_newBytesLength_1 16 rfl rfl)
theorem dJ3_newBytesLength_40 : decode cJ3_newBytesLength 40 = .ok (.invokevirtual 28, 3) := dk_182 0 28 (dk_at dksJ3_newBytesLength_1 18 rfl rfl)
theorem dJ3_newBytesLength_43 : decode cJ3_newBytesLength 43 = .ok (.ldc 20, 2) := dk_18 20 (dk_at dksJ3_newBytesLength_1 21 rfl rfl)
theorem dJ3_newBytesLength_45 : decode cJ3_newBytesLength 45 = .ok (.invokevirtual 32, 3) := dk_182 0 32 (dk_at dksJ3_newBytesLength_2 0 rfl rfl)
theorem dJ3_newBytesLength_48 : decode cJ3_newBytesLength 48 = .ok (.invokevirtual 37, 3) := dk_182 0 37 (dk_at dksJ3_newBytesLength_2 3 rfl rfl)
theorem dJ3_newBytesLength_51 : decode cJ3_newBytesLength 51 = .ok (.invokespecial 41, 3) := dk_183 0 41 (dk_at dksJ3_newBytesLength_2 6 rfl rfl)
theorem dJ3_newBytesLength_54 : decode cJ3_newBytesLength 54 = .ok (.athrow, 1) := dk_191 (dk_at dksJ3_newBytesLength_2 9 rfl rfl)
theorem dJ3_newBytesLength_55 : decode cJ3_newBytesLength 55 = .ok (.iload_n 0, 1) := dk_26 (dk_at dksJ3_newBytesLength_2 10 rfl rfl)
theorem dJ3_newBytesLength_56 : decode cJ3_newBytesLength 56 = .ok (.iconst 1, 1) := dk_4 (dk_at dksJ3_newBytesLength_2 11 rfl rfl)
theorem dJ3_newBytesLength_57 : decode cJ3_newBytesLength 57 = .ok (.ishl, 1) := dk_120 (dk_at dksJ3_newBytesLength_2 12 rfl rfl)
theorem dJ3_newBytesLength_58 : decode cJ3_newBytesLength 58 = .ok (.ireturn, 1) := dk_172 (dk_at dksJ3_newBytesLength_2 13 rfl rfl)
abbrev cJ3_putCharsAt : ByteArray := prog_37_method_81_code
def yJ3_putCharsAt : MethodName := ⟨RJ3, "putCharsAt", "([BICCCC)I"⟩
def dkwJ3_putCharsAt_3 : List UInt8 := [21, 6, 172]
abbrev dktJ3_putCharsAt_3 : List UInt8 := dkwJ3_putCharsAt_3 ++ []
def dkwJ3_putCharsAt_2 : List UInt8 := [184, 0, 111, 178, 0, 44, 154, 0, 17, 27, 21, 6, 159, 0, 11, 187, 0, 52, 89, 183, 0, 66, 191]
abbrev dktJ3_putCharsAt_2 : List UInt8 := dkwJ3_putCharsAt_2 ++ dktJ3_putCharsAt_3
def dkwJ3_putCharsAt_1 : List UInt8 := [132, 1, 1, 29, 184, 0, 111, 42, 27, 132, 1, 1, 21, 4, 184, 0, 111, 42, 27, 132, 1, 1, 21, 5]
abbrev dktJ3_putCharsAt_1 : List UInt8 := dkwJ3_putCharsAt_1 ++ dktJ3_putCharsAt_2
def dkwJ3_putCharsAt_0 : List UInt8 := [27, 7, 96, 54, 6, 27, 21, 6, 42, 184, 0, 96, 42, 27, 132, 1, 1, 28, 184, 0, 111, 42, 27]
abbrev dktJ3_putCharsAt_0 : List UInt8 := dkwJ3_putCharsAt_0 ++ dktJ3_putCharsAt_1
theorem dksJ3_putCharsAt_0 : cJ3_putCharsAt.data.toList.drop 0 = dktJ3_putCharsAt_0 := by decide +kernel
theorem dksJ3_putCharsAt_1 : cJ3_putCharsAt.data.toList.drop 23 = dktJ3_putCharsAt_1 := dk_seg dksJ3_putCharsAt_0 23 rfl rfl
theorem dksJ3_putCharsAt_2 : cJ3_putCharsAt.data.toList.drop 47 = dktJ3_putCharsAt_2 := dk_seg dksJ3_putCharsAt_1 24 rfl rfl
theorem dksJ3_putCharsAt_3 : cJ3_putCharsAt.data.toList.drop 70 = dktJ3_putCharsAt_3 := dk_seg dksJ3_putCharsAt_2 23 rfl rfl
theorem dJ3_putCharsAt_0 : decode cJ3_putCharsAt 0 = .ok (.iload_n 1, 1) := dk_27 (dk_at dksJ3_putCharsAt_0 0 rfl rfl)
theorem dJ3_putCharsAt_1 : decode cJ3_putCharsAt 1 = .ok (.iconst 4, 1) := dk_7 (dk_at dksJ3_putCharsAt_0 1 rfl rfl)
theorem dJ3_putCharsAt_2 : decode cJ3_putCharsAt 2 = .ok (.iadd, 1) := dk_96 (dk_at dksJ3_putCharsAt_0 2 rfl rfl)
theorem dJ3_putCharsAt_3 : decode cJ3_putCharsAt 3 = .ok (.istore 6, 2) := dk_54 6 (dk_at dksJ3_putCharsAt_0 3 rfl rfl)
theorem dJ3_putCharsAt_5 : decode cJ3_putCharsAt 5 = .ok (.iload_n 1, 1) := dk_27 (dk_at dksJ3_putCharsAt_0 5 rfl rfl)
theorem dJ3_putCharsAt_6 : decode cJ3_putCharsAt 6 = .ok (.iload 6, 2) := dk_21 6 (dk_at dksJ3_putCharsAt_0 6 rfl rfl)
theorem dJ3_putCharsAt_8 : decode cJ3_putCharsAt 8 = .ok (.aload_n 0, 1) := dk_42 (dk_at dksJ3_putCharsAt_0 8 rfl rfl)
theorem dJ3_putCharsAt_9 : decode cJ3_putCharsAt 9 = .ok (.invokestatic 96, 3) := dk_184 0 96 (dk_at dksJ3_putCharsAt_0 9 rfl rfl)
theorem dJ3_putCharsAt_12 : decode cJ3_putCharsAt 12 = .ok (.aload_n 0, 1) := dk_42 (dk_at dksJ3_putCharsAt_0 12 rfl rfl)
theorem dJ3_putCharsAt_13 : decode cJ3_putCharsAt 13 = .ok (.iload_n 1, 1) := dk_27 (dk_at dksJ3_putCharsAt_0 13 rfl rfl)
theorem dJ3_putCharsAt_14 : decode cJ3_putCharsAt 14 = .ok (.iinc 1 1, 3) := dk_132 1 1 (dk_at dksJ3_putCharsAt_0 14 rfl rfl)
theorem dJ3_putCharsAt_17 : decode cJ3_putCharsAt 17 = .ok (.iload_n 2, 1) := dk_28 (dk_at dksJ3_putCharsAt_0 17 rfl rfl)
theorem dJ3_putCharsAt_18 : decode cJ3_putCharsAt 18 = .ok (.invokestatic 111, 3) := dk_184 0 111 (dk_at dksJ3_putCharsAt_0 18 rfl rfl)
theorem dJ3_putCharsAt_21 : decode cJ3_putCharsAt 21 = .ok (.aload_n 0, 1) := dk_42 (dk_at dksJ3_putCharsAt_0 21 rfl rfl)
theorem dJ3_putCharsAt_22 : decode cJ3_putCharsAt 22 = .ok (.iload_n 1, 1) := dk_27 (dk_at dksJ3_putCharsAt_0 22 rfl rfl)
theorem dJ3_putCharsAt_23 : decode cJ3_putCharsAt 23 = .ok (.iinc 1 1, 3) := dk_132 1 1 (dk_at dksJ3_putCharsAt_1 0 rfl rfl)
theorem dJ3_putCharsAt_26 : decode cJ3_putCharsAt 26 = .ok (.iload_n 3, 1) := dk_29 (dk_at dksJ3_putCharsAt_1 3 rfl rfl)
theorem dJ3_putCharsAt_27 : decode cJ3_putCharsAt 27 = .ok (.invokestatic 111, 3) := dk_184 0 111 (dk_at dksJ3_putCharsAt_1 4 rfl rfl)
theorem dJ3_putCharsAt_30 : decode cJ3_putCharsAt 30 = .ok (.aload_n 0, 1) := dk_42 (dk_at dksJ3_putCharsAt_1 7 rfl rfl)
theorem dJ3_putCharsAt_31 : decode cJ3_putCharsAt 31 = .ok (.iload_n 1, 1) := dk_27 (dk_at dksJ3_putCharsAt_1 8 rfl rfl)
theorem dJ3_putCharsAt_32 : decode cJ3_putCharsAt 32 = .ok (.iinc 1 1, 3) := dk_132 1 1 (dk_at dksJ3_putCharsAt_1 9 rfl rfl)
theorem dJ3_putCharsAt_35 : decode cJ3_putCharsAt 35 = .ok (.iload 4, 2) := dk_21 4 (dk_at dksJ3_putCharsAt_1 12 rfl rfl)
theorem dJ3_putCharsAt_37 : decode cJ3_putCharsAt 37 = .ok (.invokestatic 111, 3) := dk_184 0 111 (dk_at dksJ3_putCharsAt_1 14 rfl rfl)
theorem dJ3_putCharsAt_40 : decode cJ3_putCharsAt 40 = .ok (.aload_n 0, 1) := dk_42 (dk_at dksJ3_putCharsAt_1 17 rfl rfl)
theorem dJ3_putCharsAt_41 : decode cJ3_putCharsAt 41 = .ok (.iload_n 1, 1) := dk_27 (dk_at dksJ3_putCharsAt_1 18 rfl rfl)
theorem dJ3_putCharsAt_42 : decode cJ3_putCharsAt 42 = .ok (.iinc 1 1, 3) := dk_132 1 1 (dk_at dksJ3_putCharsAt_1 19 rfl rfl)
theorem dJ3_putCharsAt_45 : decode cJ3_putCharsAt 45 = .ok (.iload 5, 2) := dk_21 5 (dk_at dksJ3_putCharsAt_1 22 rfl rfl)
theorem dJ3_putCharsAt_47 : decode cJ3_putCharsAt 47 = .ok (.invokestatic 111, 3) := dk_184 0 111 (dk_at dksJ3_putCharsAt_2 0 rfl rfl)
theorem dJ3_putCharsAt_50 : decode cJ3_putCharsAt 50 = .ok (.getstatic 44, 3) := dk_178 0 44 (dk_at dksJ3_putCharsAt_2 3 rfl rfl)
theorem dJ3_putCharsAt_53 : decode cJ3_putCharsAt 53 = .ok (.ifCond .ne 17, 3) := dk_154 0 17 (dk_at dksJ3_putCharsAt_2 6 rfl rfl)
theorem dJ3_putCharsAt_56 : decode cJ3_putCharsAt 56 = .ok (.iload_n 1, 1) := dk_27 (dk_at dksJ3_putCharsAt_2 9 rfl rfl)
theorem dJ3_putCharsAt_57 : decode cJ3_putCharsAt 57 = .ok (.iload 6, 2) := dk_21 6 (dk_at dksJ3_putCharsAt_2 10 rfl rfl)
theorem dJ3_putCharsAt_59 : decode cJ3_putCharsAt 59 = .ok (.if_icmp .eq 11, 3) := dk_159 0 11 (dk_at dksJ3_putCharsAt_2 12 rfl rfl)
theorem dJ3_putCharsAt_62 : decode cJ3_putCharsAt 62 = .ok (.new 52, 3) := dk_187 0 52 (dk_at dksJ3_putCharsAt_2 15 rfl rfl)
theorem dJ3_putCharsAt_65 : decode cJ3_putCharsAt 65 = .ok (.dup, 1) := dk_89 (dk_at dksJ3_putCharsAt_2 18 rfl rfl)
theorem dJ3_putCharsAt_66 : decode cJ3_putCharsAt 66 = .ok (.invokespecial 66, 3) := dk_183 0 66 (dk_at dksJ3_putCharsAt_2 19 rfl rfl)
theorem dJ3_putCharsAt_69 : decode cJ3_putCharsAt 69 = .ok (.athrow, 1) := dk_191 (dk_at dksJ3_putCharsAt_2 22 rfl rfl)
theorem dJ3_putCharsAt_70 : decode cJ3_putCharsAt 70 = .ok (.iload 6, 2) := dk_21 6 (dk_at dksJ3_putCharsAt_3 0 rfl rfl)
theorem dJ3_putCharsAt_72 : decode cJ3_putCharsAt 72 = .ok (.ireturn, 1) := dk_172 (dk_at dksJ3_putCharsAt_3 2 rfl rfl)
abbrev cJ3_checkBoundsBeginEnd : ByteArray := prog_37_method_93_code
def yJ3_checkBoundsBeginEnd : MethodName := ⟨RJ3, "checkBoundsBeginEnd", "(II[B)V"⟩
def dkwJ3_checkBoundsBeginEnd_0 : List UInt8 := [26, 27, 44, 184, 0, 48, 184, 0, 241, 177]
abbrev dktJ3_checkBoundsBeginEnd_0 : List UInt8 := dkwJ3_checkBoundsBeginEnd_0 ++ []
theorem dksJ3_checkBoundsBeginEnd_0 : cJ3_checkBoundsBeginEnd.data.toList.drop 0 = dktJ3_checkBoundsBeginEnd_0 := by decide +kernel
theorem dJ3_checkBoundsBeginEnd_0 : decode cJ3_checkBoundsBeginEnd 0 = .ok (.iload_n 0, 1) := dk_26 (dk_at dksJ3_checkBoundsBeginEnd_0 0 rfl rfl)
theorem dJ3_checkBoundsBeginEnd_1 : decode cJ3_checkBoundsBeginEnd 1 = .ok (.iload_n 1, 1) := dk_27 (dk_at dksJ3_checkBoundsBeginEnd_0 1 rfl rfl)
theorem dJ3_checkBoundsBeginEnd_2 : decode cJ3_checkBoundsBeginEnd 2 = .ok (.aload_n 2, 1) := dk_44 (dk_at dksJ3_checkBoundsBeginEnd_0 2 rfl rfl)
theorem dJ3_checkBoundsBeginEnd_3 : decode cJ3_checkBoundsBeginEnd 3 = .ok (.invokestatic 48, 3) := dk_184 0 48 (dk_at dksJ3_checkBoundsBeginEnd_0 3 rfl rfl)
theorem dJ3_checkBoundsBeginEnd_6 : decode cJ3_checkBoundsBeginEnd 6 = .ok (.invokestatic 241, 3) := dk_184 0 241 (dk_at dksJ3_checkBoundsBeginEnd_0 6 rfl rfl)
theorem dJ3_checkBoundsBeginEnd_9 : decode cJ3_checkBoundsBeginEnd 9 = .ok (.return_, 1) := dk_177 (dk_at dksJ3_checkBoundsBeginEnd_0 9 rfl rfl)
abbrev cJ3_length : ByteArray := prog_37_method_6_code
def yJ3_length : MethodName := ⟨RJ3, "length", "([B)I"⟩
def dkwJ3_length_0 : List UInt8 := [42, 190, 4, 122, 172]
abbrev dktJ3_length_0 : List UInt8 := dkwJ3_length_0 ++ []
theorem dksJ3_length_0 : cJ3_length.data.toList.drop 0 = dktJ3_length_0 := by decide +kernel
theorem dJ3_length_0 : decode cJ3_length 0 = .ok (.aload_n 0, 1) := dk_42 (dk_at dksJ3_length_0 0 rfl rfl)
theorem dJ3_length_1 : decode cJ3_length 1 = .ok (.arraylength, 1) := dk_190 (dk_at dksJ3_length_0 1 rfl rfl)
theorem dJ3_length_2 : decode cJ3_length 2 = .ok (.iconst 1, 1) := dk_4 (dk_at dksJ3_length_0 2 rfl rfl)
theorem dJ3_length_3 : decode cJ3_length 3 = .ok (.ishr, 1) := dk_122 (dk_at dksJ3_length_0 3 rfl rfl)
theorem dJ3_length_4 : decode cJ3_length 4 = .ok (.ireturn, 1) := dk_172 (dk_at dksJ3_length_0 4 rfl rfl)
abbrev cJ3_putChar : ByteArray := prog_37_method_4_code
def yJ3_putChar : MethodName := ⟨RJ3, "putChar", "([BII)V"⟩
def dkwJ3_putChar_2 : List UInt8 := [178, 0, 63, 122, 145, 84, 177]
abbrev dktJ3_putChar_2 : List UInt8 := dkwJ3_putChar_2 ++ []
def dkwJ3_putChar_1 : List UInt8 := [183, 0, 56, 191, 27, 4, 120, 60, 42, 27, 132, 1, 1, 28, 178, 0, 59, 122, 145, 84, 42, 27, 28]
abbrev dktJ3_putChar_1 : List UInt8 := dkwJ3_putChar_1 ++ dktJ3_putChar_2
def dkwJ3_putChar_0 : List UInt8 := [178, 0, 44, 154, 0, 25, 27, 155, 0, 11, 27, 42, 184, 0, 48, 161, 0, 13, 187, 0, 52, 89, 18, 54]
abbrev dktJ3_putChar_0 : List UInt8 := dkwJ3_putChar_0 ++ dktJ3_putChar_1
theorem dksJ3_putChar_0 : cJ3_putChar.data.toList.drop 0 = dktJ3_putChar_0 := by decide +kernel
theorem dksJ3_putChar_1 : cJ3_putChar.data.toList.drop 24 = dktJ3_putChar_1 := dk_seg dksJ3_putChar_0 24 rfl rfl
theorem dksJ3_putChar_2 : cJ3_putChar.data.toList.drop 47 = dktJ3_putChar_2 := dk_seg dksJ3_putChar_1 23 rfl rfl
theorem dJ3_putChar_0 : decode cJ3_putChar 0 = .ok (.getstatic 44, 3) := dk_178 0 44 (dk_at dksJ3_putChar_0 0 rfl rfl)
theorem dJ3_putChar_3 : decode cJ3_putChar 3 = .ok (.ifCond .ne 25, 3) := dk_154 0 25 (dk_at dksJ3_putChar_0 3 rfl rfl)
theorem dJ3_putChar_6 : decode cJ3_putChar 6 = .ok (.iload_n 1, 1) := dk_27 (dk_at dksJ3_putChar_0 6 rfl rfl)
theorem dJ3_putChar_7 : decode cJ3_putChar 7 = .ok (.ifCond .lt 11, 3) := dk_155 0 11 (dk_at dksJ3_putChar_0 7 rfl rfl)
theorem dJ3_putChar_10 : decode cJ3_putChar 10 = .ok (.iload_n 1, 1) := dk_27 (dk_at dksJ3_putChar_0 10 rfl rfl)
theorem dJ3_putChar_11 : decode cJ3_putChar 11 = .ok (.aload_n 0, 1) := dk_42 (dk_at dksJ3_putChar_0 11 rfl rfl)
theorem dJ3_putChar_12 : decode cJ3_putChar 12 = .ok (.invokestatic 48, 3) := dk_184 0 48 (dk_at dksJ3_putChar_0 12 rfl rfl)
theorem dJ3_putChar_15 : decode cJ3_putChar 15 = .ok (.if_icmp .lt 13, 3) := dk_161 0 13 (dk_at dksJ3_putChar_0 15 rfl rfl)
theorem dJ3_putChar_18 : decode cJ3_putChar 18 = .ok (.new 52, 3) := dk_187 0 52 (dk_at dksJ3_putChar_0 18 rfl rfl)
theorem dJ3_putChar_21 : decode cJ3_putChar 21 = .ok (.dup, 1) := dk_89 (dk_at dksJ3_putChar_0 21 rfl rfl)
theorem dJ3_putChar_22 : decode cJ3_putChar 22 = .ok (.ldc 54, 2) := dk_18 54 (dk_at dksJ3_putChar_0 22 rfl rfl)
theorem dJ3_putChar_24 : decode cJ3_putChar 24 = .ok (.invokespecial 56, 3) := dk_183 0 56 (dk_at dksJ3_putChar_1 0 rfl rfl)
theorem dJ3_putChar_27 : decode cJ3_putChar 27 = .ok (.athrow, 1) := dk_191 (dk_at dksJ3_putChar_1 3 rfl rfl)
theorem dJ3_putChar_28 : decode cJ3_putChar 28 = .ok (.iload_n 1, 1) := dk_27 (dk_at dksJ3_putChar_1 4 rfl rfl)
theorem dJ3_putChar_29 : decode cJ3_putChar 29 = .ok (.iconst 1, 1) := dk_4 (dk_at dksJ3_putChar_1 5 rfl rfl)
theorem dJ3_putChar_30 : decode cJ3_putChar 30 = .ok (.ishl, 1) := dk_120 (dk_at dksJ3_putChar_1 6 rfl rfl)
theorem dJ3_putChar_31 : decode cJ3_putChar 31 = .ok (.istore_n 1, 1) := dk_60 (dk_at dksJ3_putChar_1 7 rfl rfl)
theorem dJ3_putChar_32 : decode cJ3_putChar 32 = .ok (.aload_n 0, 1) := dk_42 (dk_at dksJ3_putChar_1 8 rfl rfl)
theorem dJ3_putChar_33 : decode cJ3_putChar 33 = .ok (.iload_n 1, 1) := dk_27 (dk_at dksJ3_putChar_1 9 rfl rfl)
theorem dJ3_putChar_34 : decode cJ3_putChar 34 = .ok (.iinc 1 1, 3) := dk_132 1 1 (dk_at dksJ3_putChar_1 10 rfl rfl)
theorem dJ3_putChar_37 : decode cJ3_putChar 37 = .ok (.iload_n 2, 1) := dk_28 (dk_at dksJ3_putChar_1 13 rfl rfl)
theorem dJ3_putChar_38 : decode cJ3_putChar 38 = .ok (.getstatic 59, 3) := dk_178 0 59 (dk_at dksJ3_putChar_1 14 rfl rfl)
theorem dJ3_putChar_41 : decode cJ3_putChar 41 = .ok (.ishr, 1) := dk_122 (dk_at dksJ3_putChar_1 17 rfl rfl)
theorem dJ3_putChar_42 : decode cJ3_putChar 42 = .ok (.i2b, 1) := dk_145 (dk_at dksJ3_putChar_1 18 rfl rfl)
theorem dJ3_putChar_43 : decode cJ3_putChar 43 = .ok (.bastore, 1) := dk_84 (dk_at dksJ3_putChar_1 19 rfl rfl)
theorem dJ3_putChar_44 : decode cJ3_putChar 44 = .ok (.aload_n 0, 1) := dk_42 (dk_at dksJ3_putChar_1 20 rfl rfl)
theorem dJ3_putChar_45 : decode cJ3_putChar 45 = .ok (.iload_n 1, 1) := dk_27 (dk_at dksJ3_putChar_1 21 rfl rfl)
theorem dJ3_putChar_46 : decode cJ3_putChar 46 = .ok (.iload_n 2, 1) := dk_28 (dk_at dksJ3_putChar_1 22 rfl rfl)
theorem dJ3_putChar_47 : decode cJ3_putChar 47 = .ok (.getstatic 63, 3) := dk_178 0 63 (dk_at dksJ3_putChar_2 0 rfl rfl)
theorem dJ3_putChar_50 : decode cJ3_putChar 50 = .ok (.ishr, 1) := dk_122 (dk_at dksJ3_putChar_2 3 rfl rfl)
theorem dJ3_putChar_51 : decode cJ3_putChar 51 = .ok (.i2b, 1) := dk_145 (dk_at dksJ3_putChar_2 4 rfl rfl)
theorem dJ3_putChar_52 : decode cJ3_putChar 52 = .ok (.bastore, 1) := dk_84 (dk_at dksJ3_putChar_2 5 rfl rfl)
theorem dJ3_putChar_53 : decode cJ3_putChar 53 = .ok (.return_, 1) := dk_177 (dk_at dksJ3_putChar_2 6 rfl rfl)
abbrev cJ3_inflate : ByteArray := prog_37_method_86_code
def yJ3_inflate : MethodName := ⟨RJ3, "inflate", "([BI[BII)V"⟩
def dkwJ3_inflate_1 : List UInt8 := [132, 1, 1, 51, 17, 0, 255, 126, 184, 0, 111, 132, 5, 1, 167, 255, 228, 177]
abbrev dktJ3_inflate_1 : List UInt8 := dkwJ3_inflate_1 ++ []
def dkwJ3_inflate_0 : List UInt8 := [29, 21, 4, 44, 184, 0, 173, 3, 54, 5, 21, 5, 21, 4, 162, 0, 27, 44, 29, 132, 3, 1, 42, 27]
abbrev dktJ3_inflate_0 : List UInt8 := dkwJ3_inflate_0 ++ dktJ3_inflate_1
theorem dksJ3_inflate_0 : cJ3_inflate.data.toList.drop 0 = dktJ3_inflate_0 := by decide +kernel
theorem dksJ3_inflate_1 : cJ3_inflate.data.toList.drop 24 = dktJ3_inflate_1 := dk_seg dksJ3_inflate_0 24 rfl rfl
theorem dJ3_inflate_0 : decode cJ3_inflate 0 = .ok (.iload_n 3, 1) := dk_29 (dk_at dksJ3_inflate_0 0 rfl rfl)
theorem dJ3_inflate_1 : decode cJ3_inflate 1 = .ok (.iload 4, 2) := dk_21 4 (dk_at dksJ3_inflate_0 1 rfl rfl)
theorem dJ3_inflate_3 : decode cJ3_inflate 3 = .ok (.aload_n 2, 1) := dk_44 (dk_at dksJ3_inflate_0 3 rfl rfl)
theorem dJ3_inflate_4 : decode cJ3_inflate 4 = .ok (.invokestatic 173, 3) := dk_184 0 173 (dk_at dksJ3_inflate_0 4 rfl rfl)
theorem dJ3_inflate_7 : decode cJ3_inflate 7 = .ok (.iconst 0, 1) := dk_3 (dk_at dksJ3_inflate_0 7 rfl rfl)
theorem dJ3_inflate_8 : decode cJ3_inflate 8 = .ok (.istore 5, 2) := dk_54 5 (dk_at dksJ3_inflate_0 8 rfl rfl)
theorem dJ3_inflate_10 : decode cJ3_inflate 10 = .ok (.iload 5, 2) := dk_21 5 (dk_at dksJ3_inflate_0 10 rfl rfl)
theorem dJ3_inflate_12 : decode cJ3_inflate 12 = .ok (.iload 4, 2) := dk_21 4 (dk_at dksJ3_inflate_0 12 rfl rfl)
theorem dJ3_inflate_14 : decode cJ3_inflate 14 = .ok (.if_icmp .ge 27, 3) := dk_162 0 27 (dk_at dksJ3_inflate_0 14 rfl rfl)
theorem dJ3_inflate_17 : decode cJ3_inflate 17 = .ok (.aload_n 2, 1) := dk_44 (dk_at dksJ3_inflate_0 17 rfl rfl)
theorem dJ3_inflate_18 : decode cJ3_inflate 18 = .ok (.iload_n 3, 1) := dk_29 (dk_at dksJ3_inflate_0 18 rfl rfl)
theorem dJ3_inflate_19 : decode cJ3_inflate 19 = .ok (.iinc 3 1, 3) := dk_132 3 1 (dk_at dksJ3_inflate_0 19 rfl rfl)
theorem dJ3_inflate_22 : decode cJ3_inflate 22 = .ok (.aload_n 0, 1) := dk_42 (dk_at dksJ3_inflate_0 22 rfl rfl)
theorem dJ3_inflate_23 : decode cJ3_inflate 23 = .ok (.iload_n 1, 1) := dk_27 (dk_at dksJ3_inflate_0 23 rfl rfl)
theorem dJ3_inflate_24 : decode cJ3_inflate 24 = .ok (.iinc 1 1, 3) := dk_132 1 1 (dk_at dksJ3_inflate_1 0 rfl rfl)
theorem dJ3_inflate_27 : decode cJ3_inflate 27 = .ok (.baload, 1) := dk_51 (dk_at dksJ3_inflate_1 3 rfl rfl)
theorem dJ3_inflate_28 : decode cJ3_inflate 28 = .ok (.sipush 255, 3) := dk_17 0 255 (dk_at dksJ3_inflate_1 4 rfl rfl)
theorem dJ3_inflate_31 : decode cJ3_inflate 31 = .ok (.iand, 1) := dk_126 (dk_at dksJ3_inflate_1 7 rfl rfl)
theorem dJ3_inflate_32 : decode cJ3_inflate 32 = .ok (.invokestatic 111, 3) := dk_184 0 111 (dk_at dksJ3_inflate_1 8 rfl rfl)
theorem dJ3_inflate_35 : decode cJ3_inflate 35 = .ok (.iinc 5 1, 3) := dk_132 5 1 (dk_at dksJ3_inflate_1 11 rfl rfl)
theorem dJ3_inflate_38 : decode cJ3_inflate 38 = .ok (.goto (-28), 3) := dk_167 255 228 (dk_at dksJ3_inflate_1 14 rfl rfl)
theorem dJ3_inflate_41 : decode cJ3_inflate 41 = .ok (.return_, 1) := dk_177 (dk_at dksJ3_inflate_1 17 rfl rfl)
abbrev cJ3_checkBoundsOffCount : ByteArray := prog_37_method_94_code
def yJ3_checkBoundsOffCount : MethodName := ⟨RJ3, "checkBoundsOffCount", "(II[B)V"⟩
def dkwJ3_checkBoundsOffCount_0 : List UInt8 := [26, 27, 44, 184, 0, 48, 184, 1, 163, 87, 177]
abbrev dktJ3_checkBoundsOffCount_0 : List UInt8 := dkwJ3_checkBoundsOffCount_0 ++ []
theorem dksJ3_checkBoundsOffCount_0 : cJ3_checkBoundsOffCount.data.toList.drop 0 = dktJ3_checkBoundsOffCount_0 := by decide +kernel
theorem dJ3_checkBoundsOffCount_0 : decode cJ3_checkBoundsOffCount 0 = .ok (.iload_n 0, 1) := dk_26 (dk_at dksJ3_checkBoundsOffCount_0 0 rfl rfl)
theorem dJ3_checkBoundsOffCount_1 : decode cJ3_checkBoundsOffCount 1 = .ok (.iload_n 1, 1) := dk_27 (dk_at dksJ3_checkBoundsOffCount_0 1 rfl rfl)
theorem dJ3_checkBoundsOffCount_2 : decode cJ3_checkBoundsOffCount 2 = .ok (.aload_n 2, 1) := dk_44 (dk_at dksJ3_checkBoundsOffCount_0 2 rfl rfl)
theorem dJ3_checkBoundsOffCount_3 : decode cJ3_checkBoundsOffCount 3 = .ok (.invokestatic 48, 3) := dk_184 0 48 (dk_at dksJ3_checkBoundsOffCount_0 3 rfl rfl)
theorem dJ3_checkBoundsOffCount_6 : decode cJ3_checkBoundsOffCount 6 = .ok (.invokestatic 419, 3) := dk_184 1 163 (dk_at dksJ3_checkBoundsOffCount_0 6 rfl rfl)
theorem dJ3_checkBoundsOffCount_9 : decode cJ3_checkBoundsOffCount 9 = .ok (.pop, 1) := dk_87 (dk_at dksJ3_checkBoundsOffCount_0 9 rfl rfl)
theorem dJ3_checkBoundsOffCount_10 : decode cJ3_checkBoundsOffCount 10 = .ok (.return_, 1) := dk_177 (dk_at dksJ3_checkBoundsOffCount_0 10 rfl rfl)
abbrev cJ3_compress : ByteArray := prog_37_method_17_code
def yJ3_compress : MethodName := ⟨RJ3, "compress", "([BII)[B"⟩
def dkwJ3_compress_2 : List UInt8 := [25, 5, 3, 45, 3, 28, 184, 0, 123, 28, 159, 0, 6, 25, 5, 176, 45, 176]
abbrev dktJ3_compress_2 : List UInt8 := dkwJ3_compress_2 ++ []
def dkwJ3_compress_1 : List UInt8 := [27, 28, 96, 184, 0, 11, 184, 0, 126, 58, 5, 25, 5, 21, 4, 184, 0, 71, 17, 0, 255, 163, 0, 16]
abbrev dktJ3_compress_1 : List UInt8 := dkwJ3_compress_1 ++ dktJ3_compress_2
def dkwJ3_compress_0 : List UInt8 := [28, 188, 8, 78, 42, 27, 45, 3, 28, 184, 0, 123, 54, 4, 21, 4, 28, 159, 0, 47, 42, 27, 4, 120]
abbrev dktJ3_compress_0 : List UInt8 := dkwJ3_compress_0 ++ dktJ3_compress_1
theorem dksJ3_compress_0 : cJ3_compress.data.toList.drop 0 = dktJ3_compress_0 := by decide +kernel
theorem dksJ3_compress_1 : cJ3_compress.data.toList.drop 24 = dktJ3_compress_1 := dk_seg dksJ3_compress_0 24 rfl rfl
theorem dksJ3_compress_2 : cJ3_compress.data.toList.drop 48 = dktJ3_compress_2 := dk_seg dksJ3_compress_1 24 rfl rfl
theorem dJ3_compress_0 : decode cJ3_compress 0 = .ok (.iload_n 2, 1) := dk_28 (dk_at dksJ3_compress_0 0 rfl rfl)
theorem dJ3_compress_1 : decode cJ3_compress 1 = .ok (.newarray .byte, 2) := dk_188_8 (dk_at dksJ3_compress_0 1 rfl rfl)
theorem dJ3_compress_3 : decode cJ3_compress 3 = .ok (.astore_n 3, 1) := dk_78 (dk_at dksJ3_compress_0 3 rfl rfl)
theorem dJ3_compress_4 : decode cJ3_compress 4 = .ok (.aload_n 0, 1) := dk_42 (dk_at dksJ3_compress_0 4 rfl rfl)
theorem dJ3_compress_5 : decode cJ3_compress 5 = .ok (.iload_n 1, 1) := dk_27 (dk_at dksJ3_compress_0 5 rfl rfl)
theorem dJ3_compress_6 : decode cJ3_compress 6 = .ok (.aload_n 3, 1) := dk_45 (dk_at dksJ3_compress_0 6 rfl rfl)
theorem dJ3_compress_7 : decode cJ3_compress 7 = .ok (.iconst 0, 1) := dk_3 (dk_at dksJ3_compress_0 7 rfl rfl)
theorem dJ3_compress_8 : decode cJ3_compress 8 = .ok (.iload_n 2, 1) := dk_28 (dk_at dksJ3_compress_0 8 rfl rfl)
theorem dJ3_compress_9 : decode cJ3_compress 9 = .ok (.invokestatic 123, 3) := dk_184 0 123 (dk_at dksJ3_compress_0 9 rfl rfl)
theorem dJ3_compress_12 : decode cJ3_compress 12 = .ok (.istore 4, 2) := dk_54 4 (dk_at dksJ3_compress_0 12 rfl rfl)
theorem dJ3_compress_14 : decode cJ3_compress 14 = .ok (.iload 4, 2) := dk_21 4 (dk_at dksJ3_compress_0 14 rfl rfl)
theorem dJ3_compress_16 : decode cJ3_compress 16 = .ok (.iload_n 2, 1) := dk_28 (dk_at dksJ3_compress_0 16 rfl rfl)
theorem dJ3_compress_17 : decode cJ3_compress 17 = .ok (.if_icmp .eq 47, 3) := dk_159 0 47 (dk_at dksJ3_compress_0 17 rfl rfl)
theorem dJ3_compress_20 : decode cJ3_compress 20 = .ok (.aload_n 0, 1) := dk_42 (dk_at dksJ3_compress_0 20 rfl rfl)
theorem dJ3_compress_21 : decode cJ3_compress 21 = .ok (.iload_n 1, 1) := dk_27 (dk_at dksJ3_compress_0 21 rfl rfl)
theorem dJ3_compress_22 : decode cJ3_compress 22 = .ok (.iconst 1, 1) := dk_4 (dk_at dksJ3_compress_0 22 rfl rfl)
theorem dJ3_compress_23 : decode cJ3_compress 23 = .ok (.ishl, 1) := dk_120 (dk_at dksJ3_compress_0 23 rfl rfl)
theorem dJ3_compress_24 : decode cJ3_compress 24 = .ok (.iload_n 1, 1) := dk_27 (dk_at dksJ3_compress_1 0 rfl rfl)
theorem dJ3_compress_25 : decode cJ3_compress 25 = .ok (.iload_n 2, 1) := dk_28 (dk_at dksJ3_compress_1 1 rfl rfl)
theorem dJ3_compress_26 : decode cJ3_compress 26 = .ok (.iadd, 1) := dk_96 (dk_at dksJ3_compress_1 2 rfl rfl)
theorem dJ3_compress_27 : decode cJ3_compress 27 = .ok (.invokestatic 11, 3) := dk_184 0 11 (dk_at dksJ3_compress_1 3 rfl rfl)
theorem dJ3_compress_30 : decode cJ3_compress 30 = .ok (.invokestatic 126, 3) := dk_184 0 126 (dk_at dksJ3_compress_1 6 rfl rfl)
theorem dJ3_compress_33 : decode cJ3_compress 33 = .ok (.astore 5, 2) := dk_58 5 (dk_at dksJ3_compress_1 9 rfl rfl)
theorem dJ3_compress_35 : decode cJ3_compress 35 = .ok (.aload 5, 2) := dk_25 5 (dk_at dksJ3_compress_1 11 rfl rfl)
theorem dJ3_compress_37 : decode cJ3_compress 37 = .ok (.iload 4, 2) := dk_21 4 (dk_at dksJ3_compress_1 13 rfl rfl)
theorem dJ3_compress_39 : decode cJ3_compress 39 = .ok (.invokestatic 71, 3) := dk_184 0 71 (dk_at dksJ3_compress_1 15 rfl rfl)
theorem dJ3_compress_42 : decode cJ3_compress 42 = .ok (.sipush 255, 3) := dk_17 0 255 (dk_at dksJ3_compress_1 18 rfl rfl)
theorem dJ3_compress_45 : decode cJ3_compress 45 = .ok (.if_icmp .gt 16, 3) := dk_163 0 16 (dk_at dksJ3_compress_1 21 rfl rfl)
theorem dJ3_compress_48 : decode cJ3_compress 48 = .ok (.aload 5, 2) := dk_25 5 (dk_at dksJ3_compress_2 0 rfl rfl)
theorem dJ3_compress_50 : decode cJ3_compress 50 = .ok (.iconst 0, 1) := dk_3 (dk_at dksJ3_compress_2 2 rfl rfl)
theorem dJ3_compress_51 : decode cJ3_compress 51 = .ok (.aload_n 3, 1) := dk_45 (dk_at dksJ3_compress_2 3 rfl rfl)
theorem dJ3_compress_52 : decode cJ3_compress 52 = .ok (.iconst 0, 1) := dk_3 (dk_at dksJ3_compress_2 4 rfl rfl)
theorem dJ3_compress_53 : decode cJ3_compress 53 = .ok (.iload_n 2, 1) := dk_28 (dk_at dksJ3_compress_2 5 rfl rfl)
theorem dJ3_compress_54 : decode cJ3_compress 54 = .ok (.invokestatic 123, 3) := dk_184 0 123 (dk_at dksJ3_compress_2 6 rfl rfl)
theorem dJ3_compress_57 : decode cJ3_compress 57 = .ok (.iload_n 2, 1) := dk_28 (dk_at dksJ3_compress_2 9 rfl rfl)
theorem dJ3_compress_58 : decode cJ3_compress 58 = .ok (.if_icmp .eq 6, 3) := dk_159 0 6 (dk_at dksJ3_compress_2 10 rfl rfl)
theorem dJ3_compress_61 : decode cJ3_compress 61 = .ok (.aload 5, 2) := dk_25 5 (dk_at dksJ3_compress_2 13 rfl rfl)
theorem dJ3_compress_63 : decode cJ3_compress 63 = .ok (.areturn, 1) := dk_176 (dk_at dksJ3_compress_2 15 rfl rfl)
theorem dJ3_compress_64 : decode cJ3_compress 64 = .ok (.aload_n 3, 1) := dk_45 (dk_at dksJ3_compress_2 16 rfl rfl)
theorem dJ3_compress_65 : decode cJ3_compress 65 = .ok (.areturn, 1) := dk_176 (dk_at dksJ3_compress_2 17 rfl rfl)
abbrev cJ3_compress_2 : ByteArray := prog_37_method_22_code
def yJ3_compress_2 : MethodName := ⟨RJ3, "compress", "([BI[BII)I"⟩
def dkwJ3_compress_2_2 : List UInt8 := [132, 5, 1, 167, 255, 216, 21, 4, 172]
abbrev dktJ3_compress_2_2 : List UInt8 := dkwJ3_compress_2_2 ++ []
def dkwJ3_compress_2_1 : List UInt8 := [21, 6, 17, 0, 255, 164, 0, 6, 21, 5, 172, 44, 29, 21, 6, 145, 84, 132, 1, 1, 132, 3, 1]
abbrev dktJ3_compress_2_1 : List UInt8 := dkwJ3_compress_2_1 ++ dktJ3_compress_2_2
def dkwJ3_compress_2_0 : List UInt8 := [27, 21, 4, 42, 184, 0, 173, 3, 54, 5, 21, 5, 21, 4, 162, 0, 39, 42, 27, 184, 0, 71, 54, 6]
abbrev dktJ3_compress_2_0 : List UInt8 := dkwJ3_compress_2_0 ++ dktJ3_compress_2_1
theorem dksJ3_compress_2_0 : cJ3_compress_2.data.toList.drop 0 = dktJ3_compress_2_0 := by decide +kernel
theorem dksJ3_compress_2_1 : cJ3_compress_2.data.toList.drop 24 = dktJ3_compress_2_1 := dk_seg dksJ3_compress_2_0 24 rfl rfl
theorem dksJ3_compress_2_2 : cJ3_compress_2.data.toList.drop 47 = dktJ3_compress_2_2 := dk_seg dksJ3_compress_2_1 23 rfl rfl
theorem dJ3_compress_2_0 : decode cJ3_compress_2 0 = .ok (.iload_n 1, 1) := dk_27 (dk_at dksJ3_compress_2_0 0 rfl rfl)
theorem dJ3_compress_2_1 : decode cJ3_compress_2 1 = .ok (.iload 4, 2) := dk_21 4 (dk_at dksJ3_compress_2_0 1 rfl rfl)
theorem dJ3_compress_2_3 : decode cJ3_compress_2 3 = .ok (.aload_n 0, 1) := dk_42 (dk_at dksJ3_compress_2_0 3 rfl rfl)
theorem dJ3_compress_2_4 : decode cJ3_compress_2 4 = .ok (.invokestatic 173, 3) := dk_184 0 173 (dk_at dksJ3_compress_2_0 4 rfl rfl)
theorem dJ3_compress_2_7 : decode cJ3_compress_2 7 = .ok (.iconst 0, 1) := dk_3 (dk_at dksJ3_compress_2_0 7 rfl rfl)
theorem dJ3_compress_2_8 : decode cJ3_compress_2 8 = .ok (.istore 5, 2) := dk_54 5 (dk_at dksJ3_compress_2_0 8 rfl rfl)
theorem dJ3_compress_2_10 : decode cJ3_compress_2 10 = .ok (.iload 5, 2) := dk_21 5 (dk_at dksJ3_compress_2_0 10 rfl rfl)
theorem dJ3_compress_2_12 : decode cJ3_compress_2 12 = .ok (.iload 4, 2) := dk_21 4 (dk_at dksJ3_compress_2_0 12 rfl rfl)
theorem dJ3_compress_2_14 : decode cJ3_compress_2 14 = .ok (.if_icmp .ge 39, 3) := dk_162 0 39 (dk_at dksJ3_compress_2_0 14 rfl rfl)
theorem dJ3_compress_2_17 : decode cJ3_compress_2 17 = .ok (.aload_n 0, 1) := dk_42 (dk_at dksJ3_compress_2_0 17 rfl rfl)
theorem dJ3_compress_2_18 : decode cJ3_compress_2 18 = .ok (.iload_n 1, 1) := dk_27 (dk_at dksJ3_compress_2_0 18 rfl rfl)
theorem dJ3_compress_2_19 : decode cJ3_compress_2 19 = .ok (.invokestatic 71, 3) := dk_184 0 71 (dk_at dksJ3_compress_2_0 19 rfl rfl)
theorem dJ3_compress_2_22 : decode cJ3_compress_2 22 = .ok (.istore 6, 2) := dk_54 6 (dk_at dksJ3_compress_2_0 22 rfl rfl)
theorem dJ3_compress_2_24 : decode cJ3_compress_2 24 = .ok (.iload 6, 2) := dk_21 6 (dk_at dksJ3_compress_2_1 0 rfl rfl)
theorem dJ3_compress_2_26 : decode cJ3_compress_2 26 = .ok (.sipush 255, 3) := dk_17 0 255 (dk_at dksJ3_compress_2_1 2 rfl rfl)
theorem dJ3_compress_2_29 : decode cJ3_compress_2 29 = .ok (.if_icmp .le 6, 3) := dk_164 0 6 (dk_at dksJ3_compress_2_1 5 rfl rfl)
theorem dJ3_compress_2_32 : decode cJ3_compress_2 32 = .ok (.iload 5, 2) := dk_21 5 (dk_at dksJ3_compress_2_1 8 rfl rfl)
theorem dJ3_compress_2_34 : decode cJ3_compress_2 34 = .ok (.ireturn, 1) := dk_172 (dk_at dksJ3_compress_2_1 10 rfl rfl)
theorem dJ3_compress_2_35 : decode cJ3_compress_2 35 = .ok (.aload_n 2, 1) := dk_44 (dk_at dksJ3_compress_2_1 11 rfl rfl)
theorem dJ3_compress_2_36 : decode cJ3_compress_2 36 = .ok (.iload_n 3, 1) := dk_29 (dk_at dksJ3_compress_2_1 12 rfl rfl)
theorem dJ3_compress_2_37 : decode cJ3_compress_2 37 = .ok (.iload 6, 2) := dk_21 6 (dk_at dksJ3_compress_2_1 13 rfl rfl)
theorem dJ3_compress_2_39 : decode cJ3_compress_2 39 = .ok (.i2b, 1) := dk_145 (dk_at dksJ3_compress_2_1 15 rfl rfl)
theorem dJ3_compress_2_40 : decode cJ3_compress_2 40 = .ok (.bastore, 1) := dk_84 (dk_at dksJ3_compress_2_1 16 rfl rfl)
theorem dJ3_compress_2_41 : decode cJ3_compress_2 41 = .ok (.iinc 1 1, 3) := dk_132 1 1 (dk_at dksJ3_compress_2_1 17 rfl rfl)
theorem dJ3_compress_2_44 : decode cJ3_compress_2 44 = .ok (.iinc 3 1, 3) := dk_132 3 1 (dk_at dksJ3_compress_2_1 20 rfl rfl)
theorem dJ3_compress_2_47 : decode cJ3_compress_2 47 = .ok (.iinc 5 1, 3) := dk_132 5 1 (dk_at dksJ3_compress_2_2 0 rfl rfl)
theorem dJ3_compress_2_50 : decode cJ3_compress_2 50 = .ok (.goto (-40), 3) := dk_167 255 216 (dk_at dksJ3_compress_2_2 3 rfl rfl)
theorem dJ3_compress_2_53 : decode cJ3_compress_2 53 = .ok (.iload 4, 2) := dk_21 4 (dk_at dksJ3_compress_2_2 6 rfl rfl)
theorem dJ3_compress_2_55 : decode cJ3_compress_2 55 = .ok (.ireturn, 1) := dk_172 (dk_at dksJ3_compress_2_2 8 rfl rfl)
abbrev cJ3_getChar : ByteArray := prog_37_method_5_code
def yJ3_getChar : MethodName := ⟨RJ3, "getChar", "([BI)C"⟩
def dkwJ3_getChar_2 : List UInt8 := [51, 17, 0, 255, 126, 178, 0, 63, 120, 128, 146, 172]
abbrev dktJ3_getChar_2 : List UInt8 := dkwJ3_getChar_2 ++ []
def dkwJ3_getChar_1 : List UInt8 := [183, 0, 56, 191, 27, 4, 120, 60, 42, 27, 132, 1, 1, 51, 17, 0, 255, 126, 178, 0, 59, 120, 42, 27]
abbrev dktJ3_getChar_1 : List UInt8 := dkwJ3_getChar_1 ++ dktJ3_getChar_2
def dkwJ3_getChar_0 : List UInt8 := [178, 0, 44, 154, 0, 25, 27, 155, 0, 11, 27, 42, 184, 0, 48, 161, 0, 13, 187, 0, 52, 89, 18, 54]
abbrev dktJ3_getChar_0 : List UInt8 := dkwJ3_getChar_0 ++ dktJ3_getChar_1
theorem dksJ3_getChar_0 : cJ3_getChar.data.toList.drop 0 = dktJ3_getChar_0 := by decide +kernel
theorem dksJ3_getChar_1 : cJ3_getChar.data.toList.drop 24 = dktJ3_getChar_1 := dk_seg dksJ3_getChar_0 24 rfl rfl
theorem dksJ3_getChar_2 : cJ3_getChar.data.toList.drop 48 = dktJ3_getChar_2 := dk_seg dksJ3_getChar_1 24 rfl rfl
theorem dJ3_getChar_0 : decode cJ3_getChar 0 = .ok (.getstatic 44, 3) := dk_178 0 44 (dk_at dksJ3_getChar_0 0 rfl rfl)
theorem dJ3_getChar_3 : decode cJ3_getChar 3 = .ok (.ifCond .ne 25, 3) := dk_154 0 25 (dk_at dksJ3_getChar_0 3 rfl rfl)
theorem dJ3_getChar_6 : decode cJ3_getChar 6 = .ok (.iload_n 1, 1) := dk_27 (dk_at dksJ3_getChar_0 6 rfl rfl)
theorem dJ3_getChar_7 : decode cJ3_getChar 7 = .ok (.ifCond .lt 11, 3) := dk_155 0 11 (dk_at dksJ3_getChar_0 7 rfl rfl)
theorem dJ3_getChar_10 : decode cJ3_getChar 10 = .ok (.iload_n 1, 1) := dk_27 (dk_at dksJ3_getChar_0 10 rfl rfl)
theorem dJ3_getChar_11 : decode cJ3_getChar 11 = .ok (.aload_n 0, 1) := dk_42 (dk_at dksJ3_getChar_0 11 rfl rfl)
theorem dJ3_getChar_12 : decode cJ3_getChar 12 = .ok (.invokestatic 48, 3) := dk_184 0 48 (dk_at dksJ3_getChar_0 12 rfl rfl)
theorem dJ3_getChar_15 : decode cJ3_getChar 15 = .ok (.if_icmp .lt 13, 3) := dk_161 0 13 (dk_at dksJ3_getChar_0 15 rfl rfl)
theorem dJ3_getChar_18 : decode cJ3_getChar 18 = .ok (.new 52, 3) := dk_187 0 52 (dk_at dksJ3_getChar_0 18 rfl rfl)
theorem dJ3_getChar_21 : decode cJ3_getChar 21 = .ok (.dup, 1) := dk_89 (dk_at dksJ3_getChar_0 21 rfl rfl)
theorem dJ3_getChar_22 : decode cJ3_getChar 22 = .ok (.ldc 54, 2) := dk_18 54 (dk_at dksJ3_getChar_0 22 rfl rfl)
theorem dJ3_getChar_24 : decode cJ3_getChar 24 = .ok (.invokespecial 56, 3) := dk_183 0 56 (dk_at dksJ3_getChar_1 0 rfl rfl)
theorem dJ3_getChar_27 : decode cJ3_getChar 27 = .ok (.athrow, 1) := dk_191 (dk_at dksJ3_getChar_1 3 rfl rfl)
theorem dJ3_getChar_28 : decode cJ3_getChar 28 = .ok (.iload_n 1, 1) := dk_27 (dk_at dksJ3_getChar_1 4 rfl rfl)
theorem dJ3_getChar_29 : decode cJ3_getChar 29 = .ok (.iconst 1, 1) := dk_4 (dk_at dksJ3_getChar_1 5 rfl rfl)
theorem dJ3_getChar_30 : decode cJ3_getChar 30 = .ok (.ishl, 1) := dk_120 (dk_at dksJ3_getChar_1 6 rfl rfl)
theorem dJ3_getChar_31 : decode cJ3_getChar 31 = .ok (.istore_n 1, 1) := dk_60 (dk_at dksJ3_getChar_1 7 rfl rfl)
theorem dJ3_getChar_32 : decode cJ3_getChar 32 = .ok (.aload_n 0, 1) := dk_42 (dk_at dksJ3_getChar_1 8 rfl rfl)
theorem dJ3_getChar_33 : decode cJ3_getChar 33 = .ok (.iload_n 1, 1) := dk_27 (dk_at dksJ3_getChar_1 9 rfl rfl)
theorem dJ3_getChar_34 : decode cJ3_getChar 34 = .ok (.iinc 1 1, 3) := dk_132 1 1 (dk_at dksJ3_getChar_1 10 rfl rfl)
theorem dJ3_getChar_37 : decode cJ3_getChar 37 = .ok (.baload, 1) := dk_51 (dk_at dksJ3_getChar_1 13 rfl rfl)
theorem dJ3_getChar_38 : decode cJ3_getChar 38 = .ok (.sipush 255, 3) := dk_17 0 255 (dk_at dksJ3_getChar_1 14 rfl rfl)
theorem dJ3_getChar_41 : decode cJ3_getChar 41 = .ok (.iand, 1) := dk_126 (dk_at dksJ3_getChar_1 17 rfl rfl)
theorem dJ3_getChar_42 : decode cJ3_getChar 42 = .ok (.getstatic 59, 3) := dk_178 0 59 (dk_at dksJ3_getChar_1 18 rfl rfl)
theorem dJ3_getChar_45 : decode cJ3_getChar 45 = .ok (.ishl, 1) := dk_120 (dk_at dksJ3_getChar_1 21 rfl rfl)
theorem dJ3_getChar_46 : decode cJ3_getChar 46 = .ok (.aload_n 0, 1) := dk_42 (dk_at dksJ3_getChar_1 22 rfl rfl)
theorem dJ3_getChar_47 : decode cJ3_getChar 47 = .ok (.iload_n 1, 1) := dk_27 (dk_at dksJ3_getChar_1 23 rfl rfl)
theorem dJ3_getChar_48 : decode cJ3_getChar 48 = .ok (.baload, 1) := dk_51 (dk_at dksJ3_getChar_2 0 rfl rfl)
theorem dJ3_getChar_49 : decode cJ3_getChar 49 = .ok (.sipush 255, 3) := dk_17 0 255 (dk_at dksJ3_getChar_2 1 rfl rfl)
theorem dJ3_getChar_52 : decode cJ3_getChar 52 = .ok (.iand, 1) := dk_126 (dk_at dksJ3_getChar_2 4 rfl rfl)
theorem dJ3_getChar_53 : decode cJ3_getChar 53 = .ok (.getstatic 63, 3) := dk_178 0 63 (dk_at dksJ3_getChar_2 5 rfl rfl)
theorem dJ3_getChar_56 : decode cJ3_getChar 56 = .ok (.ishl, 1) := dk_120 (dk_at dksJ3_getChar_2 8 rfl rfl)
theorem dJ3_getChar_57 : decode cJ3_getChar 57 = .ok (.ior, 1) := dk_128 (dk_at dksJ3_getChar_2 9 rfl rfl)
theorem dJ3_getChar_58 : decode cJ3_getChar 58 = .ok (.i2c, 1) := dk_146 (dk_at dksJ3_getChar_2 10 rfl rfl)
theorem dJ3_getChar_59 : decode cJ3_getChar 59 = .ok (.ireturn, 1) := dk_172 (dk_at dksJ3_getChar_2 11 rfl rfl)
abbrev cJ3_coderFromArrayLen : ByteArray := prog_37_method_15_code
def yJ3_coderFromArrayLen : MethodName := ⟨RJ3, "coderFromArrayLen", "([BI)B"⟩
def dkwJ3_coderFromArrayLen_0 : List UInt8 := [27, 42, 190, 100, 16, 31, 124, 145, 172]
abbrev dktJ3_coderFromArrayLen_0 : List UInt8 := dkwJ3_coderFromArrayLen_0 ++ []
theorem dksJ3_coderFromArrayLen_0 : cJ3_coderFromArrayLen.data.toList.drop 0 = dktJ3_coderFromArrayLen_0 := by decide +kernel
theorem dJ3_coderFromArrayLen_0 : decode cJ3_coderFromArrayLen 0 = .ok (.iload_n 1, 1) := dk_27 (dk_at dksJ3_coderFromArrayLen_0 0 rfl rfl)
theorem dJ3_coderFromArrayLen_1 : decode cJ3_coderFromArrayLen 1 = .ok (.aload_n 0, 1) := dk_42 (dk_at dksJ3_coderFromArrayLen_0 1 rfl rfl)
theorem dJ3_coderFromArrayLen_2 : decode cJ3_coderFromArrayLen 2 = .ok (.arraylength, 1) := dk_190 (dk_at dksJ3_coderFromArrayLen_0 2 rfl rfl)
theorem dJ3_coderFromArrayLen_3 : decode cJ3_coderFromArrayLen 3 = .ok (.isub, 1) := dk_100 (dk_at dksJ3_coderFromArrayLen_0 3 rfl rfl)
theorem dJ3_coderFromArrayLen_4 : decode cJ3_coderFromArrayLen 4 = .ok (.bipush 31, 2) := dk_16 31 (dk_at dksJ3_coderFromArrayLen_0 4 rfl rfl)
theorem dJ3_coderFromArrayLen_6 : decode cJ3_coderFromArrayLen 6 = .ok (.iushr, 1) := dk_124 (dk_at dksJ3_coderFromArrayLen_0 6 rfl rfl)
theorem dJ3_coderFromArrayLen_7 : decode cJ3_coderFromArrayLen 7 = .ok (.i2b, 1) := dk_145 (dk_at dksJ3_coderFromArrayLen_0 7 rfl rfl)
theorem dJ3_coderFromArrayLen_8 : decode cJ3_coderFromArrayLen 8 = .ok (.ireturn, 1) := dk_172 (dk_at dksJ3_coderFromArrayLen_0 8 rfl rfl)
abbrev cJ3_charAt : ByteArray := prog_37_method_83_code
def yJ3_charAt : MethodName := ⟨RJ3, "charAt", "([BI)C"⟩
def dkwJ3_charAt_0 : List UInt8 := [27, 42, 184, 0, 67, 42, 27, 184, 0, 71, 172]
abbrev dktJ3_charAt_0 : List UInt8 := dkwJ3_charAt_0 ++ []
theorem dksJ3_charAt_0 : cJ3_charAt.data.toList.drop 0 = dktJ3_charAt_0 := by decide +kernel
theorem dJ3_charAt_0 : decode cJ3_charAt 0 = .ok (.iload_n 1, 1) := dk_27 (dk_at dksJ3_charAt_0 0 rfl rfl)
theorem dJ3_charAt_1 : decode cJ3_charAt 1 = .ok (.aload_n 0, 1) := dk_42 (dk_at dksJ3_charAt_0 1 rfl rfl)
theorem dJ3_charAt_2 : decode cJ3_charAt 2 = .ok (.invokestatic 67, 3) := dk_184 0 67 (dk_at dksJ3_charAt_0 2 rfl rfl)
theorem dJ3_charAt_5 : decode cJ3_charAt 5 = .ok (.aload_n 0, 1) := dk_42 (dk_at dksJ3_charAt_0 5 rfl rfl)
theorem dJ3_charAt_6 : decode cJ3_charAt 6 = .ok (.iload_n 1, 1) := dk_27 (dk_at dksJ3_charAt_0 6 rfl rfl)
theorem dJ3_charAt_7 : decode cJ3_charAt 7 = .ok (.invokestatic 71, 3) := dk_184 0 71 (dk_at dksJ3_charAt_0 7 rfl rfl)
theorem dJ3_charAt_10 : decode cJ3_charAt 10 = .ok (.ireturn, 1) := dk_172 (dk_at dksJ3_charAt_0 10 rfl rfl)
abbrev cJ3_checkIndex : ByteArray := prog_37_method_91_code
def yJ3_checkIndex : MethodName := ⟨RJ3, "checkIndex", "(I[B)V"⟩
def dkwJ3_checkIndex_0 : List UInt8 := [26, 43, 184, 0, 48, 184, 1, 158, 177]
abbrev dktJ3_checkIndex_0 : List UInt8 := dkwJ3_checkIndex_0 ++ []
theorem dksJ3_checkIndex_0 : cJ3_checkIndex.data.toList.drop 0 = dktJ3_checkIndex_0 := by decide +kernel
theorem dJ3_checkIndex_0 : decode cJ3_checkIndex 0 = .ok (.iload_n 0, 1) := dk_26 (dk_at dksJ3_checkIndex_0 0 rfl rfl)
theorem dJ3_checkIndex_1 : decode cJ3_checkIndex 1 = .ok (.aload_n 1, 1) := dk_43 (dk_at dksJ3_checkIndex_0 1 rfl rfl)
theorem dJ3_checkIndex_2 : decode cJ3_checkIndex 2 = .ok (.invokestatic 48, 3) := dk_184 0 48 (dk_at dksJ3_checkIndex_0 2 rfl rfl)
theorem dJ3_checkIndex_5 : decode cJ3_checkIndex 5 = .ok (.invokestatic 414, 3) := dk_184 1 158 (dk_at dksJ3_checkIndex_0 5 rfl rfl)
theorem dJ3_checkIndex_8 : decode cJ3_checkIndex 8 = .ok (.return_, 1) := dk_177 (dk_at dksJ3_checkIndex_0 8 rfl rfl)
abbrev cJ3_putCharSB : ByteArray := prog_37_method_71_code
def yJ3_putCharSB : MethodName := ⟨RJ3, "putCharSB", "([BII)V"⟩
def dkwJ3_putCharSB_0 : List UInt8 := [27, 42, 184, 0, 67, 42, 27, 28, 184, 0, 111, 177]
abbrev dktJ3_putCharSB_0 : List UInt8 := dkwJ3_putCharSB_0 ++ []
theorem dksJ3_putCharSB_0 : cJ3_putCharSB.data.toList.drop 0 = dktJ3_putCharSB_0 := by decide +kernel
theorem dJ3_putCharSB_0 : decode cJ3_putCharSB 0 = .ok (.iload_n 1, 1) := dk_27 (dk_at dksJ3_putCharSB_0 0 rfl rfl)
theorem dJ3_putCharSB_1 : decode cJ3_putCharSB 1 = .ok (.aload_n 0, 1) := dk_42 (dk_at dksJ3_putCharSB_0 1 rfl rfl)
theorem dJ3_putCharSB_2 : decode cJ3_putCharSB 2 = .ok (.invokestatic 67, 3) := dk_184 0 67 (dk_at dksJ3_putCharSB_0 2 rfl rfl)
theorem dJ3_putCharSB_5 : decode cJ3_putCharSB 5 = .ok (.aload_n 0, 1) := dk_42 (dk_at dksJ3_putCharSB_0 5 rfl rfl)
theorem dJ3_putCharSB_6 : decode cJ3_putCharSB 6 = .ok (.iload_n 1, 1) := dk_27 (dk_at dksJ3_putCharSB_0 6 rfl rfl)
theorem dJ3_putCharSB_7 : decode cJ3_putCharSB 7 = .ok (.iload_n 2, 1) := dk_28 (dk_at dksJ3_putCharSB_0 7 rfl rfl)
theorem dJ3_putCharSB_8 : decode cJ3_putCharSB 8 = .ok (.invokestatic 111, 3) := dk_184 0 111 (dk_at dksJ3_putCharSB_0 8 rfl rfl)
theorem dJ3_putCharSB_11 : decode cJ3_putCharSB 11 = .ok (.return_, 1) := dk_177 (dk_at dksJ3_putCharSB_0 11 rfl rfl)
abbrev cJ3_getChars : ByteArray := prog_37_method_77_code
def yJ3_getChars : MethodName := ⟨RJ3, "getChars", "(III[B)I"⟩
def dkwJ3_getChars_1 : List UInt8 := [159, 0, 11, 187, 0, 52, 89, 183, 0, 66, 191, 21, 4, 172]
abbrev dktJ3_getChars_1 : List UInt8 := dkwJ3_getChars_1 ++ []
def dkwJ3_getChars_0 : List UInt8 := [27, 28, 45, 184, 0, 96, 26, 28, 45, 184, 1, 137, 54, 4, 178, 0, 44, 154, 0, 17, 27, 21, 4]
abbrev dktJ3_getChars_0 : List UInt8 := dkwJ3_getChars_0 ++ dktJ3_getChars_1
theorem dksJ3_getChars_0 : cJ3_getChars.data.toList.drop 0 = dktJ3_getChars_0 := by decide +kernel
theorem dksJ3_getChars_1 : cJ3_getChars.data.toList.drop 23 = dktJ3_getChars_1 := dk_seg dksJ3_getChars_0 23 rfl rfl
theorem dJ3_getChars_0 : decode cJ3_getChars 0 = .ok (.iload_n 1, 1) := dk_27 (dk_at dksJ3_getChars_0 0 rfl rfl)
theorem dJ3_getChars_1 : decode cJ3_getChars 1 = .ok (.iload_n 2, 1) := dk_28 (dk_at dksJ3_getChars_0 1 rfl rfl)
theorem dJ3_getChars_2 : decode cJ3_getChars 2 = .ok (.aload_n 3, 1) := dk_45 (dk_at dksJ3_getChars_0 2 rfl rfl)
theorem dJ3_getChars_3 : decode cJ3_getChars 3 = .ok (.invokestatic 96, 3) := dk_184 0 96 (dk_at dksJ3_getChars_0 3 rfl rfl)
theorem dJ3_getChars_6 : decode cJ3_getChars 6 = .ok (.iload_n 0, 1) := dk_26 (dk_at dksJ3_getChars_0 6 rfl rfl)
theorem dJ3_getChars_7 : decode cJ3_getChars 7 = .ok (.iload_n 2, 1) := dk_28 (dk_at dksJ3_getChars_0 7 rfl rfl)
theorem dJ3_getChars_8 : decode cJ3_getChars 8 = .ok (.aload_n 3, 1) := dk_45 (dk_at dksJ3_getChars_0 8 rfl rfl)
theorem dJ3_getChars_9 : decode cJ3_getChars 9 = .ok (.invokestatic 393, 3) := dk_184 1 137 (dk_at dksJ3_getChars_0 9 rfl rfl)
theorem dJ3_getChars_12 : decode cJ3_getChars 12 = .ok (.istore 4, 2) := dk_54 4 (dk_at dksJ3_getChars_0 12 rfl rfl)
theorem dJ3_getChars_14 : decode cJ3_getChars 14 = .ok (.getstatic 44, 3) := dk_178 0 44 (dk_at dksJ3_getChars_0 14 rfl rfl)
theorem dJ3_getChars_17 : decode cJ3_getChars 17 = .ok (.ifCond .ne 17, 3) := dk_154 0 17 (dk_at dksJ3_getChars_0 17 rfl rfl)
theorem dJ3_getChars_20 : decode cJ3_getChars 20 = .ok (.iload_n 1, 1) := dk_27 (dk_at dksJ3_getChars_0 20 rfl rfl)
theorem dJ3_getChars_21 : decode cJ3_getChars 21 = .ok (.iload 4, 2) := dk_21 4 (dk_at dksJ3_getChars_0 21 rfl rfl)
theorem dJ3_getChars_23 : decode cJ3_getChars 23 = .ok (.if_icmp .eq 11, 3) := dk_159 0 11 (dk_at dksJ3_getChars_1 0 rfl rfl)
theorem dJ3_getChars_26 : decode cJ3_getChars 26 = .ok (.new 52, 3) := dk_187 0 52 (dk_at dksJ3_getChars_1 3 rfl rfl)
theorem dJ3_getChars_29 : decode cJ3_getChars 29 = .ok (.dup, 1) := dk_89 (dk_at dksJ3_getChars_1 6 rfl rfl)
theorem dJ3_getChars_30 : decode cJ3_getChars 30 = .ok (.invokespecial 66, 3) := dk_183 0 66 (dk_at dksJ3_getChars_1 7 rfl rfl)
theorem dJ3_getChars_33 : decode cJ3_getChars 33 = .ok (.athrow, 1) := dk_191 (dk_at dksJ3_getChars_1 10 rfl rfl)
theorem dJ3_getChars_34 : decode cJ3_getChars 34 = .ok (.iload 4, 2) := dk_21 4 (dk_at dksJ3_getChars_1 11 rfl rfl)
theorem dJ3_getChars_36 : decode cJ3_getChars 36 = .ok (.ireturn, 1) := dk_172 (dk_at dksJ3_getChars_1 13 rfl rfl)
abbrev cJ3_getChars_2 : ByteArray := prog_37_method_89_code
def yJ3_getChars_2 : MethodName := ⟨RJ3, "getChars", "(II[B)I"⟩
def dkwJ3_getChars_2_5 : List UInt8 := [132, 5, 255, 21, 5, 16, 45, 184, 0, 111, 21, 5, 172]
abbrev dktJ3_getChars_2_5 : List UInt8 := dkwJ3_getChars_2_5 ++ []
def dkwJ3_getChars_2_4 : List UInt8 := [162, 0, 18, 44, 132, 5, 255, 21, 5, 178, 1, 151, 26, 116, 51, 184, 0, 111, 21, 6, 153, 0, 14, 44]
abbrev dktJ3_getChars_2_4 : List UInt8 := dkwJ3_getChars_2_4 ++ dktJ3_getChars_2_5
def dkwJ3_getChars_2_3 : List UInt8 := [184, 0, 111, 167, 255, 205, 44, 132, 5, 255, 21, 5, 178, 1, 147, 26, 116, 51, 184, 0, 111, 26, 16, 247]
abbrev dktJ3_getChars_2_3 : List UInt8 := dkwJ3_getChars_2_3 ++ dktJ3_getChars_2_4
def dkwJ3_getChars_2_2 : List UInt8 := [21, 5, 178, 1, 147, 21, 4, 51, 184, 0, 111, 44, 132, 5, 255, 21, 5, 178, 1, 151, 21, 4, 51]
abbrev dktJ3_getChars_2_2 : List UInt8 := dkwJ3_getChars_2_2 ++ dktJ3_getChars_2_3
def dkwJ3_getChars_2_1 : List UInt8 := [16, 156, 163, 0, 51, 26, 16, 100, 108, 62, 29, 16, 100, 104, 26, 100, 54, 4, 29, 59, 44, 132, 5, 255]
abbrev dktJ3_getChars_2_1 : List UInt8 := dkwJ3_getChars_2_1 ++ dktJ3_getChars_2_2
def dkwJ3_getChars_2_0 : List UInt8 := [27, 54, 5, 26, 156, 0, 7, 4, 167, 0, 4, 3, 54, 6, 21, 6, 154, 0, 6, 26, 116, 59, 26]
abbrev dktJ3_getChars_2_0 : List UInt8 := dkwJ3_getChars_2_0 ++ dktJ3_getChars_2_1
theorem dksJ3_getChars_2_0 : cJ3_getChars_2.data.toList.drop 0 = dktJ3_getChars_2_0 := by decide +kernel
theorem dksJ3_getChars_2_1 : cJ3_getChars_2.data.toList.drop 23 = dktJ3_getChars_2_1 := dk_seg dksJ3_getChars_2_0 23 rfl rfl
theorem dksJ3_getChars_2_2 : cJ3_getChars_2.data.toList.drop 47 = dktJ3_getChars_2_2 := dk_seg dksJ3_getChars_2_1 24 rfl rfl
theorem dksJ3_getChars_2_3 : cJ3_getChars_2.data.toList.drop 70 = dktJ3_getChars_2_3 := dk_seg dksJ3_getChars_2_2 23 rfl rfl
theorem dksJ3_getChars_2_4 : cJ3_getChars_2.data.toList.drop 94 = dktJ3_getChars_2_4 := dk_seg dksJ3_getChars_2_3 24 rfl rfl
theorem dksJ3_getChars_2_5 : cJ3_getChars_2.data.toList.drop 118 = dktJ3_getChars_2_5 := dk_seg dksJ3_getChars_2_4 24 rfl rfl
theorem dJ3_getChars_2_0 : decode cJ3_getChars_2 0 = .ok (.iload_n 1, 1) := dk_27 (dk_at dksJ3_getChars_2_0 0 rfl rfl)
theorem dJ3_getChars_2_1 : decode cJ3_getChars_2 1 = .ok (.istore 5, 2) := dk_54 5 (dk_at dksJ3_getChars_2_0 1 rfl rfl)
theorem dJ3_getChars_2_3 : decode cJ3_getChars_2 3 = .ok (.iload_n 0, 1) := dk_26 (dk_at dksJ3_getChars_2_0 3 rfl rfl)
theorem dJ3_getChars_2_4 : decode cJ3_getChars_2 4 = .ok (.ifCond .ge 7, 3) := dk_156 0 7 (dk_at dksJ3_getChars_2_0 4 rfl rfl)
theorem dJ3_getChars_2_7 : decode cJ3_getChars_2 7 = .ok (.iconst 1, 1) := dk_4 (dk_at dksJ3_getChars_2_0 7 rfl rfl)
theorem dJ3_getChars_2_8 : decode cJ3_getChars_2 8 = .ok (.goto 4, 3) := dk_167 0 4 (dk_at dksJ3_getChars_2_0 8 rfl rfl)
theorem dJ3_getChars_2_11 : decode cJ3_getChars_2 11 = .ok (.iconst 0, 1) := dk_3 (dk_at dksJ3_getChars_2_0 11 rfl rfl)
theorem dJ3_getChars_2_12 : decode cJ3_getChars_2 12 = .ok (.istore 6, 2) := dk_54 6 (dk_at dksJ3_getChars_2_0 12 rfl rfl)
theorem dJ3_getChars_2_14 : decode cJ3_getChars_2 14 = .ok (.iload 6, 2) := dk_21 6 (dk_at dksJ3_getChars_2_0 14 rfl rfl)
theorem dJ3_getChars_2_16 : decode cJ3_getChars_2 16 = .ok (.ifCond .ne 6, 3) := dk_154 0 6 (dk_at dksJ3_getChars_2_0 16 rfl rfl)
theorem dJ3_getChars_2_19 : decode cJ3_getChars_2 19 = .ok (.iload_n 0, 1) := dk_26 (dk_at dksJ3_getChars_2_0 19 rfl rfl)
theorem dJ3_getChars_2_20 : decode cJ3_getChars_2 20 = .ok (.ineg, 1) := dk_116 (dk_at dksJ3_getChars_2_0 20 rfl rfl)
theorem dJ3_getChars_2_21 : decode cJ3_getChars_2 21 = .ok (.istore_n 0, 1) := dk_59 (dk_at dksJ3_getChars_2_0 21 rfl rfl)
theorem dJ3_getChars_2_22 : decode cJ3_getChars_2 22 = .ok (.iload_n 0, 1) := dk_26 (dk_at dksJ3_getChars_2_0 22 rfl rfl)
theorem dJ3_getChars_2_23 : decode cJ3_getChars_2 23 = .ok (.bipush (-100), 2) := dk_16 156 (dk_at dksJ3_getChars_2_1 0 rfl rfl)
theorem dJ3_getChars_2_25 : decode cJ3_getChars_2 25 = .ok (.if_icmp .gt 51, 3) := dk_163 0 51 (dk_at dksJ3_getChars_2_1 2 rfl rfl)
theorem dJ3_getChars_2_28 : decode cJ3_getChars_2 28 = .ok (.iload_n 0, 1) := dk_26 (dk_at dksJ3_getChars_2_1 5 rfl rfl)
theorem dJ3_getChars_2_29 : decode cJ3_getChars_2 29 = .ok (.bipush 100, 2) := dk_16 100 (dk_at dksJ3_getChars_2_1 6 rfl rfl)
theorem dJ3_getChars_2_31 : decode cJ3_getChars_2 31 = .ok (.idiv, 1) := dk_108 (dk_at dksJ3_getChars_2_1 8 rfl rfl)
theorem dJ3_getChars_2_32 : decode cJ3_getChars_2 32 = .ok (.istore_n 3, 1) := dk_62 (dk_at dksJ3_getChars_2_1 9 rfl rfl)
theorem dJ3_getChars_2_33 : decode cJ3_getChars_2 33 = .ok (.iload_n 3, 1) := dk_29 (dk_at dksJ3_getChars_2_1 10 rfl rfl)
theorem dJ3_getChars_2_34 : decode cJ3_getChars_2 34 = .ok (.bipush 100, 2) := dk_16 100 (dk_at dksJ3_getChars_2_1 11 rfl rfl)
theorem dJ3_getChars_2_36 : decode cJ3_getChars_2 36 = .ok (.imul, 1) := dk_104 (dk_at dksJ3_getChars_2_1 13 rfl rfl)
theorem dJ3_getChars_2_37 : decode cJ3_getChars_2 37 = .ok (.iload_n 0, 1) := dk_26 (dk_at dksJ3_getChars_2_1 14 rfl rfl)
theorem dJ3_getChars_2_38 : decode cJ3_getChars_2 38 = .ok (.isub, 1) := dk_100 (dk_at dksJ3_getChars_2_1 15 rfl rfl)
theorem dJ3_getChars_2_39 : decode cJ3_getChars_2 39 = .ok (.istore 4, 2) := dk_54 4 (dk_at dksJ3_getChars_2_1 16 rfl rfl)
theorem dJ3_getChars_2_41 : decode cJ3_getChars_2 41 = .ok (.iload_n 3, 1) := dk_29 (dk_at dksJ3_getChars_2_1 18 rfl rfl)
theorem dJ3_getChars_2_42 : decode cJ3_getChars_2 42 = .ok (.istore_n 0, 1) := dk_59 (dk_at dksJ3_getChars_2_1 19 rfl rfl)
theorem dJ3_getChars_2_43 : decode cJ3_getChars_2 43 = .ok (.aload_n 2, 1) := dk_44 (dk_at dksJ3_getChars_2_1 20 rfl rfl)
theorem dJ3_getChars_2_44 : decode cJ3_getChars_2 44 = .ok (.iinc 5 (-1), 3) := dk_132 5 255 (dk_at dksJ3_getChars_2_1 21 rfl rfl)
theorem dJ3_getChars_2_47 : decode cJ3_getChars_2 47 = .ok (.iload 5, 2) := dk_21 5 (dk_at dksJ3_getChars_2_2 0 rfl rfl)
theorem dJ3_getChars_2_49 : decode cJ3_getChars_2 49 = .ok (.getstatic 403, 3) := dk_178 1 147 (dk_at dksJ3_getChars_2_2 2 rfl rfl)
theorem dJ3_getChars_2_52 : decode cJ3_getChars_2 52 = .ok (.iload 4, 2) := dk_21 4 (dk_at dksJ3_getChars_2_2 5 rfl rfl)
theorem dJ3_getChars_2_54 : decode cJ3_getChars_2 54 = .ok (.baload, 1) := dk_51 (dk_at dksJ3_getChars_2_2 7 rfl rfl)
theorem dJ3_getChars_2_55 : decode cJ3_getChars_2 55 = .ok (.invokestatic 111, 3) := dk_184 0 111 (dk_at dksJ3_getChars_2_2 8 rfl rfl)
theorem dJ3_getChars_2_58 : decode cJ3_getChars_2 58 = .ok (.aload_n 2, 1) := dk_44 (dk_at dksJ3_getChars_2_2 11 rfl rfl)
theorem dJ3_getChars_2_59 : decode cJ3_getChars_2 59 = .ok (.iinc 5 (-1), 3) := dk_132 5 255 (dk_at dksJ3_getChars_2_2 12 rfl rfl)
theorem dJ3_getChars_2_62 : decode cJ3_getChars_2 62 = .ok (.iload 5, 2) := dk_21 5 (dk_at dksJ3_getChars_2_2 15 rfl rfl)
theorem dJ3_getChars_2_64 : decode cJ3_getChars_2 64 = .ok (.getstatic 407, 3) := dk_178 1 151 (dk_at dksJ3_getChars_2_2 17 rfl rfl)
theorem dJ3_getChars_2_67 : decode cJ3_getChars_2 67 = .ok (.iload 4, 2) := dk_21 4 (dk_at dksJ3_getChars_2_2 20 rfl rfl)
theorem dJ3_getChars_2_69 : decode cJ3_getChars_2 69 = .ok (.baload, 1) := dk_51 (dk_at dksJ3_getChars_2_2 22 rfl rfl)
theorem dJ3_getChars_2_70 : decode cJ3_getChars_2 70 = .ok (.invokestatic 111, 3) := dk_184 0 111 (dk_at dksJ3_getChars_2_3 0 rfl rfl)
theorem dJ3_getChars_2_73 : decode cJ3_getChars_2 73 = .ok (.goto (-51), 3) := dk_167 255 205 (dk_at dksJ3_getChars_2_3 3 rfl rfl)
theorem dJ3_getChars_2_76 : decode cJ3_getChars_2 76 = .ok (.aload_n 2, 1) := dk_44 (dk_at dksJ3_getChars_2_3 6 rfl rfl)
theorem dJ3_getChars_2_77 : decode cJ3_getChars_2 77 = .ok (.iinc 5 (-1), 3) := dk_132 5 255 (dk_at dksJ3_getChars_2_3 7 rfl rfl)
theorem dJ3_getChars_2_80 : decode cJ3_getChars_2 80 = .ok (.iload 5, 2) := dk_21 5 (dk_at dksJ3_getChars_2_3 10 rfl rfl)
theorem dJ3_getChars_2_82 : decode cJ3_getChars_2 82 = .ok (.getstatic 403, 3) := dk_178 1 147 (dk_at dksJ3_getChars_2_3 12 rfl rfl)
theorem dJ3_getChars_2_85 : decode cJ3_getChars_2 85 = .ok (.iload_n 0, 1) := dk_26 (dk_at dksJ3_getChars_2_3 15 rfl rfl)
theorem dJ3_getChars_2_86 : decode cJ3_getChars_2 86 = .ok (.ineg, 1) := dk_116 (dk_at dksJ3_getChars_2_3 16 rfl rfl)
theorem dJ3_getChars_2_87 : decode cJ3_getChars_2 87 = .ok (.baload, 1) := dk_51 (dk_at dksJ3_getChars_2_3 17 rfl rfl)
theorem dJ3_getChars_2_88 : decode cJ3_getChars_2 88 = .ok (.invokestatic 111, 3) := dk_184 0 111 (dk_at dksJ3_getChars_2_3 18 rfl rfl)
theorem dJ3_getChars_2_91 : decode cJ3_getChars_2 91 = .ok (.iload_n 0, 1) := dk_26 (dk_at dksJ3_getChars_2_3 21 rfl rfl)
theorem dJ3_getChars_2_92 : decode cJ3_getChars_2 92 = .ok (.bipush (-9), 2) := dk_16 247 (dk_at dksJ3_getChars_2_3 22 rfl rfl)
theorem dJ3_getChars_2_94 : decode cJ3_getChars_2 94 = .ok (.if_icmp .ge 18, 3) := dk_162 0 18 (dk_at dksJ3_getChars_2_4 0 rfl rfl)
theorem dJ3_getChars_2_97 : decode cJ3_getChars_2 97 = .ok (.aload_n 2, 1) := dk_44 (dk_at dksJ3_getChars_2_4 3 rfl rfl)
theorem dJ3_getChars_2_98 : decode cJ3_getChars_2 98 = .ok (.iinc 5 (-1), 3) := dk_132 5 255 (dk_at dksJ3_getChars_2_4 4 rfl rfl)
theorem dJ3_getChars_2_101 : decode cJ3_getChars_2 101 = .ok (.iload 5, 2) := dk_21 5 (dk_at dksJ3_getChars_2_4 7 rfl rfl)
theorem dJ3_getChars_2_103 : decode cJ3_getChars_2 103 = .ok (.getstatic 407, 3) := dk_178 1 151 (dk_at dksJ3_getChars_2_4 9 rfl rfl)
theorem dJ3_getChars_2_106 : decode cJ3_getChars_2 106 = .ok (.iload_n 0, 1) := dk_26 (dk_at dksJ3_getChars_2_4 12 rfl rfl)
theorem dJ3_getChars_2_107 : decode cJ3_getChars_2 107 = .ok (.ineg, 1) := dk_116 (dk_at dksJ3_getChars_2_4 13 rfl rfl)
theorem dJ3_getChars_2_108 : decode cJ3_getChars_2 108 = .ok (.baload, 1) := dk_51 (dk_at dksJ3_getChars_2_4 14 rfl rfl)
theorem dJ3_getChars_2_109 : decode cJ3_getChars_2 109 = .ok (.invokestatic 111, 3) := dk_184 0 111 (dk_at dksJ3_getChars_2_4 15 rfl rfl)
theorem dJ3_getChars_2_112 : decode cJ3_getChars_2 112 = .ok (.iload 6, 2) := dk_21 6 (dk_at dksJ3_getChars_2_4 18 rfl rfl)
theorem dJ3_getChars_2_114 : decode cJ3_getChars_2 114 = .ok (.ifCond .eq 14, 3) := dk_153 0 14 (dk_at dksJ3_getChars_2_4 20 rfl rfl)
theorem dJ3_getChars_2_117 : decode cJ3_getChars_2 117 = .ok (.aload_n 2, 1) := dk_44 (dk_at dksJ3_getChars_2_4 23 rfl rfl)
theorem dJ3_getChars_2_118 : decode cJ3_getChars_2 118 = .ok (.iinc 5 (-1), 3) := dk_132 5 255 (dk_at dksJ3_getChars_2_5 0 rfl rfl)
theorem dJ3_getChars_2_121 : decode cJ3_getChars_2 121 = .ok (.iload 5, 2) := dk_21 5 (dk_at dksJ3_getChars_2_5 3 rfl rfl)
theorem dJ3_getChars_2_123 : decode cJ3_getChars_2 123 = .ok (.bipush 45, 2) := dk_16 45 (dk_at dksJ3_getChars_2_5 5 rfl rfl)
theorem dJ3_getChars_2_125 : decode cJ3_getChars_2 125 = .ok (.invokestatic 111, 3) := dk_184 0 111 (dk_at dksJ3_getChars_2_5 7 rfl rfl)
theorem dJ3_getChars_2_128 : decode cJ3_getChars_2 128 = .ok (.iload 5, 2) := dk_21 5 (dk_at dksJ3_getChars_2_5 10 rfl rfl)
theorem dJ3_getChars_2_130 : decode cJ3_getChars_2 130 = .ok (.ireturn, 1) := dk_172 (dk_at dksJ3_getChars_2_5 12 rfl rfl)
theorem q157 : (Jvm.Cond.initialized "java/lang/StringUTF16") ∈ lw_all := lw_g (lw_at lw_m1 6 rfl) rfl
theorem q284 : (Jvm.Cond.static ({ cls := "java/lang/StringUTF16", name := "newBytesFor", desc := "(I)[B" } : Jvm.MethodName)) ∈ lw_all := lw_g (lw_at lw_m1 133 rfl) rfl
theorem q285 : (Jvm.Cond.code ({ cls := "java/lang/StringUTF16", name := "newBytesFor", desc := "(I)[B" } : Jvm.MethodName) prog_37_method_2_code (1 : Nat) (Option.some (Jvm.ClassFile.FieldType.array Jvm.ClassFile.FieldType.byte))) ∈ lw_all := lw_g (lw_at lw_m1 134 rfl) rfl
theorem q286 : (Jvm.Cond.methodLink "java/lang/StringUTF16" (11 : Nat) ({ cls := "java/lang/StringUTF16", name := "newBytesLength", desc := "(I)I" } : Jvm.MethodName)) ∈ lw_all := lw_g (lw_at lw_m1 135 rfl) rfl
theorem q287 : (Jvm.Cond.static ({ cls := "java/lang/StringUTF16", name := "newBytesLength", desc := "(I)I" } : Jvm.MethodName)) ∈ lw_all := lw_g (lw_at lw_m1 136 rfl) rfl
theorem q288 : (Jvm.Cond.code ({ cls := "java/lang/StringUTF16", name := "newBytesLength", desc := "(I)I" } : Jvm.MethodName) prog_37_method_3_code (1 : Nat) (Option.some Jvm.ClassFile.FieldType.int)) ∈ lw_all := lw_g (lw_at lw_m1 137 rfl) rfl
theorem q289 : (Jvm.Cond.constant "java/lang/StringUTF16" (20 : Nat) (1073741823 : Int32)) ∈ lw_all := lw_g (lw_at lw_m1 138 rfl) rfl
theorem q357 : (Jvm.Cond.static ({ cls := "java/lang/StringUTF16", name := "putCharsAt", desc := "([BICCCC)I" } : Jvm.MethodName)) ∈ lw_all := lw_g (lw_at lw_m1 206 rfl) rfl
theorem q358 : (Jvm.Cond.code ({ cls := "java/lang/StringUTF16", name := "putCharsAt", desc := "([BICCCC)I" } : Jvm.MethodName) prog_37_method_81_code (7 : Nat) (Option.some Jvm.ClassFile.FieldType.int)) ∈ lw_all := lw_g (lw_at lw_m1 207 rfl) rfl
theorem q359 : (Jvm.Cond.methodLink "java/lang/StringUTF16" (96 : Nat) ({ cls := "java/lang/StringUTF16", name := "checkBoundsBeginEnd", desc := "(II[B)V" } : Jvm.MethodName)) ∈ lw_all := lw_g (lw_at lw_m1 208 rfl) rfl
theorem q360 : (Jvm.Cond.static ({ cls := "java/lang/StringUTF16", name := "checkBoundsBeginEnd", desc := "(II[B)V" } : Jvm.MethodName)) ∈ lw_all := lw_g (lw_at lw_m1 209 rfl) rfl
theorem q361 : (Jvm.Cond.code ({ cls := "java/lang/StringUTF16", name := "checkBoundsBeginEnd", desc := "(II[B)V" } : Jvm.MethodName) prog_37_method_93_code (3 : Nat) (Option.none : Option Jvm.ClassFile.FieldType)) ∈ lw_all := lw_g (lw_at lw_m1 210 rfl) rfl
theorem q362 : (Jvm.Cond.methodLink "java/lang/StringUTF16" (48 : Nat) ({ cls := "java/lang/StringUTF16", name := "length", desc := "([B)I" } : Jvm.MethodName)) ∈ lw_all := lw_g (lw_at lw_m1 211 rfl) rfl
theorem q363 : (Jvm.Cond.static ({ cls := "java/lang/StringUTF16", name := "length", desc := "([B)I" } : Jvm.MethodName)) ∈ lw_all := lw_g (lw_at lw_m1 212 rfl) rfl
theorem q364 : (Jvm.Cond.code ({ cls := "java/lang/StringUTF16", name := "length", desc := "([B)I" } : Jvm.MethodName) prog_37_method_6_code (1 : Nat) (Option.some Jvm.ClassFile.FieldType.int)) ∈ lw_all := lw_g (lw_at lw_m1 213 rfl) rfl
theorem q365 : (Jvm.Cond.methodLink "java/lang/StringUTF16" (241 : Nat) ({ cls := "java/lang/String", name := "checkBoundsBeginEnd", desc := "(III)V" } : Jvm.MethodName)) ∈ lw_all := lw_g (lw_at lw_m1 214 rfl) rfl
theorem q373 : (Jvm.Cond.methodLink "java/lang/StringUTF16" (111 : Nat) ({ cls := "java/lang/StringUTF16", name := "putChar", desc := "([BII)V" } : Jvm.MethodName)) ∈ lw_all := lw_g (lw_at lw_m1 222 rfl) rfl
theorem q374 : (Jvm.Cond.static ({ cls := "java/lang/StringUTF16", name := "putChar", desc := "([BII)V" } : Jvm.MethodName)) ∈ lw_all := lw_g (lw_at lw_m1 223 rfl) rfl
theorem q375 : (Jvm.Cond.code ({ cls := "java/lang/StringUTF16", name := "putChar", desc := "([BII)V" } : Jvm.MethodName) prog_37_method_4_code (3 : Nat) (Option.none : Option Jvm.ClassFile.FieldType)) ∈ lw_all := lw_g (lw_at lw_m1 224 rfl) rfl
theorem q376 : (Jvm.Cond.fieldLink "java/lang/StringUTF16" (44 : Nat) "java/lang/StringUTF16" "$assertionsDisabled" "Z") ∈ lw_all := lw_g (lw_at lw_m1 225 rfl) rfl
theorem q377 : (Jvm.Cond.laysStatic "java/lang/StringUTF16" "$assertionsDisabled" "Z") ∈ lw_tbl := lw_at lw_m1 226 rfl
theorem q378 : (Jvm.Cond.fieldLink "java/lang/StringUTF16" (59 : Nat) "java/lang/StringUTF16" "HI_BYTE_SHIFT" "I") ∈ lw_all := lw_g (lw_at lw_m1 227 rfl) rfl
theorem q379 : (Jvm.Cond.laysStatic "java/lang/StringUTF16" "HI_BYTE_SHIFT" "I") ∈ lw_tbl := lw_at lw_m1 228 rfl
theorem q380 : (Jvm.Cond.fieldLink "java/lang/StringUTF16" (63 : Nat) "java/lang/StringUTF16" "LO_BYTE_SHIFT" "I") ∈ lw_all := lw_g (lw_at lw_m1 229 rfl) rfl
theorem q381 : (Jvm.Cond.laysStatic "java/lang/StringUTF16" "LO_BYTE_SHIFT" "I") ∈ lw_tbl := lw_at lw_m1 230 rfl
theorem q408 : (Jvm.Cond.static ({ cls := "java/lang/StringUTF16", name := "inflate", desc := "([BI[BII)V" } : Jvm.MethodName)) ∈ lw_all := lw_g (lw_at lw_m2 17 rfl) rfl
theorem q409 : (Jvm.Cond.code ({ cls := "java/lang/StringUTF16", name := "inflate", desc := "([BI[BII)V" } : Jvm.MethodName) prog_37_method_86_code (6 : Nat) (Option.none : Option Jvm.ClassFile.FieldType)) ∈ lw_all := lw_g (lw_at lw_m2 18 rfl) rfl
theorem q410 : (Jvm.Cond.methodLink "java/lang/StringUTF16" (173 : Nat) ({ cls := "java/lang/StringUTF16", name := "checkBoundsOffCount", desc := "(II[B)V" } : Jvm.MethodName)) ∈ lw_all := lw_g (lw_at lw_m2 19 rfl) rfl
theorem q411 : (Jvm.Cond.static ({ cls := "java/lang/StringUTF16", name := "checkBoundsOffCount", desc := "(II[B)V" } : Jvm.MethodName)) ∈ lw_all := lw_g (lw_at lw_m2 20 rfl) rfl
theorem q412 : (Jvm.Cond.code ({ cls := "java/lang/StringUTF16", name := "checkBoundsOffCount", desc := "(II[B)V" } : Jvm.MethodName) prog_37_method_94_code (3 : Nat) (Option.none : Option Jvm.ClassFile.FieldType)) ∈ lw_all := lw_g (lw_at lw_m2 21 rfl) rfl
theorem q413 : (Jvm.Cond.methodLink "java/lang/StringUTF16" (419 : Nat) ({ cls := "java/lang/String", name := "checkBoundsOffCount", desc := "(III)I" } : Jvm.MethodName)) ∈ lw_all := lw_g (lw_at lw_m2 22 rfl) rfl
theorem q463 : (Jvm.Cond.static ({ cls := "java/lang/StringUTF16", name := "compress", desc := "([BII)[B" } : Jvm.MethodName)) ∈ lw_all := lw_g (lw_at lw_m2 72 rfl) rfl
theorem q464 : (Jvm.Cond.code ({ cls := "java/lang/StringUTF16", name := "compress", desc := "([BII)[B" } : Jvm.MethodName) prog_37_method_17_code (6 : Nat) (Option.some (Jvm.ClassFile.FieldType.array Jvm.ClassFile.FieldType.byte))) ∈ lw_all := lw_g (lw_at lw_m2 73 rfl) rfl
theorem q465 : (Jvm.Cond.methodLink "java/lang/StringUTF16" (123 : Nat) ({ cls := "java/lang/StringUTF16", name := "compress", desc := "([BI[BII)I" } : Jvm.MethodName)) ∈ lw_all := lw_g (lw_at lw_m2 74 rfl) rfl
theorem q466 : (Jvm.Cond.static ({ cls := "java/lang/StringUTF16", name := "compress", desc := "([BI[BII)I" } : Jvm.MethodName)) ∈ lw_all := lw_g (lw_at lw_m2 75 rfl) rfl
theorem q467 : (Jvm.Cond.code ({ cls := "java/lang/StringUTF16", name := "compress", desc := "([BI[BII)I" } : Jvm.MethodName) prog_37_method_22_code (7 : Nat) (Option.some Jvm.ClassFile.FieldType.int)) ∈ lw_all := lw_g (lw_at lw_m2 76 rfl) rfl
theorem q468 : (Jvm.Cond.methodLink "java/lang/StringUTF16" (71 : Nat) ({ cls := "java/lang/StringUTF16", name := "getChar", desc := "([BI)C" } : Jvm.MethodName)) ∈ lw_all := lw_g (lw_at lw_m2 77 rfl) rfl
theorem q469 : (Jvm.Cond.static ({ cls := "java/lang/StringUTF16", name := "getChar", desc := "([BI)C" } : Jvm.MethodName)) ∈ lw_all := lw_g (lw_at lw_m2 78 rfl) rfl
theorem q470 : (Jvm.Cond.code ({ cls := "java/lang/StringUTF16", name := "getChar", desc := "([BI)C" } : Jvm.MethodName) prog_37_method_5_code (2 : Nat) (Option.some Jvm.ClassFile.FieldType.char)) ∈ lw_all := lw_g (lw_at lw_m2 79 rfl) rfl
theorem q471 : (Jvm.Cond.methodLink "java/lang/StringUTF16" (126 : Nat) ({ cls := "java/util/Arrays", name := "copyOfRange", desc := "([BII)[B" } : Jvm.MethodName)) ∈ lw_all := lw_g (lw_at lw_m2 80 rfl) rfl
theorem q473 : (Jvm.Cond.static ({ cls := "java/lang/StringUTF16", name := "coderFromArrayLen", desc := "([BI)B" } : Jvm.MethodName)) ∈ lw_all := lw_g (lw_at lw_m2 82 rfl) rfl
theorem q474 : (Jvm.Cond.code ({ cls := "java/lang/StringUTF16", name := "coderFromArrayLen", desc := "([BI)B" } : Jvm.MethodName) prog_37_method_15_code (2 : Nat) (Option.some Jvm.ClassFile.FieldType.byte)) ∈ lw_all := lw_g (lw_at lw_m2 83 rfl) rfl
theorem q1069 : (Jvm.Cond.static ({ cls := "java/lang/StringUTF16", name := "charAt", desc := "([BI)C" } : Jvm.MethodName)) ∈ lw_all := lw_g (lw_at lw_m4 198 rfl) rfl
theorem q1070 : (Jvm.Cond.code ({ cls := "java/lang/StringUTF16", name := "charAt", desc := "([BI)C" } : Jvm.MethodName) prog_37_method_83_code (2 : Nat) (Option.some Jvm.ClassFile.FieldType.char)) ∈ lw_all := lw_g (lw_at lw_m4 199 rfl) rfl
theorem q1071 : (Jvm.Cond.methodLink "java/lang/StringUTF16" (67 : Nat) ({ cls := "java/lang/StringUTF16", name := "checkIndex", desc := "(I[B)V" } : Jvm.MethodName)) ∈ lw_all := lw_g (lw_at lw_m4 200 rfl) rfl
theorem q1072 : (Jvm.Cond.static ({ cls := "java/lang/StringUTF16", name := "checkIndex", desc := "(I[B)V" } : Jvm.MethodName)) ∈ lw_all := lw_g (lw_at lw_m4 201 rfl) rfl
theorem q1073 : (Jvm.Cond.code ({ cls := "java/lang/StringUTF16", name := "checkIndex", desc := "(I[B)V" } : Jvm.MethodName) prog_37_method_91_code (2 : Nat) (Option.none : Option Jvm.ClassFile.FieldType)) ∈ lw_all := lw_g (lw_at lw_m4 202 rfl) rfl
theorem q1074 : (Jvm.Cond.methodLink "java/lang/StringUTF16" (414 : Nat) ({ cls := "java/lang/String", name := "checkIndex", desc := "(II)V" } : Jvm.MethodName)) ∈ lw_all := lw_g (lw_at lw_m4 203 rfl) rfl
theorem q1099 : (Jvm.Cond.static ({ cls := "java/lang/StringUTF16", name := "putCharSB", desc := "([BII)V" } : Jvm.MethodName)) ∈ lw_all := lw_g (lw_at lw_m4 228 rfl) rfl
theorem q1100 : (Jvm.Cond.code ({ cls := "java/lang/StringUTF16", name := "putCharSB", desc := "([BII)V" } : Jvm.MethodName) prog_37_method_71_code (3 : Nat) (Option.none : Option Jvm.ClassFile.FieldType)) ∈ lw_all := lw_g (lw_at lw_m4 229 rfl) rfl
theorem q1202 : (Jvm.Cond.static ({ cls := "java/lang/StringUTF16", name := "getChars", desc := "(III[B)I" } : Jvm.MethodName)) ∈ lw_all := lw_g (lw_at lw_m5 91 rfl) rfl
theorem q1203 : (Jvm.Cond.code ({ cls := "java/lang/StringUTF16", name := "getChars", desc := "(III[B)I" } : Jvm.MethodName) prog_37_method_77_code (5 : Nat) (Option.some Jvm.ClassFile.FieldType.int)) ∈ lw_all := lw_g (lw_at lw_m5 92 rfl) rfl
theorem q1204 : (Jvm.Cond.methodLink "java/lang/StringUTF16" (393 : Nat) ({ cls := "java/lang/StringUTF16", name := "getChars", desc := "(II[B)I" } : Jvm.MethodName)) ∈ lw_all := lw_g (lw_at lw_m5 93 rfl) rfl
theorem q1205 : (Jvm.Cond.static ({ cls := "java/lang/StringUTF16", name := "getChars", desc := "(II[B)I" } : Jvm.MethodName)) ∈ lw_all := lw_g (lw_at lw_m5 94 rfl) rfl
theorem q1206 : (Jvm.Cond.code ({ cls := "java/lang/StringUTF16", name := "getChars", desc := "(II[B)I" } : Jvm.MethodName) prog_37_method_89_code (7 : Nat) (Option.some Jvm.ClassFile.FieldType.int)) ∈ lw_all := lw_g (lw_at lw_m5 95 rfl) rfl
theorem q1207 : (Jvm.Cond.fieldLink "java/lang/StringUTF16" (403 : Nat) "java/lang/Integer" "DigitOnes" "[B") ∈ lw_all := lw_g (lw_at lw_m5 96 rfl) rfl
theorem q1208 : (Jvm.Cond.fieldLink "java/lang/StringUTF16" (407 : Nat) "java/lang/Integer" "DigitTens" "[B") ∈ lw_all := lw_g (lw_at lw_m5 97 rfl) rfl
/-! jdk/internal/util/ArraysSupport -/
set_option maxRecDepth 100000
def RJ4 : String := "jdk/internal/util/ArraysSupport"
abbrev cJ4_newLength : ByteArray := prog_51_method_27_code
def yJ4_newLength : MethodName := ⟨RJ4, "newLength", "(III)I"⟩
def dkwJ4_newLength_1 : List UInt8 := [184, 0, 201, 172]
abbrev dktJ4_newLength_1 : List UInt8 := dkwJ4_newLength_1 ++ []
def dkwJ4_newLength_0 : List UInt8 := [26, 27, 28, 184, 0, 194, 96, 62, 3, 29, 162, 0, 11, 29, 18, 200, 163, 0, 5, 29, 172, 26, 27]
abbrev dktJ4_newLength_0 : List UInt8 := dkwJ4_newLength_0 ++ dktJ4_newLength_1
theorem dksJ4_newLength_0 : cJ4_newLength.data.toList.drop 0 = dktJ4_newLength_0 := by decide +kernel
theorem dksJ4_newLength_1 : cJ4_newLength.data.toList.drop 23 = dktJ4_newLength_1 := dk_seg dksJ4_newLength_0 23 rfl rfl
theorem dJ4_newLength_0 : decode cJ4_newLength 0 = .ok (.iload_n 0, 1) := dk_26 (dk_at dksJ4_newLength_0 0 rfl rfl)
theorem dJ4_newLength_1 : decode cJ4_newLength 1 = .ok (.iload_n 1, 1) := dk_27 (dk_at dksJ4_newLength_0 1 rfl rfl)
theorem dJ4_newLength_2 : decode cJ4_newLength 2 = .ok (.iload_n 2, 1) := dk_28 (dk_at dksJ4_newLength_0 2 rfl rfl)
theorem dJ4_newLength_3 : decode cJ4_newLength 3 = .ok (.invokestatic 194, 3) := dk_184 0 194 (dk_at dksJ4_newLength_0 3 rfl rfl)
theorem dJ4_newLength_6 : decode cJ4_newLength 6 = .ok (.iadd, 1) := dk_96 (dk_at dksJ4_newLength_0 6 rfl rfl)
theorem dJ4_newLength_7 : decode cJ4_newLength 7 = .ok (.istore_n 3, 1) := dk_62 (dk_at dksJ4_newLength_0 7 rfl rfl)
theorem dJ4_newLength_8 : decode cJ4_newLength 8 = .ok (.iconst 0, 1) := dk_3 (dk_at dksJ4_newLength_0 8 rfl rfl)
theorem dJ4_newLength_9 : decode cJ4_newLength 9 = .ok (.iload_n 3, 1) := dk_29 (dk_at dksJ4_newLength_0 9 rfl rfl)
theorem dJ4_newLength_10 : decode cJ4_newLength 10 = .ok (.if_icmp .ge 11, 3) := dk_162 0 11 (dk_at dksJ4_newLength_0 10 rfl rfl)
theorem dJ4_newLength_13 : decode cJ4_newLength 13 = .ok (.iload_n 3, 1) := dk_29 (dk_at dksJ4_newLength_0 13 rfl rfl)
theorem dJ4_newLength_14 : decode cJ4_newLength 14 = .ok (.ldc 200, 2) := dk_18 200 (dk_at dksJ4_newLength_0 14 rfl rfl)
theorem dJ4_newLength_16 : decode cJ4_newLength 16 = .ok (.if_icmp .gt 5, 3) := dk_163 0 5 (dk_at dksJ4_newLength_0 16 rfl rfl)
theorem dJ4_newLength_19 : decode cJ4_newLength 19 = .ok (.iload_n 3, 1) := dk_29 (dk_at dksJ4_newLength_0 19 rfl rfl)
theorem dJ4_newLength_20 : decode cJ4_newLength 20 = .ok (.ireturn, 1) := dk_172 (dk_at dksJ4_newLength_0 20 rfl rfl)
theorem dJ4_newLength_21 : decode cJ4_newLength 21 = .ok (.iload_n 0, 1) := dk_26 (dk_at dksJ4_newLength_0 21 rfl rfl)
theorem dJ4_newLength_22 : decode cJ4_newLength 22 = .ok (.iload_n 1, 1) := dk_27 (dk_at dksJ4_newLength_0 22 rfl rfl)
theorem dJ4_newLength_23 : decode cJ4_newLength 23 = .ok (.invokestatic 201, 3) := dk_184 0 201 (dk_at dksJ4_newLength_1 0 rfl rfl)
theorem dJ4_newLength_26 : decode cJ4_newLength 26 = .ok (.ireturn, 1) := dk_172 (dk_at dksJ4_newLength_1 3 rfl rfl)
abbrev cJ4_hugeLength : ByteArray := prog_51_method_28_code
def yJ4_hugeLength : MethodName := ⟨RJ4, "hugeLength", "(II)I"⟩
def dkwJ4_hugeLength_2 : List UInt8 := [191, 28, 18, 200, 163, 0, 6, 18, 200, 172, 28, 172]
abbrev dktJ4_hugeLength_2 : List UInt8 := dkwJ4_hugeLength_2 ++ []
def dkwJ4_hugeLength_1 : List UInt8 := [26, 182, 0, 98, 18, 208, 182, 0, 94, 27, 182, 0, 98, 18, 210, 182, 0, 94, 182, 0, 101, 183, 0, 212]
abbrev dktJ4_hugeLength_1 : List UInt8 := dkwJ4_hugeLength_1 ++ dktJ4_hugeLength_2
def dkwJ4_hugeLength_0 : List UInt8 := [26, 27, 96, 61, 28, 156, 0, 44, 187, 0, 204, 89, 187, 0, 89, 89, 183, 0, 91, 18, 206, 182, 0, 94]
abbrev dktJ4_hugeLength_0 : List UInt8 := dkwJ4_hugeLength_0 ++ dktJ4_hugeLength_1
theorem dksJ4_hugeLength_0 : cJ4_hugeLength.data.toList.drop 0 = dktJ4_hugeLength_0 := by decide +kernel
theorem dksJ4_hugeLength_1 : cJ4_hugeLength.data.toList.drop 24 = dktJ4_hugeLength_1 := dk_seg dksJ4_hugeLength_0 24 rfl rfl
theorem dksJ4_hugeLength_2 : cJ4_hugeLength.data.toList.drop 48 = dktJ4_hugeLength_2 := dk_seg dksJ4_hugeLength_1 24 rfl rfl
theorem dJ4_hugeLength_0 : decode cJ4_hugeLength 0 = .ok (.iload_n 0, 1) := dk_26 (dk_at dksJ4_hugeLength_0 0 rfl rfl)
theorem dJ4_hugeLength_1 : decode cJ4_hugeLength 1 = .ok (.iload_n 1, 1) := dk_27 (dk_at dksJ4_hugeLength_0 1 rfl rfl)
theorem dJ4_hugeLength_2 : decode cJ4_hugeLength 2 = .ok (.iadd, 1) := dk_96 (dk_at dksJ4_hugeLength_0 2 rfl rfl)
theorem dJ4_hugeLength_3 : decode cJ4_hugeLength 3 = .ok (.istore_n 2, 1) := dk_61 (dk_at dksJ4_hugeLength_0 3 rfl rfl)
theorem dJ4_hugeLength_4 : decode cJ4_hugeLength 4 = .ok (.iload_n 2, 1) := dk_28 (dk_at dksJ4_hugeLength_0 4 rfl rfl)
theorem dJ4_hugeLength_5 : decode cJ4_hugeLength 5 = .ok (.ifCond .ge 44, 3) := dk_156 0 44 (dk_at dksJ4_hugeLength_0 5 rfl rfl)
theorem dJ4_hugeLength_8 : decode cJ4_hugeLength 8 = .ok (.new 204, 3) := dk_187 0 204 (dk_at dksJ4_hugeLength_0 8 rfl rfl)
theorem dJ4_hugeLength_11 : decode cJ4_hugeLength 11 = .ok (.dup, 1) := dk_89 (dk_at dksJ4_hugeLength_0 11 rfl rfl)
theorem dJ4_hugeLength_12 : decode cJ4_hugeLength 12 = .ok (.new 89, 3) := dk_187 0 89 (dk_at dksJ4_hugeLength_0 12 rfl rfl)
theorem dJ4_hugeLength_15 : decode cJ4_hugeLength 15 = .ok (.dup, 1) := dk_89 (dk_at dksJ4_hugeLength_0 15 rfl rfl)
theorem dJ4_hugeLength_16 : decode cJ4_hugeLength 16 = .ok (.invokespecial 91, 3) := dk_183 0 91 (dk_at dksJ4_hugeLength_0 16 rfl rfl)
theorem dJ4_hugeLength_19 : decode cJ4_hugeLength 19 = .ok (.ldc 206, 2) := dk_18 206 (dk_at dksJ4_hugeLength_0 19 rfl rfl)
theorem dJ4_hugeLength_21 : decode cJ4_hugeLength 21 = .ok (.invokevirtual 94, 3) := dk_182 0 94 (dk_at dksJ4_hugeLength_0 21 rfl rfl)
theorem dJ4_hugeLength_24 : decode cJ4_hugeLength 24 = .ok (.iload_n 0, 1) := dk_26 (dk_at dksJ4_hugeLength_1 0 rfl rfl)
theorem dJ4_hugeLength_25 : decode cJ4_hugeLength 25 = .ok (.invokevirtual 98, 3) := dk_182 0 98 (dk_at dksJ4_hugeLength_1 1 rfl rfl)
theorem dJ4_hugeLength_28 : decode cJ4_hugeLength 28 = .ok (.ldc 208, 2) := dk_18 208 (dk_at dksJ4_hugeLength_1 4 rfl rfl)
theorem dJ4_hugeLength_30 : decode cJ4_hugeLength 30 = .ok (.invokevirtual 94, 3) := dk_182 0 94 (dk_at dksJ4_hugeLength_1 6 rfl rfl)
theorem dJ4_hugeLength_33 : decode cJ4_hugeLength 33 = .ok (.iload_n 1, 1) := dk_27 (dk_at dksJ4_hugeLength_1 9 rfl rfl)
theorem dJ4_hugeLength_34 : decode cJ4_hugeLength 34 = .ok (.invokevirtual 98, 3) := dk_182 0 98 (dk_at dksJ4_hugeLength_1 10 rfl rfl)
theorem dJ4_hugeLength_37 : decode cJ4_hugeLength 37 = .ok (.ldc 210, 2) := dk_18 210 (dk_at dksJ4_hugeLength_1 13 rfl rfl)
theorem dJ4_hugeLength_39 : decode cJ4_hugeLength 39 = .ok (.invokevirtual 94, 3) := dk_182 0 94 (dk_at dksJ4_hugeLength_1 15 rfl rfl)
theorem dJ4_hugeLength_42 : decode cJ4_hugeLength 42 = .ok (.invokevirtual 101, 3) := dk_182 0 101 (dk_at dksJ4_hugeLength_1 18 rfl rfl)
theorem dJ4_hugeLength_45 : decode cJ4_hugeLength 45 = .ok (.invokespecial 212, 3) := dk_183 0 212 (dk_at dksJ4_hugeLength_1 21 rfl rfl)
theorem dJ4_hugeLength_48 : decode cJ4_hugeLength 48 = .ok (.athrow, 1) := dk_191 (dk_at dksJ4_hugeLength_2 0 rfl rfl)
theorem dJ4_hugeLength_49 : decode cJ4_hugeLength 49 = .ok (.iload_n 2, 1) := dk_28 (dk_at dksJ4_hugeLength_2 1 rfl rfl)
theorem dJ4_hugeLength_50 : decode cJ4_hugeLength 50 = .ok (.ldc 200, 2) := dk_18 200 (dk_at dksJ4_hugeLength_2 2 rfl rfl)
theorem dJ4_hugeLength_52 : decode cJ4_hugeLength 52 = .ok (.if_icmp .gt 6, 3) := dk_163 0 6 (dk_at dksJ4_hugeLength_2 4 rfl rfl)
theorem dJ4_hugeLength_55 : decode cJ4_hugeLength 55 = .ok (.ldc 200, 2) := dk_18 200 (dk_at dksJ4_hugeLength_2 7 rfl rfl)
theorem dJ4_hugeLength_57 : decode cJ4_hugeLength 57 = .ok (.ireturn, 1) := dk_172 (dk_at dksJ4_hugeLength_2 9 rfl rfl)
theorem dJ4_hugeLength_58 : decode cJ4_hugeLength 58 = .ok (.iload_n 2, 1) := dk_28 (dk_at dksJ4_hugeLength_2 10 rfl rfl)
theorem dJ4_hugeLength_59 : decode cJ4_hugeLength 59 = .ok (.ireturn, 1) := dk_172 (dk_at dksJ4_hugeLength_2 11 rfl rfl)
theorem q158 : (Jvm.Cond.initialized "jdk/internal/util/ArraysSupport") ∈ lw_all := lw_g (lw_at lw_m1 7 rfl) rfl
theorem q325 : (Jvm.Cond.static ({ cls := "jdk/internal/util/ArraysSupport", name := "newLength", desc := "(III)I" } : Jvm.MethodName)) ∈ lw_all := lw_g (lw_at lw_m1 174 rfl) rfl
theorem q326 : (Jvm.Cond.code ({ cls := "jdk/internal/util/ArraysSupport", name := "newLength", desc := "(III)I" } : Jvm.MethodName) prog_51_method_27_code (4 : Nat) (Option.some Jvm.ClassFile.FieldType.int)) ∈ lw_all := lw_g (lw_at lw_m1 175 rfl) rfl
theorem q327 : (Jvm.Cond.methodLink "jdk/internal/util/ArraysSupport" (194 : Nat) ({ cls := "java/lang/Math", name := "max", desc := "(II)I" } : Jvm.MethodName)) ∈ lw_all := lw_g (lw_at lw_m1 176 rfl) rfl
theorem q330 : (Jvm.Cond.constant "jdk/internal/util/ArraysSupport" (200 : Nat) (2147483639 : Int32)) ∈ lw_all := lw_g (lw_at lw_m1 179 rfl) rfl
theorem q331 : (Jvm.Cond.methodLink "jdk/internal/util/ArraysSupport" (201 : Nat) ({ cls := "jdk/internal/util/ArraysSupport", name := "hugeLength", desc := "(II)I" } : Jvm.MethodName)) ∈ lw_all := lw_g (lw_at lw_m1 180 rfl) rfl
theorem q332 : (Jvm.Cond.static ({ cls := "jdk/internal/util/ArraysSupport", name := "hugeLength", desc := "(II)I" } : Jvm.MethodName)) ∈ lw_all := lw_g (lw_at lw_m1 181 rfl) rfl
theorem q333 : (Jvm.Cond.code ({ cls := "jdk/internal/util/ArraysSupport", name := "hugeLength", desc := "(II)I" } : Jvm.MethodName) prog_51_method_28_code (3 : Nat) (Option.some Jvm.ClassFile.FieldType.int)) ∈ lw_all := lw_g (lw_at lw_m1 182 rfl) rfl
/-! java/lang/Math -/
set_option maxRecDepth 100000
def RJ5 : String := "java/lang/Math"
abbrev cJ5_max : ByteArray := prog_32_method_65_code
def yJ5_max : MethodName := ⟨RJ5, "max", "(II)I"⟩
def dkwJ5_max_0 : List UInt8 := [26, 27, 161, 0, 7, 26, 167, 0, 4, 27, 172]
abbrev dktJ5_max_0 : List UInt8 := dkwJ5_max_0 ++ []
theorem dksJ5_max_0 : cJ5_max.data.toList.drop 0 = dktJ5_max_0 := by decide +kernel
theorem dJ5_max_0 : decode cJ5_max 0 = .ok (.iload_n 0, 1) := dk_26 (dk_at dksJ5_max_0 0 rfl rfl)
theorem dJ5_max_1 : decode cJ5_max 1 = .ok (.iload_n 1, 1) := dk_27 (dk_at dksJ5_max_0 1 rfl rfl)
theorem dJ5_max_2 : decode cJ5_max 2 = .ok (.if_icmp .lt 7, 3) := dk_161 0 7 (dk_at dksJ5_max_0 2 rfl rfl)
theorem dJ5_max_5 : decode cJ5_max 5 = .ok (.iload_n 0, 1) := dk_26 (dk_at dksJ5_max_0 5 rfl rfl)
theorem dJ5_max_6 : decode cJ5_max 6 = .ok (.goto 4, 3) := dk_167 0 4 (dk_at dksJ5_max_0 6 rfl rfl)
theorem dJ5_max_9 : decode cJ5_max 9 = .ok (.iload_n 1, 1) := dk_27 (dk_at dksJ5_max_0 9 rfl rfl)
theorem dJ5_max_10 : decode cJ5_max 10 = .ok (.ireturn, 1) := dk_172 (dk_at dksJ5_max_0 10 rfl rfl)
abbrev cJ5_min : ByteArray := prog_32_method_69_code
def yJ5_min : MethodName := ⟨RJ5, "min", "(II)I"⟩
def dkwJ5_min_0 : List UInt8 := [26, 27, 163, 0, 7, 26, 167, 0, 4, 27, 172]
abbrev dktJ5_min_0 : List UInt8 := dkwJ5_min_0 ++ []
theorem dksJ5_min_0 : cJ5_min.data.toList.drop 0 = dktJ5_min_0 := by decide +kernel
theorem dJ5_min_0 : decode cJ5_min 0 = .ok (.iload_n 0, 1) := dk_26 (dk_at dksJ5_min_0 0 rfl rfl)
theorem dJ5_min_1 : decode cJ5_min 1 = .ok (.iload_n 1, 1) := dk_27 (dk_at dksJ5_min_0 1 rfl rfl)
theorem dJ5_min_2 : decode cJ5_min 2 = .ok (.if_icmp .gt 7, 3) := dk_163 0 7 (dk_at dksJ5_min_0 2 rfl rfl)
theorem dJ5_min_5 : decode cJ5_min 5 = .ok (.iload_n 0, 1) := dk_26 (dk_at dksJ5_min_0 5 rfl rfl)
theorem dJ5_min_6 : decode cJ5_min 6 = .ok (.goto 4, 3) := dk_167 0 4 (dk_at dksJ5_min_0 6 rfl rfl)
theorem dJ5_min_9 : decode cJ5_min 9 = .ok (.iload_n 1, 1) := dk_27 (dk_at dksJ5_min_0 9 rfl rfl)
theorem dJ5_min_10 : decode cJ5_min 10 = .ok (.ireturn, 1) := dk_172 (dk_at dksJ5_min_0 10 rfl rfl)
abbrev cJ5_max_2 : ByteArray := prog_32_method_66_code
def yJ5_max_2 : MethodName := ⟨RJ5, "max", "(JJ)J"⟩
def dkwJ5_max_2_0 : List UInt8 := [30, 32, 148, 155, 0, 7, 30, 167, 0, 4, 32, 173]
abbrev dktJ5_max_2_0 : List UInt8 := dkwJ5_max_2_0 ++ []
theorem dksJ5_max_2_0 : cJ5_max_2.data.toList.drop 0 = dktJ5_max_2_0 := by decide +kernel
theorem dJ5_max_2_0 : decode cJ5_max_2 0 = .ok (.lload_n 0, 1) := dk_30 (dk_at dksJ5_max_2_0 0 rfl rfl)
theorem dJ5_max_2_1 : decode cJ5_max_2 1 = .ok (.lload_n 2, 1) := dk_32 (dk_at dksJ5_max_2_0 1 rfl rfl)
theorem dJ5_max_2_2 : decode cJ5_max_2 2 = .ok (.lcmp, 1) := dk_148 (dk_at dksJ5_max_2_0 2 rfl rfl)
theorem dJ5_max_2_3 : decode cJ5_max_2 3 = .ok (.ifCond .lt 7, 3) := dk_155 0 7 (dk_at dksJ5_max_2_0 3 rfl rfl)
theorem dJ5_max_2_6 : decode cJ5_max_2 6 = .ok (.lload_n 0, 1) := dk_30 (dk_at dksJ5_max_2_0 6 rfl rfl)
theorem dJ5_max_2_7 : decode cJ5_max_2 7 = .ok (.goto 4, 3) := dk_167 0 4 (dk_at dksJ5_max_2_0 7 rfl rfl)
theorem dJ5_max_2_10 : decode cJ5_max_2 10 = .ok (.lload_n 2, 1) := dk_32 (dk_at dksJ5_max_2_0 10 rfl rfl)
theorem dJ5_max_2_11 : decode cJ5_max_2 11 = .ok (.lreturn, 1) := dk_173 (dk_at dksJ5_max_2_0 11 rfl rfl)
theorem q159 : (Jvm.Cond.initialized "java/lang/Math") ∈ lw_all := lw_g (lw_at lw_m1 8 rfl) rfl
theorem q328 : (Jvm.Cond.static ({ cls := "java/lang/Math", name := "max", desc := "(II)I" } : Jvm.MethodName)) ∈ lw_all := lw_g (lw_at lw_m1 177 rfl) rfl
theorem q329 : (Jvm.Cond.code ({ cls := "java/lang/Math", name := "max", desc := "(II)I" } : Jvm.MethodName) prog_32_method_65_code (2 : Nat) (Option.some Jvm.ClassFile.FieldType.int)) ∈ lw_all := lw_g (lw_at lw_m1 178 rfl) rfl
theorem q346 : (Jvm.Cond.static ({ cls := "java/lang/Math", name := "min", desc := "(II)I" } : Jvm.MethodName)) ∈ lw_all := lw_g (lw_at lw_m1 195 rfl) rfl
theorem q347 : (Jvm.Cond.code ({ cls := "java/lang/Math", name := "min", desc := "(II)I" } : Jvm.MethodName) prog_32_method_69_code (2 : Nat) (Option.some Jvm.ClassFile.FieldType.int)) ∈ lw_all := lw_g (lw_at lw_m1 196 rfl) rfl
theorem q586 : (Jvm.Cond.static ({ cls := "java/lang/Math", name := "max", desc := "(JJ)J" } : Jvm.MethodName)) ∈ lw_all := lw_g (lw_at lw_m2 195 rfl) rfl
theorem q587 : (Jvm.Cond.code ({ cls := "java/lang/Math", name := "max", desc := "(JJ)J" } : Jvm.MethodName) prog_32_method_66_code (4 : Nat) (Option.some Jvm.ClassFile.FieldType.long)) ∈ lw_all := lw_g (lw_at lw_m2 196 rfl) rfl
/-! java/util/Arrays -/
set_option maxRecDepth 100000
def RJ6 : String := "java/util/Arrays"
abbrev cJ6_copyOf : ByteArray := prog_45_method_121_code
def yJ6_copyOf : MethodName := ⟨RJ6, "copyOf", "([BI)[B"⟩
def dkwJ6_copyOf_1 : List UInt8 := [27, 184, 1, 48, 184, 0, 150, 44, 176]
abbrev dktJ6_copyOf_1 : List UInt8 := dkwJ6_copyOf_1 ++ []
def dkwJ6_copyOf_0 : List UInt8 := [27, 42, 190, 160, 0, 11, 42, 182, 1, 54, 192, 1, 55, 176, 27, 188, 8, 77, 42, 3, 44, 3, 42, 190]
abbrev dktJ6_copyOf_0 : List UInt8 := dkwJ6_copyOf_0 ++ dktJ6_copyOf_1
theorem dksJ6_copyOf_0 : cJ6_copyOf.data.toList.drop 0 = dktJ6_copyOf_0 := by decide +kernel
theorem dksJ6_copyOf_1 : cJ6_copyOf.data.toList.drop 24 = dktJ6_copyOf_1 := dk_seg dksJ6_copyOf_0 24 rfl rfl
theorem dJ6_copyOf_0 : decode cJ6_copyOf 0 = .ok (.iload_n 1, 1) := dk_27 (dk_at dksJ6_copyOf_0 0 rfl rfl)
theorem dJ6_copyOf_1 : decode cJ6_copyOf 1 = .ok (.aload_n 0, 1) := dk_42 (dk_at dksJ6_copyOf_0 1 rfl rfl)
theorem dJ6_copyOf_2 : decode cJ6_copyOf 2 = .ok (.arraylength, 1) := dk_190 (dk_at dksJ6_copyOf_0 2 rfl rfl)
theorem dJ6_copyOf_3 : decode cJ6_copyOf 3 = .ok (.if_icmp .ne 11, 3) := dk_160 0 11 (dk_at dksJ6_copyOf_0 3 rfl rfl)
theorem dJ6_copyOf_6 : decode cJ6_copyOf 6 = .ok (.aload_n 0, 1) := dk_42 (dk_at dksJ6_copyOf_0 6 rfl rfl)
theorem dJ6_copyOf_7 : decode cJ6_copyOf 7 = .ok (.invokevirtual 310, 3) := dk_182 1 54 (dk_at dksJ6_copyOf_0 7 rfl rfl)
theorem dJ6_copyOf_10 : decode cJ6_copyOf 10 = .ok (.checkcast 311, 3) := dk_192 1 55 (dk_at dksJ6_copyOf_0 10 rfl rfl)
theorem dJ6_copyOf_13 : decode cJ6_copyOf 13 = .ok (.areturn, 1) := dk_176 (dk_at dksJ6_copyOf_0 13 rfl rfl)
theorem dJ6_copyOf_14 : decode cJ6_copyOf 14 = .ok (.iload_n 1, 1) := dk_27 (dk_at dksJ6_copyOf_0 14 rfl rfl)
theorem dJ6_copyOf_15 : decode cJ6_copyOf 15 = .ok (.newarray .byte, 2) := dk_188_8 (dk_at dksJ6_copyOf_0 15 rfl rfl)
theorem dJ6_copyOf_17 : decode cJ6_copyOf 17 = .ok (.astore_n 2, 1) := dk_77 (dk_at dksJ6_copyOf_0 17 rfl rfl)
theorem dJ6_copyOf_18 : decode cJ6_copyOf 18 = .ok (.aload_n 0, 1) := dk_42 (dk_at dksJ6_copyOf_0 18 rfl rfl)
theorem dJ6_copyOf_19 : decode cJ6_copyOf 19 = .ok (.iconst 0, 1) := dk_3 (dk_at dksJ6_copyOf_0 19 rfl rfl)
theorem dJ6_copyOf_20 : decode cJ6_copyOf 20 = .ok (.aload_n 2, 1) := dk_44 (dk_at dksJ6_copyOf_0 20 rfl rfl)
theorem dJ6_copyOf_21 : decode cJ6_copyOf 21 = .ok (.iconst 0, 1) := dk_3 (dk_at dksJ6_copyOf_0 21 rfl rfl)
theorem dJ6_copyOf_22 : decode cJ6_copyOf 22 = .ok (.aload_n 0, 1) := dk_42 (dk_at dksJ6_copyOf_0 22 rfl rfl)
theorem dJ6_copyOf_23 : decode cJ6_copyOf 23 = .ok (.arraylength, 1) := dk_190 (dk_at dksJ6_copyOf_0 23 rfl rfl)
theorem dJ6_copyOf_24 : decode cJ6_copyOf 24 = .ok (.iload_n 1, 1) := dk_27 (dk_at dksJ6_copyOf_1 0 rfl rfl)
theorem dJ6_copyOf_25 : decode cJ6_copyOf 25 = .ok (.invokestatic 304, 3) := dk_184 1 48 (dk_at dksJ6_copyOf_1 1 rfl rfl)
theorem dJ6_copyOf_28 : decode cJ6_copyOf 28 = .ok (.invokestatic 150, 3) := dk_184 0 150 (dk_at dksJ6_copyOf_1 4 rfl rfl)
theorem dJ6_copyOf_31 : decode cJ6_copyOf 31 = .ok (.aload_n 2, 1) := dk_44 (dk_at dksJ6_copyOf_1 7 rfl rfl)
theorem dJ6_copyOf_32 : decode cJ6_copyOf 32 = .ok (.areturn, 1) := dk_176 (dk_at dksJ6_copyOf_1 8 rfl rfl)
abbrev cJ6_copyOfRange : ByteArray := prog_45_method_132_code
def yJ6_copyOfRange : MethodName := ⟨RJ6, "copyOfRange", "([BII)[B"⟩
def dkwJ6_copyOfRange_1 : List UInt8 := [176]
abbrev dktJ6_copyOfRange_1 : List UInt8 := dkwJ6_copyOfRange_1 ++ []
def dkwJ6_copyOfRange_0 : List UInt8 := [27, 154, 0, 9, 28, 42, 190, 159, 0, 10, 42, 27, 28, 184, 1, 83, 176, 42, 182, 1, 54, 192, 1, 55]
abbrev dktJ6_copyOfRange_0 : List UInt8 := dkwJ6_copyOfRange_0 ++ dktJ6_copyOfRange_1
theorem dksJ6_copyOfRange_0 : cJ6_copyOfRange.data.toList.drop 0 = dktJ6_copyOfRange_0 := by decide +kernel
theorem dksJ6_copyOfRange_1 : cJ6_copyOfRange.data.toList.drop 24 = dktJ6_copyOfRange_1 := dk_seg dksJ6_copyOfRange_0 24 rfl rfl
theorem dJ6_copyOfRange_0 : decode cJ6_copyOfRange 0 = .ok (.iload_n 1, 1) := dk_27 (dk_at dksJ6_copyOfRange_0 0 rfl rfl)
theorem dJ6_copyOfRange_1 : decode cJ6_copyOfRange 1 = .ok (.ifCond .ne 9, 3) := dk_154 0 9 (dk_at dksJ6_copyOfRange_0 1 rfl rfl)
theorem dJ6_copyOfRange_4 : decode cJ6_copyOfRange 4 = .ok (.iload_n 2, 1) := dk_28 (dk_at dksJ6_copyOfRange_0 4 rfl rfl)
theorem dJ6_copyOfRange_5 : decode cJ6_copyOfRange 5 = .ok (.aload_n 0, 1) := dk_42 (dk_at dksJ6_copyOfRange_0 5 rfl rfl)
theorem dJ6_copyOfRange_6 : decode cJ6_copyOfRange 6 = .ok (.arraylength, 1) := dk_190 (dk_at dksJ6_copyOfRange_0 6 rfl rfl)
theorem dJ6_copyOfRange_7 : decode cJ6_copyOfRange 7 = .ok (.if_icmp .eq 10, 3) := dk_159 0 10 (dk_at dksJ6_copyOfRange_0 7 rfl rfl)
theorem dJ6_copyOfRange_10 : decode cJ6_copyOfRange 10 = .ok (.aload_n 0, 1) := dk_42 (dk_at dksJ6_copyOfRange_0 10 rfl rfl)
theorem dJ6_copyOfRange_11 : decode cJ6_copyOfRange 11 = .ok (.iload_n 1, 1) := dk_27 (dk_at dksJ6_copyOfRange_0 11 rfl rfl)
theorem dJ6_copyOfRange_12 : decode cJ6_copyOfRange 12 = .ok (.iload_n 2, 1) := dk_28 (dk_at dksJ6_copyOfRange_0 12 rfl rfl)
theorem dJ6_copyOfRange_13 : decode cJ6_copyOfRange 13 = .ok (.invokestatic 339, 3) := dk_184 1 83 (dk_at dksJ6_copyOfRange_0 13 rfl rfl)
theorem dJ6_copyOfRange_16 : decode cJ6_copyOfRange 16 = .ok (.areturn, 1) := dk_176 (dk_at dksJ6_copyOfRange_0 16 rfl rfl)
theorem dJ6_copyOfRange_17 : decode cJ6_copyOfRange 17 = .ok (.aload_n 0, 1) := dk_42 (dk_at dksJ6_copyOfRange_0 17 rfl rfl)
theorem dJ6_copyOfRange_18 : decode cJ6_copyOfRange 18 = .ok (.invokevirtual 310, 3) := dk_182 1 54 (dk_at dksJ6_copyOfRange_0 18 rfl rfl)
theorem dJ6_copyOfRange_21 : decode cJ6_copyOfRange 21 = .ok (.checkcast 311, 3) := dk_192 1 55 (dk_at dksJ6_copyOfRange_0 21 rfl rfl)
theorem dJ6_copyOfRange_24 : decode cJ6_copyOfRange 24 = .ok (.areturn, 1) := dk_176 (dk_at dksJ6_copyOfRange_1 0 rfl rfl)
abbrev cJ6_copyOfRangeByte : ByteArray := prog_45_method_133_code
def yJ6_copyOfRangeByte : MethodName := ⟨RJ6, "copyOfRangeByte", "([BII)[B"⟩
def dkwJ6_copyOfRangeByte_1 : List UInt8 := [184, 1, 48, 184, 0, 150, 25, 4, 176]
abbrev dktJ6_copyOfRangeByte_1 : List UInt8 := dkwJ6_copyOfRangeByte_1 ++ []
def dkwJ6_copyOfRangeByte_0 : List UInt8 := [27, 28, 184, 1, 87, 28, 27, 100, 62, 29, 188, 8, 58, 4, 42, 27, 25, 4, 3, 42, 190, 27, 100, 29]
abbrev dktJ6_copyOfRangeByte_0 : List UInt8 := dkwJ6_copyOfRangeByte_0 ++ dktJ6_copyOfRangeByte_1
theorem dksJ6_copyOfRangeByte_0 : cJ6_copyOfRangeByte.data.toList.drop 0 = dktJ6_copyOfRangeByte_0 := by decide +kernel
theorem dksJ6_copyOfRangeByte_1 : cJ6_copyOfRangeByte.data.toList.drop 24 = dktJ6_copyOfRangeByte_1 := dk_seg dksJ6_copyOfRangeByte_0 24 rfl rfl
theorem dJ6_copyOfRangeByte_0 : decode cJ6_copyOfRangeByte 0 = .ok (.iload_n 1, 1) := dk_27 (dk_at dksJ6_copyOfRangeByte_0 0 rfl rfl)
theorem dJ6_copyOfRangeByte_1 : decode cJ6_copyOfRangeByte 1 = .ok (.iload_n 2, 1) := dk_28 (dk_at dksJ6_copyOfRangeByte_0 1 rfl rfl)
theorem dJ6_copyOfRangeByte_2 : decode cJ6_copyOfRangeByte 2 = .ok (.invokestatic 343, 3) := dk_184 1 87 (dk_at dksJ6_copyOfRangeByte_0 2 rfl rfl)
theorem dJ6_copyOfRangeByte_5 : decode cJ6_copyOfRangeByte 5 = .ok (.iload_n 2, 1) := dk_28 (dk_at dksJ6_copyOfRangeByte_0 5 rfl rfl)
theorem dJ6_copyOfRangeByte_6 : decode cJ6_copyOfRangeByte 6 = .ok (.iload_n 1, 1) := dk_27 (dk_at dksJ6_copyOfRangeByte_0 6 rfl rfl)
theorem dJ6_copyOfRangeByte_7 : decode cJ6_copyOfRangeByte 7 = .ok (.isub, 1) := dk_100 (dk_at dksJ6_copyOfRangeByte_0 7 rfl rfl)
theorem dJ6_copyOfRangeByte_8 : decode cJ6_copyOfRangeByte 8 = .ok (.istore_n 3, 1) := dk_62 (dk_at dksJ6_copyOfRangeByte_0 8 rfl rfl)
theorem dJ6_copyOfRangeByte_9 : decode cJ6_copyOfRangeByte 9 = .ok (.iload_n 3, 1) := dk_29 (dk_at dksJ6_copyOfRangeByte_0 9 rfl rfl)
theorem dJ6_copyOfRangeByte_10 : decode cJ6_copyOfRangeByte 10 = .ok (.newarray .byte, 2) := dk_188_8 (dk_at dksJ6_copyOfRangeByte_0 10 rfl rfl)
theorem dJ6_copyOfRangeByte_12 : decode cJ6_copyOfRangeByte 12 = .ok (.astore 4, 2) := dk_58 4 (dk_at dksJ6_copyOfRangeByte_0 12 rfl rfl)
theorem dJ6_copyOfRangeByte_14 : decode cJ6_copyOfRangeByte 14 = .ok (.aload_n 0, 1) := dk_42 (dk_at dksJ6_copyOfRangeByte_0 14 rfl rfl)
theorem dJ6_copyOfRangeByte_15 : decode cJ6_copyOfRangeByte 15 = .ok (.iload_n 1, 1) := dk_27 (dk_at dksJ6_copyOfRangeByte_0 15 rfl rfl)
theorem dJ6_copyOfRangeByte_16 : decode cJ6_copyOfRangeByte 16 = .ok (.aload 4, 2) := dk_25 4 (dk_at dksJ6_copyOfRangeByte_0 16 rfl rfl)
theorem dJ6_copyOfRangeByte_18 : decode cJ6_copyOfRangeByte 18 = .ok (.iconst 0, 1) := dk_3 (dk_at dksJ6_copyOfRangeByte_0 18 rfl rfl)
theorem dJ6_copyOfRangeByte_19 : decode cJ6_copyOfRangeByte 19 = .ok (.aload_n 0, 1) := dk_42 (dk_at dksJ6_copyOfRangeByte_0 19 rfl rfl)
theorem dJ6_copyOfRangeByte_20 : decode cJ6_copyOfRangeByte 20 = .ok (.arraylength, 1) := dk_190 (dk_at dksJ6_copyOfRangeByte_0 20 rfl rfl)
theorem dJ6_copyOfRangeByte_21 : decode cJ6_copyOfRangeByte 21 = .ok (.iload_n 1, 1) := dk_27 (dk_at dksJ6_copyOfRangeByte_0 21 rfl rfl)
theorem dJ6_copyOfRangeByte_22 : decode cJ6_copyOfRangeByte 22 = .ok (.isub, 1) := dk_100 (dk_at dksJ6_copyOfRangeByte_0 22 rfl rfl)
theorem dJ6_copyOfRangeByte_23 : decode cJ6_copyOfRangeByte 23 = .ok (.iload_n 3, 1) := dk_29 (dk_at dksJ6_copyOfRangeByte_0 23 rfl rfl)
theorem dJ6_copyOfRangeByte_24 : decode cJ6_copyOfRangeByte 24 = .ok (.invokestatic 304, 3) := dk_184 1 48 (dk_at dksJ6_copyOfRangeByte_1 0 rfl rfl)
theorem dJ6_copyOfRangeByte_27 : decode cJ6_copyOfRangeByte 27 = .ok (.invokestatic 150, 3) := dk_184 0 150 (dk_at dksJ6_copyOfRangeByte_1 3 rfl rfl)
theorem dJ6_copyOfRangeByte_30 : decode cJ6_copyOfRangeByte 30 = .ok (.aload 4, 2) := dk_25 4 (dk_at dksJ6_copyOfRangeByte_1 6 rfl rfl)
theorem dJ6_copyOfRangeByte_32 : decode cJ6_copyOfRangeByte 32 = .ok (.areturn, 1) := dk_176 (dk_at dksJ6_copyOfRangeByte_1 8 rfl rfl)
abbrev cJ6_checkLength : ByteArray := prog_45_method_131_code
def yJ6_checkLength : MethodName := ⟨RJ6, "checkLength", "(II)V"⟩
def dkwJ6_checkLength_1 : List UInt8 := [182, 0, 50, 27, 182, 0, 54, 182, 0, 61, 183, 0, 65, 191, 177]
abbrev dktJ6_checkLength_1 : List UInt8 := dkwJ6_checkLength_1 ++ []
def dkwJ6_checkLength_0 : List UInt8 := [27, 26, 162, 0, 35, 187, 0, 43, 89, 187, 0, 45, 89, 183, 0, 47, 26, 182, 0, 54, 19, 1, 81]
abbrev dktJ6_checkLength_0 : List UInt8 := dkwJ6_checkLength_0 ++ dktJ6_checkLength_1
theorem dksJ6_checkLength_0 : cJ6_checkLength.data.toList.drop 0 = dktJ6_checkLength_0 := by decide +kernel
theorem dksJ6_checkLength_1 : cJ6_checkLength.data.toList.drop 23 = dktJ6_checkLength_1 := dk_seg dksJ6_checkLength_0 23 rfl rfl
theorem dJ6_checkLength_0 : decode cJ6_checkLength 0 = .ok (.iload_n 1, 1) := dk_27 (dk_at dksJ6_checkLength_0 0 rfl rfl)
theorem dJ6_checkLength_1 : decode cJ6_checkLength 1 = .ok (.iload_n 0, 1) := dk_26 (dk_at dksJ6_checkLength_0 1 rfl rfl)
theorem dJ6_checkLength_2 : decode cJ6_checkLength 2 = .ok (.if_icmp .ge 35, 3) := dk_162 0 35 (dk_at dksJ6_checkLength_0 2 rfl rfl)
theorem dJ6_checkLength_5 : decode cJ6_checkLength 5 = .ok (.new 43, 3) := dk_187 0 43 (dk_at dksJ6_checkLength_0 5 rfl rfl)
theorem dJ6_checkLength_8 : decode cJ6_checkLength 8 = .ok (.dup, 1) := dk_89 (dk_at dksJ6_checkLength_0 8 rfl rfl)
theorem dJ6_checkLength_9 : decode cJ6_checkLength 9 = .ok (.new 45, 3) := dk_187 0 45 (dk_at dksJ6_checkLength_0 9 rfl rfl)
theorem dJ6_checkLength_12 : decode cJ6_checkLength 12 = .ok (.dup, 1) := dk_89 (dk_at dksJ6_checkLength_0 12 rfl rfl)
theorem dJ6_checkLength_13 : decode cJ6_checkLength 13 = .ok (.invokespecial 47, 3) := dk_183 0 47 (dk_at dksJ6_checkLength_0 13 rfl rfl)
theorem dJ6_checkLength_16 : decode cJ6_checkLength 16 = .ok (.iload_n 0, 1) := dk_26 (dk_at dksJ6_checkLength_0 16 rfl rfl)
theorem dJ6_checkLength_17 : decode cJ6_checkLength 17 = .ok (.invokevirtual 54, 3) := dk_182 0 54 (dk_at dksJ6_checkLength_0 17 rfl rfl)
theorem dJ6_checkLength_20 : decode cJ6_checkLength 20 = .ok (.ldc_w 337, 3) := dk_19 1 81 (dk_at dksJ6_checkLength_0 20 rfl rfl)
theorem dJ6_checkLength_23 : decode cJ6_checkLength 23 = .ok (.invokevirtual 50, 3) := dk_182 0 50 (dk_at dksJ6_checkLength_1 0 rfl rfl)
theorem dJ6_checkLength_26 : decode cJ6_checkLength 26 = .ok (.iload_n 1, 1) := dk_27 (dk_at dksJ6_checkLength_1 3 rfl rfl)
theorem dJ6_checkLength_27 : decode cJ6_checkLength 27 = .ok (.invokevirtual 54, 3) := dk_182 0 54 (dk_at dksJ6_checkLength_1 4 rfl rfl)
theorem dJ6_checkLength_30 : decode cJ6_checkLength 30 = .ok (.invokevirtual 61, 3) := dk_182 0 61 (dk_at dksJ6_checkLength_1 7 rfl rfl)
theorem dJ6_checkLength_33 : decode cJ6_checkLength 33 = .ok (.invokespecial 65, 3) := dk_183 0 65 (dk_at dksJ6_checkLength_1 10 rfl rfl)
theorem dJ6_checkLength_36 : decode cJ6_checkLength 36 = .ok (.athrow, 1) := dk_191 (dk_at dksJ6_checkLength_1 13 rfl rfl)
theorem dJ6_checkLength_37 : decode cJ6_checkLength 37 = .ok (.return_, 1) := dk_177 (dk_at dksJ6_checkLength_1 14 rfl rfl)
abbrev cJ6_copyOf_2 : ByteArray := prog_45_method_119_code
def yJ6_copyOf_2 : MethodName := ⟨RJ6, "copyOf", "([Ljava/lang/Object;I)[Ljava/lang/Object;"⟩
def dkwJ6_copyOf_2_0 : List UInt8 := [42, 27, 42, 182, 0, 86, 184, 1, 44, 176]
abbrev dktJ6_copyOf_2_0 : List UInt8 := dkwJ6_copyOf_2_0 ++ []
theorem dksJ6_copyOf_2_0 : cJ6_copyOf_2.data.toList.drop 0 = dktJ6_copyOf_2_0 := by decide +kernel
theorem dJ6_copyOf_2_0 : decode cJ6_copyOf_2 0 = .ok (.aload_n 0, 1) := dk_42 (dk_at dksJ6_copyOf_2_0 0 rfl rfl)
theorem dJ6_copyOf_2_1 : decode cJ6_copyOf_2 1 = .ok (.iload_n 1, 1) := dk_27 (dk_at dksJ6_copyOf_2_0 1 rfl rfl)
theorem dJ6_copyOf_2_2 : decode cJ6_copyOf_2 2 = .ok (.aload_n 0, 1) := dk_42 (dk_at dksJ6_copyOf_2_0 2 rfl rfl)
theorem dJ6_copyOf_2_3 : decode cJ6_copyOf_2 3 = .ok (.invokevirtual 86, 3) := dk_182 0 86 (dk_at dksJ6_copyOf_2_0 3 rfl rfl)
theorem dJ6_copyOf_2_6 : decode cJ6_copyOf_2 6 = .ok (.invokestatic 300, 3) := dk_184 1 44 (dk_at dksJ6_copyOf_2_0 6 rfl rfl)
theorem dJ6_copyOf_2_9 : decode cJ6_copyOf_2 9 = .ok (.areturn, 1) := dk_176 (dk_at dksJ6_copyOf_2_0 9 rfl rfl)
abbrev cJ6_copyOf_3 : ByteArray := prog_45_method_120_code
def yJ6_copyOf_3 : MethodName := ⟨RJ6, "copyOf", "([Ljava/lang/Object;ILjava/lang/Class;)[Ljava/lang/Object;"⟩
def dkwJ6_copyOf_3_1 : List UInt8 := [78, 42, 3, 45, 3, 42, 190, 27, 184, 1, 48, 184, 0, 150, 45, 176]
abbrev dktJ6_copyOf_3_1 : List UInt8 := dkwJ6_copyOf_3_1 ++ []
def dkwJ6_copyOf_3_0 : List UInt8 := [44, 18, 110, 166, 0, 10, 27, 189, 0, 2, 167, 0, 14, 44, 182, 0, 90, 27, 184, 0, 95, 192, 0, 110]
abbrev dktJ6_copyOf_3_0 : List UInt8 := dkwJ6_copyOf_3_0 ++ dktJ6_copyOf_3_1
theorem dksJ6_copyOf_3_0 : cJ6_copyOf_3.data.toList.drop 0 = dktJ6_copyOf_3_0 := by decide +kernel
theorem dksJ6_copyOf_3_1 : cJ6_copyOf_3.data.toList.drop 24 = dktJ6_copyOf_3_1 := dk_seg dksJ6_copyOf_3_0 24 rfl rfl
theorem dJ6_copyOf_3_0 : decode cJ6_copyOf_3 0 = .ok (.aload_n 2, 1) := dk_44 (dk_at dksJ6_copyOf_3_0 0 rfl rfl)
theorem dJ6_copyOf_3_1 : decode cJ6_copyOf_3 1 = .ok (.ldc 110, 2) := dk_18 110 (dk_at dksJ6_copyOf_3_0 1 rfl rfl)
theorem dJ6_copyOf_3_3 : decode cJ6_copyOf_3 3 = .ok (.if_acmp .ne 10, 3) := dk_166 0 10 (dk_at dksJ6_copyOf_3_0 3 rfl rfl)
theorem dJ6_copyOf_3_6 : decode cJ6_copyOf_3 6 = .ok (.iload_n 1, 1) := dk_27 (dk_at dksJ6_copyOf_3_0 6 rfl rfl)
theorem dJ6_copyOf_3_7 : decode cJ6_copyOf_3 7 = .ok (.anewarray 2, 3) := dk_189 0 2 (dk_at dksJ6_copyOf_3_0 7 rfl rfl)
theorem dJ6_copyOf_3_10 : decode cJ6_copyOf_3 10 = .ok (.goto 14, 3) := dk_167 0 14 (dk_at dksJ6_copyOf_3_0 10 rfl rfl)
theorem dJ6_copyOf_3_13 : decode cJ6_copyOf_3 13 = .ok (.aload_n 2, 1) := dk_44 (dk_at dksJ6_copyOf_3_0 13 rfl rfl)
theorem dJ6_copyOf_3_14 : decode cJ6_copyOf_3 14 = .ok (.invokevirtual 90, 3) := dk_182 0 90 (dk_at dksJ6_copyOf_3_0 14 rfl rfl)
theorem dJ6_copyOf_3_17 : decode cJ6_copyOf_3 17 = .ok (.iload_n 1, 1) := dk_27 (dk_at dksJ6_copyOf_3_0 17 rfl rfl)
theorem dJ6_copyOf_3_18 : decode cJ6_copyOf_3 18 = .ok (.invokestatic 95, 3) := dk_184 0 95 (dk_at dksJ6_copyOf_3_0 18 rfl rfl)
theorem dJ6_copyOf_3_21 : decode cJ6_copyOf_3 21 = .ok (.checkcast 110, 3) := dk_192 0 110 (dk_at dksJ6_copyOf_3_0 21 rfl rfl)
theorem dJ6_copyOf_3_24 : decode cJ6_copyOf_3 24 = .ok (.astore_n 3, 1) := dk_78 (dk_at dksJ6_copyOf_3_1 0 rfl rfl)
theorem dJ6_copyOf_3_25 : decode cJ6_copyOf_3 25 = .ok (.aload_n 0, 1) := dk_42 (dk_at dksJ6_copyOf_3_1 1 rfl rfl)
theorem dJ6_copyOf_3_26 : decode cJ6_copyOf_3 26 = .ok (.iconst 0, 1) := dk_3 (dk_at dksJ6_copyOf_3_1 2 rfl rfl)
theorem dJ6_copyOf_3_27 : decode cJ6_copyOf_3 27 = .ok (.aload_n 3, 1) := dk_45 (dk_at dksJ6_copyOf_3_1 3 rfl rfl)
theorem dJ6_copyOf_3_28 : decode cJ6_copyOf_3 28 = .ok (.iconst 0, 1) := dk_3 (dk_at dksJ6_copyOf_3_1 4 rfl rfl)
theorem dJ6_copyOf_3_29 : decode cJ6_copyOf_3 29 = .ok (.aload_n 0, 1) := dk_42 (dk_at dksJ6_copyOf_3_1 5 rfl rfl)
theorem dJ6_copyOf_3_30 : decode cJ6_copyOf_3 30 = .ok (.arraylength, 1) := dk_190 (dk_at dksJ6_copyOf_3_1 6 rfl rfl)
theorem dJ6_copyOf_3_31 : decode cJ6_copyOf_3 31 = .ok (.iload_n 1, 1) := dk_27 (dk_at dksJ6_copyOf_3_1 7 rfl rfl)
theorem dJ6_copyOf_3_32 : decode cJ6_copyOf_3 32 = .ok (.invokestatic 304, 3) := dk_184 1 48 (dk_at dksJ6_copyOf_3_1 8 rfl rfl)
theorem dJ6_copyOf_3_35 : decode cJ6_copyOf_3 35 = .ok (.invokestatic 150, 3) := dk_184 0 150 (dk_at dksJ6_copyOf_3_1 11 rfl rfl)
theorem dJ6_copyOf_3_38 : decode cJ6_copyOf_3 38 = .ok (.aload_n 3, 1) := dk_45 (dk_at dksJ6_copyOf_3_1 14 rfl rfl)
theorem dJ6_copyOf_3_39 : decode cJ6_copyOf_3 39 = .ok (.areturn, 1) := dk_176 (dk_at dksJ6_copyOf_3_1 15 rfl rfl)
theorem q160 : (Jvm.Cond.initialized "java/util/Arrays") ∈ lw_all := lw_g (lw_at lw_m1 9 rfl) rfl
theorem q336 : (Jvm.Cond.static ({ cls := "java/util/Arrays", name := "copyOf", desc := "([BI)[B" } : Jvm.MethodName)) ∈ lw_all := lw_g (lw_at lw_m1 185 rfl) rfl
theorem q337 : (Jvm.Cond.code ({ cls := "java/util/Arrays", name := "copyOf", desc := "([BI)[B" } : Jvm.MethodName) prog_45_method_121_code (3 : Nat) (Option.some (Jvm.ClassFile.FieldType.array Jvm.ClassFile.FieldType.byte))) ∈ lw_all := lw_g (lw_at lw_m1 186 rfl) rfl
theorem q338 : (Jvm.Cond.methodLink "java/util/Arrays" (310 : Nat) ({ cls := "[B", name := "clone", desc := "()Ljava/lang/Object;" } : Jvm.MethodName)) ∈ lw_all := lw_g (lw_at lw_m1 187 rfl) rfl
theorem q344 : (Jvm.Cond.classLink "java/util/Arrays" (311 : Nat) "[B") ∈ lw_all := lw_g (lw_at lw_m1 193 rfl) rfl
theorem q345 : (Jvm.Cond.methodLink "java/util/Arrays" (304 : Nat) ({ cls := "java/lang/Math", name := "min", desc := "(II)I" } : Jvm.MethodName)) ∈ lw_all := lw_g (lw_at lw_m1 194 rfl) rfl
theorem q348 : (Jvm.Cond.methodLink "java/util/Arrays" (150 : Nat) ({ cls := "java/lang/System", name := "arraycopy", desc := "(Ljava/lang/Object;ILjava/lang/Object;II)V" } : Jvm.MethodName)) ∈ lw_all := lw_g (lw_at lw_m1 197 rfl) rfl
theorem q454 : (Jvm.Cond.static ({ cls := "java/util/Arrays", name := "copyOfRange", desc := "([BII)[B" } : Jvm.MethodName)) ∈ lw_all := lw_g (lw_at lw_m2 63 rfl) rfl
theorem q455 : (Jvm.Cond.code ({ cls := "java/util/Arrays", name := "copyOfRange", desc := "([BII)[B" } : Jvm.MethodName) prog_45_method_132_code (3 : Nat) (Option.some (Jvm.ClassFile.FieldType.array Jvm.ClassFile.FieldType.byte))) ∈ lw_all := lw_g (lw_at lw_m2 64 rfl) rfl
theorem q456 : (Jvm.Cond.methodLink "java/util/Arrays" (339 : Nat) ({ cls := "java/util/Arrays", name := "copyOfRangeByte", desc := "([BII)[B" } : Jvm.MethodName)) ∈ lw_all := lw_g (lw_at lw_m2 65 rfl) rfl
theorem q457 : (Jvm.Cond.static ({ cls := "java/util/Arrays", name := "copyOfRangeByte", desc := "([BII)[B" } : Jvm.MethodName)) ∈ lw_all := lw_g (lw_at lw_m2 66 rfl) rfl
theorem q458 : (Jvm.Cond.code ({ cls := "java/util/Arrays", name := "copyOfRangeByte", desc := "([BII)[B" } : Jvm.MethodName) prog_45_method_133_code (5 : Nat) (Option.some (Jvm.ClassFile.FieldType.array Jvm.ClassFile.FieldType.byte))) ∈ lw_all := lw_g (lw_at lw_m2 67 rfl) rfl
theorem q459 : (Jvm.Cond.methodLink "java/util/Arrays" (343 : Nat) ({ cls := "java/util/Arrays", name := "checkLength", desc := "(II)V" } : Jvm.MethodName)) ∈ lw_all := lw_g (lw_at lw_m2 68 rfl) rfl
theorem q460 : (Jvm.Cond.static ({ cls := "java/util/Arrays", name := "checkLength", desc := "(II)V" } : Jvm.MethodName)) ∈ lw_all := lw_g (lw_at lw_m2 69 rfl) rfl
theorem q461 : (Jvm.Cond.code ({ cls := "java/util/Arrays", name := "checkLength", desc := "(II)V" } : Jvm.MethodName) prog_45_method_131_code (2 : Nat) (Option.none : Option Jvm.ClassFile.FieldType)) ∈ lw_all := lw_g (lw_at lw_m2 70 rfl) rfl
theorem q1139 : (Jvm.Cond.static ({ cls := "java/util/Arrays", name := "copyOf", desc := "([Ljava/lang/Object;I)[Ljava/lang/Object;" } : Jvm.MethodName)) ∈ lw_all := lw_g (lw_at lw_m5 28 rfl) rfl
theorem q1140 : (Jvm.Cond.code ({ cls := "java/util/Arrays", name := "copyOf", desc := "([Ljava/lang/Object;I)[Ljava/lang/Object;" } : Jvm.MethodName) prog_45_method_119_code (2 : Nat) (Option.some (Jvm.ClassFile.FieldType.array (Jvm.ClassFile.FieldType.object "java/lang/Object")))) ∈ lw_all := lw_g (lw_at lw_m5 29 rfl) rfl
theorem q1141 : (Jvm.Cond.methodLink "java/util/Arrays" (86 : Nat) ({ cls := "java/lang/Object", name := "getClass", desc := "()Ljava/lang/Class;" } : Jvm.MethodName)) ∈ lw_all := lw_g (lw_at lw_m5 30 rfl) rfl
theorem q1163 : (Jvm.Cond.methodLink "java/util/Arrays" (300 : Nat) ({ cls := "java/util/Arrays", name := "copyOf", desc := "([Ljava/lang/Object;ILjava/lang/Class;)[Ljava/lang/Object;" } : Jvm.MethodName)) ∈ lw_all := lw_g (lw_at lw_m5 52 rfl) rfl
theorem q1164 : (Jvm.Cond.static ({ cls := "java/util/Arrays", name := "copyOf", desc := "([Ljava/lang/Object;ILjava/lang/Class;)[Ljava/lang/Object;" } : Jvm.MethodName)) ∈ lw_all := lw_g (lw_at lw_m5 53 rfl) rfl
theorem q1165 : (Jvm.Cond.code ({ cls := "java/util/Arrays", name := "copyOf", desc := "([Ljava/lang/Object;ILjava/lang/Class;)[Ljava/lang/Object;" } : Jvm.MethodName) prog_45_method_120_code (4 : Nat) (Option.some (Jvm.ClassFile.FieldType.array (Jvm.ClassFile.FieldType.object "java/lang/Object")))) ∈ lw_all := lw_g (lw_at lw_m5 54 rfl) rfl
theorem q1166 : (Jvm.Cond.classLink "java/util/Arrays" (110 : Nat) "[Ljava/lang/Object;") ∈ lw_all := lw_g (lw_at lw_m5 55 rfl) rfl
theorem q1168 : (Jvm.Cond.classLink "java/util/Arrays" (2 : Nat) "java/lang/Object") ∈ lw_all := lw_g (lw_at lw_m5 57 rfl) rfl
/-! jdk/internal/util/Preconditions -/
set_option maxRecDepth 100000
def RJ7 : String := "jdk/internal/util/Preconditions"
abbrev cJ7_checkFromToIndex : ByteArray := prog_52_method_12_code
def yJ7_checkFromToIndex : MethodName := ⟨RJ7, "checkFromToIndex", "(IIILjava/util/function/BiFunction;)I"⟩
def dkwJ7_checkFromToIndex_0 : List UInt8 := [26, 155, 0, 13, 26, 27, 163, 0, 8, 27, 28, 164, 0, 11, 45, 26, 27, 28, 184, 0, 99, 191, 26, 172]
abbrev dktJ7_checkFromToIndex_0 : List UInt8 := dkwJ7_checkFromToIndex_0 ++ []
theorem dksJ7_checkFromToIndex_0 : cJ7_checkFromToIndex.data.toList.drop 0 = dktJ7_checkFromToIndex_0 := by decide +kernel
theorem dJ7_checkFromToIndex_0 : decode cJ7_checkFromToIndex 0 = .ok (.iload_n 0, 1) := dk_26 (dk_at dksJ7_checkFromToIndex_0 0 rfl rfl)
theorem dJ7_checkFromToIndex_1 : decode cJ7_checkFromToIndex 1 = .ok (.ifCond .lt 13, 3) := dk_155 0 13 (dk_at dksJ7_checkFromToIndex_0 1 rfl rfl)
theorem dJ7_checkFromToIndex_4 : decode cJ7_checkFromToIndex 4 = .ok (.iload_n 0, 1) := dk_26 (dk_at dksJ7_checkFromToIndex_0 4 rfl rfl)
theorem dJ7_checkFromToIndex_5 : decode cJ7_checkFromToIndex 5 = .ok (.iload_n 1, 1) := dk_27 (dk_at dksJ7_checkFromToIndex_0 5 rfl rfl)
theorem dJ7_checkFromToIndex_6 : decode cJ7_checkFromToIndex 6 = .ok (.if_icmp .gt 8, 3) := dk_163 0 8 (dk_at dksJ7_checkFromToIndex_0 6 rfl rfl)
theorem dJ7_checkFromToIndex_9 : decode cJ7_checkFromToIndex 9 = .ok (.iload_n 1, 1) := dk_27 (dk_at dksJ7_checkFromToIndex_0 9 rfl rfl)
theorem dJ7_checkFromToIndex_10 : decode cJ7_checkFromToIndex 10 = .ok (.iload_n 2, 1) := dk_28 (dk_at dksJ7_checkFromToIndex_0 10 rfl rfl)
theorem dJ7_checkFromToIndex_11 : decode cJ7_checkFromToIndex 11 = .ok (.if_icmp .le 11, 3) := dk_164 0 11 (dk_at dksJ7_checkFromToIndex_0 11 rfl rfl)
theorem dJ7_checkFromToIndex_14 : decode cJ7_checkFromToIndex 14 = .ok (.aload_n 3, 1) := dk_45 (dk_at dksJ7_checkFromToIndex_0 14 rfl rfl)
theorem dJ7_checkFromToIndex_15 : decode cJ7_checkFromToIndex 15 = .ok (.iload_n 0, 1) := dk_26 (dk_at dksJ7_checkFromToIndex_0 15 rfl rfl)
theorem dJ7_checkFromToIndex_16 : decode cJ7_checkFromToIndex 16 = .ok (.iload_n 1, 1) := dk_27 (dk_at dksJ7_checkFromToIndex_0 16 rfl rfl)
theorem dJ7_checkFromToIndex_17 : decode cJ7_checkFromToIndex 17 = .ok (.iload_n 2, 1) := dk_28 (dk_at dksJ7_checkFromToIndex_0 17 rfl rfl)
theorem dJ7_checkFromToIndex_18 : decode cJ7_checkFromToIndex 18 = .ok (.invokestatic 99, 3) := dk_184 0 99 (dk_at dksJ7_checkFromToIndex_0 18 rfl rfl)
theorem dJ7_checkFromToIndex_21 : decode cJ7_checkFromToIndex 21 = .ok (.athrow, 1) := dk_191 (dk_at dksJ7_checkFromToIndex_0 21 rfl rfl)
theorem dJ7_checkFromToIndex_22 : decode cJ7_checkFromToIndex 22 = .ok (.iload_n 0, 1) := dk_26 (dk_at dksJ7_checkFromToIndex_0 22 rfl rfl)
theorem dJ7_checkFromToIndex_23 : decode cJ7_checkFromToIndex 23 = .ok (.ireturn, 1) := dk_172 (dk_at dksJ7_checkFromToIndex_0 23 rfl rfl)
abbrev cJ7_checkFromIndexSize : ByteArray := prog_52_method_13_code
def yJ7_checkFromIndexSize : MethodName := ⟨RJ7, "checkFromIndexSize", "(IIILjava/util/function/BiFunction;)I"⟩
def dkwJ7_checkFromIndexSize_1 : List UInt8 := [172]
abbrev dktJ7_checkFromIndexSize_1 : List UInt8 := dkwJ7_checkFromIndexSize_1 ++ []
def dkwJ7_checkFromIndexSize_0 : List UInt8 := [28, 26, 128, 27, 128, 155, 0, 10, 27, 28, 26, 100, 164, 0, 11, 45, 26, 27, 28, 184, 0, 103, 191, 26]
abbrev dktJ7_checkFromIndexSize_0 : List UInt8 := dkwJ7_checkFromIndexSize_0 ++ dktJ7_checkFromIndexSize_1
theorem dksJ7_checkFromIndexSize_0 : cJ7_checkFromIndexSize.data.toList.drop 0 = dktJ7_checkFromIndexSize_0 := by decide +kernel
theorem dksJ7_checkFromIndexSize_1 : cJ7_checkFromIndexSize.data.toList.drop 24 = dktJ7_checkFromIndexSize_1 := dk_seg dksJ7_checkFromIndexSize_0 24 rfl rfl
theorem dJ7_checkFromIndexSize_0 : decode cJ7_checkFromIndexSize 0 = .ok (.iload_n 2, 1) := dk_28 (dk_at dksJ7_checkFromIndexSize_0 0 rfl rfl)
theorem dJ7_checkFromIndexSize_1 : decode cJ7_checkFromIndexSize 1 = .ok (.iload_n 0, 1) := dk_26 (dk_at dksJ7_checkFromIndexSize_0 1 rfl rfl)
theorem dJ7_checkFromIndexSize_2 : decode cJ7_checkFromIndexSize 2 = .ok (.ior, 1) := dk_128 (dk_at dksJ7_checkFromIndexSize_0 2 rfl rfl)
theorem dJ7_checkFromIndexSize_3 : decode cJ7_checkFromIndexSize 3 = .ok (.iload_n 1, 1) := dk_27 (dk_at dksJ7_checkFromIndexSize_0 3 rfl rfl)
theorem dJ7_checkFromIndexSize_4 : decode cJ7_checkFromIndexSize 4 = .ok (.ior, 1) := dk_128 (dk_at dksJ7_checkFromIndexSize_0 4 rfl rfl)
theorem dJ7_checkFromIndexSize_5 : decode cJ7_checkFromIndexSize 5 = .ok (.ifCond .lt 10, 3) := dk_155 0 10 (dk_at dksJ7_checkFromIndexSize_0 5 rfl rfl)
theorem dJ7_checkFromIndexSize_8 : decode cJ7_checkFromIndexSize 8 = .ok (.iload_n 1, 1) := dk_27 (dk_at dksJ7_checkFromIndexSize_0 8 rfl rfl)
theorem dJ7_checkFromIndexSize_9 : decode cJ7_checkFromIndexSize 9 = .ok (.iload_n 2, 1) := dk_28 (dk_at dksJ7_checkFromIndexSize_0 9 rfl rfl)
theorem dJ7_checkFromIndexSize_10 : decode cJ7_checkFromIndexSize 10 = .ok (.iload_n 0, 1) := dk_26 (dk_at dksJ7_checkFromIndexSize_0 10 rfl rfl)
theorem dJ7_checkFromIndexSize_11 : decode cJ7_checkFromIndexSize 11 = .ok (.isub, 1) := dk_100 (dk_at dksJ7_checkFromIndexSize_0 11 rfl rfl)
theorem dJ7_checkFromIndexSize_12 : decode cJ7_checkFromIndexSize 12 = .ok (.if_icmp .le 11, 3) := dk_164 0 11 (dk_at dksJ7_checkFromIndexSize_0 12 rfl rfl)
theorem dJ7_checkFromIndexSize_15 : decode cJ7_checkFromIndexSize 15 = .ok (.aload_n 3, 1) := dk_45 (dk_at dksJ7_checkFromIndexSize_0 15 rfl rfl)
theorem dJ7_checkFromIndexSize_16 : decode cJ7_checkFromIndexSize 16 = .ok (.iload_n 0, 1) := dk_26 (dk_at dksJ7_checkFromIndexSize_0 16 rfl rfl)
theorem dJ7_checkFromIndexSize_17 : decode cJ7_checkFromIndexSize 17 = .ok (.iload_n 1, 1) := dk_27 (dk_at dksJ7_checkFromIndexSize_0 17 rfl rfl)
theorem dJ7_checkFromIndexSize_18 : decode cJ7_checkFromIndexSize 18 = .ok (.iload_n 2, 1) := dk_28 (dk_at dksJ7_checkFromIndexSize_0 18 rfl rfl)
theorem dJ7_checkFromIndexSize_19 : decode cJ7_checkFromIndexSize 19 = .ok (.invokestatic 103, 3) := dk_184 0 103 (dk_at dksJ7_checkFromIndexSize_0 19 rfl rfl)
theorem dJ7_checkFromIndexSize_22 : decode cJ7_checkFromIndexSize 22 = .ok (.athrow, 1) := dk_191 (dk_at dksJ7_checkFromIndexSize_0 22 rfl rfl)
theorem dJ7_checkFromIndexSize_23 : decode cJ7_checkFromIndexSize 23 = .ok (.iload_n 0, 1) := dk_26 (dk_at dksJ7_checkFromIndexSize_0 23 rfl rfl)
theorem dJ7_checkFromIndexSize_24 : decode cJ7_checkFromIndexSize 24 = .ok (.ireturn, 1) := dk_172 (dk_at dksJ7_checkFromIndexSize_1 0 rfl rfl)
abbrev cJ7_checkIndex : ByteArray := prog_52_method_11_code
def yJ7_checkIndex : MethodName := ⟨RJ7, "checkIndex", "(IILjava/util/function/BiFunction;)I"⟩
def dkwJ7_checkIndex_0 : List UInt8 := [26, 155, 0, 8, 26, 27, 161, 0, 10, 44, 26, 27, 184, 0, 95, 191, 26, 172]
abbrev dktJ7_checkIndex_0 : List UInt8 := dkwJ7_checkIndex_0 ++ []
theorem dksJ7_checkIndex_0 : cJ7_checkIndex.data.toList.drop 0 = dktJ7_checkIndex_0 := by decide +kernel
theorem dJ7_checkIndex_0 : decode cJ7_checkIndex 0 = .ok (.iload_n 0, 1) := dk_26 (dk_at dksJ7_checkIndex_0 0 rfl rfl)
theorem dJ7_checkIndex_1 : decode cJ7_checkIndex 1 = .ok (.ifCond .lt 8, 3) := dk_155 0 8 (dk_at dksJ7_checkIndex_0 1 rfl rfl)
theorem dJ7_checkIndex_4 : decode cJ7_checkIndex 4 = .ok (.iload_n 0, 1) := dk_26 (dk_at dksJ7_checkIndex_0 4 rfl rfl)
theorem dJ7_checkIndex_5 : decode cJ7_checkIndex 5 = .ok (.iload_n 1, 1) := dk_27 (dk_at dksJ7_checkIndex_0 5 rfl rfl)
theorem dJ7_checkIndex_6 : decode cJ7_checkIndex 6 = .ok (.if_icmp .lt 10, 3) := dk_161 0 10 (dk_at dksJ7_checkIndex_0 6 rfl rfl)
theorem dJ7_checkIndex_9 : decode cJ7_checkIndex 9 = .ok (.aload_n 2, 1) := dk_44 (dk_at dksJ7_checkIndex_0 9 rfl rfl)
theorem dJ7_checkIndex_10 : decode cJ7_checkIndex 10 = .ok (.iload_n 0, 1) := dk_26 (dk_at dksJ7_checkIndex_0 10 rfl rfl)
theorem dJ7_checkIndex_11 : decode cJ7_checkIndex 11 = .ok (.iload_n 1, 1) := dk_27 (dk_at dksJ7_checkIndex_0 11 rfl rfl)
theorem dJ7_checkIndex_12 : decode cJ7_checkIndex 12 = .ok (.invokestatic 95, 3) := dk_184 0 95 (dk_at dksJ7_checkIndex_0 12 rfl rfl)
theorem dJ7_checkIndex_15 : decode cJ7_checkIndex 15 = .ok (.athrow, 1) := dk_191 (dk_at dksJ7_checkIndex_0 15 rfl rfl)
theorem dJ7_checkIndex_16 : decode cJ7_checkIndex 16 = .ok (.iload_n 0, 1) := dk_26 (dk_at dksJ7_checkIndex_0 16 rfl rfl)
theorem dJ7_checkIndex_17 : decode cJ7_checkIndex 17 = .ok (.ireturn, 1) := dk_172 (dk_at dksJ7_checkIndex_0 17 rfl rfl)
theorem q162 : (Jvm.Cond.initialized "jdk/internal/util/Preconditions") ∈ lw_all := lw_g (lw_at lw_m1 11 rfl) rfl
theorem q369 : (Jvm.Cond.laysStatic "jdk/internal/util/Preconditions" "SIOOBE_FORMATTER" "Ljava/util/function/BiFunction;") ∈ lw_tbl := lw_at lw_m1 218 rfl
theorem q371 : (Jvm.Cond.static ({ cls := "jdk/internal/util/Preconditions", name := "checkFromToIndex", desc := "(IIILjava/util/function/BiFunction;)I" } : Jvm.MethodName)) ∈ lw_all := lw_g (lw_at lw_m1 220 rfl) rfl
theorem q372 : (Jvm.Cond.code ({ cls := "jdk/internal/util/Preconditions", name := "checkFromToIndex", desc := "(IIILjava/util/function/BiFunction;)I" } : Jvm.MethodName) prog_52_method_12_code (4 : Nat) (Option.some Jvm.ClassFile.FieldType.int)) ∈ lw_all := lw_g (lw_at lw_m1 221 rfl) rfl
theorem q417 : (Jvm.Cond.static ({ cls := "jdk/internal/util/Preconditions", name := "checkFromIndexSize", desc := "(IIILjava/util/function/BiFunction;)I" } : Jvm.MethodName)) ∈ lw_all := lw_g (lw_at lw_m2 26 rfl) rfl
theorem q418 : (Jvm.Cond.code ({ cls := "jdk/internal/util/Preconditions", name := "checkFromIndexSize", desc := "(IIILjava/util/function/BiFunction;)I" } : Jvm.MethodName) prog_52_method_13_code (4 : Nat) (Option.some Jvm.ClassFile.FieldType.int)) ∈ lw_all := lw_g (lw_at lw_m2 27 rfl) rfl
theorem q1042 : (Jvm.Cond.static ({ cls := "jdk/internal/util/Preconditions", name := "checkIndex", desc := "(IILjava/util/function/BiFunction;)I" } : Jvm.MethodName)) ∈ lw_all := lw_g (lw_at lw_m4 171 rfl) rfl
theorem q1043 : (Jvm.Cond.code ({ cls := "jdk/internal/util/Preconditions", name := "checkIndex", desc := "(IILjava/util/function/BiFunction;)I" } : Jvm.MethodName) prog_52_method_11_code (3 : Nat) (Option.some Jvm.ClassFile.FieldType.int)) ∈ lw_all := lw_g (lw_at lw_m4 172 rfl) rfl
/-! java/lang/StringLatin1 -/
set_option maxRecDepth 100000
def RJ8 : String := "java/lang/StringLatin1"
abbrev cJ8_inflate : ByteArray := prog_36_method_50_code
def yJ8_inflate : MethodName := ⟨RJ8, "inflate", "([BI[BII)V"⟩
def dkwJ8_inflate_0 : List UInt8 := [42, 27, 44, 29, 21, 4, 184, 0, 240, 177]
abbrev dktJ8_inflate_0 : List UInt8 := dkwJ8_inflate_0 ++ []
theorem dksJ8_inflate_0 : cJ8_inflate.data.toList.drop 0 = dktJ8_inflate_0 := by decide +kernel
theorem dJ8_inflate_0 : decode cJ8_inflate 0 = .ok (.aload_n 0, 1) := dk_42 (dk_at dksJ8_inflate_0 0 rfl rfl)
theorem dJ8_inflate_1 : decode cJ8_inflate 1 = .ok (.iload_n 1, 1) := dk_27 (dk_at dksJ8_inflate_0 1 rfl rfl)
theorem dJ8_inflate_2 : decode cJ8_inflate 2 = .ok (.aload_n 2, 1) := dk_44 (dk_at dksJ8_inflate_0 2 rfl rfl)
theorem dJ8_inflate_3 : decode cJ8_inflate 3 = .ok (.iload_n 3, 1) := dk_29 (dk_at dksJ8_inflate_0 3 rfl rfl)
theorem dJ8_inflate_4 : decode cJ8_inflate 4 = .ok (.iload 4, 2) := dk_21 4 (dk_at dksJ8_inflate_0 4 rfl rfl)
theorem dJ8_inflate_6 : decode cJ8_inflate 6 = .ok (.invokestatic 240, 3) := dk_184 0 240 (dk_at dksJ8_inflate_0 6 rfl rfl)
theorem dJ8_inflate_9 : decode cJ8_inflate 9 = .ok (.return_, 1) := dk_177 (dk_at dksJ8_inflate_0 9 rfl rfl)
abbrev cJ8_charAt : ByteArray := prog_36_method_2_code
def yJ8_charAt : MethodName := ⟨RJ8, "charAt", "([BI)C"⟩
def dkwJ8_charAt_0 : List UInt8 := [27, 42, 190, 184, 0, 9, 42, 27, 51, 17, 0, 255, 126, 146, 172]
abbrev dktJ8_charAt_0 : List UInt8 := dkwJ8_charAt_0 ++ []
theorem dksJ8_charAt_0 : cJ8_charAt.data.toList.drop 0 = dktJ8_charAt_0 := by decide +kernel
theorem dJ8_charAt_0 : decode cJ8_charAt 0 = .ok (.iload_n 1, 1) := dk_27 (dk_at dksJ8_charAt_0 0 rfl rfl)
theorem dJ8_charAt_1 : decode cJ8_charAt 1 = .ok (.aload_n 0, 1) := dk_42 (dk_at dksJ8_charAt_0 1 rfl rfl)
theorem dJ8_charAt_2 : decode cJ8_charAt 2 = .ok (.arraylength, 1) := dk_190 (dk_at dksJ8_charAt_0 2 rfl rfl)
theorem dJ8_charAt_3 : decode cJ8_charAt 3 = .ok (.invokestatic 9, 3) := dk_184 0 9 (dk_at dksJ8_charAt_0 3 rfl rfl)
theorem dJ8_charAt_6 : decode cJ8_charAt 6 = .ok (.aload_n 0, 1) := dk_42 (dk_at dksJ8_charAt_0 6 rfl rfl)
theorem dJ8_charAt_7 : decode cJ8_charAt 7 = .ok (.iload_n 1, 1) := dk_27 (dk_at dksJ8_charAt_0 7 rfl rfl)
theorem dJ8_charAt_8 : decode cJ8_charAt 8 = .ok (.baload, 1) := dk_51 (dk_at dksJ8_charAt_0 8 rfl rfl)
theorem dJ8_charAt_9 : decode cJ8_charAt 9 = .ok (.sipush 255, 3) := dk_17 0 255 (dk_at dksJ8_charAt_0 9 rfl rfl)
theorem dJ8_charAt_12 : decode cJ8_charAt 12 = .ok (.iand, 1) := dk_126 (dk_at dksJ8_charAt_0 12 rfl rfl)
theorem dJ8_charAt_13 : decode cJ8_charAt 13 = .ok (.i2c, 1) := dk_146 (dk_at dksJ8_charAt_0 13 rfl rfl)
theorem dJ8_charAt_14 : decode cJ8_charAt 14 = .ok (.ireturn, 1) := dk_172 (dk_at dksJ8_charAt_0 14 rfl rfl)
abbrev cJ8_canEncode : ByteArray := prog_36_method_3_code
def yJ8_canEncode : MethodName := ⟨RJ8, "canEncode", "(C)Z"⟩
def dkwJ8_canEncode_0 : List UInt8 := [26, 17, 0, 255, 163, 0, 7, 4, 167, 0, 4, 3, 172]
abbrev dktJ8_canEncode_0 : List UInt8 := dkwJ8_canEncode_0 ++ []
theorem dksJ8_canEncode_0 : cJ8_canEncode.data.toList.drop 0 = dktJ8_canEncode_0 := by decide +kernel
theorem dJ8_canEncode_0 : decode cJ8_canEncode 0 = .ok (.iload_n 0, 1) := dk_26 (dk_at dksJ8_canEncode_0 0 rfl rfl)
theorem dJ8_canEncode_1 : decode cJ8_canEncode 1 = .ok (.sipush 255, 3) := dk_17 0 255 (dk_at dksJ8_canEncode_0 1 rfl rfl)
theorem dJ8_canEncode_4 : decode cJ8_canEncode 4 = .ok (.if_icmp .gt 7, 3) := dk_163 0 7 (dk_at dksJ8_canEncode_0 4 rfl rfl)
theorem dJ8_canEncode_7 : decode cJ8_canEncode 7 = .ok (.iconst 1, 1) := dk_4 (dk_at dksJ8_canEncode_0 7 rfl rfl)
theorem dJ8_canEncode_8 : decode cJ8_canEncode 8 = .ok (.goto 4, 3) := dk_167 0 4 (dk_at dksJ8_canEncode_0 8 rfl rfl)
theorem dJ8_canEncode_11 : decode cJ8_canEncode 11 = .ok (.iconst 0, 1) := dk_3 (dk_at dksJ8_canEncode_0 11 rfl rfl)
theorem dJ8_canEncode_12 : decode cJ8_canEncode 12 = .ok (.ireturn, 1) := dk_172 (dk_at dksJ8_canEncode_0 12 rfl rfl)
theorem q163 : (Jvm.Cond.initialized "java/lang/StringLatin1") ∈ lw_all := lw_g (lw_at lw_m1 12 rfl) rfl
theorem q405 : (Jvm.Cond.static ({ cls := "java/lang/StringLatin1", name := "inflate", desc := "([BI[BII)V" } : Jvm.MethodName)) ∈ lw_all := lw_g (lw_at lw_m2 14 rfl) rfl
theorem q406 : (Jvm.Cond.code ({ cls := "java/lang/StringLatin1", name := "inflate", desc := "([BI[BII)V" } : Jvm.MethodName) prog_36_method_50_code (5 : Nat) (Option.none : Option Jvm.ClassFile.FieldType)) ∈ lw_all := lw_g (lw_at lw_m2 15 rfl) rfl
theorem q407 : (Jvm.Cond.methodLink "java/lang/StringLatin1" (240 : Nat) ({ cls := "java/lang/StringUTF16", name := "inflate", desc := "([BI[BII)V" } : Jvm.MethodName)) ∈ lw_all := lw_g (lw_at lw_m2 16 rfl) rfl
theorem q1062 : (Jvm.Cond.static ({ cls := "java/lang/StringLatin1", name := "charAt", desc := "([BI)C" } : Jvm.MethodName)) ∈ lw_all := lw_g (lw_at lw_m4 191 rfl) rfl
theorem q1063 : (Jvm.Cond.code ({ cls := "java/lang/StringLatin1", name := "charAt", desc := "([BI)C" } : Jvm.MethodName) prog_36_method_2_code (2 : Nat) (Option.some Jvm.ClassFile.FieldType.char)) ∈ lw_all := lw_g (lw_at lw_m4 192 rfl) rfl
theorem q1064 : (Jvm.Cond.methodLink "java/lang/StringLatin1" (9 : Nat) ({ cls := "java/lang/String", name := "checkIndex", desc := "(II)V" } : Jvm.MethodName)) ∈ lw_all := lw_g (lw_at lw_m4 193 rfl) rfl
theorem q1096 : (Jvm.Cond.static ({ cls := "java/lang/StringLatin1", name := "canEncode", desc := "(C)Z" } : Jvm.MethodName)) ∈ lw_all := lw_g (lw_at lw_m4 225 rfl) rfl
theorem q1097 : (Jvm.Cond.code ({ cls := "java/lang/StringLatin1", name := "canEncode", desc := "(C)Z" } : Jvm.MethodName) prog_36_method_3_code (1 : Nat) (Option.some Jvm.ClassFile.FieldType.boolean)) ∈ lw_all := lw_g (lw_at lw_m4 226 rfl) rfl
/-! java/lang/Integer -/
set_option maxRecDepth 100000
def RJ9 : String := "java/lang/Integer"
abbrev cJ9_stringSize : ByteArray := prog_30_method_13_code
def yJ9_stringSize : MethodName := ⟨RJ9, "stringSize", "(I)I"⟩
def dkwJ9_stringSize_1 : List UInt8 := [164, 0, 7, 29, 27, 96, 172, 16, 10, 28, 104, 61, 132, 3, 1, 167, 255, 233, 16, 10, 27, 96, 172]
abbrev dktJ9_stringSize_1 : List UInt8 := dkwJ9_stringSize_1 ++ []
def dkwJ9_stringSize_0 : List UInt8 := [4, 60, 26, 155, 0, 8, 3, 60, 26, 116, 59, 16, 246, 61, 4, 62, 29, 16, 10, 162, 0, 23, 26, 28]
abbrev dktJ9_stringSize_0 : List UInt8 := dkwJ9_stringSize_0 ++ dktJ9_stringSize_1
theorem dksJ9_stringSize_0 : cJ9_stringSize.data.toList.drop 0 = dktJ9_stringSize_0 := by decide +kernel
theorem dksJ9_stringSize_1 : cJ9_stringSize.data.toList.drop 24 = dktJ9_stringSize_1 := dk_seg dksJ9_stringSize_0 24 rfl rfl
theorem dJ9_stringSize_0 : decode cJ9_stringSize 0 = .ok (.iconst 1, 1) := dk_4 (dk_at dksJ9_stringSize_0 0 rfl rfl)
theorem dJ9_stringSize_1 : decode cJ9_stringSize 1 = .ok (.istore_n 1, 1) := dk_60 (dk_at dksJ9_stringSize_0 1 rfl rfl)
theorem dJ9_stringSize_2 : decode cJ9_stringSize 2 = .ok (.iload_n 0, 1) := dk_26 (dk_at dksJ9_stringSize_0 2 rfl rfl)
theorem dJ9_stringSize_3 : decode cJ9_stringSize 3 = .ok (.ifCond .lt 8, 3) := dk_155 0 8 (dk_at dksJ9_stringSize_0 3 rfl rfl)
theorem dJ9_stringSize_6 : decode cJ9_stringSize 6 = .ok (.iconst 0, 1) := dk_3 (dk_at dksJ9_stringSize_0 6 rfl rfl)
theorem dJ9_stringSize_7 : decode cJ9_stringSize 7 = .ok (.istore_n 1, 1) := dk_60 (dk_at dksJ9_stringSize_0 7 rfl rfl)
theorem dJ9_stringSize_8 : decode cJ9_stringSize 8 = .ok (.iload_n 0, 1) := dk_26 (dk_at dksJ9_stringSize_0 8 rfl rfl)
theorem dJ9_stringSize_9 : decode cJ9_stringSize 9 = .ok (.ineg, 1) := dk_116 (dk_at dksJ9_stringSize_0 9 rfl rfl)
theorem dJ9_stringSize_10 : decode cJ9_stringSize 10 = .ok (.istore_n 0, 1) := dk_59 (dk_at dksJ9_stringSize_0 10 rfl rfl)
theorem dJ9_stringSize_11 : decode cJ9_stringSize 11 = .ok (.bipush (-10), 2) := dk_16 246 (dk_at dksJ9_stringSize_0 11 rfl rfl)
theorem dJ9_stringSize_13 : decode cJ9_stringSize 13 = .ok (.istore_n 2, 1) := dk_61 (dk_at dksJ9_stringSize_0 13 rfl rfl)
theorem dJ9_stringSize_14 : decode cJ9_stringSize 14 = .ok (.iconst 1, 1) := dk_4 (dk_at dksJ9_stringSize_0 14 rfl rfl)
theorem dJ9_stringSize_15 : decode cJ9_stringSize 15 = .ok (.istore_n 3, 1) := dk_62 (dk_at dksJ9_stringSize_0 15 rfl rfl)
theorem dJ9_stringSize_16 : decode cJ9_stringSize 16 = .ok (.iload_n 3, 1) := dk_29 (dk_at dksJ9_stringSize_0 16 rfl rfl)
theorem dJ9_stringSize_17 : decode cJ9_stringSize 17 = .ok (.bipush 10, 2) := dk_16 10 (dk_at dksJ9_stringSize_0 17 rfl rfl)
theorem dJ9_stringSize_19 : decode cJ9_stringSize 19 = .ok (.if_icmp .ge 23, 3) := dk_162 0 23 (dk_at dksJ9_stringSize_0 19 rfl rfl)
theorem dJ9_stringSize_22 : decode cJ9_stringSize 22 = .ok (.iload_n 0, 1) := dk_26 (dk_at dksJ9_stringSize_0 22 rfl rfl)
theorem dJ9_stringSize_23 : decode cJ9_stringSize 23 = .ok (.iload_n 2, 1) := dk_28 (dk_at dksJ9_stringSize_0 23 rfl rfl)
theorem dJ9_stringSize_24 : decode cJ9_stringSize 24 = .ok (.if_icmp .le 7, 3) := dk_164 0 7 (dk_at dksJ9_stringSize_1 0 rfl rfl)
theorem dJ9_stringSize_27 : decode cJ9_stringSize 27 = .ok (.iload_n 3, 1) := dk_29 (dk_at dksJ9_stringSize_1 3 rfl rfl)
theorem dJ9_stringSize_28 : decode cJ9_stringSize 28 = .ok (.iload_n 1, 1) := dk_27 (dk_at dksJ9_stringSize_1 4 rfl rfl)
theorem dJ9_stringSize_29 : decode cJ9_stringSize 29 = .ok (.iadd, 1) := dk_96 (dk_at dksJ9_stringSize_1 5 rfl rfl)
theorem dJ9_stringSize_30 : decode cJ9_stringSize 30 = .ok (.ireturn, 1) := dk_172 (dk_at dksJ9_stringSize_1 6 rfl rfl)
theorem dJ9_stringSize_31 : decode cJ9_stringSize 31 = .ok (.bipush 10, 2) := dk_16 10 (dk_at dksJ9_stringSize_1 7 rfl rfl)
theorem dJ9_stringSize_33 : decode cJ9_stringSize 33 = .ok (.iload_n 2, 1) := dk_28 (dk_at dksJ9_stringSize_1 9 rfl rfl)
theorem dJ9_stringSize_34 : decode cJ9_stringSize 34 = .ok (.imul, 1) := dk_104 (dk_at dksJ9_stringSize_1 10 rfl rfl)
theorem dJ9_stringSize_35 : decode cJ9_stringSize 35 = .ok (.istore_n 2, 1) := dk_61 (dk_at dksJ9_stringSize_1 11 rfl rfl)
theorem dJ9_stringSize_36 : decode cJ9_stringSize 36 = .ok (.iinc 3 1, 3) := dk_132 3 1 (dk_at dksJ9_stringSize_1 12 rfl rfl)
theorem dJ9_stringSize_39 : decode cJ9_stringSize 39 = .ok (.goto (-23), 3) := dk_167 255 233 (dk_at dksJ9_stringSize_1 15 rfl rfl)
theorem dJ9_stringSize_42 : decode cJ9_stringSize 42 = .ok (.bipush 10, 2) := dk_16 10 (dk_at dksJ9_stringSize_1 18 rfl rfl)
theorem dJ9_stringSize_44 : decode cJ9_stringSize 44 = .ok (.iload_n 1, 1) := dk_27 (dk_at dksJ9_stringSize_1 20 rfl rfl)
theorem dJ9_stringSize_45 : decode cJ9_stringSize 45 = .ok (.iadd, 1) := dk_96 (dk_at dksJ9_stringSize_1 21 rfl rfl)
theorem dJ9_stringSize_46 : decode cJ9_stringSize 46 = .ok (.ireturn, 1) := dk_172 (dk_at dksJ9_stringSize_1 22 rfl rfl)
abbrev cJ9_getChars : ByteArray := prog_30_method_12_code
def yJ9_getChars : MethodName := ⟨RJ9, "getChars", "(II[B)I"⟩
def dkwJ9_getChars_5 : List UInt8 := [16, 45, 84, 21, 5, 172]
abbrev dktJ9_getChars_5 : List UInt8 := dkwJ9_getChars_5 ++ []
def dkwJ9_getChars_4 : List UInt8 := [132, 5, 255, 21, 5, 178, 0, 87, 26, 116, 51, 84, 21, 6, 153, 0, 12, 44, 132, 5, 255, 21, 5]
abbrev dktJ9_getChars_4 : List UInt8 := dkwJ9_getChars_4 ++ dktJ9_getChars_5
def dkwJ9_getChars_3 : List UInt8 := [167, 255, 209, 44, 132, 5, 255, 21, 5, 178, 0, 83, 26, 116, 51, 84, 26, 16, 247, 162, 0, 16, 44]
abbrev dktJ9_getChars_3 : List UInt8 := dkwJ9_getChars_3 ++ dktJ9_getChars_4
def dkwJ9_getChars_2 : List UInt8 := [21, 5, 178, 0, 83, 21, 4, 51, 84, 44, 132, 5, 255, 21, 5, 178, 0, 87, 21, 4, 51, 84]
abbrev dktJ9_getChars_2 : List UInt8 := dkwJ9_getChars_2 ++ dktJ9_getChars_3
def dkwJ9_getChars_1 : List UInt8 := [16, 156, 163, 0, 47, 26, 16, 100, 108, 62, 29, 16, 100, 104, 26, 100, 54, 4, 29, 59, 44, 132, 5, 255]
abbrev dktJ9_getChars_1 : List UInt8 := dkwJ9_getChars_1 ++ dktJ9_getChars_2
def dkwJ9_getChars_0 : List UInt8 := [27, 54, 5, 26, 156, 0, 7, 4, 167, 0, 4, 3, 54, 6, 21, 6, 154, 0, 6, 26, 116, 59, 26]
abbrev dktJ9_getChars_0 : List UInt8 := dkwJ9_getChars_0 ++ dktJ9_getChars_1
theorem dksJ9_getChars_0 : cJ9_getChars.data.toList.drop 0 = dktJ9_getChars_0 := by decide +kernel
theorem dksJ9_getChars_1 : cJ9_getChars.data.toList.drop 23 = dktJ9_getChars_1 := dk_seg dksJ9_getChars_0 23 rfl rfl
theorem dksJ9_getChars_2 : cJ9_getChars.data.toList.drop 47 = dktJ9_getChars_2 := dk_seg dksJ9_getChars_1 24 rfl rfl
theorem dksJ9_getChars_3 : cJ9_getChars.data.toList.drop 69 = dktJ9_getChars_3 := dk_seg dksJ9_getChars_2 22 rfl rfl
theorem dksJ9_getChars_4 : cJ9_getChars.data.toList.drop 92 = dktJ9_getChars_4 := dk_seg dksJ9_getChars_3 23 rfl rfl
theorem dksJ9_getChars_5 : cJ9_getChars.data.toList.drop 115 = dktJ9_getChars_5 := dk_seg dksJ9_getChars_4 23 rfl rfl
theorem dJ9_getChars_0 : decode cJ9_getChars 0 = .ok (.iload_n 1, 1) := dk_27 (dk_at dksJ9_getChars_0 0 rfl rfl)
theorem dJ9_getChars_1 : decode cJ9_getChars 1 = .ok (.istore 5, 2) := dk_54 5 (dk_at dksJ9_getChars_0 1 rfl rfl)
theorem dJ9_getChars_3 : decode cJ9_getChars 3 = .ok (.iload_n 0, 1) := dk_26 (dk_at dksJ9_getChars_0 3 rfl rfl)
theorem dJ9_getChars_4 : decode cJ9_getChars 4 = .ok (.ifCond .ge 7, 3) := dk_156 0 7 (dk_at dksJ9_getChars_0 4 rfl rfl)
theorem dJ9_getChars_7 : decode cJ9_getChars 7 = .ok (.iconst 1, 1) := dk_4 (dk_at dksJ9_getChars_0 7 rfl rfl)
theorem dJ9_getChars_8 : decode cJ9_getChars 8 = .ok (.goto 4, 3) := dk_167 0 4 (dk_at dksJ9_getChars_0 8 rfl rfl)
theorem dJ9_getChars_11 : decode cJ9_getChars 11 = .ok (.iconst 0, 1) := dk_3 (dk_at dksJ9_getChars_0 11 rfl rfl)
theorem dJ9_getChars_12 : decode cJ9_getChars 12 = .ok (.istore 6, 2) := dk_54 6 (dk_at dksJ9_getChars_0 12 rfl rfl)
theorem dJ9_getChars_14 : decode cJ9_getChars 14 = .ok (.iload 6, 2) := dk_21 6 (dk_at dksJ9_getChars_0 14 rfl rfl)
theorem dJ9_getChars_16 : decode cJ9_getChars 16 = .ok (.ifCond .ne 6, 3) := dk_154 0 6 (dk_at dksJ9_getChars_0 16 rfl rfl)
theorem dJ9_getChars_19 : decode cJ9_getChars 19 = .ok (.iload_n 0, 1) := dk_26 (dk_at dksJ9_getChars_0 19 rfl rfl)
theorem dJ9_getChars_20 : decode cJ9_getChars 20 = .ok (.ineg, 1) := dk_116 (dk_at dksJ9_getChars_0 20 rfl rfl)
theorem dJ9_getChars_21 : decode cJ9_getChars 21 = .ok (.istore_n 0, 1) := dk_59 (dk_at dksJ9_getChars_0 21 rfl rfl)
theorem dJ9_getChars_22 : decode cJ9_getChars 22 = .ok (.iload_n 0, 1) := dk_26 (dk_at dksJ9_getChars_0 22 rfl rfl)
theorem dJ9_getChars_23 : decode cJ9_getChars 23 = .ok (.bipush (-100), 2) := dk_16 156 (dk_at dksJ9_getChars_1 0 rfl rfl)
theorem dJ9_getChars_25 : decode cJ9_getChars 25 = .ok (.if_icmp .gt 47, 3) := dk_163 0 47 (dk_at dksJ9_getChars_1 2 rfl rfl)
theorem dJ9_getChars_28 : decode cJ9_getChars 28 = .ok (.iload_n 0, 1) := dk_26 (dk_at dksJ9_getChars_1 5 rfl rfl)
theorem dJ9_getChars_29 : decode cJ9_getChars 29 = .ok (.bipush 100, 2) := dk_16 100 (dk_at dksJ9_getChars_1 6 rfl rfl)
theorem dJ9_getChars_31 : decode cJ9_getChars 31 = .ok (.idiv, 1) := dk_108 (dk_at dksJ9_getChars_1 8 rfl rfl)
theorem dJ9_getChars_32 : decode cJ9_getChars 32 = .ok (.istore_n 3, 1) := dk_62 (dk_at dksJ9_getChars_1 9 rfl rfl)
theorem dJ9_getChars_33 : decode cJ9_getChars 33 = .ok (.iload_n 3, 1) := dk_29 (dk_at dksJ9_getChars_1 10 rfl rfl)
theorem dJ9_getChars_34 : decode cJ9_getChars 34 = .ok (.bipush 100, 2) := dk_16 100 (dk_at dksJ9_getChars_1 11 rfl rfl)
theorem dJ9_getChars_36 : decode cJ9_getChars 36 = .ok (.imul, 1) := dk_104 (dk_at dksJ9_getChars_1 13 rfl rfl)
theorem dJ9_getChars_37 : decode cJ9_getChars 37 = .ok (.iload_n 0, 1) := dk_26 (dk_at dksJ9_getChars_1 14 rfl rfl)
theorem dJ9_getChars_38 : decode cJ9_getChars 38 = .ok (.isub, 1) := dk_100 (dk_at dksJ9_getChars_1 15 rfl rfl)
theorem dJ9_getChars_39 : decode cJ9_getChars 39 = .ok (.istore 4, 2) := dk_54 4 (dk_at dksJ9_getChars_1 16 rfl rfl)
theorem dJ9_getChars_41 : decode cJ9_getChars 41 = .ok (.iload_n 3, 1) := dk_29 (dk_at dksJ9_getChars_1 18 rfl rfl)
theorem dJ9_getChars_42 : decode cJ9_getChars 42 = .ok (.istore_n 0, 1) := dk_59 (dk_at dksJ9_getChars_1 19 rfl rfl)
theorem dJ9_getChars_43 : decode cJ9_getChars 43 = .ok (.aload_n 2, 1) := dk_44 (dk_at dksJ9_getChars_1 20 rfl rfl)
theorem dJ9_getChars_44 : decode cJ9_getChars 44 = .ok (.iinc 5 (-1), 3) := dk_132 5 255 (dk_at dksJ9_getChars_1 21 rfl rfl)
theorem dJ9_getChars_47 : decode cJ9_getChars 47 = .ok (.iload 5, 2) := dk_21 5 (dk_at dksJ9_getChars_2 0 rfl rfl)
theorem dJ9_getChars_49 : decode cJ9_getChars 49 = .ok (.getstatic 83, 3) := dk_178 0 83 (dk_at dksJ9_getChars_2 2 rfl rfl)
theorem dJ9_getChars_52 : decode cJ9_getChars 52 = .ok (.iload 4, 2) := dk_21 4 (dk_at dksJ9_getChars_2 5 rfl rfl)
theorem dJ9_getChars_54 : decode cJ9_getChars 54 = .ok (.baload, 1) := dk_51 (dk_at dksJ9_getChars_2 7 rfl rfl)
theorem dJ9_getChars_55 : decode cJ9_getChars 55 = .ok (.bastore, 1) := dk_84 (dk_at dksJ9_getChars_2 8 rfl rfl)
theorem dJ9_getChars_56 : decode cJ9_getChars 56 = .ok (.aload_n 2, 1) := dk_44 (dk_at dksJ9_getChars_2 9 rfl rfl)
theorem dJ9_getChars_57 : decode cJ9_getChars 57 = .ok (.iinc 5 (-1), 3) := dk_132 5 255 (dk_at dksJ9_getChars_2 10 rfl rfl)
theorem dJ9_getChars_60 : decode cJ9_getChars 60 = .ok (.iload 5, 2) := dk_21 5 (dk_at dksJ9_getChars_2 13 rfl rfl)
theorem dJ9_getChars_62 : decode cJ9_getChars 62 = .ok (.getstatic 87, 3) := dk_178 0 87 (dk_at dksJ9_getChars_2 15 rfl rfl)
theorem dJ9_getChars_65 : decode cJ9_getChars 65 = .ok (.iload 4, 2) := dk_21 4 (dk_at dksJ9_getChars_2 18 rfl rfl)
theorem dJ9_getChars_67 : decode cJ9_getChars 67 = .ok (.baload, 1) := dk_51 (dk_at dksJ9_getChars_2 20 rfl rfl)
theorem dJ9_getChars_68 : decode cJ9_getChars 68 = .ok (.bastore, 1) := dk_84 (dk_at dksJ9_getChars_2 21 rfl rfl)
theorem dJ9_getChars_69 : decode cJ9_getChars 69 = .ok (.goto (-47), 3) := dk_167 255 209 (dk_at dksJ9_getChars_3 0 rfl rfl)
theorem dJ9_getChars_72 : decode cJ9_getChars 72 = .ok (.aload_n 2, 1) := dk_44 (dk_at dksJ9_getChars_3 3 rfl rfl)
theorem dJ9_getChars_73 : decode cJ9_getChars 73 = .ok (.iinc 5 (-1), 3) := dk_132 5 255 (dk_at dksJ9_getChars_3 4 rfl rfl)
theorem dJ9_getChars_76 : decode cJ9_getChars 76 = .ok (.iload 5, 2) := dk_21 5 (dk_at dksJ9_getChars_3 7 rfl rfl)
theorem dJ9_getChars_78 : decode cJ9_getChars 78 = .ok (.getstatic 83, 3) := dk_178 0 83 (dk_at dksJ9_getChars_3 9 rfl rfl)
theorem dJ9_getChars_81 : decode cJ9_getChars 81 = .ok (.iload_n 0, 1) := dk_26 (dk_at dksJ9_getChars_3 12 rfl rfl)
theorem dJ9_getChars_82 : decode cJ9_getChars 82 = .ok (.ineg, 1) := dk_116 (dk_at dksJ9_getChars_3 13 rfl rfl)
theorem dJ9_getChars_83 : decode cJ9_getChars 83 = .ok (.baload, 1) := dk_51 (dk_at dksJ9_getChars_3 14 rfl rfl)
theorem dJ9_getChars_84 : decode cJ9_getChars 84 = .ok (.bastore, 1) := dk_84 (dk_at dksJ9_getChars_3 15 rfl rfl)
theorem dJ9_getChars_85 : decode cJ9_getChars 85 = .ok (.iload_n 0, 1) := dk_26 (dk_at dksJ9_getChars_3 16 rfl rfl)
theorem dJ9_getChars_86 : decode cJ9_getChars 86 = .ok (.bipush (-9), 2) := dk_16 247 (dk_at dksJ9_getChars_3 17 rfl rfl)
theorem dJ9_getChars_88 : decode cJ9_getChars 88 = .ok (.if_icmp .ge 16, 3) := dk_162 0 16 (dk_at dksJ9_getChars_3 19 rfl rfl)
theorem dJ9_getChars_91 : decode cJ9_getChars 91 = .ok (.aload_n 2, 1) := dk_44 (dk_at dksJ9_getChars_3 22 rfl rfl)
theorem dJ9_getChars_92 : decode cJ9_getChars 92 = .ok (.iinc 5 (-1), 3) := dk_132 5 255 (dk_at dksJ9_getChars_4 0 rfl rfl)
theorem dJ9_getChars_95 : decode cJ9_getChars 95 = .ok (.iload 5, 2) := dk_21 5 (dk_at dksJ9_getChars_4 3 rfl rfl)
theorem dJ9_getChars_97 : decode cJ9_getChars 97 = .ok (.getstatic 87, 3) := dk_178 0 87 (dk_at dksJ9_getChars_4 5 rfl rfl)
theorem dJ9_getChars_100 : decode cJ9_getChars 100 = .ok (.iload_n 0, 1) := dk_26 (dk_at dksJ9_getChars_4 8 rfl rfl)
theorem dJ9_getChars_101 : decode cJ9_getChars 101 = .ok (.ineg, 1) := dk_116 (dk_at dksJ9_getChars_4 9 rfl rfl)
theorem dJ9_getChars_102 : decode cJ9_getChars 102 = .ok (.baload, 1) := dk_51 (dk_at dksJ9_getChars_4 10 rfl rfl)
theorem dJ9_getChars_103 : decode cJ9_getChars 103 = .ok (.bastore, 1) := dk_84 (dk_at dksJ9_getChars_4 11 rfl rfl)
theorem dJ9_getChars_104 : decode cJ9_getChars 104 = .ok (.iload 6, 2) := dk_21 6 (dk_at dksJ9_getChars_4 12 rfl rfl)
theorem dJ9_getChars_106 : decode cJ9_getChars 106 = .ok (.ifCond .eq 12, 3) := dk_153 0 12 (dk_at dksJ9_getChars_4 14 rfl rfl)
theorem dJ9_getChars_109 : decode cJ9_getChars 109 = .ok (.aload_n 2, 1) := dk_44 (dk_at dksJ9_getChars_4 17 rfl rfl)
theorem dJ9_getChars_110 : decode cJ9_getChars 110 = .ok (.iinc 5 (-1), 3) := dk_132 5 255 (dk_at dksJ9_getChars_4 18 rfl rfl)
theorem dJ9_getChars_113 : decode cJ9_getChars 113 = .ok (.iload 5, 2) := dk_21 5 (dk_at dksJ9_getChars_4 21 rfl rfl)
theorem dJ9_getChars_115 : decode cJ9_getChars 115 = .ok (.bipush 45, 2) := dk_16 45 (dk_at dksJ9_getChars_5 0 rfl rfl)
theorem dJ9_getChars_117 : decode cJ9_getChars 117 = .ok (.bastore, 1) := dk_84 (dk_at dksJ9_getChars_5 2 rfl rfl)
theorem dJ9_getChars_118 : decode cJ9_getChars 118 = .ok (.iload 5, 2) := dk_21 5 (dk_at dksJ9_getChars_5 3 rfl rfl)
theorem dJ9_getChars_120 : decode cJ9_getChars 120 = .ok (.ireturn, 1) := dk_172 (dk_at dksJ9_getChars_5 5 rfl rfl)
abbrev cJ9_bitCount : ByteArray := prog_30_method_49_code
def yJ9_bitCount : MethodName := ⟨RJ9, "bitCount", "(I)I"⟩
def dkwJ9_bitCount_2 : List UInt8 := [26, 16, 63, 126, 172]
abbrev dktJ9_bitCount_2 : List UInt8 := dkwJ9_bitCount_2 ++ []
def dkwJ9_bitCount_1 : List UInt8 := [26, 26, 7, 124, 96, 19, 1, 11, 126, 59, 26, 26, 16, 8, 124, 96, 59, 26, 26, 16, 16, 124, 96, 59]
abbrev dktJ9_bitCount_1 : List UInt8 := dkwJ9_bitCount_1 ++ dktJ9_bitCount_2
def dkwJ9_bitCount_0 : List UInt8 := [26, 26, 4, 124, 19, 1, 9, 126, 100, 59, 26, 19, 1, 10, 126, 26, 5, 124, 19, 1, 10, 126, 96, 59]
abbrev dktJ9_bitCount_0 : List UInt8 := dkwJ9_bitCount_0 ++ dktJ9_bitCount_1
theorem dksJ9_bitCount_0 : cJ9_bitCount.data.toList.drop 0 = dktJ9_bitCount_0 := by decide +kernel
theorem dksJ9_bitCount_1 : cJ9_bitCount.data.toList.drop 24 = dktJ9_bitCount_1 := dk_seg dksJ9_bitCount_0 24 rfl rfl
theorem dksJ9_bitCount_2 : cJ9_bitCount.data.toList.drop 48 = dktJ9_bitCount_2 := dk_seg dksJ9_bitCount_1 24 rfl rfl
theorem dJ9_bitCount_0 : decode cJ9_bitCount 0 = .ok (.iload_n 0, 1) := dk_26 (dk_at dksJ9_bitCount_0 0 rfl rfl)
theorem dJ9_bitCount_1 : decode cJ9_bitCount 1 = .ok (.iload_n 0, 1) := dk_26 (dk_at dksJ9_bitCount_0 1 rfl rfl)
theorem dJ9_bitCount_2 : decode cJ9_bitCount 2 = .ok (.iconst 1, 1) := dk_4 (dk_at dksJ9_bitCount_0 2 rfl rfl)
theorem dJ9_bitCount_3 : decode cJ9_bitCount 3 = .ok (.iushr, 1) := dk_124 (dk_at dksJ9_bitCount_0 3 rfl rfl)
theorem dJ9_bitCount_4 : decode cJ9_bitCount 4 = .ok (.ldc_w 265, 3) := dk_19 1 9 (dk_at dksJ9_bitCount_0 4 rfl rfl)
theorem dJ9_bitCount_7 : decode cJ9_bitCount 7 = .ok (.iand, 1) := dk_126 (dk_at dksJ9_bitCount_0 7 rfl rfl)
theorem dJ9_bitCount_8 : decode cJ9_bitCount 8 = .ok (.isub, 1) := dk_100 (dk_at dksJ9_bitCount_0 8 rfl rfl)
theorem dJ9_bitCount_9 : decode cJ9_bitCount 9 = .ok (.istore_n 0, 1) := dk_59 (dk_at dksJ9_bitCount_0 9 rfl rfl)
theorem dJ9_bitCount_10 : decode cJ9_bitCount 10 = .ok (.iload_n 0, 1) := dk_26 (dk_at dksJ9_bitCount_0 10 rfl rfl)
theorem dJ9_bitCount_11 : decode cJ9_bitCount 11 = .ok (.ldc_w 266, 3) := dk_19 1 10 (dk_at dksJ9_bitCount_0 11 rfl rfl)
theorem dJ9_bitCount_14 : decode cJ9_bitCount 14 = .ok (.iand, 1) := dk_126 (dk_at dksJ9_bitCount_0 14 rfl rfl)
theorem dJ9_bitCount_15 : decode cJ9_bitCount 15 = .ok (.iload_n 0, 1) := dk_26 (dk_at dksJ9_bitCount_0 15 rfl rfl)
theorem dJ9_bitCount_16 : decode cJ9_bitCount 16 = .ok (.iconst 2, 1) := dk_5 (dk_at dksJ9_bitCount_0 16 rfl rfl)
theorem dJ9_bitCount_17 : decode cJ9_bitCount 17 = .ok (.iushr, 1) := dk_124 (dk_at dksJ9_bitCount_0 17 rfl rfl)
theorem dJ9_bitCount_18 : decode cJ9_bitCount 18 = .ok (.ldc_w 266, 3) := dk_19 1 10 (dk_at dksJ9_bitCount_0 18 rfl rfl)
theorem dJ9_bitCount_21 : decode cJ9_bitCount 21 = .ok (.iand, 1) := dk_126 (dk_at dksJ9_bitCount_0 21 rfl rfl)
theorem dJ9_bitCount_22 : decode cJ9_bitCount 22 = .ok (.iadd, 1) := dk_96 (dk_at dksJ9_bitCount_0 22 rfl rfl)
theorem dJ9_bitCount_23 : decode cJ9_bitCount 23 = .ok (.istore_n 0, 1) := dk_59 (dk_at dksJ9_bitCount_0 23 rfl rfl)
theorem dJ9_bitCount_24 : decode cJ9_bitCount 24 = .ok (.iload_n 0, 1) := dk_26 (dk_at dksJ9_bitCount_1 0 rfl rfl)
theorem dJ9_bitCount_25 : decode cJ9_bitCount 25 = .ok (.iload_n 0, 1) := dk_26 (dk_at dksJ9_bitCount_1 1 rfl rfl)
theorem dJ9_bitCount_26 : decode cJ9_bitCount 26 = .ok (.iconst 4, 1) := dk_7 (dk_at dksJ9_bitCount_1 2 rfl rfl)
theorem dJ9_bitCount_27 : decode cJ9_bitCount 27 = .ok (.iushr, 1) := dk_124 (dk_at dksJ9_bitCount_1 3 rfl rfl)
theorem dJ9_bitCount_28 : decode cJ9_bitCount 28 = .ok (.iadd, 1) := dk_96 (dk_at dksJ9_bitCount_1 4 rfl rfl)
theorem dJ9_bitCount_29 : decode cJ9_bitCount 29 = .ok (.ldc_w 267, 3) := dk_19 1 11 (dk_at dksJ9_bitCount_1 5 rfl rfl)
theorem dJ9_bitCount_32 : decode cJ9_bitCount 32 = .ok (.iand, 1) := dk_126 (dk_at dksJ9_bitCount_1 8 rfl rfl)
theorem dJ9_bitCount_33 : decode cJ9_bitCount 33 = .ok (.istore_n 0, 1) := dk_59 (dk_at dksJ9_bitCount_1 9 rfl rfl)
theorem dJ9_bitCount_34 : decode cJ9_bitCount 34 = .ok (.iload_n 0, 1) := dk_26 (dk_at dksJ9_bitCount_1 10 rfl rfl)
theorem dJ9_bitCount_35 : decode cJ9_bitCount 35 = .ok (.iload_n 0, 1) := dk_26 (dk_at dksJ9_bitCount_1 11 rfl rfl)
theorem dJ9_bitCount_36 : decode cJ9_bitCount 36 = .ok (.bipush 8, 2) := dk_16 8 (dk_at dksJ9_bitCount_1 12 rfl rfl)
theorem dJ9_bitCount_38 : decode cJ9_bitCount 38 = .ok (.iushr, 1) := dk_124 (dk_at dksJ9_bitCount_1 14 rfl rfl)
theorem dJ9_bitCount_39 : decode cJ9_bitCount 39 = .ok (.iadd, 1) := dk_96 (dk_at dksJ9_bitCount_1 15 rfl rfl)
theorem dJ9_bitCount_40 : decode cJ9_bitCount 40 = .ok (.istore_n 0, 1) := dk_59 (dk_at dksJ9_bitCount_1 16 rfl rfl)
theorem dJ9_bitCount_41 : decode cJ9_bitCount 41 = .ok (.iload_n 0, 1) := dk_26 (dk_at dksJ9_bitCount_1 17 rfl rfl)
theorem dJ9_bitCount_42 : decode cJ9_bitCount 42 = .ok (.iload_n 0, 1) := dk_26 (dk_at dksJ9_bitCount_1 18 rfl rfl)
theorem dJ9_bitCount_43 : decode cJ9_bitCount 43 = .ok (.bipush 16, 2) := dk_16 16 (dk_at dksJ9_bitCount_1 19 rfl rfl)
theorem dJ9_bitCount_45 : decode cJ9_bitCount 45 = .ok (.iushr, 1) := dk_124 (dk_at dksJ9_bitCount_1 21 rfl rfl)
theorem dJ9_bitCount_46 : decode cJ9_bitCount 46 = .ok (.iadd, 1) := dk_96 (dk_at dksJ9_bitCount_1 22 rfl rfl)
theorem dJ9_bitCount_47 : decode cJ9_bitCount 47 = .ok (.istore_n 0, 1) := dk_59 (dk_at dksJ9_bitCount_1 23 rfl rfl)
theorem dJ9_bitCount_48 : decode cJ9_bitCount 48 = .ok (.iload_n 0, 1) := dk_26 (dk_at dksJ9_bitCount_2 0 rfl rfl)
theorem dJ9_bitCount_49 : decode cJ9_bitCount 49 = .ok (.bipush 63, 2) := dk_16 63 (dk_at dksJ9_bitCount_2 1 rfl rfl)
theorem dJ9_bitCount_51 : decode cJ9_bitCount 51 = .ok (.iand, 1) := dk_126 (dk_at dksJ9_bitCount_2 3 rfl rfl)
theorem dJ9_bitCount_52 : decode cJ9_bitCount 52 = .ok (.ireturn, 1) := dk_172 (dk_at dksJ9_bitCount_2 4 rfl rfl)
abbrev cJ9_numberOfTrailingZeros : ByteArray := prog_30_method_48_code
def yJ9_numberOfTrailingZeros : MethodName := ⟨RJ9, "numberOfTrailingZeros", "(I)I"⟩
def dkwJ9_numberOfTrailingZeros_3 : List UInt8 := [5, 124, 59, 27, 26, 4, 124, 96, 172]
abbrev dktJ9_numberOfTrailingZeros_3 : List UInt8 := dkwJ9_numberOfTrailingZeros_3 ++ []
def dkwJ9_numberOfTrailingZeros_2 : List UInt8 := [124, 59, 26, 16, 16, 164, 0, 10, 132, 1, 4, 26, 7, 124, 59, 26, 7, 164, 0, 10, 132, 1, 2, 26]
abbrev dktJ9_numberOfTrailingZeros_2 : List UInt8 := dkwJ9_numberOfTrailingZeros_2 ++ dktJ9_numberOfTrailingZeros_3
def dkwJ9_numberOfTrailingZeros_1 : List UInt8 := [164, 0, 11, 132, 1, 16, 26, 16, 16, 124, 59, 26, 17, 1, 0, 164, 0, 11, 132, 1, 8, 26, 16, 8]
abbrev dktJ9_numberOfTrailingZeros_1 : List UInt8 := dkwJ9_numberOfTrailingZeros_1 ++ dktJ9_numberOfTrailingZeros_2
def dkwJ9_numberOfTrailingZeros_0 : List UInt8 := [26, 2, 130, 26, 4, 100, 126, 59, 26, 157, 0, 8, 26, 16, 32, 126, 172, 4, 60, 26, 19, 1, 8]
abbrev dktJ9_numberOfTrailingZeros_0 : List UInt8 := dkwJ9_numberOfTrailingZeros_0 ++ dktJ9_numberOfTrailingZeros_1
theorem dksJ9_numberOfTrailingZeros_0 : cJ9_numberOfTrailingZeros.data.toList.drop 0 = dktJ9_numberOfTrailingZeros_0 := by decide +kernel
theorem dksJ9_numberOfTrailingZeros_1 : cJ9_numberOfTrailingZeros.data.toList.drop 23 = dktJ9_numberOfTrailingZeros_1 := dk_seg dksJ9_numberOfTrailingZeros_0 23 rfl rfl
theorem dksJ9_numberOfTrailingZeros_2 : cJ9_numberOfTrailingZeros.data.toList.drop 47 = dktJ9_numberOfTrailingZeros_2 := dk_seg dksJ9_numberOfTrailingZeros_1 24 rfl rfl
theorem dksJ9_numberOfTrailingZeros_3 : cJ9_numberOfTrailingZeros.data.toList.drop 71 = dktJ9_numberOfTrailingZeros_3 := dk_seg dksJ9_numberOfTrailingZeros_2 24 rfl rfl
theorem dJ9_numberOfTrailingZeros_0 : decode cJ9_numberOfTrailingZeros 0 = .ok (.iload_n 0, 1) := dk_26 (dk_at dksJ9_numberOfTrailingZeros_0 0 rfl rfl)
theorem dJ9_numberOfTrailingZeros_1 : decode cJ9_numberOfTrailingZeros 1 = .ok (.iconst (-1), 1) := dk_2 (dk_at dksJ9_numberOfTrailingZeros_0 1 rfl rfl)
theorem dJ9_numberOfTrailingZeros_2 : decode cJ9_numberOfTrailingZeros 2 = .ok (.ixor, 1) := dk_130 (dk_at dksJ9_numberOfTrailingZeros_0 2 rfl rfl)
theorem dJ9_numberOfTrailingZeros_3 : decode cJ9_numberOfTrailingZeros 3 = .ok (.iload_n 0, 1) := dk_26 (dk_at dksJ9_numberOfTrailingZeros_0 3 rfl rfl)
theorem dJ9_numberOfTrailingZeros_4 : decode cJ9_numberOfTrailingZeros 4 = .ok (.iconst 1, 1) := dk_4 (dk_at dksJ9_numberOfTrailingZeros_0 4 rfl rfl)
theorem dJ9_numberOfTrailingZeros_5 : decode cJ9_numberOfTrailingZeros 5 = .ok (.isub, 1) := dk_100 (dk_at dksJ9_numberOfTrailingZeros_0 5 rfl rfl)
theorem dJ9_numberOfTrailingZeros_6 : decode cJ9_numberOfTrailingZeros 6 = .ok (.iand, 1) := dk_126 (dk_at dksJ9_numberOfTrailingZeros_0 6 rfl rfl)
theorem dJ9_numberOfTrailingZeros_7 : decode cJ9_numberOfTrailingZeros 7 = .ok (.istore_n 0, 1) := dk_59 (dk_at dksJ9_numberOfTrailingZeros_0 7 rfl rfl)
theorem dJ9_numberOfTrailingZeros_8 : decode cJ9_numberOfTrailingZeros 8 = .ok (.iload_n 0, 1) := dk_26 (dk_at dksJ9_numberOfTrailingZeros_0 8 rfl rfl)
theorem dJ9_numberOfTrailingZeros_9 : decode cJ9_numberOfTrailingZeros 9 = .ok (.ifCond .gt 8, 3) := dk_157 0 8 (dk_at dksJ9_numberOfTrailingZeros_0 9 rfl rfl)
theorem dJ9_numberOfTrailingZeros_12 : decode cJ9_numberOfTrailingZeros 12 = .ok (.iload_n 0, 1) := dk_26 (dk_at dksJ9_numberOfTrailingZeros_0 12 rfl rfl)
theorem dJ9_numberOfTrailingZeros_13 : decode cJ9_numberOfTrailingZeros 13 = .ok (.bipush 32, 2) := dk_16 32 (dk_at dksJ9_numberOfTrailingZeros_0 13 rfl rfl)
theorem dJ9_numberOfTrailingZeros_15 : decode cJ9_numberOfTrailingZeros 15 = .ok (.iand, 1) := dk_126 (dk_at dksJ9_numberOfTrailingZeros_0 15 rfl rfl)
theorem dJ9_numberOfTrailingZeros_16 : decode cJ9_numberOfTrailingZeros 16 = .ok (.ireturn, 1) := dk_172 (dk_at dksJ9_numberOfTrailingZeros_0 16 rfl rfl)
theorem dJ9_numberOfTrailingZeros_17 : decode cJ9_numberOfTrailingZeros 17 = .ok (.iconst 1, 1) := dk_4 (dk_at dksJ9_numberOfTrailingZeros_0 17 rfl rfl)
theorem dJ9_numberOfTrailingZeros_18 : decode cJ9_numberOfTrailingZeros 18 = .ok (.istore_n 1, 1) := dk_60 (dk_at dksJ9_numberOfTrailingZeros_0 18 rfl rfl)
theorem dJ9_numberOfTrailingZeros_19 : decode cJ9_numberOfTrailingZeros 19 = .ok (.iload_n 0, 1) := dk_26 (dk_at dksJ9_numberOfTrailingZeros_0 19 rfl rfl)
theorem dJ9_numberOfTrailingZeros_20 : decode cJ9_numberOfTrailingZeros 20 = .ok (.ldc_w 264, 3) := dk_19 1 8 (dk_at dksJ9_numberOfTrailingZeros_0 20 rfl rfl)
theorem dJ9_numberOfTrailingZeros_23 : decode cJ9_numberOfTrailingZeros 23 = .ok (.if_icmp .le 11, 3) := dk_164 0 11 (dk_at dksJ9_numberOfTrailingZeros_1 0 rfl rfl)
theorem dJ9_numberOfTrailingZeros_26 : decode cJ9_numberOfTrailingZeros 26 = .ok (.iinc 1 16, 3) := dk_132 1 16 (dk_at dksJ9_numberOfTrailingZeros_1 3 rfl rfl)
theorem dJ9_numberOfTrailingZeros_29 : decode cJ9_numberOfTrailingZeros 29 = .ok (.iload_n 0, 1) := dk_26 (dk_at dksJ9_numberOfTrailingZeros_1 6 rfl rfl)
theorem dJ9_numberOfTrailingZeros_30 : decode cJ9_numberOfTrailingZeros 30 = .ok (.bipush 16, 2) := dk_16 16 (dk_at dksJ9_numberOfTrailingZeros_1 7 rfl rfl)
theorem dJ9_numberOfTrailingZeros_32 : decode cJ9_numberOfTrailingZeros 32 = .ok (.iushr, 1) := dk_124 (dk_at dksJ9_numberOfTrailingZeros_1 9 rfl rfl)
theorem dJ9_numberOfTrailingZeros_33 : decode cJ9_numberOfTrailingZeros 33 = .ok (.istore_n 0, 1) := dk_59 (dk_at dksJ9_numberOfTrailingZeros_1 10 rfl rfl)
theorem dJ9_numberOfTrailingZeros_34 : decode cJ9_numberOfTrailingZeros 34 = .ok (.iload_n 0, 1) := dk_26 (dk_at dksJ9_numberOfTrailingZeros_1 11 rfl rfl)
theorem dJ9_numberOfTrailingZeros_35 : decode cJ9_numberOfTrailingZeros 35 = .ok (.sipush 256, 3) := dk_17 1 0 (dk_at dksJ9_numberOfTrailingZeros_1 12 rfl rfl)
theorem dJ9_numberOfTrailingZeros_38 : decode cJ9_numberOfTrailingZeros 38 = .ok (.if_icmp .le 11, 3) := dk_164 0 11 (dk_at dksJ9_numberOfTrailingZeros_1 15 rfl rfl)
theorem dJ9_numberOfTrailingZeros_41 : decode cJ9_numberOfTrailingZeros 41 = .ok (.iinc 1 8, 3) := dk_132 1 8 (dk_at dksJ9_numberOfTrailingZeros_1 18 rfl rfl)
theorem dJ9_numberOfTrailingZeros_44 : decode cJ9_numberOfTrailingZeros 44 = .ok (.iload_n 0, 1) := dk_26 (dk_at dksJ9_numberOfTrailingZeros_1 21 rfl rfl)
theorem dJ9_numberOfTrailingZeros_45 : decode cJ9_numberOfTrailingZeros 45 = .ok (.bipush 8, 2) := dk_16 8 (dk_at dksJ9_numberOfTrailingZeros_1 22 rfl rfl)
theorem dJ9_numberOfTrailingZeros_47 : decode cJ9_numberOfTrailingZeros 47 = .ok (.iushr, 1) := dk_124 (dk_at dksJ9_numberOfTrailingZeros_2 0 rfl rfl)
theorem dJ9_numberOfTrailingZeros_48 : decode cJ9_numberOfTrailingZeros 48 = .ok (.istore_n 0, 1) := dk_59 (dk_at dksJ9_numberOfTrailingZeros_2 1 rfl rfl)
theorem dJ9_numberOfTrailingZeros_49 : decode cJ9_numberOfTrailingZeros 49 = .ok (.iload_n 0, 1) := dk_26 (dk_at dksJ9_numberOfTrailingZeros_2 2 rfl rfl)
theorem dJ9_numberOfTrailingZeros_50 : decode cJ9_numberOfTrailingZeros 50 = .ok (.bipush 16, 2) := dk_16 16 (dk_at dksJ9_numberOfTrailingZeros_2 3 rfl rfl)
theorem dJ9_numberOfTrailingZeros_52 : decode cJ9_numberOfTrailingZeros 52 = .ok (.if_icmp .le 10, 3) := dk_164 0 10 (dk_at dksJ9_numberOfTrailingZeros_2 5 rfl rfl)
theorem dJ9_numberOfTrailingZeros_55 : decode cJ9_numberOfTrailingZeros 55 = .ok (.iinc 1 4, 3) := dk_132 1 4 (dk_at dksJ9_numberOfTrailingZeros_2 8 rfl rfl)
theorem dJ9_numberOfTrailingZeros_58 : decode cJ9_numberOfTrailingZeros 58 = .ok (.iload_n 0, 1) := dk_26 (dk_at dksJ9_numberOfTrailingZeros_2 11 rfl rfl)
theorem dJ9_numberOfTrailingZeros_59 : decode cJ9_numberOfTrailingZeros 59 = .ok (.iconst 4, 1) := dk_7 (dk_at dksJ9_numberOfTrailingZeros_2 12 rfl rfl)
theorem dJ9_numberOfTrailingZeros_60 : decode cJ9_numberOfTrailingZeros 60 = .ok (.iushr, 1) := dk_124 (dk_at dksJ9_numberOfTrailingZeros_2 13 rfl rfl)
theorem dJ9_numberOfTrailingZeros_61 : decode cJ9_numberOfTrailingZeros 61 = .ok (.istore_n 0, 1) := dk_59 (dk_at dksJ9_numberOfTrailingZeros_2 14 rfl rfl)
theorem dJ9_numberOfTrailingZeros_62 : decode cJ9_numberOfTrailingZeros 62 = .ok (.iload_n 0, 1) := dk_26 (dk_at dksJ9_numberOfTrailingZeros_2 15 rfl rfl)
theorem dJ9_numberOfTrailingZeros_63 : decode cJ9_numberOfTrailingZeros 63 = .ok (.iconst 4, 1) := dk_7 (dk_at dksJ9_numberOfTrailingZeros_2 16 rfl rfl)
theorem dJ9_numberOfTrailingZeros_64 : decode cJ9_numberOfTrailingZeros 64 = .ok (.if_icmp .le 10, 3) := dk_164 0 10 (dk_at dksJ9_numberOfTrailingZeros_2 17 rfl rfl)
theorem dJ9_numberOfTrailingZeros_67 : decode cJ9_numberOfTrailingZeros 67 = .ok (.iinc 1 2, 3) := dk_132 1 2 (dk_at dksJ9_numberOfTrailingZeros_2 20 rfl rfl)
theorem dJ9_numberOfTrailingZeros_70 : decode cJ9_numberOfTrailingZeros 70 = .ok (.iload_n 0, 1) := dk_26 (dk_at dksJ9_numberOfTrailingZeros_2 23 rfl rfl)
theorem dJ9_numberOfTrailingZeros_71 : decode cJ9_numberOfTrailingZeros 71 = .ok (.iconst 2, 1) := dk_5 (dk_at dksJ9_numberOfTrailingZeros_3 0 rfl rfl)
theorem dJ9_numberOfTrailingZeros_72 : decode cJ9_numberOfTrailingZeros 72 = .ok (.iushr, 1) := dk_124 (dk_at dksJ9_numberOfTrailingZeros_3 1 rfl rfl)
theorem dJ9_numberOfTrailingZeros_73 : decode cJ9_numberOfTrailingZeros 73 = .ok (.istore_n 0, 1) := dk_59 (dk_at dksJ9_numberOfTrailingZeros_3 2 rfl rfl)
theorem dJ9_numberOfTrailingZeros_74 : decode cJ9_numberOfTrailingZeros 74 = .ok (.iload_n 1, 1) := dk_27 (dk_at dksJ9_numberOfTrailingZeros_3 3 rfl rfl)
theorem dJ9_numberOfTrailingZeros_75 : decode cJ9_numberOfTrailingZeros 75 = .ok (.iload_n 0, 1) := dk_26 (dk_at dksJ9_numberOfTrailingZeros_3 4 rfl rfl)
theorem dJ9_numberOfTrailingZeros_76 : decode cJ9_numberOfTrailingZeros 76 = .ok (.iconst 1, 1) := dk_4 (dk_at dksJ9_numberOfTrailingZeros_3 5 rfl rfl)
theorem dJ9_numberOfTrailingZeros_77 : decode cJ9_numberOfTrailingZeros 77 = .ok (.iushr, 1) := dk_124 (dk_at dksJ9_numberOfTrailingZeros_3 6 rfl rfl)
theorem dJ9_numberOfTrailingZeros_78 : decode cJ9_numberOfTrailingZeros 78 = .ok (.iadd, 1) := dk_96 (dk_at dksJ9_numberOfTrailingZeros_3 7 rfl rfl)
theorem dJ9_numberOfTrailingZeros_79 : decode cJ9_numberOfTrailingZeros 79 = .ok (.ireturn, 1) := dk_172 (dk_at dksJ9_numberOfTrailingZeros_3 8 rfl rfl)
theorem q169 : (Jvm.Cond.initialized "java/lang/Integer") ∈ lw_all := lw_g (lw_at lw_m1 18 rfl) rfl
theorem q1192 : (Jvm.Cond.static ({ cls := "java/lang/Integer", name := "stringSize", desc := "(I)I" } : Jvm.MethodName)) ∈ lw_all := lw_g (lw_at lw_m5 81 rfl) rfl
theorem q1193 : (Jvm.Cond.code ({ cls := "java/lang/Integer", name := "stringSize", desc := "(I)I" } : Jvm.MethodName) prog_30_method_13_code (4 : Nat) (Option.some Jvm.ClassFile.FieldType.int)) ∈ lw_all := lw_g (lw_at lw_m5 82 rfl) rfl
theorem q1195 : (Jvm.Cond.static ({ cls := "java/lang/Integer", name := "getChars", desc := "(II[B)I" } : Jvm.MethodName)) ∈ lw_all := lw_g (lw_at lw_m5 84 rfl) rfl
theorem q1196 : (Jvm.Cond.code ({ cls := "java/lang/Integer", name := "getChars", desc := "(II[B)I" } : Jvm.MethodName) prog_30_method_12_code (7 : Nat) (Option.some Jvm.ClassFile.FieldType.int)) ∈ lw_all := lw_g (lw_at lw_m5 85 rfl) rfl
theorem q1197 : (Jvm.Cond.fieldLink "java/lang/Integer" (83 : Nat) "java/lang/Integer" "DigitOnes" "[B") ∈ lw_all := lw_g (lw_at lw_m5 86 rfl) rfl
theorem q1198 : (Jvm.Cond.laysStatic "java/lang/Integer" "DigitOnes" "[B") ∈ lw_tbl := lw_at lw_m5 87 rfl
theorem q1199 : (Jvm.Cond.fieldLink "java/lang/Integer" (87 : Nat) "java/lang/Integer" "DigitTens" "[B") ∈ lw_all := lw_g (lw_at lw_m5 88 rfl) rfl
theorem q1200 : (Jvm.Cond.laysStatic "java/lang/Integer" "DigitTens" "[B") ∈ lw_tbl := lw_at lw_m5 89 rfl
theorem q1950 : (Jvm.Cond.static ({ cls := "java/lang/Integer", name := "bitCount", desc := "(I)I" } : Jvm.MethodName)) ∈ lw_all := lw_g (lw_at lw_m8 119 rfl) rfl
theorem q1951 : (Jvm.Cond.code ({ cls := "java/lang/Integer", name := "bitCount", desc := "(I)I" } : Jvm.MethodName) prog_30_method_49_code (1 : Nat) (Option.some Jvm.ClassFile.FieldType.int)) ∈ lw_all := lw_g (lw_at lw_m8 120 rfl) rfl
theorem q1952 : (Jvm.Cond.constant "java/lang/Integer" (265 : Nat) (1431655765 : Int32)) ∈ lw_all := lw_g (lw_at lw_m8 121 rfl) rfl
theorem q1953 : (Jvm.Cond.constant "java/lang/Integer" (266 : Nat) (858993459 : Int32)) ∈ lw_all := lw_g (lw_at lw_m8 122 rfl) rfl
theorem q1954 : (Jvm.Cond.constant "java/lang/Integer" (267 : Nat) (252645135 : Int32)) ∈ lw_all := lw_g (lw_at lw_m8 123 rfl) rfl
theorem q1972 : (Jvm.Cond.static ({ cls := "java/lang/Integer", name := "numberOfTrailingZeros", desc := "(I)I" } : Jvm.MethodName)) ∈ lw_all := lw_g (lw_at lw_m8 141 rfl) rfl
theorem q1973 : (Jvm.Cond.code ({ cls := "java/lang/Integer", name := "numberOfTrailingZeros", desc := "(I)I" } : Jvm.MethodName) prog_30_method_48_code (2 : Nat) (Option.some Jvm.ClassFile.FieldType.int)) ∈ lw_all := lw_g (lw_at lw_m8 142 rfl) rfl
theorem q1974 : (Jvm.Cond.constant "java/lang/Integer" (264 : Nat) (65536 : Int32)) ∈ lw_all := lw_g (lw_at lw_m8 143 rfl) rfl
theorem q151 : (Jvm.Cond.initialized "BranchNamesLaw") ∈ lw_all := lw_g (lw_at lw_m1 0 rfl) rfl
set_option maxRecDepth 100000
theorem q186 : (Jvm.Cond.classLink "BranchNamesLaw" (7 : Nat) "BranchNames") ∈ lw_all := lw_g (lw_at lw_m1 35 rfl) rfl
theorem q188 : (Jvm.Cond.methodLink "BranchNamesLaw" (9 : Nat) ({ cls := "BranchNames", name := "<init>", desc := "()V" } : Jvm.MethodName)) ∈ lw_all := lw_g (lw_at lw_m1 37 rfl) rfl
theorem q863 : (Jvm.Cond.methodLink "BranchNamesLaw" (68 : Nat) ({ cls := "BranchNames", name := "counted", desc := "(II)J" } : Jvm.MethodName)) ∈ lw_all := lw_g (lw_at lw_m3 232 rfl) rfl
theorem q884 : (Jvm.Cond.methodLink "BranchNamesLaw" (13 : Nat) ({ cls := "BranchNames", name := "grow", desc := "(I)I" } : Jvm.MethodName)) ∈ lw_all := lw_g (lw_at lw_m4 13 rfl) rfl
theorem q893 : (Jvm.Cond.methodLink "BranchNamesLaw" (18 : Nat) ({ cls := "BranchNames", name := "cut", desc := "(I)I" } : Jvm.MethodName)) ∈ lw_all := lw_g (lw_at lw_m4 22 rfl) rfl
theorem q913 : (Jvm.Cond.methodLink "BranchNamesLaw" (22 : Nat) ({ cls := "BranchNames", name := "take", desc := "(II)I" } : Jvm.MethodName)) ∈ lw_all := lw_g (lw_at lw_m4 42 rfl) rfl
theorem q926 : (Jvm.Cond.methodLink "BranchNamesLaw" (27 : Nat) ({ cls := "BranchNames", name := "code", desc := "(II)I" } : Jvm.MethodName)) ∈ lw_all := lw_g (lw_at lw_m4 55 rfl) rfl
theorem q931 : (Jvm.Cond.methodLink "BranchNamesLaw" (31 : Nat) ({ cls := "BranchNames", name := "drawn", desc := "(I)I" } : Jvm.MethodName)) ∈ lw_all := lw_g (lw_at lw_m4 60 rfl) rfl
theorem q939 : (Jvm.Cond.methodLink "BranchNamesLaw" (35 : Nat) ({ cls := "BranchNames", name := "atom", desc := "(II)I" } : Jvm.MethodName)) ∈ lw_all := lw_g (lw_at lw_m4 68 rfl) rfl
theorem q944 : (Jvm.Cond.methodLink "BranchNamesLaw" (39 : Nat) ({ cls := "BranchNames", name := "bond", desc := "(II)I" } : Jvm.MethodName)) ∈ lw_all := lw_g (lw_at lw_m4 73 rfl) rfl
theorem q956 : (Jvm.Cond.methodLink "BranchNamesLaw" (43 : Nat) ({ cls := "BranchNames", name := "far", desc := "(II)I" } : Jvm.MethodName)) ∈ lw_all := lw_g (lw_at lw_m4 85 rfl) rfl
theorem q960 : (Jvm.Cond.methodLink "BranchNamesLaw" (47 : Nat) ({ cls := "BranchNames", name := "twig", desc := "(III)I" } : Jvm.MethodName)) ∈ lw_all := lw_g (lw_at lw_m4 89 rfl) rfl
theorem q1229 : (Jvm.Cond.methodLink "BranchNamesLaw" (52 : Nat) ({ cls := "BranchNames", name := "measure", desc := "(I)I" } : Jvm.MethodName)) ∈ lw_all := lw_g (lw_at lw_m5 118 rfl) rfl
theorem q1237 : (Jvm.Cond.methodLink "BranchNamesLaw" (56 : Nat) ({ cls := "BranchNames", name := "list", desc := "(I)I" } : Jvm.MethodName)) ∈ lw_all := lw_g (lw_at lw_m5 126 rfl) rfl
theorem q1241 : (Jvm.Cond.methodLink "BranchNamesLaw" (60 : Nat) ({ cls := "BranchNames", name := "key", desc := "(II)I" } : Jvm.MethodName)) ∈ lw_all := lw_g (lw_at lw_m5 130 rfl) rfl
theorem q1245 : (Jvm.Cond.methodLink "BranchNamesLaw" (64 : Nat) ({ cls := "BranchNames", name := "ranked", desc := "(III)I" } : Jvm.MethodName)) ∈ lw_all := lw_g (lw_at lw_m5 134 rfl) rfl
theorem q1253 : (Jvm.Cond.methodLink "BranchNamesLaw" (73 : Nat) ({ cls := "BranchNames", name := "name", desc := "(I)I" } : Jvm.MethodName)) ∈ lw_all := lw_g (lw_at lw_m5 142 rfl) rfl
theorem q1265 : (Jvm.Cond.methodLink "BranchNamesLaw" (77 : Nat) ({ cls := "BranchNames", name := "named", desc := "(III)I" } : Jvm.MethodName)) ∈ lw_all := lw_g (lw_at lw_m5 154 rfl) rfl
theorem q1273 : (Jvm.Cond.methodLink "BranchNamesLaw" (81 : Nat) ({ cls := "BranchNames", name := "chain", desc := "(I)I" } : Jvm.MethodName)) ∈ lw_all := lw_g (lw_at lw_m5 162 rfl) rfl
theorem q1281 : (Jvm.Cond.methodLink "BranchNamesLaw" (85 : Nat) ({ cls := "BranchNames", name := "feed", desc := "(I)I" } : Jvm.MethodName)) ∈ lw_all := lw_g (lw_at lw_m5 170 rfl) rfl
theorem q1286 : (Jvm.Cond.methodLink "BranchNamesLaw" (89 : Nat) ({ cls := "BranchNames", name := "clear", desc := "()I" } : Jvm.MethodName)) ∈ lw_all := lw_g (lw_at lw_m5 175 rfl) rfl
theorem q1290 : (Jvm.Cond.methodLink "BranchNamesLaw" (94 : Nat) ({ cls := "BranchNames", name := "read", desc := "()I" } : Jvm.MethodName)) ∈ lw_all := lw_g (lw_at lw_m5 179 rfl) rfl
theorem q1570 : (Jvm.Cond.methodLink "BranchNamesLaw" (98 : Nat) ({ cls := "BranchNames", name := "why", desc := "(II)I" } : Jvm.MethodName)) ∈ lw_all := lw_g (lw_at lw_m6 219 rfl) rfl
theorem q1574 : (Jvm.Cond.methodLink "BranchNamesLaw" (102 : Nat) ({ cls := "BranchNames", name := "told", desc := "(I)I" } : Jvm.MethodName)) ∈ lw_all := lw_g (lw_at lw_m6 223 rfl) rfl
theorem q1578 : (Jvm.Cond.methodLink "BranchNamesLaw" (106 : Nat) ({ cls := "BranchNames", name := "row", desc := "(III)I" } : Jvm.MethodName)) ∈ lw_all := lw_g (lw_at lw_m6 227 rfl) rfl
theorem q1636 : (Jvm.Cond.methodLink "BranchNamesLaw" (112 : Nat) ({ cls := "BranchNames", name := "put", desc := "(IIJ)I" } : Jvm.MethodName)) ∈ lw_all := lw_g (lw_at lw_m7 45 rfl) rfl
theorem q1681 : (Jvm.Cond.methodLink "BranchNamesLaw" (117 : Nat) ({ cls := "BranchNames", name := "get", desc := "(II)J" } : Jvm.MethodName)) ∈ lw_all := lw_g (lw_at lw_m7 90 rfl) rfl
theorem q1704 : (Jvm.Cond.methodLink "BranchNamesLaw" (121 : Nat) ({ cls := "BranchNames", name := "fill", desc := "(II)I" } : Jvm.MethodName)) ∈ lw_all := lw_g (lw_at lw_m7 113 rfl) rfl
theorem q1727 : (Jvm.Cond.methodLink "BranchNamesLaw" (125 : Nat) ({ cls := "BranchNames", name := "judge", desc := "(II)I" } : Jvm.MethodName)) ∈ lw_all := lw_g (lw_at lw_m7 136 rfl) rfl
theorem q1731 : (Jvm.Cond.methodLink "BranchNamesLaw" (129 : Nat) ({ cls := "BranchNames", name := "copy", desc := "(IIIII)I" } : Jvm.MethodName)) ∈ lw_all := lw_g (lw_at lw_m7 140 rfl) rfl
theorem q1738 : (Jvm.Cond.methodLink "BranchNamesLaw" (134 : Nat) ({ cls := "BranchNames", name := "image", desc := "()I" } : Jvm.MethodName)) ∈ lw_all := lw_g (lw_at lw_m7 147 rfl) rfl
theorem q1742 : (Jvm.Cond.methodLink "BranchNamesLaw" (138 : Nat) ({ cls := "BranchNames", name := "undo", desc := "()I" } : Jvm.MethodName)) ∈ lw_all := lw_g (lw_at lw_m7 151 rfl) rfl
theorem q1746 : (Jvm.Cond.classLink "BranchNamesLaw" (10 : Nat) "BranchNamesModel") ∈ lw_all := lw_g (lw_at lw_m7 155 rfl) rfl
theorem q1748 : (Jvm.Cond.methodLink "BranchNamesLaw" (12 : Nat) ({ cls := "BranchNamesModel", name := "<init>", desc := "()V" } : Jvm.MethodName)) ∈ lw_all := lw_g (lw_at lw_m7 157 rfl) rfl
theorem q1938 : (Jvm.Cond.methodLink "BranchNamesLaw" (17 : Nat) ({ cls := "BranchNamesModel", name := "grow", desc := "(I)I" } : Jvm.MethodName)) ∈ lw_all := lw_g (lw_at lw_m8 107 rfl) rfl
theorem q1967 : (Jvm.Cond.methodLink "BranchNamesLaw" (21 : Nat) ({ cls := "BranchNamesModel", name := "cut", desc := "(I)I" } : Jvm.MethodName)) ∈ lw_all := lw_g (lw_at lw_m8 136 rfl) rfl
theorem q1978 : (Jvm.Cond.methodLink "BranchNamesLaw" (26 : Nat) ({ cls := "BranchNamesModel", name := "take", desc := "(II)I" } : Jvm.MethodName)) ∈ lw_all := lw_g (lw_at lw_m8 147 rfl) rfl
theorem q2051 : (Jvm.Cond.methodLink "BranchNamesLaw" (30 : Nat) ({ cls := "BranchNamesModel", name := "code", desc := "(II)I" } : Jvm.MethodName)) ∈ lw_all := lw_g (lw_at lw_m8 220 rfl) rfl
theorem q2056 : (Jvm.Cond.methodLink "BranchNamesLaw" (34 : Nat) ({ cls := "BranchNamesModel", name := "drawn", desc := "(I)I" } : Jvm.MethodName)) ∈ lw_all := lw_g (lw_at lw_m8 225 rfl) rfl
theorem q2068 : (Jvm.Cond.methodLink "BranchNamesLaw" (38 : Nat) ({ cls := "BranchNamesModel", name := "atom", desc := "(II)I" } : Jvm.MethodName)) ∈ lw_all := lw_g (lw_at lw_m8 237 rfl) rfl
theorem q2076 : (Jvm.Cond.methodLink "BranchNamesLaw" (42 : Nat) ({ cls := "BranchNamesModel", name := "bond", desc := "(II)I" } : Jvm.MethodName)) ∈ lw_all := lw_g (lw_at lw_m9 5 rfl) rfl
theorem q2080 : (Jvm.Cond.methodLink "BranchNamesLaw" (46 : Nat) ({ cls := "BranchNamesModel", name := "far", desc := "(II)I" } : Jvm.MethodName)) ∈ lw_all := lw_g (lw_at lw_m9 9 rfl) rfl
theorem q2088 : (Jvm.Cond.methodLink "BranchNamesLaw" (51 : Nat) ({ cls := "BranchNamesModel", name := "twig", desc := "(III)I" } : Jvm.MethodName)) ∈ lw_all := lw_g (lw_at lw_m9 17 rfl) rfl
theorem q2187 : (Jvm.Cond.methodLink "BranchNamesLaw" (55 : Nat) ({ cls := "BranchNamesModel", name := "measure", desc := "(I)I" } : Jvm.MethodName)) ∈ lw_all := lw_g (lw_at lw_m9 116 rfl) rfl
theorem q2223 : (Jvm.Cond.methodLink "BranchNamesLaw" (59 : Nat) ({ cls := "BranchNamesModel", name := "list", desc := "(I)I" } : Jvm.MethodName)) ∈ lw_all := lw_g (lw_at lw_m9 152 rfl) rfl
theorem q2227 : (Jvm.Cond.methodLink "BranchNamesLaw" (63 : Nat) ({ cls := "BranchNamesModel", name := "key", desc := "(II)I" } : Jvm.MethodName)) ∈ lw_all := lw_g (lw_at lw_m9 156 rfl) rfl
theorem q2231 : (Jvm.Cond.methodLink "BranchNamesLaw" (67 : Nat) ({ cls := "BranchNamesModel", name := "ranked", desc := "(III)I" } : Jvm.MethodName)) ∈ lw_all := lw_g (lw_at lw_m9 160 rfl) rfl
theorem q2235 : (Jvm.Cond.methodLink "BranchNamesLaw" (72 : Nat) ({ cls := "BranchNamesModel", name := "counted", desc := "(II)J" } : Jvm.MethodName)) ∈ lw_all := lw_g (lw_at lw_m9 164 rfl) rfl
theorem q2257 : (Jvm.Cond.methodLink "BranchNamesLaw" (76 : Nat) ({ cls := "BranchNamesModel", name := "name", desc := "(I)I" } : Jvm.MethodName)) ∈ lw_all := lw_g (lw_at lw_m9 186 rfl) rfl
theorem q2265 : (Jvm.Cond.methodLink "BranchNamesLaw" (80 : Nat) ({ cls := "BranchNamesModel", name := "named", desc := "(III)I" } : Jvm.MethodName)) ∈ lw_all := lw_g (lw_at lw_m9 194 rfl) rfl
theorem q2269 : (Jvm.Cond.methodLink "BranchNamesLaw" (84 : Nat) ({ cls := "BranchNamesModel", name := "chain", desc := "(I)I" } : Jvm.MethodName)) ∈ lw_all := lw_g (lw_at lw_m9 198 rfl) rfl
theorem q2273 : (Jvm.Cond.methodLink "BranchNamesLaw" (88 : Nat) ({ cls := "BranchNamesModel", name := "feed", desc := "(I)I" } : Jvm.MethodName)) ∈ lw_all := lw_g (lw_at lw_m9 202 rfl) rfl
theorem q2278 : (Jvm.Cond.methodLink "BranchNamesLaw" (93 : Nat) ({ cls := "BranchNamesModel", name := "clear", desc := "()I" } : Jvm.MethodName)) ∈ lw_all := lw_g (lw_at lw_m9 207 rfl) rfl
theorem q2282 : (Jvm.Cond.methodLink "BranchNamesLaw" (97 : Nat) ({ cls := "BranchNamesModel", name := "read", desc := "()I" } : Jvm.MethodName)) ∈ lw_all := lw_g (lw_at lw_m9 211 rfl) rfl
theorem q2367 : (Jvm.Cond.methodLink "BranchNamesLaw" (101 : Nat) ({ cls := "BranchNamesModel", name := "why", desc := "(II)I" } : Jvm.MethodName)) ∈ lw_all := lw_g (lw_at lw_m10 56 rfl) rfl
theorem q2371 : (Jvm.Cond.methodLink "BranchNamesLaw" (105 : Nat) ({ cls := "BranchNamesModel", name := "told", desc := "(I)I" } : Jvm.MethodName)) ∈ lw_all := lw_g (lw_at lw_m10 60 rfl) rfl
theorem q2375 : (Jvm.Cond.methodLink "BranchNamesLaw" (109 : Nat) ({ cls := "BranchNamesModel", name := "row", desc := "(III)I" } : Jvm.MethodName)) ∈ lw_all := lw_g (lw_at lw_m10 64 rfl) rfl
theorem q2385 : (Jvm.Cond.methodLink "BranchNamesLaw" (116 : Nat) ({ cls := "BranchNamesModel", name := "put", desc := "(IIJ)I" } : Jvm.MethodName)) ∈ lw_all := lw_g (lw_at lw_m10 74 rfl) rfl
theorem q2392 : (Jvm.Cond.methodLink "BranchNamesLaw" (120 : Nat) ({ cls := "BranchNamesModel", name := "get", desc := "(II)J" } : Jvm.MethodName)) ∈ lw_all := lw_g (lw_at lw_m10 81 rfl) rfl
theorem q2396 : (Jvm.Cond.methodLink "BranchNamesLaw" (124 : Nat) ({ cls := "BranchNamesModel", name := "fill", desc := "(II)I" } : Jvm.MethodName)) ∈ lw_all := lw_g (lw_at lw_m10 85 rfl) rfl
theorem q2400 : (Jvm.Cond.methodLink "BranchNamesLaw" (128 : Nat) ({ cls := "BranchNamesModel", name := "judge", desc := "(II)I" } : Jvm.MethodName)) ∈ lw_all := lw_g (lw_at lw_m10 89 rfl) rfl
theorem q2404 : (Jvm.Cond.methodLink "BranchNamesLaw" (133 : Nat) ({ cls := "BranchNamesModel", name := "copy", desc := "(IIIII)I" } : Jvm.MethodName)) ∈ lw_all := lw_g (lw_at lw_m10 93 rfl) rfl
theorem q2408 : (Jvm.Cond.methodLink "BranchNamesLaw" (137 : Nat) ({ cls := "BranchNamesModel", name := "image", desc := "()I" } : Jvm.MethodName)) ∈ lw_all := lw_g (lw_at lw_m10 97 rfl) rfl
theorem q2412 : (Jvm.Cond.methodLink "BranchNamesLaw" (141 : Nat) ({ cls := "BranchNamesModel", name := "undo", desc := "()I" } : Jvm.MethodName)) ∈ lw_all := lw_g (lw_at lw_m10 101 rfl) rfl
theorem q2416 : (Jvm.Cond.constantLong "BranchNamesLaw" (110 : Nat) (4294967295 : Int64)) ∈ lw_all := lw_g (lw_at lw_m10 105 rfl) rfl
theorem q711 : (Jvm.Cond.interfaceMethod "BranchNames$Chooses" "BranchNames$Chooses" "chosen" "()LBranchNames$Way;") ∈ lw_tbl := lw_at lw_m3 80 rfl
set_option maxRecDepth 100000
theorem q712 : (Jvm.Cond.declares ({ cls := "BranchNames$Chooses", name := "chosen", desc := "()LBranchNames$Way;" } : Jvm.MethodName)) ∈ lw_tbl := lw_at lw_m3 81 rfl
theorem q1642 : (Jvm.Cond.interfaceMethod "BranchNames$Items" "BranchNames$Items" "many" "()I") ∈ lw_tbl := lw_at lw_m7 51 rfl
set_option maxRecDepth 100000
theorem q1643 : (Jvm.Cond.declares ({ cls := "BranchNames$Items", name := "many", desc := "()I" } : Jvm.MethodName)) ∈ lw_tbl := lw_at lw_m7 52 rfl
theorem q1664 : (Jvm.Cond.interfaceMethod "BranchNames$Items" "BranchNames$Items" "lays" "(IJ)V") ∈ lw_tbl := lw_at lw_m7 73 rfl
theorem q1665 : (Jvm.Cond.declares ({ cls := "BranchNames$Items", name := "lays", desc := "(IJ)V" } : Jvm.MethodName)) ∈ lw_tbl := lw_at lw_m7 74 rfl
theorem q1687 : (Jvm.Cond.interfaceMethod "BranchNames$Items" "BranchNames$Items" "at" "(I)J") ∈ lw_tbl := lw_at lw_m7 96 rfl
theorem q1688 : (Jvm.Cond.declares ({ cls := "BranchNames$Items", name := "at", desc := "(I)J" } : Jvm.MethodName)) ∈ lw_tbl := lw_at lw_m7 97 rfl
theorem q1710 : (Jvm.Cond.interfaceMethod "BranchNames$Items" "BranchNames$Items" "sort" "()I") ∈ lw_tbl := lw_at lw_m7 119 rfl
theorem q1711 : (Jvm.Cond.declares ({ cls := "BranchNames$Items", name := "sort", desc := "()I" } : Jvm.MethodName)) ∈ lw_tbl := lw_at lw_m7 120 rfl
theorem q2429 : (Jvm.Cond.castable "BranchNames$Items" "java/lang/Object") ∈ lw_tbl := lw_at lw_m10 118 rfl
theorem q1235 : (Jvm.Cond.interfaceMethod "BranchNames$Measure" "BranchNames$Measure" "of" "(LBranchNames$Tree;)I") ∈ lw_tbl := lw_at lw_m5 124 rfl
set_option maxRecDepth 100000
theorem q1236 : (Jvm.Cond.declares ({ cls := "BranchNames$Measure", name := "of", desc := "(LBranchNames$Tree;)I" } : Jvm.MethodName)) ∈ lw_tbl := lw_at lw_m5 125 rfl
theorem q2430 : (Jvm.Cond.castable "BranchNames$Measure" "java/lang/Object") ∈ lw_tbl := lw_at lw_m10 119 rfl
theorem q702 : (Jvm.Cond.interfaceMethod "BranchNames$Prefers" "BranchNames$Prefers" "prefers" "(LBranchNames$Way;LBranchNames$Way;)I") ∈ lw_tbl := lw_at lw_m3 71 rfl
set_option maxRecDepth 100000
theorem q703 : (Jvm.Cond.declares ({ cls := "BranchNames$Prefers", name := "prefers", desc := "(LBranchNames$Way;LBranchNames$Way;)I" } : Jvm.MethodName)) ∈ lw_tbl := lw_at lw_m3 72 rfl
theorem q2431 : (Jvm.Cond.castable "BranchNames$Prefers" "java/lang/Object") ∈ lw_tbl := lw_at lw_m10 120 rfl
theorem q688 : (Jvm.Cond.interfaceMethod "BranchNames$Sees" "BranchNames$Sees" "sees" "(LBranchNames$Way;)V") ∈ lw_tbl := lw_at lw_m3 57 rfl
set_option maxRecDepth 100000
theorem q689 : (Jvm.Cond.declares ({ cls := "BranchNames$Sees", name := "sees", desc := "(LBranchNames$Way;)V" } : Jvm.MethodName)) ∈ lw_tbl := lw_at lw_m3 58 rfl
theorem q339 : (Jvm.Cond.sameMethod "[B" "java/lang/Object" "clone" "()Ljava/lang/Object;") ∈ lw_all := lw_g (lw_at lw_m1 188 rfl) rfl
set_option maxRecDepth 100000
theorem q342 : (Jvm.Cond.selects "[B" ({ cls := "[B", name := "clone", desc := "()Ljava/lang/Object;" } : Jvm.MethodName) ({ cls := "java/lang/Object", name := "clone", desc := "()Ljava/lang/Object;" } : Jvm.MethodName)) ∈ lw_all := lw_g (lw_at lw_m1 191 rfl) rfl
theorem q343 : (Jvm.Cond.castable "[B" "java/lang/Cloneable") ∈ lw_tbl := lw_at lw_m1 192 rfl
theorem q2460 : (Jvm.Cond.castable "[B" "java/lang/Object") ∈ lw_tbl := lw_at lw_m10 149 rfl
theorem q2456 : (Jvm.Cond.castable "[I" "java/lang/Object") ∈ lw_tbl := lw_at lw_m10 145 rfl
set_option maxRecDepth 100000
theorem q2459 : (Jvm.Cond.castable "[J" "java/lang/Object") ∈ lw_tbl := lw_at lw_m10 148 rfl
set_option maxRecDepth 100000
theorem q2458 : (Jvm.Cond.castable "[LBranchNames$Items;" "java/lang/Object") ∈ lw_tbl := lw_at lw_m10 147 rfl
set_option maxRecDepth 100000
theorem q2461 : (Jvm.Cond.castable "[LBranchNames$Measure;" "java/lang/Object") ∈ lw_tbl := lw_at lw_m10 150 rfl
set_option maxRecDepth 100000
theorem q2462 : (Jvm.Cond.castable "[LBranchNames$Prefers;" "java/lang/Object") ∈ lw_tbl := lw_at lw_m10 151 rfl
set_option maxRecDepth 100000
theorem q2450 : (Jvm.Cond.sameMethod "[Ljava/lang/Object;" "java/lang/Object" "getClass" "()Ljava/lang/Class;") ∈ lw_all := lw_g (lw_at lw_m10 139 rfl) rfl
set_option maxRecDepth 100000
theorem q2451 : (Jvm.Cond.selects "[Ljava/lang/Object;" ({ cls := "java/lang/Object", name := "getClass", desc := "()Ljava/lang/Class;" } : Jvm.MethodName) ({ cls := "java/lang/Object", name := "getClass", desc := "()Ljava/lang/Class;" } : Jvm.MethodName)) ∈ lw_all := lw_g (lw_at lw_m10 140 rfl) rfl
theorem q2463 : (Jvm.Cond.castable "[Ljava/lang/Object;" "java/lang/Object") ∈ lw_tbl := lw_at lw_m10 152 rfl
theorem q2455 : (Jvm.Cond.castable "[Ljava/lang/String;" "java/lang/Object") ∈ lw_tbl := lw_at lw_m10 144 rfl
set_option maxRecDepth 100000
theorem q2453 : (Jvm.Cond.castable "[[I" "java/lang/Object") ∈ lw_tbl := lw_at lw_m10 142 rfl
set_option maxRecDepth 100000
theorem q2457 : (Jvm.Cond.castable "[[J" "java/lang/Object") ∈ lw_tbl := lw_at lw_m10 146 rfl
set_option maxRecDepth 100000
theorem q2454 : (Jvm.Cond.castable "[[Ljava/lang/String;" "java/lang/Object") ∈ lw_tbl := lw_at lw_m10 143 rfl
set_option maxRecDepth 100000
theorem q168 : (Jvm.Cond.initialized "java/lang/Number") ∈ lw_all := lw_g (lw_at lw_m1 17 rfl) rfl
set_option maxRecDepth 100000
theorem q161 : (Jvm.Cond.initialized "java/lang/System") ∈ lw_all := lw_g (lw_at lw_m1 10 rfl) rfl
set_option maxRecDepth 100000
theorem q349 : (Jvm.Cond.static ({ cls := "java/lang/System", name := "arraycopy", desc := "(Ljava/lang/Object;ILjava/lang/Object;II)V" } : Jvm.MethodName)) ∈ lw_all := lw_g (lw_at lw_m1 198 rfl) rfl
theorem q350 : (Jvm.Cond.native ({ cls := "java/lang/System", name := "arraycopy", desc := "(Ljava/lang/Object;ILjava/lang/Object;II)V" } : Jvm.MethodName)) ∈ lw_all := lw_g (lw_at lw_m1 199 rfl) rfl
theorem q201 : (Jvm.Cond.arrayOver (Jvm.ClassFile.FieldType.array Jvm.ClassFile.FieldType.int)) ∈ lw_tbl := lw_at lw_m1 50 rfl
set_option maxRecDepth 100000
theorem q203 : (Jvm.Cond.arrayOver (Jvm.ClassFile.FieldType.array (Jvm.ClassFile.FieldType.object "java/lang/String"))) ∈ lw_tbl := lw_at lw_m1 52 rfl
theorem q204 : (Jvm.Cond.arrayOver (Jvm.ClassFile.FieldType.object "java/lang/String")) ∈ lw_tbl := lw_at lw_m1 53 rfl
theorem q205 : (Jvm.Cond.arrayClass (Jvm.ClassFile.FieldType.object "java/lang/String")) ∈ lw_all := lw_g (lw_at lw_m1 54 rfl) rfl
theorem q243 : (Jvm.Cond.arrayClass Jvm.ClassFile.FieldType.int) ∈ lw_all := lw_g (lw_at lw_m1 92 rfl) rfl
theorem q245 : (Jvm.Cond.arrayOver (Jvm.ClassFile.FieldType.array Jvm.ClassFile.FieldType.long)) ∈ lw_tbl := lw_at lw_m1 94 rfl
theorem q270 : (Jvm.Cond.arrayOver (Jvm.ClassFile.FieldType.object "BranchNames$Items")) ∈ lw_tbl := lw_at lw_m1 119 rfl
theorem q303 : (Jvm.Cond.arrayClass Jvm.ClassFile.FieldType.long) ∈ lw_all := lw_g (lw_at lw_m1 152 rfl) rfl
theorem q304 : (Jvm.Cond.arrayClass Jvm.ClassFile.FieldType.byte) ∈ lw_all := lw_g (lw_at lw_m1 153 rfl) rfl
theorem q487 : (Jvm.Cond.arrayOver (Jvm.ClassFile.FieldType.object "BranchNames$Measure")) ∈ lw_tbl := lw_at lw_m2 96 rfl
theorem q599 : (Jvm.Cond.arrayOver (Jvm.ClassFile.FieldType.object "BranchNames$Prefers")) ∈ lw_tbl := lw_at lw_m2 208 rfl
theorem q1167 : (Jvm.Cond.arrayOver (Jvm.ClassFile.FieldType.object "java/lang/Object")) ∈ lw_tbl := lw_at lw_m5 56 rfl
