set_option maxRecDepth 100000
abbrev cX0_nameBy : ByteArray := prog_1_method_47_code
def yX0_nameBy : MethodName := ⟨RX0, "nameBy", "(LBranchNames$Tree;ILBranchNames$Way;)Ljava/lang/String;"⟩
def dkwX0_nameBy_9 : List UInt8 := [19, 1, 80, 167, 0, 6, 19, 1, 82, 182, 1, 77, 182, 1, 24, 176]
abbrev dktX0_nameBy_9 : List UInt8 := dkwX0_nameBy_9 ++ []
def dkwX0_nameBy_8 : List UInt8 := [167, 255, 184, 25, 5, 42, 180, 1, 74, 45, 180, 0, 177, 4, 100, 50, 182, 1, 77, 28, 156, 0, 9]
abbrev dktX0_nameBy_8 : List UInt8 := dkwX0_nameBy_8 ++ dktX0_nameBy_9
def dkwX0_nameBy_7 : List UInt8 := [19, 1, 64, 167, 0, 15, 42, 180, 1, 66, 25, 7, 180, 1, 63, 5, 100, 50, 182, 1, 70, 132, 6, 1]
abbrev dktX0_nameBy_7 : List UInt8 := dkwX0_nameBy_7 ++ dktX0_nameBy_8
def dkwX0_nameBy_6 : List UInt8 := [158, 0, 11, 25, 5, 16, 45, 182, 1, 20, 87, 25, 7, 25, 5, 25, 7, 180, 1, 63, 4, 160, 0, 9]
abbrev dktX0_nameBy_6 : List UInt8 := dkwX0_nameBy_6 ++ dktX0_nameBy_7
def dkwX0_nameBy_5 : List UInt8 := [21, 6, 25, 4, 182, 1, 28, 162, 0, 68, 25, 4, 21, 6, 182, 1, 33, 192, 1, 37, 58, 7, 21, 6]
abbrev dktX0_nameBy_5 : List UInt8 := dkwX0_nameBy_5 ++ dktX0_nameBy_6
def dkwX0_nameBy_4 : List UInt8 := [132, 7, 1, 167, 255, 193, 132, 5, 1, 167, 255, 166, 187, 1, 13, 89, 183, 1, 15, 58, 5, 3, 54, 6]
abbrev dktX0_nameBy_4 : List UInt8 := dkwX0_nameBy_4 ++ dktX0_nameBy_5
def dkwX0_nameBy_3 : List UInt8 := [154, 0, 24, 25, 4, 42, 43, 21, 8, 21, 6, 182, 1, 52, 184, 1, 56, 21, 5, 4, 96, 182, 1, 60]
abbrev dktX0_nameBy_3 : List UInt8 := dkwX0_nameBy_3 ++ dktX0_nameBy_4
def dkwX0_nameBy_2 : List UInt8 := [180, 0, 17, 21, 6, 50, 21, 7, 46, 54, 8, 21, 8, 28, 159, 0, 33, 45, 21, 8, 182, 0, 188]
abbrev dktX0_nameBy_2 : List UInt8 := dkwX0_nameBy_2 ++ dktX0_nameBy_3
def dkwX0_nameBy_1 : List UInt8 := [180, 0, 185, 21, 5, 46, 54, 6, 3, 54, 7, 21, 7, 43, 180, 0, 11, 21, 6, 46, 162, 0, 57, 43]
abbrev dktX0_nameBy_1 : List UInt8 := dkwX0_nameBy_1 ++ dktX0_nameBy_2
def dkwX0_nameBy_0 : List UInt8 := [187, 1, 29, 89, 183, 1, 51, 58, 4, 3, 54, 5, 21, 5, 45, 180, 0, 177, 162, 0, 87, 45]
abbrev dktX0_nameBy_0 : List UInt8 := dkwX0_nameBy_0 ++ dktX0_nameBy_1
theorem dksX0_nameBy_0 : cX0_nameBy.data.toList.drop 0 = dktX0_nameBy_0 := by decide +kernel
theorem dksX0_nameBy_1 : cX0_nameBy.data.toList.drop 22 = dktX0_nameBy_1 := dk_seg dksX0_nameBy_0 22 rfl rfl
theorem dksX0_nameBy_2 : cX0_nameBy.data.toList.drop 46 = dktX0_nameBy_2 := dk_seg dksX0_nameBy_1 24 rfl rfl
theorem dksX0_nameBy_3 : cX0_nameBy.data.toList.drop 69 = dktX0_nameBy_3 := dk_seg dksX0_nameBy_2 23 rfl rfl
theorem dksX0_nameBy_4 : cX0_nameBy.data.toList.drop 93 = dktX0_nameBy_4 := dk_seg dksX0_nameBy_3 24 rfl rfl
theorem dksX0_nameBy_5 : cX0_nameBy.data.toList.drop 117 = dktX0_nameBy_5 := dk_seg dksX0_nameBy_4 24 rfl rfl
theorem dksX0_nameBy_6 : cX0_nameBy.data.toList.drop 141 = dktX0_nameBy_6 := dk_seg dksX0_nameBy_5 24 rfl rfl
theorem dksX0_nameBy_7 : cX0_nameBy.data.toList.drop 165 = dktX0_nameBy_7 := dk_seg dksX0_nameBy_6 24 rfl rfl
theorem dksX0_nameBy_8 : cX0_nameBy.data.toList.drop 189 = dktX0_nameBy_8 := dk_seg dksX0_nameBy_7 24 rfl rfl
theorem dksX0_nameBy_9 : cX0_nameBy.data.toList.drop 212 = dktX0_nameBy_9 := dk_seg dksX0_nameBy_8 23 rfl rfl
theorem dX0_nameBy_0 : decode cX0_nameBy 0 = .ok (.new 285, 3) := dk_187 1 29 (dk_at dksX0_nameBy_0 0 rfl rfl)
theorem dX0_nameBy_3 : decode cX0_nameBy 3 = .ok (.dup, 1) := dk_89 (dk_at dksX0_nameBy_0 3 rfl rfl)
theorem dX0_nameBy_4 : decode cX0_nameBy 4 = .ok (.invokespecial 307, 3) := dk_183 1 51 (dk_at dksX0_nameBy_0 4 rfl rfl)
theorem dX0_nameBy_7 : decode cX0_nameBy 7 = .ok (.astore 4, 2) := dk_58 4 (dk_at dksX0_nameBy_0 7 rfl rfl)
theorem dX0_nameBy_9 : decode cX0_nameBy 9 = .ok (.iconst 0, 1) := dk_3 (dk_at dksX0_nameBy_0 9 rfl rfl)
theorem dX0_nameBy_10 : decode cX0_nameBy 10 = .ok (.istore 5, 2) := dk_54 5 (dk_at dksX0_nameBy_0 10 rfl rfl)
theorem dX0_nameBy_12 : decode cX0_nameBy 12 = .ok (.iload 5, 2) := dk_21 5 (dk_at dksX0_nameBy_0 12 rfl rfl)
theorem dX0_nameBy_14 : decode cX0_nameBy 14 = .ok (.aload_n 3, 1) := dk_45 (dk_at dksX0_nameBy_0 14 rfl rfl)
theorem dX0_nameBy_15 : decode cX0_nameBy 15 = .ok (.getfield 177, 3) := dk_180 0 177 (dk_at dksX0_nameBy_0 15 rfl rfl)
theorem dX0_nameBy_18 : decode cX0_nameBy 18 = .ok (.if_icmp .ge 87, 3) := dk_162 0 87 (dk_at dksX0_nameBy_0 18 rfl rfl)
theorem dX0_nameBy_21 : decode cX0_nameBy 21 = .ok (.aload_n 3, 1) := dk_45 (dk_at dksX0_nameBy_0 21 rfl rfl)
theorem dX0_nameBy_22 : decode cX0_nameBy 22 = .ok (.getfield 185, 3) := dk_180 0 185 (dk_at dksX0_nameBy_1 0 rfl rfl)
theorem dX0_nameBy_25 : decode cX0_nameBy 25 = .ok (.iload 5, 2) := dk_21 5 (dk_at dksX0_nameBy_1 3 rfl rfl)
theorem dX0_nameBy_27 : decode cX0_nameBy 27 = .ok (.iaload, 1) := dk_46 (dk_at dksX0_nameBy_1 5 rfl rfl)
theorem dX0_nameBy_28 : decode cX0_nameBy 28 = .ok (.istore 6, 2) := dk_54 6 (dk_at dksX0_nameBy_1 6 rfl rfl)
theorem dX0_nameBy_30 : decode cX0_nameBy 30 = .ok (.iconst 0, 1) := dk_3 (dk_at dksX0_nameBy_1 8 rfl rfl)
theorem dX0_nameBy_31 : decode cX0_nameBy 31 = .ok (.istore 7, 2) := dk_54 7 (dk_at dksX0_nameBy_1 9 rfl rfl)
theorem dX0_nameBy_33 : decode cX0_nameBy 33 = .ok (.iload 7, 2) := dk_21 7 (dk_at dksX0_nameBy_1 11 rfl rfl)
theorem dX0_nameBy_35 : decode cX0_nameBy 35 = .ok (.aload_n 1, 1) := dk_43 (dk_at dksX0_nameBy_1 13 rfl rfl)
theorem dX0_nameBy_36 : decode cX0_nameBy 36 = .ok (.getfield 11, 3) := dk_180 0 11 (dk_at dksX0_nameBy_1 14 rfl rfl)
theorem dX0_nameBy_39 : decode cX0_nameBy 39 = .ok (.iload 6, 2) := dk_21 6 (dk_at dksX0_nameBy_1 17 rfl rfl)
theorem dX0_nameBy_41 : decode cX0_nameBy 41 = .ok (.iaload, 1) := dk_46 (dk_at dksX0_nameBy_1 19 rfl rfl)
theorem dX0_nameBy_42 : decode cX0_nameBy 42 = .ok (.if_icmp .ge 57, 3) := dk_162 0 57 (dk_at dksX0_nameBy_1 20 rfl rfl)
theorem dX0_nameBy_45 : decode cX0_nameBy 45 = .ok (.aload_n 1, 1) := dk_43 (dk_at dksX0_nameBy_1 23 rfl rfl)
theorem dX0_nameBy_46 : decode cX0_nameBy 46 = .ok (.getfield 17, 3) := dk_180 0 17 (dk_at dksX0_nameBy_2 0 rfl rfl)
theorem dX0_nameBy_49 : decode cX0_nameBy 49 = .ok (.iload 6, 2) := dk_21 6 (dk_at dksX0_nameBy_2 3 rfl rfl)
theorem dX0_nameBy_51 : decode cX0_nameBy 51 = .ok (.aaload, 1) := dk_50 (dk_at dksX0_nameBy_2 5 rfl rfl)
theorem dX0_nameBy_52 : decode cX0_nameBy 52 = .ok (.iload 7, 2) := dk_21 7 (dk_at dksX0_nameBy_2 6 rfl rfl)
theorem dX0_nameBy_54 : decode cX0_nameBy 54 = .ok (.iaload, 1) := dk_46 (dk_at dksX0_nameBy_2 8 rfl rfl)
theorem dX0_nameBy_55 : decode cX0_nameBy 55 = .ok (.istore 8, 2) := dk_54 8 (dk_at dksX0_nameBy_2 9 rfl rfl)
theorem dX0_nameBy_57 : decode cX0_nameBy 57 = .ok (.iload 8, 2) := dk_21 8 (dk_at dksX0_nameBy_2 11 rfl rfl)
theorem dX0_nameBy_59 : decode cX0_nameBy 59 = .ok (.iload_n 2, 1) := dk_28 (dk_at dksX0_nameBy_2 13 rfl rfl)
theorem dX0_nameBy_60 : decode cX0_nameBy 60 = .ok (.if_icmp .eq 33, 3) := dk_159 0 33 (dk_at dksX0_nameBy_2 14 rfl rfl)
theorem dX0_nameBy_63 : decode cX0_nameBy 63 = .ok (.aload_n 3, 1) := dk_45 (dk_at dksX0_nameBy_2 17 rfl rfl)
theorem dX0_nameBy_64 : decode cX0_nameBy 64 = .ok (.iload 8, 2) := dk_21 8 (dk_at dksX0_nameBy_2 18 rfl rfl)
theorem dX0_nameBy_66 : decode cX0_nameBy 66 = .ok (.invokevirtual 188, 3) := dk_182 0 188 (dk_at dksX0_nameBy_2 20 rfl rfl)
theorem dX0_nameBy_69 : decode cX0_nameBy 69 = .ok (.ifCond .ne 24, 3) := dk_154 0 24 (dk_at dksX0_nameBy_3 0 rfl rfl)
theorem dX0_nameBy_72 : decode cX0_nameBy 72 = .ok (.aload 4, 2) := dk_25 4 (dk_at dksX0_nameBy_3 3 rfl rfl)
theorem dX0_nameBy_74 : decode cX0_nameBy 74 = .ok (.aload_n 0, 1) := dk_42 (dk_at dksX0_nameBy_3 5 rfl rfl)
theorem dX0_nameBy_75 : decode cX0_nameBy 75 = .ok (.aload_n 1, 1) := dk_43 (dk_at dksX0_nameBy_3 6 rfl rfl)
theorem dX0_nameBy_76 : decode cX0_nameBy 76 = .ok (.iload 8, 2) := dk_21 8 (dk_at dksX0_nameBy_3 7 rfl rfl)
theorem dX0_nameBy_78 : decode cX0_nameBy 78 = .ok (.iload 6, 2) := dk_21 6 (dk_at dksX0_nameBy_3 9 rfl rfl)
theorem dX0_nameBy_80 : decode cX0_nameBy 80 = .ok (.invokevirtual 308, 3) := dk_182 1 52 (dk_at dksX0_nameBy_3 11 rfl rfl)
theorem dX0_nameBy_83 : decode cX0_nameBy 83 = .ok (.invokestatic 312, 3) := dk_184 1 56 (dk_at dksX0_nameBy_3 14 rfl rfl)
theorem dX0_nameBy_86 : decode cX0_nameBy 86 = .ok (.iload 5, 2) := dk_21 5 (dk_at dksX0_nameBy_3 17 rfl rfl)
theorem dX0_nameBy_88 : decode cX0_nameBy 88 = .ok (.iconst 1, 1) := dk_4 (dk_at dksX0_nameBy_3 19 rfl rfl)
theorem dX0_nameBy_89 : decode cX0_nameBy 89 = .ok (.iadd, 1) := dk_96 (dk_at dksX0_nameBy_3 20 rfl rfl)
theorem dX0_nameBy_90 : decode cX0_nameBy 90 = .ok (.invokevirtual 316, 3) := dk_182 1 60 (dk_at dksX0_nameBy_3 21 rfl rfl)
theorem dX0_nameBy_93 : decode cX0_nameBy 93 = .ok (.iinc 7 1, 3) := dk_132 7 1 (dk_at dksX0_nameBy_4 0 rfl rfl)
theorem dX0_nameBy_96 : decode cX0_nameBy 96 = .ok (.goto (-63), 3) := dk_167 255 193 (dk_at dksX0_nameBy_4 3 rfl rfl)
theorem dX0_nameBy_99 : decode cX0_nameBy 99 = .ok (.iinc 5 1, 3) := dk_132 5 1 (dk_at dksX0_nameBy_4 6 rfl rfl)
theorem dX0_nameBy_102 : decode cX0_nameBy 102 = .ok (.goto (-90), 3) := dk_167 255 166 (dk_at dksX0_nameBy_4 9 rfl rfl)
theorem dX0_nameBy_105 : decode cX0_nameBy 105 = .ok (.new 269, 3) := dk_187 1 13 (dk_at dksX0_nameBy_4 12 rfl rfl)
theorem dX0_nameBy_108 : decode cX0_nameBy 108 = .ok (.dup, 1) := dk_89 (dk_at dksX0_nameBy_4 15 rfl rfl)
theorem dX0_nameBy_109 : decode cX0_nameBy 109 = .ok (.invokespecial 271, 3) := dk_183 1 15 (dk_at dksX0_nameBy_4 16 rfl rfl)
theorem dX0_nameBy_112 : decode cX0_nameBy 112 = .ok (.astore 5, 2) := dk_58 5 (dk_at dksX0_nameBy_4 19 rfl rfl)
theorem dX0_nameBy_114 : decode cX0_nameBy 114 = .ok (.iconst 0, 1) := dk_3 (dk_at dksX0_nameBy_4 21 rfl rfl)
theorem dX0_nameBy_115 : decode cX0_nameBy 115 = .ok (.istore 6, 2) := dk_54 6 (dk_at dksX0_nameBy_4 22 rfl rfl)
theorem dX0_nameBy_117 : decode cX0_nameBy 117 = .ok (.iload 6, 2) := dk_21 6 (dk_at dksX0_nameBy_5 0 rfl rfl)
theorem dX0_nameBy_119 : decode cX0_nameBy 119 = .ok (.aload 4, 2) := dk_25 4 (dk_at dksX0_nameBy_5 2 rfl rfl)
theorem dX0_nameBy_121 : decode cX0_nameBy 121 = .ok (.invokevirtual 284, 3) := dk_182 1 28 (dk_at dksX0_nameBy_5 4 rfl rfl)
theorem dX0_nameBy_124 : decode cX0_nameBy 124 = .ok (.if_icmp .ge 68, 3) := dk_162 0 68 (dk_at dksX0_nameBy_5 7 rfl rfl)
theorem dX0_nameBy_127 : decode cX0_nameBy 127 = .ok (.aload 4, 2) := dk_25 4 (dk_at dksX0_nameBy_5 10 rfl rfl)
theorem dX0_nameBy_129 : decode cX0_nameBy 129 = .ok (.iload 6, 2) := dk_21 6 (dk_at dksX0_nameBy_5 12 rfl rfl)
theorem dX0_nameBy_131 : decode cX0_nameBy 131 = .ok (.invokevirtual 289, 3) := dk_182 1 33 (dk_at dksX0_nameBy_5 14 rfl rfl)
theorem dX0_nameBy_134 : decode cX0_nameBy 134 = .ok (.checkcast 293, 3) := dk_192 1 37 (dk_at dksX0_nameBy_5 17 rfl rfl)
theorem dX0_nameBy_137 : decode cX0_nameBy 137 = .ok (.astore 7, 2) := dk_58 7 (dk_at dksX0_nameBy_5 20 rfl rfl)
theorem dX0_nameBy_139 : decode cX0_nameBy 139 = .ok (.iload 6, 2) := dk_21 6 (dk_at dksX0_nameBy_5 22 rfl rfl)
theorem dX0_nameBy_141 : decode cX0_nameBy 141 = .ok (.ifCond .le 11, 3) := dk_158 0 11 (dk_at dksX0_nameBy_6 0 rfl rfl)
theorem dX0_nameBy_144 : decode cX0_nameBy 144 = .ok (.aload 5, 2) := dk_25 5 (dk_at dksX0_nameBy_6 3 rfl rfl)
theorem dX0_nameBy_146 : decode cX0_nameBy 146 = .ok (.bipush 45, 2) := dk_16 45 (dk_at dksX0_nameBy_6 5 rfl rfl)
theorem dX0_nameBy_148 : decode cX0_nameBy 148 = .ok (.invokevirtual 276, 3) := dk_182 1 20 (dk_at dksX0_nameBy_6 7 rfl rfl)
theorem dX0_nameBy_151 : decode cX0_nameBy 151 = .ok (.pop, 1) := dk_87 (dk_at dksX0_nameBy_6 10 rfl rfl)
theorem dX0_nameBy_152 : decode cX0_nameBy 152 = .ok (.aload 7, 2) := dk_25 7 (dk_at dksX0_nameBy_6 11 rfl rfl)
theorem dX0_nameBy_154 : decode cX0_nameBy 154 = .ok (.aload 5, 2) := dk_25 5 (dk_at dksX0_nameBy_6 13 rfl rfl)
theorem dX0_nameBy_156 : decode cX0_nameBy 156 = .ok (.aload 7, 2) := dk_25 7 (dk_at dksX0_nameBy_6 15 rfl rfl)
theorem dX0_nameBy_158 : decode cX0_nameBy 158 = .ok (.getfield 319, 3) := dk_180 1 63 (dk_at dksX0_nameBy_6 17 rfl rfl)
theorem dX0_nameBy_161 : decode cX0_nameBy 161 = .ok (.iconst 1, 1) := dk_4 (dk_at dksX0_nameBy_6 20 rfl rfl)
theorem dX0_nameBy_162 : decode cX0_nameBy 162 = .ok (.if_icmp .ne 9, 3) := dk_160 0 9 (dk_at dksX0_nameBy_6 21 rfl rfl)
theorem dX0_nameBy_165 : decode cX0_nameBy 165 = .ok (.ldc_w 320, 3) := dk_19 1 64 (dk_at dksX0_nameBy_7 0 rfl rfl)
theorem dX0_nameBy_168 : decode cX0_nameBy 168 = .ok (.goto 15, 3) := dk_167 0 15 (dk_at dksX0_nameBy_7 3 rfl rfl)
theorem dX0_nameBy_171 : decode cX0_nameBy 171 = .ok (.aload_n 0, 1) := dk_42 (dk_at dksX0_nameBy_7 6 rfl rfl)
theorem dX0_nameBy_172 : decode cX0_nameBy 172 = .ok (.getfield 322, 3) := dk_180 1 66 (dk_at dksX0_nameBy_7 7 rfl rfl)
theorem dX0_nameBy_175 : decode cX0_nameBy 175 = .ok (.aload 7, 2) := dk_25 7 (dk_at dksX0_nameBy_7 10 rfl rfl)
theorem dX0_nameBy_177 : decode cX0_nameBy 177 = .ok (.getfield 319, 3) := dk_180 1 63 (dk_at dksX0_nameBy_7 12 rfl rfl)
theorem dX0_nameBy_180 : decode cX0_nameBy 180 = .ok (.iconst 2, 1) := dk_5 (dk_at dksX0_nameBy_7 15 rfl rfl)
theorem dX0_nameBy_181 : decode cX0_nameBy 181 = .ok (.isub, 1) := dk_100 (dk_at dksX0_nameBy_7 16 rfl rfl)
theorem dX0_nameBy_182 : decode cX0_nameBy 182 = .ok (.aaload, 1) := dk_50 (dk_at dksX0_nameBy_7 17 rfl rfl)
theorem dX0_nameBy_183 : decode cX0_nameBy 183 = .ok (.invokevirtual 326, 3) := dk_182 1 70 (dk_at dksX0_nameBy_7 18 rfl rfl)
theorem dX0_nameBy_186 : decode cX0_nameBy 186 = .ok (.iinc 6 1, 3) := dk_132 6 1 (dk_at dksX0_nameBy_7 21 rfl rfl)
theorem dX0_nameBy_189 : decode cX0_nameBy 189 = .ok (.goto (-72), 3) := dk_167 255 184 (dk_at dksX0_nameBy_8 0 rfl rfl)
theorem dX0_nameBy_192 : decode cX0_nameBy 192 = .ok (.aload 5, 2) := dk_25 5 (dk_at dksX0_nameBy_8 3 rfl rfl)
theorem dX0_nameBy_194 : decode cX0_nameBy 194 = .ok (.aload_n 0, 1) := dk_42 (dk_at dksX0_nameBy_8 5 rfl rfl)
theorem dX0_nameBy_195 : decode cX0_nameBy 195 = .ok (.getfield 330, 3) := dk_180 1 74 (dk_at dksX0_nameBy_8 6 rfl rfl)
theorem dX0_nameBy_198 : decode cX0_nameBy 198 = .ok (.aload_n 3, 1) := dk_45 (dk_at dksX0_nameBy_8 9 rfl rfl)
theorem dX0_nameBy_199 : decode cX0_nameBy 199 = .ok (.getfield 177, 3) := dk_180 0 177 (dk_at dksX0_nameBy_8 10 rfl rfl)
theorem dX0_nameBy_202 : decode cX0_nameBy 202 = .ok (.iconst 1, 1) := dk_4 (dk_at dksX0_nameBy_8 13 rfl rfl)
theorem dX0_nameBy_203 : decode cX0_nameBy 203 = .ok (.isub, 1) := dk_100 (dk_at dksX0_nameBy_8 14 rfl rfl)
theorem dX0_nameBy_204 : decode cX0_nameBy 204 = .ok (.aaload, 1) := dk_50 (dk_at dksX0_nameBy_8 15 rfl rfl)
theorem dX0_nameBy_205 : decode cX0_nameBy 205 = .ok (.invokevirtual 333, 3) := dk_182 1 77 (dk_at dksX0_nameBy_8 16 rfl rfl)
theorem dX0_nameBy_208 : decode cX0_nameBy 208 = .ok (.iload_n 2, 1) := dk_28 (dk_at dksX0_nameBy_8 19 rfl rfl)
theorem dX0_nameBy_209 : decode cX0_nameBy 209 = .ok (.ifCond .ge 9, 3) := dk_156 0 9 (dk_at dksX0_nameBy_8 20 rfl rfl)
theorem dX0_nameBy_212 : decode cX0_nameBy 212 = .ok (.ldc_w 336, 3) := dk_19 1 80 (dk_at dksX0_nameBy_9 0 rfl rfl)
theorem dX0_nameBy_215 : decode cX0_nameBy 215 = .ok (.goto 6, 3) := dk_167 0 6 (dk_at dksX0_nameBy_9 3 rfl rfl)
theorem dX0_nameBy_218 : decode cX0_nameBy 218 = .ok (.ldc_w 338, 3) := dk_19 1 82 (dk_at dksX0_nameBy_9 6 rfl rfl)
theorem dX0_nameBy_221 : decode cX0_nameBy 221 = .ok (.invokevirtual 333, 3) := dk_182 1 77 (dk_at dksX0_nameBy_9 9 rfl rfl)
theorem dX0_nameBy_224 : decode cX0_nameBy 224 = .ok (.invokevirtual 280, 3) := dk_182 1 24 (dk_at dksX0_nameBy_9 12 rfl rfl)
theorem dX0_nameBy_227 : decode cX0_nameBy 227 = .ok (.areturn, 1) := dk_176 (dk_at dksX0_nameBy_9 15 rfl rfl)
abbrev cX0_partOf : ByteArray := prog_1_method_46_code
def yX0_partOf : MethodName := ⟨RX0, "partOf", "(Ljava/util/ArrayList;Ljava/lang/String;)LBranchNames$Named;"⟩
def dkwX0_partOf_3 : List UInt8 := [44, 182, 1, 43, 156, 0, 9, 132, 3, 1, 167, 255, 230, 42, 29, 44, 182, 1, 47, 44, 176]
abbrev dktX0_partOf_3 : List UInt8 := dkwX0_partOf_3 ++ []
def dkwX0_partOf_2 : List UInt8 := [89, 43, 183, 1, 40, 77, 3, 62, 29, 42, 182, 1, 28, 162, 0, 24, 42, 29, 182, 1, 33, 192, 1, 37]
abbrev dktX0_partOf_2 : List UInt8 := dkwX0_partOf_2 ++ dktX0_partOf_3
def dkwX0_partOf_1 : List UInt8 := [184, 0, 203, 154, 0, 12, 42, 28, 182, 1, 33, 192, 1, 37, 176, 132, 2, 1, 167, 255, 218, 187, 1, 37]
abbrev dktX0_partOf_1 : List UInt8 := dkwX0_partOf_1 ++ dktX0_partOf_2
def dkwX0_partOf_0 : List UInt8 := [3, 61, 28, 42, 182, 1, 28, 162, 0, 36, 42, 28, 182, 1, 33, 192, 1, 37, 180, 1, 39, 43]
abbrev dktX0_partOf_0 : List UInt8 := dkwX0_partOf_0 ++ dktX0_partOf_1
theorem dksX0_partOf_0 : cX0_partOf.data.toList.drop 0 = dktX0_partOf_0 := by decide +kernel
theorem dksX0_partOf_1 : cX0_partOf.data.toList.drop 22 = dktX0_partOf_1 := dk_seg dksX0_partOf_0 22 rfl rfl
theorem dksX0_partOf_2 : cX0_partOf.data.toList.drop 46 = dktX0_partOf_2 := dk_seg dksX0_partOf_1 24 rfl rfl
theorem dksX0_partOf_3 : cX0_partOf.data.toList.drop 70 = dktX0_partOf_3 := dk_seg dksX0_partOf_2 24 rfl rfl
theorem dX0_partOf_0 : decode cX0_partOf 0 = .ok (.iconst 0, 1) := dk_3 (dk_at dksX0_partOf_0 0 rfl rfl)
theorem dX0_partOf_1 : decode cX0_partOf 1 = .ok (.istore_n 2, 1) := dk_61 (dk_at dksX0_partOf_0 1 rfl rfl)
theorem dX0_partOf_2 : decode cX0_partOf 2 = .ok (.iload_n 2, 1) := dk_28 (dk_at dksX0_partOf_0 2 rfl rfl)
theorem dX0_partOf_3 : decode cX0_partOf 3 = .ok (.aload_n 0, 1) := dk_42 (dk_at dksX0_partOf_0 3 rfl rfl)
theorem dX0_partOf_4 : decode cX0_partOf 4 = .ok (.invokevirtual 284, 3) := dk_182 1 28 (dk_at dksX0_partOf_0 4 rfl rfl)
theorem dX0_partOf_7 : decode cX0_partOf 7 = .ok (.if_icmp .ge 36, 3) := dk_162 0 36 (dk_at dksX0_partOf_0 7 rfl rfl)
theorem dX0_partOf_10 : decode cX0_partOf 10 = .ok (.aload_n 0, 1) := dk_42 (dk_at dksX0_partOf_0 10 rfl rfl)
theorem dX0_partOf_11 : decode cX0_partOf 11 = .ok (.iload_n 2, 1) := dk_28 (dk_at dksX0_partOf_0 11 rfl rfl)
theorem dX0_partOf_12 : decode cX0_partOf 12 = .ok (.invokevirtual 289, 3) := dk_182 1 33 (dk_at dksX0_partOf_0 12 rfl rfl)
theorem dX0_partOf_15 : decode cX0_partOf 15 = .ok (.checkcast 293, 3) := dk_192 1 37 (dk_at dksX0_partOf_0 15 rfl rfl)
theorem dX0_partOf_18 : decode cX0_partOf 18 = .ok (.getfield 295, 3) := dk_180 1 39 (dk_at dksX0_partOf_0 18 rfl rfl)
theorem dX0_partOf_21 : decode cX0_partOf 21 = .ok (.aload_n 1, 1) := dk_43 (dk_at dksX0_partOf_0 21 rfl rfl)
theorem dX0_partOf_22 : decode cX0_partOf 22 = .ok (.invokestatic 203, 3) := dk_184 0 203 (dk_at dksX0_partOf_1 0 rfl rfl)
theorem dX0_partOf_25 : decode cX0_partOf 25 = .ok (.ifCond .ne 12, 3) := dk_154 0 12 (dk_at dksX0_partOf_1 3 rfl rfl)
theorem dX0_partOf_28 : decode cX0_partOf 28 = .ok (.aload_n 0, 1) := dk_42 (dk_at dksX0_partOf_1 6 rfl rfl)
theorem dX0_partOf_29 : decode cX0_partOf 29 = .ok (.iload_n 2, 1) := dk_28 (dk_at dksX0_partOf_1 7 rfl rfl)
theorem dX0_partOf_30 : decode cX0_partOf 30 = .ok (.invokevirtual 289, 3) := dk_182 1 33 (dk_at dksX0_partOf_1 8 rfl rfl)
theorem dX0_partOf_33 : decode cX0_partOf 33 = .ok (.checkcast 293, 3) := dk_192 1 37 (dk_at dksX0_partOf_1 11 rfl rfl)
theorem dX0_partOf_36 : decode cX0_partOf 36 = .ok (.areturn, 1) := dk_176 (dk_at dksX0_partOf_1 14 rfl rfl)
theorem dX0_partOf_37 : decode cX0_partOf 37 = .ok (.iinc 2 1, 3) := dk_132 2 1 (dk_at dksX0_partOf_1 15 rfl rfl)
theorem dX0_partOf_40 : decode cX0_partOf 40 = .ok (.goto (-38), 3) := dk_167 255 218 (dk_at dksX0_partOf_1 18 rfl rfl)
theorem dX0_partOf_43 : decode cX0_partOf 43 = .ok (.new 293, 3) := dk_187 1 37 (dk_at dksX0_partOf_1 21 rfl rfl)
theorem dX0_partOf_46 : decode cX0_partOf 46 = .ok (.dup, 1) := dk_89 (dk_at dksX0_partOf_2 0 rfl rfl)
theorem dX0_partOf_47 : decode cX0_partOf 47 = .ok (.aload_n 1, 1) := dk_43 (dk_at dksX0_partOf_2 1 rfl rfl)
theorem dX0_partOf_48 : decode cX0_partOf 48 = .ok (.invokespecial 296, 3) := dk_183 1 40 (dk_at dksX0_partOf_2 2 rfl rfl)
theorem dX0_partOf_51 : decode cX0_partOf 51 = .ok (.astore_n 2, 1) := dk_77 (dk_at dksX0_partOf_2 5 rfl rfl)
theorem dX0_partOf_52 : decode cX0_partOf 52 = .ok (.iconst 0, 1) := dk_3 (dk_at dksX0_partOf_2 6 rfl rfl)
theorem dX0_partOf_53 : decode cX0_partOf 53 = .ok (.istore_n 3, 1) := dk_62 (dk_at dksX0_partOf_2 7 rfl rfl)
theorem dX0_partOf_54 : decode cX0_partOf 54 = .ok (.iload_n 3, 1) := dk_29 (dk_at dksX0_partOf_2 8 rfl rfl)
theorem dX0_partOf_55 : decode cX0_partOf 55 = .ok (.aload_n 0, 1) := dk_42 (dk_at dksX0_partOf_2 9 rfl rfl)
theorem dX0_partOf_56 : decode cX0_partOf 56 = .ok (.invokevirtual 284, 3) := dk_182 1 28 (dk_at dksX0_partOf_2 10 rfl rfl)
theorem dX0_partOf_59 : decode cX0_partOf 59 = .ok (.if_icmp .ge 24, 3) := dk_162 0 24 (dk_at dksX0_partOf_2 13 rfl rfl)
theorem dX0_partOf_62 : decode cX0_partOf 62 = .ok (.aload_n 0, 1) := dk_42 (dk_at dksX0_partOf_2 16 rfl rfl)
theorem dX0_partOf_63 : decode cX0_partOf 63 = .ok (.iload_n 3, 1) := dk_29 (dk_at dksX0_partOf_2 17 rfl rfl)
theorem dX0_partOf_64 : decode cX0_partOf 64 = .ok (.invokevirtual 289, 3) := dk_182 1 33 (dk_at dksX0_partOf_2 18 rfl rfl)
theorem dX0_partOf_67 : decode cX0_partOf 67 = .ok (.checkcast 293, 3) := dk_192 1 37 (dk_at dksX0_partOf_2 21 rfl rfl)
theorem dX0_partOf_70 : decode cX0_partOf 70 = .ok (.aload_n 2, 1) := dk_44 (dk_at dksX0_partOf_3 0 rfl rfl)
theorem dX0_partOf_71 : decode cX0_partOf 71 = .ok (.invokevirtual 299, 3) := dk_182 1 43 (dk_at dksX0_partOf_3 1 rfl rfl)
theorem dX0_partOf_74 : decode cX0_partOf 74 = .ok (.ifCond .ge 9, 3) := dk_156 0 9 (dk_at dksX0_partOf_3 4 rfl rfl)
theorem dX0_partOf_77 : decode cX0_partOf 77 = .ok (.iinc 3 1, 3) := dk_132 3 1 (dk_at dksX0_partOf_3 7 rfl rfl)
theorem dX0_partOf_80 : decode cX0_partOf 80 = .ok (.goto (-26), 3) := dk_167 255 230 (dk_at dksX0_partOf_3 10 rfl rfl)
theorem dX0_partOf_83 : decode cX0_partOf 83 = .ok (.aload_n 0, 1) := dk_42 (dk_at dksX0_partOf_3 13 rfl rfl)
theorem dX0_partOf_84 : decode cX0_partOf 84 = .ok (.iload_n 3, 1) := dk_29 (dk_at dksX0_partOf_3 14 rfl rfl)
theorem dX0_partOf_85 : decode cX0_partOf 85 = .ok (.aload_n 2, 1) := dk_44 (dk_at dksX0_partOf_3 15 rfl rfl)
theorem dX0_partOf_86 : decode cX0_partOf 86 = .ok (.invokevirtual 303, 3) := dk_182 1 47 (dk_at dksX0_partOf_3 16 rfl rfl)
theorem dX0_partOf_89 : decode cX0_partOf 89 = .ok (.aload_n 2, 1) := dk_44 (dk_at dksX0_partOf_3 19 rfl rfl)
theorem dX0_partOf_90 : decode cX0_partOf 90 = .ok (.areturn, 1) := dk_176 (dk_at dksX0_partOf_3 20 rfl rfl)
abbrev cX0_compared : ByteArray := prog_1_method_42_code
def yX0_compared : MethodName := ⟨RX0, "compared", "(Ljava/lang/String;Ljava/lang/String;)I"⟩
def dkwX0_compared_2 : List UInt8 := [167, 255, 223, 42, 182, 0, 251, 43, 182, 0, 251, 100, 172]
abbrev dktX0_compared_2 : List UInt8 := dkwX0_compared_2 ++ []
def dkwX0_compared_1 : List UInt8 := [43, 29, 182, 1, 1, 159, 0, 15, 42, 29, 182, 1, 1, 43, 29, 182, 1, 1, 100, 172, 132, 3, 1]
abbrev dktX0_compared_1 : List UInt8 := dkwX0_compared_1 ++ dktX0_compared_2
def dkwX0_compared_0 : List UInt8 := [42, 182, 0, 251, 43, 182, 0, 251, 184, 0, 62, 61, 3, 62, 29, 28, 162, 0, 34, 42, 29, 182, 1, 1]
abbrev dktX0_compared_0 : List UInt8 := dkwX0_compared_0 ++ dktX0_compared_1
theorem dksX0_compared_0 : cX0_compared.data.toList.drop 0 = dktX0_compared_0 := by decide +kernel
theorem dksX0_compared_1 : cX0_compared.data.toList.drop 24 = dktX0_compared_1 := dk_seg dksX0_compared_0 24 rfl rfl
theorem dksX0_compared_2 : cX0_compared.data.toList.drop 47 = dktX0_compared_2 := dk_seg dksX0_compared_1 23 rfl rfl
theorem dX0_compared_0 : decode cX0_compared 0 = .ok (.aload_n 0, 1) := dk_42 (dk_at dksX0_compared_0 0 rfl rfl)
theorem dX0_compared_1 : decode cX0_compared 1 = .ok (.invokevirtual 251, 3) := dk_182 0 251 (dk_at dksX0_compared_0 1 rfl rfl)
theorem dX0_compared_4 : decode cX0_compared 4 = .ok (.aload_n 1, 1) := dk_43 (dk_at dksX0_compared_0 4 rfl rfl)
theorem dX0_compared_5 : decode cX0_compared 5 = .ok (.invokevirtual 251, 3) := dk_182 0 251 (dk_at dksX0_compared_0 5 rfl rfl)
theorem dX0_compared_8 : decode cX0_compared 8 = .ok (.invokestatic 62, 3) := dk_184 0 62 (dk_at dksX0_compared_0 8 rfl rfl)
theorem dX0_compared_11 : decode cX0_compared 11 = .ok (.istore_n 2, 1) := dk_61 (dk_at dksX0_compared_0 11 rfl rfl)
theorem dX0_compared_12 : decode cX0_compared 12 = .ok (.iconst 0, 1) := dk_3 (dk_at dksX0_compared_0 12 rfl rfl)
theorem dX0_compared_13 : decode cX0_compared 13 = .ok (.istore_n 3, 1) := dk_62 (dk_at dksX0_compared_0 13 rfl rfl)
theorem dX0_compared_14 : decode cX0_compared 14 = .ok (.iload_n 3, 1) := dk_29 (dk_at dksX0_compared_0 14 rfl rfl)
theorem dX0_compared_15 : decode cX0_compared 15 = .ok (.iload_n 2, 1) := dk_28 (dk_at dksX0_compared_0 15 rfl rfl)
theorem dX0_compared_16 : decode cX0_compared 16 = .ok (.if_icmp .ge 34, 3) := dk_162 0 34 (dk_at dksX0_compared_0 16 rfl rfl)
theorem dX0_compared_19 : decode cX0_compared 19 = .ok (.aload_n 0, 1) := dk_42 (dk_at dksX0_compared_0 19 rfl rfl)
theorem dX0_compared_20 : decode cX0_compared 20 = .ok (.iload_n 3, 1) := dk_29 (dk_at dksX0_compared_0 20 rfl rfl)
theorem dX0_compared_21 : decode cX0_compared 21 = .ok (.invokevirtual 257, 3) := dk_182 1 1 (dk_at dksX0_compared_0 21 rfl rfl)
theorem dX0_compared_24 : decode cX0_compared 24 = .ok (.aload_n 1, 1) := dk_43 (dk_at dksX0_compared_1 0 rfl rfl)
theorem dX0_compared_25 : decode cX0_compared 25 = .ok (.iload_n 3, 1) := dk_29 (dk_at dksX0_compared_1 1 rfl rfl)
theorem dX0_compared_26 : decode cX0_compared 26 = .ok (.invokevirtual 257, 3) := dk_182 1 1 (dk_at dksX0_compared_1 2 rfl rfl)
theorem dX0_compared_29 : decode cX0_compared 29 = .ok (.if_icmp .eq 15, 3) := dk_159 0 15 (dk_at dksX0_compared_1 5 rfl rfl)
theorem dX0_compared_32 : decode cX0_compared 32 = .ok (.aload_n 0, 1) := dk_42 (dk_at dksX0_compared_1 8 rfl rfl)
theorem dX0_compared_33 : decode cX0_compared 33 = .ok (.iload_n 3, 1) := dk_29 (dk_at dksX0_compared_1 9 rfl rfl)
theorem dX0_compared_34 : decode cX0_compared 34 = .ok (.invokevirtual 257, 3) := dk_182 1 1 (dk_at dksX0_compared_1 10 rfl rfl)
theorem dX0_compared_37 : decode cX0_compared 37 = .ok (.aload_n 1, 1) := dk_43 (dk_at dksX0_compared_1 13 rfl rfl)
theorem dX0_compared_38 : decode cX0_compared 38 = .ok (.iload_n 3, 1) := dk_29 (dk_at dksX0_compared_1 14 rfl rfl)
theorem dX0_compared_39 : decode cX0_compared 39 = .ok (.invokevirtual 257, 3) := dk_182 1 1 (dk_at dksX0_compared_1 15 rfl rfl)
theorem dX0_compared_42 : decode cX0_compared 42 = .ok (.isub, 1) := dk_100 (dk_at dksX0_compared_1 18 rfl rfl)
theorem dX0_compared_43 : decode cX0_compared 43 = .ok (.ireturn, 1) := dk_172 (dk_at dksX0_compared_1 19 rfl rfl)
theorem dX0_compared_44 : decode cX0_compared 44 = .ok (.iinc 3 1, 3) := dk_132 3 1 (dk_at dksX0_compared_1 20 rfl rfl)
theorem dX0_compared_47 : decode cX0_compared 47 = .ok (.goto (-33), 3) := dk_167 255 223 (dk_at dksX0_compared_2 0 rfl rfl)
theorem dX0_compared_50 : decode cX0_compared 50 = .ok (.aload_n 0, 1) := dk_42 (dk_at dksX0_compared_2 3 rfl rfl)
theorem dX0_compared_51 : decode cX0_compared 51 = .ok (.invokevirtual 251, 3) := dk_182 0 251 (dk_at dksX0_compared_2 4 rfl rfl)
theorem dX0_compared_54 : decode cX0_compared 54 = .ok (.aload_n 1, 1) := dk_43 (dk_at dksX0_compared_2 7 rfl rfl)
theorem dX0_compared_55 : decode cX0_compared 55 = .ok (.invokevirtual 251, 3) := dk_182 0 251 (dk_at dksX0_compared_2 8 rfl rfl)
theorem dX0_compared_58 : decode cX0_compared 58 = .ok (.isub, 1) := dk_100 (dk_at dksX0_compared_2 11 rfl rfl)
theorem dX0_compared_59 : decode cX0_compared 59 = .ok (.ireturn, 1) := dk_172 (dk_at dksX0_compared_2 12 rfl rfl)
abbrev cX0_lettersOf : ByteArray := prog_1_method_45_code
def yX0_lettersOf : MethodName := ⟨RX0, "lettersOf", "(Ljava/lang/String;)Ljava/lang/String;"⟩
def dkwX0_lettersOf_2 : List UInt8 := [182, 1, 24, 176]
abbrev dktX0_lettersOf_2 : List UInt8 := dkwX0_lettersOf_2 ++ []
def dkwX0_lettersOf_1 : List UInt8 := [184, 1, 17, 153, 0, 13, 43, 42, 28, 182, 1, 1, 182, 1, 20, 87, 132, 2, 1, 167, 255, 224, 43]
abbrev dktX0_lettersOf_1 : List UInt8 := dkwX0_lettersOf_1 ++ dktX0_lettersOf_2
def dkwX0_lettersOf_0 : List UInt8 := [187, 1, 13, 89, 183, 1, 15, 76, 3, 61, 28, 42, 182, 0, 251, 162, 0, 30, 42, 28, 182, 1, 1]
abbrev dktX0_lettersOf_0 : List UInt8 := dkwX0_lettersOf_0 ++ dktX0_lettersOf_1
theorem dksX0_lettersOf_0 : cX0_lettersOf.data.toList.drop 0 = dktX0_lettersOf_0 := by decide +kernel
theorem dksX0_lettersOf_1 : cX0_lettersOf.data.toList.drop 23 = dktX0_lettersOf_1 := dk_seg dksX0_lettersOf_0 23 rfl rfl
theorem dksX0_lettersOf_2 : cX0_lettersOf.data.toList.drop 46 = dktX0_lettersOf_2 := dk_seg dksX0_lettersOf_1 23 rfl rfl
theorem dX0_lettersOf_0 : decode cX0_lettersOf 0 = .ok (.new 269, 3) := dk_187 1 13 (dk_at dksX0_lettersOf_0 0 rfl rfl)
theorem dX0_lettersOf_3 : decode cX0_lettersOf 3 = .ok (.dup, 1) := dk_89 (dk_at dksX0_lettersOf_0 3 rfl rfl)
theorem dX0_lettersOf_4 : decode cX0_lettersOf 4 = .ok (.invokespecial 271, 3) := dk_183 1 15 (dk_at dksX0_lettersOf_0 4 rfl rfl)
theorem dX0_lettersOf_7 : decode cX0_lettersOf 7 = .ok (.astore_n 1, 1) := dk_76 (dk_at dksX0_lettersOf_0 7 rfl rfl)
theorem dX0_lettersOf_8 : decode cX0_lettersOf 8 = .ok (.iconst 0, 1) := dk_3 (dk_at dksX0_lettersOf_0 8 rfl rfl)
theorem dX0_lettersOf_9 : decode cX0_lettersOf 9 = .ok (.istore_n 2, 1) := dk_61 (dk_at dksX0_lettersOf_0 9 rfl rfl)
theorem dX0_lettersOf_10 : decode cX0_lettersOf 10 = .ok (.iload_n 2, 1) := dk_28 (dk_at dksX0_lettersOf_0 10 rfl rfl)
theorem dX0_lettersOf_11 : decode cX0_lettersOf 11 = .ok (.aload_n 0, 1) := dk_42 (dk_at dksX0_lettersOf_0 11 rfl rfl)
theorem dX0_lettersOf_12 : decode cX0_lettersOf 12 = .ok (.invokevirtual 251, 3) := dk_182 0 251 (dk_at dksX0_lettersOf_0 12 rfl rfl)
theorem dX0_lettersOf_15 : decode cX0_lettersOf 15 = .ok (.if_icmp .ge 30, 3) := dk_162 0 30 (dk_at dksX0_lettersOf_0 15 rfl rfl)
theorem dX0_lettersOf_18 : decode cX0_lettersOf 18 = .ok (.aload_n 0, 1) := dk_42 (dk_at dksX0_lettersOf_0 18 rfl rfl)
theorem dX0_lettersOf_19 : decode cX0_lettersOf 19 = .ok (.iload_n 2, 1) := dk_28 (dk_at dksX0_lettersOf_0 19 rfl rfl)
theorem dX0_lettersOf_20 : decode cX0_lettersOf 20 = .ok (.invokevirtual 257, 3) := dk_182 1 1 (dk_at dksX0_lettersOf_0 20 rfl rfl)
theorem dX0_lettersOf_23 : decode cX0_lettersOf 23 = .ok (.invokestatic 273, 3) := dk_184 1 17 (dk_at dksX0_lettersOf_1 0 rfl rfl)
theorem dX0_lettersOf_26 : decode cX0_lettersOf 26 = .ok (.ifCond .eq 13, 3) := dk_153 0 13 (dk_at dksX0_lettersOf_1 3 rfl rfl)
theorem dX0_lettersOf_29 : decode cX0_lettersOf 29 = .ok (.aload_n 1, 1) := dk_43 (dk_at dksX0_lettersOf_1 6 rfl rfl)
theorem dX0_lettersOf_30 : decode cX0_lettersOf 30 = .ok (.aload_n 0, 1) := dk_42 (dk_at dksX0_lettersOf_1 7 rfl rfl)
theorem dX0_lettersOf_31 : decode cX0_lettersOf 31 = .ok (.iload_n 2, 1) := dk_28 (dk_at dksX0_lettersOf_1 8 rfl rfl)
theorem dX0_lettersOf_32 : decode cX0_lettersOf 32 = .ok (.invokevirtual 257, 3) := dk_182 1 1 (dk_at dksX0_lettersOf_1 9 rfl rfl)
theorem dX0_lettersOf_35 : decode cX0_lettersOf 35 = .ok (.invokevirtual 276, 3) := dk_182 1 20 (dk_at dksX0_lettersOf_1 12 rfl rfl)
theorem dX0_lettersOf_38 : decode cX0_lettersOf 38 = .ok (.pop, 1) := dk_87 (dk_at dksX0_lettersOf_1 15 rfl rfl)
theorem dX0_lettersOf_39 : decode cX0_lettersOf 39 = .ok (.iinc 2 1, 3) := dk_132 2 1 (dk_at dksX0_lettersOf_1 16 rfl rfl)
theorem dX0_lettersOf_42 : decode cX0_lettersOf 42 = .ok (.goto (-32), 3) := dk_167 255 224 (dk_at dksX0_lettersOf_1 19 rfl rfl)
theorem dX0_lettersOf_45 : decode cX0_lettersOf 45 = .ok (.aload_n 1, 1) := dk_43 (dk_at dksX0_lettersOf_1 22 rfl rfl)
theorem dX0_lettersOf_46 : decode cX0_lettersOf 46 = .ok (.invokevirtual 280, 3) := dk_182 1 24 (dk_at dksX0_lettersOf_2 0 rfl rfl)
theorem dX0_lettersOf_49 : decode cX0_lettersOf 49 = .ok (.areturn, 1) := dk_176 (dk_at dksX0_lettersOf_2 3 rfl rfl)
abbrev cX0_isLetter : ByteArray := prog_1_method_43_code
def yX0_isLetter : MethodName := ⟨RX0, "isLetter", "(I)Z"⟩
def dkwX0_isLetter_0 : List UInt8 := [26, 133, 20, 1, 5, 20, 1, 7, 184, 0, 142, 172]
abbrev dktX0_isLetter_0 : List UInt8 := dkwX0_isLetter_0 ++ []
theorem dksX0_isLetter_0 : cX0_isLetter.data.toList.drop 0 = dktX0_isLetter_0 := by decide +kernel
theorem dX0_isLetter_0 : decode cX0_isLetter 0 = .ok (.iload_n 0, 1) := dk_26 (dk_at dksX0_isLetter_0 0 rfl rfl)
theorem dX0_isLetter_1 : decode cX0_isLetter 1 = .ok (.i2l, 1) := dk_133 (dk_at dksX0_isLetter_0 1 rfl rfl)
theorem dX0_isLetter_2 : decode cX0_isLetter 2 = .ok (.ldc2_w 261, 3) := dk_20 1 5 (dk_at dksX0_isLetter_0 2 rfl rfl)
theorem dX0_isLetter_5 : decode cX0_isLetter 5 = .ok (.ldc2_w 263, 3) := dk_20 1 7 (dk_at dksX0_isLetter_0 5 rfl rfl)
theorem dX0_isLetter_8 : decode cX0_isLetter 8 = .ok (.invokestatic 142, 3) := dk_184 0 142 (dk_at dksX0_isLetter_0 8 rfl rfl)
theorem dX0_isLetter_11 : decode cX0_isLetter 11 = .ok (.ireturn, 1) := dk_172 (dk_at dksX0_isLetter_0 11 rfl rfl)
abbrev cX0_isDigit : ByteArray := prog_1_method_44_code
def yX0_isDigit : MethodName := ⟨RX0, "isDigit", "(I)Z"⟩
def dkwX0_isDigit_0 : List UInt8 := [26, 133, 20, 1, 9, 20, 1, 11, 184, 0, 142, 172]
abbrev dktX0_isDigit_0 : List UInt8 := dkwX0_isDigit_0 ++ []
theorem dksX0_isDigit_0 : cX0_isDigit.data.toList.drop 0 = dktX0_isDigit_0 := by decide +kernel
theorem dX0_isDigit_0 : decode cX0_isDigit 0 = .ok (.iload_n 0, 1) := dk_26 (dk_at dksX0_isDigit_0 0 rfl rfl)
theorem dX0_isDigit_1 : decode cX0_isDigit 1 = .ok (.i2l, 1) := dk_133 (dk_at dksX0_isDigit_0 1 rfl rfl)
theorem dX0_isDigit_2 : decode cX0_isDigit 2 = .ok (.ldc2_w 265, 3) := dk_20 1 9 (dk_at dksX0_isDigit_0 2 rfl rfl)
theorem dX0_isDigit_5 : decode cX0_isDigit 5 = .ok (.ldc2_w 267, 3) := dk_20 1 11 (dk_at dksX0_isDigit_0 5 rfl rfl)
theorem dX0_isDigit_8 : decode cX0_isDigit 8 = .ok (.invokestatic 142, 3) := dk_184 0 142 (dk_at dksX0_isDigit_0 8 rfl rfl)
theorem dX0_isDigit_11 : decode cX0_isDigit 11 = .ok (.ireturn, 1) := dk_172 (dk_at dksX0_isDigit_0 11 rfl rfl)
abbrev cX0_byteOf : ByteArray := prog_1_method_67_code
def yX0_byteOf : MethodName := ⟨RX0, "byteOf", "(Ljava/lang/String;I)I"⟩
def dkwX0_byteOf_1 : List UInt8 := [2, 172]
abbrev dktX0_byteOf_1 : List UInt8 := dkwX0_byteOf_1 ++ []
def dkwX0_byteOf_0 : List UInt8 := [27, 133, 9, 42, 182, 0, 251, 4, 100, 133, 184, 0, 142, 153, 0, 11, 42, 27, 182, 1, 1, 167, 0, 4]
abbrev dktX0_byteOf_0 : List UInt8 := dkwX0_byteOf_0 ++ dktX0_byteOf_1
theorem dksX0_byteOf_0 : cX0_byteOf.data.toList.drop 0 = dktX0_byteOf_0 := by decide +kernel
theorem dksX0_byteOf_1 : cX0_byteOf.data.toList.drop 24 = dktX0_byteOf_1 := dk_seg dksX0_byteOf_0 24 rfl rfl
theorem dX0_byteOf_0 : decode cX0_byteOf 0 = .ok (.iload_n 1, 1) := dk_27 (dk_at dksX0_byteOf_0 0 rfl rfl)
theorem dX0_byteOf_1 : decode cX0_byteOf 1 = .ok (.i2l, 1) := dk_133 (dk_at dksX0_byteOf_0 1 rfl rfl)
theorem dX0_byteOf_2 : decode cX0_byteOf 2 = .ok (.lconst 0, 1) := dk_9 (dk_at dksX0_byteOf_0 2 rfl rfl)
theorem dX0_byteOf_3 : decode cX0_byteOf 3 = .ok (.aload_n 0, 1) := dk_42 (dk_at dksX0_byteOf_0 3 rfl rfl)
theorem dX0_byteOf_4 : decode cX0_byteOf 4 = .ok (.invokevirtual 251, 3) := dk_182 0 251 (dk_at dksX0_byteOf_0 4 rfl rfl)
theorem dX0_byteOf_7 : decode cX0_byteOf 7 = .ok (.iconst 1, 1) := dk_4 (dk_at dksX0_byteOf_0 7 rfl rfl)
theorem dX0_byteOf_8 : decode cX0_byteOf 8 = .ok (.isub, 1) := dk_100 (dk_at dksX0_byteOf_0 8 rfl rfl)
theorem dX0_byteOf_9 : decode cX0_byteOf 9 = .ok (.i2l, 1) := dk_133 (dk_at dksX0_byteOf_0 9 rfl rfl)
theorem dX0_byteOf_10 : decode cX0_byteOf 10 = .ok (.invokestatic 142, 3) := dk_184 0 142 (dk_at dksX0_byteOf_0 10 rfl rfl)
theorem dX0_byteOf_13 : decode cX0_byteOf 13 = .ok (.ifCond .eq 11, 3) := dk_153 0 11 (dk_at dksX0_byteOf_0 13 rfl rfl)
theorem dX0_byteOf_16 : decode cX0_byteOf 16 = .ok (.aload_n 0, 1) := dk_42 (dk_at dksX0_byteOf_0 16 rfl rfl)
theorem dX0_byteOf_17 : decode cX0_byteOf 17 = .ok (.iload_n 1, 1) := dk_27 (dk_at dksX0_byteOf_0 17 rfl rfl)
theorem dX0_byteOf_18 : decode cX0_byteOf 18 = .ok (.invokevirtual 257, 3) := dk_182 1 1 (dk_at dksX0_byteOf_0 18 rfl rfl)
theorem dX0_byteOf_21 : decode cX0_byteOf 21 = .ok (.goto 4, 3) := dk_167 0 4 (dk_at dksX0_byteOf_0 21 rfl rfl)
theorem dX0_byteOf_24 : decode cX0_byteOf 24 = .ok (.iconst (-1), 1) := dk_2 (dk_at dksX0_byteOf_1 0 rfl rfl)
theorem dX0_byteOf_25 : decode cX0_byteOf 25 = .ok (.ireturn, 1) := dk_172 (dk_at dksX0_byteOf_1 1 rfl rfl)
abbrev cX0_measure : ByteArray := prog_1_method_69_code
def yX0_measure : MethodName := ⟨RX0, "measure", "(I)I"⟩
def dkwX0_measure_1 : List UInt8 := [185, 2, 11, 2, 0, 167, 0, 4, 2, 172]
abbrev dktX0_measure_1 : List UInt8 := dkwX0_measure_1 ++ []
def dkwX0_measure_0 : List UInt8 := [27, 133, 9, 20, 0, 140, 184, 0, 142, 153, 0, 21, 42, 180, 1, 211, 27, 50, 42, 180, 1, 109]
abbrev dktX0_measure_0 : List UInt8 := dkwX0_measure_0 ++ dktX0_measure_1
theorem dksX0_measure_0 : cX0_measure.data.toList.drop 0 = dktX0_measure_0 := by decide +kernel
theorem dksX0_measure_1 : cX0_measure.data.toList.drop 22 = dktX0_measure_1 := dk_seg dksX0_measure_0 22 rfl rfl
theorem dX0_measure_0 : decode cX0_measure 0 = .ok (.iload_n 1, 1) := dk_27 (dk_at dksX0_measure_0 0 rfl rfl)
theorem dX0_measure_1 : decode cX0_measure 1 = .ok (.i2l, 1) := dk_133 (dk_at dksX0_measure_0 1 rfl rfl)
theorem dX0_measure_2 : decode cX0_measure 2 = .ok (.lconst 0, 1) := dk_9 (dk_at dksX0_measure_0 2 rfl rfl)
theorem dX0_measure_3 : decode cX0_measure 3 = .ok (.ldc2_w 140, 3) := dk_20 0 140 (dk_at dksX0_measure_0 3 rfl rfl)
theorem dX0_measure_6 : decode cX0_measure 6 = .ok (.invokestatic 142, 3) := dk_184 0 142 (dk_at dksX0_measure_0 6 rfl rfl)
theorem dX0_measure_9 : decode cX0_measure 9 = .ok (.ifCond .eq 21, 3) := dk_153 0 21 (dk_at dksX0_measure_0 9 rfl rfl)
theorem dX0_measure_12 : decode cX0_measure 12 = .ok (.aload_n 0, 1) := dk_42 (dk_at dksX0_measure_0 12 rfl rfl)
theorem dX0_measure_13 : decode cX0_measure 13 = .ok (.getfield 467, 3) := dk_180 1 211 (dk_at dksX0_measure_0 13 rfl rfl)
theorem dX0_measure_16 : decode cX0_measure 16 = .ok (.iload_n 1, 1) := dk_27 (dk_at dksX0_measure_0 16 rfl rfl)
theorem dX0_measure_17 : decode cX0_measure 17 = .ok (.aaload, 1) := dk_50 (dk_at dksX0_measure_0 17 rfl rfl)
theorem dX0_measure_18 : decode cX0_measure 18 = .ok (.aload_n 0, 1) := dk_42 (dk_at dksX0_measure_0 18 rfl rfl)
theorem dX0_measure_19 : decode cX0_measure 19 = .ok (.getfield 365, 3) := dk_180 1 109 (dk_at dksX0_measure_0 19 rfl rfl)
theorem dX0_measure_22 : decode cX0_measure 22 = .ok (.invokeinterface 523 2, 5) := by decide +kernel
theorem dX0_measure_27 : decode cX0_measure 27 = .ok (.goto 4, 3) := dk_167 0 4 (dk_at dksX0_measure_1 5 rfl rfl)
theorem dX0_measure_30 : decode cX0_measure 30 = .ok (.iconst (-1), 1) := dk_2 (dk_at dksX0_measure_1 8 rfl rfl)
theorem dX0_measure_31 : decode cX0_measure 31 = .ok (.ireturn, 1) := dk_172 (dk_at dksX0_measure_1 9 rfl rfl)
abbrev cX0_list : ByteArray := prog_1_method_70_code
def yX0_list : MethodName := ⟨RX0, "list", "(I)I"⟩
def dkwX0_list_0 : List UInt8 := [42, 27, 182, 0, 146, 153, 0, 13, 42, 180, 0, 108, 27, 50, 190, 167, 0, 4, 2, 172]
abbrev dktX0_list_0 : List UInt8 := dkwX0_list_0 ++ []
theorem dksX0_list_0 : cX0_list.data.toList.drop 0 = dktX0_list_0 := by decide +kernel
theorem dX0_list_0 : decode cX0_list 0 = .ok (.aload_n 0, 1) := dk_42 (dk_at dksX0_list_0 0 rfl rfl)
theorem dX0_list_1 : decode cX0_list 1 = .ok (.iload_n 1, 1) := dk_27 (dk_at dksX0_list_0 1 rfl rfl)
theorem dX0_list_2 : decode cX0_list 2 = .ok (.invokevirtual 146, 3) := dk_182 0 146 (dk_at dksX0_list_0 2 rfl rfl)
theorem dX0_list_5 : decode cX0_list 5 = .ok (.ifCond .eq 13, 3) := dk_153 0 13 (dk_at dksX0_list_0 5 rfl rfl)
theorem dX0_list_8 : decode cX0_list 8 = .ok (.aload_n 0, 1) := dk_42 (dk_at dksX0_list_0 8 rfl rfl)
theorem dX0_list_9 : decode cX0_list 9 = .ok (.getfield 108, 3) := dk_180 0 108 (dk_at dksX0_list_0 9 rfl rfl)
theorem dX0_list_12 : decode cX0_list 12 = .ok (.iload_n 1, 1) := dk_27 (dk_at dksX0_list_0 12 rfl rfl)
theorem dX0_list_13 : decode cX0_list 13 = .ok (.aaload, 1) := dk_50 (dk_at dksX0_list_0 13 rfl rfl)
theorem dX0_list_14 : decode cX0_list 14 = .ok (.arraylength, 1) := dk_190 (dk_at dksX0_list_0 14 rfl rfl)
theorem dX0_list_15 : decode cX0_list 15 = .ok (.goto 4, 3) := dk_167 0 4 (dk_at dksX0_list_0 15 rfl rfl)
theorem dX0_list_18 : decode cX0_list 18 = .ok (.iconst (-1), 1) := dk_2 (dk_at dksX0_list_0 18 rfl rfl)
theorem dX0_list_19 : decode cX0_list 19 = .ok (.ireturn, 1) := dk_172 (dk_at dksX0_list_0 19 rfl rfl)
abbrev cX0_key : ByteArray := prog_1_method_71_code
def yX0_key : MethodName := ⟨RX0, "key", "(II)I"⟩
def dkwX0_key_0 : List UInt8 := [42, 27, 28, 182, 1, 246, 153, 0, 14, 42, 180, 0, 108, 27, 50, 28, 46, 167, 0, 4, 2, 172]
abbrev dktX0_key_0 : List UInt8 := dkwX0_key_0 ++ []
theorem dksX0_key_0 : cX0_key.data.toList.drop 0 = dktX0_key_0 := by decide +kernel
theorem dX0_key_0 : decode cX0_key 0 = .ok (.aload_n 0, 1) := dk_42 (dk_at dksX0_key_0 0 rfl rfl)
theorem dX0_key_1 : decode cX0_key 1 = .ok (.iload_n 1, 1) := dk_27 (dk_at dksX0_key_0 1 rfl rfl)
theorem dX0_key_2 : decode cX0_key 2 = .ok (.iload_n 2, 1) := dk_28 (dk_at dksX0_key_0 2 rfl rfl)
theorem dX0_key_3 : decode cX0_key 3 = .ok (.invokevirtual 502, 3) := dk_182 1 246 (dk_at dksX0_key_0 3 rfl rfl)
theorem dX0_key_6 : decode cX0_key 6 = .ok (.ifCond .eq 14, 3) := dk_153 0 14 (dk_at dksX0_key_0 6 rfl rfl)
theorem dX0_key_9 : decode cX0_key 9 = .ok (.aload_n 0, 1) := dk_42 (dk_at dksX0_key_0 9 rfl rfl)
theorem dX0_key_10 : decode cX0_key 10 = .ok (.getfield 108, 3) := dk_180 0 108 (dk_at dksX0_key_0 10 rfl rfl)
theorem dX0_key_13 : decode cX0_key 13 = .ok (.iload_n 1, 1) := dk_27 (dk_at dksX0_key_0 13 rfl rfl)
theorem dX0_key_14 : decode cX0_key 14 = .ok (.aaload, 1) := dk_50 (dk_at dksX0_key_0 14 rfl rfl)
theorem dX0_key_15 : decode cX0_key 15 = .ok (.iload_n 2, 1) := dk_28 (dk_at dksX0_key_0 15 rfl rfl)
theorem dX0_key_16 : decode cX0_key 16 = .ok (.iaload, 1) := dk_46 (dk_at dksX0_key_0 16 rfl rfl)
theorem dX0_key_17 : decode cX0_key 17 = .ok (.goto 4, 3) := dk_167 0 4 (dk_at dksX0_key_0 17 rfl rfl)
theorem dX0_key_20 : decode cX0_key 20 = .ok (.iconst (-1), 1) := dk_2 (dk_at dksX0_key_0 20 rfl rfl)
theorem dX0_key_21 : decode cX0_key 21 = .ok (.ireturn, 1) := dk_172 (dk_at dksX0_key_0 21 rfl rfl)
abbrev cX0_ranked : ByteArray := prog_1_method_73_code
def yX0_ranked : MethodName := ⟨RX0, "ranked", "(III)I"⟩
def dkwX0_ranked_1 : List UInt8 := [182, 2, 14, 29, 46, 167, 0, 4, 2, 172]
abbrev dktX0_ranked_1 : List UInt8 := dkwX0_ranked_1 ++ []
def dkwX0_ranked_0 : List UInt8 := [42, 27, 29, 182, 1, 246, 153, 0, 26, 28, 133, 9, 20, 0, 140, 184, 0, 142, 153, 0, 14, 42, 27, 28]
abbrev dktX0_ranked_0 : List UInt8 := dkwX0_ranked_0 ++ dktX0_ranked_1
theorem dksX0_ranked_0 : cX0_ranked.data.toList.drop 0 = dktX0_ranked_0 := by decide +kernel
theorem dksX0_ranked_1 : cX0_ranked.data.toList.drop 24 = dktX0_ranked_1 := dk_seg dksX0_ranked_0 24 rfl rfl
theorem dX0_ranked_0 : decode cX0_ranked 0 = .ok (.aload_n 0, 1) := dk_42 (dk_at dksX0_ranked_0 0 rfl rfl)
theorem dX0_ranked_1 : decode cX0_ranked 1 = .ok (.iload_n 1, 1) := dk_27 (dk_at dksX0_ranked_0 1 rfl rfl)
theorem dX0_ranked_2 : decode cX0_ranked 2 = .ok (.iload_n 3, 1) := dk_29 (dk_at dksX0_ranked_0 2 rfl rfl)
theorem dX0_ranked_3 : decode cX0_ranked 3 = .ok (.invokevirtual 502, 3) := dk_182 1 246 (dk_at dksX0_ranked_0 3 rfl rfl)
theorem dX0_ranked_6 : decode cX0_ranked 6 = .ok (.ifCond .eq 26, 3) := dk_153 0 26 (dk_at dksX0_ranked_0 6 rfl rfl)
theorem dX0_ranked_9 : decode cX0_ranked 9 = .ok (.iload_n 2, 1) := dk_28 (dk_at dksX0_ranked_0 9 rfl rfl)
theorem dX0_ranked_10 : decode cX0_ranked 10 = .ok (.i2l, 1) := dk_133 (dk_at dksX0_ranked_0 10 rfl rfl)
theorem dX0_ranked_11 : decode cX0_ranked 11 = .ok (.lconst 0, 1) := dk_9 (dk_at dksX0_ranked_0 11 rfl rfl)
theorem dX0_ranked_12 : decode cX0_ranked 12 = .ok (.ldc2_w 140, 3) := dk_20 0 140 (dk_at dksX0_ranked_0 12 rfl rfl)
theorem dX0_ranked_15 : decode cX0_ranked 15 = .ok (.invokestatic 142, 3) := dk_184 0 142 (dk_at dksX0_ranked_0 15 rfl rfl)
theorem dX0_ranked_18 : decode cX0_ranked 18 = .ok (.ifCond .eq 14, 3) := dk_153 0 14 (dk_at dksX0_ranked_0 18 rfl rfl)
theorem dX0_ranked_21 : decode cX0_ranked 21 = .ok (.aload_n 0, 1) := dk_42 (dk_at dksX0_ranked_0 21 rfl rfl)
theorem dX0_ranked_22 : decode cX0_ranked 22 = .ok (.iload_n 1, 1) := dk_27 (dk_at dksX0_ranked_0 22 rfl rfl)
theorem dX0_ranked_23 : decode cX0_ranked 23 = .ok (.iload_n 2, 1) := dk_28 (dk_at dksX0_ranked_0 23 rfl rfl)
theorem dX0_ranked_24 : decode cX0_ranked 24 = .ok (.invokevirtual 526, 3) := dk_182 2 14 (dk_at dksX0_ranked_1 0 rfl rfl)
theorem dX0_ranked_27 : decode cX0_ranked 27 = .ok (.iload_n 3, 1) := dk_29 (dk_at dksX0_ranked_1 3 rfl rfl)
theorem dX0_ranked_28 : decode cX0_ranked 28 = .ok (.iaload, 1) := dk_46 (dk_at dksX0_ranked_1 4 rfl rfl)
theorem dX0_ranked_29 : decode cX0_ranked 29 = .ok (.goto 4, 3) := dk_167 0 4 (dk_at dksX0_ranked_1 5 rfl rfl)
theorem dX0_ranked_32 : decode cX0_ranked 32 = .ok (.iconst (-1), 1) := dk_2 (dk_at dksX0_ranked_1 8 rfl rfl)
theorem dX0_ranked_33 : decode cX0_ranked 33 = .ok (.ireturn, 1) := dk_172 (dk_at dksX0_ranked_1 9 rfl rfl)
abbrev cX0_orderOf : ByteArray := prog_1_method_72_code
def yX0_orderOf : MethodName := ⟨RX0, "orderOf", "(II)[I"⟩
def dkwX0_orderOf_6 : List UInt8 := [21, 7, 21, 5, 79, 132, 5, 1, 167, 255, 147, 42, 180, 1, 168, 29, 25, 4, 83, 25, 4, 176]
abbrev dktX0_orderOf_6 : List UInt8 := dkwX0_orderOf_6 ++ []
def dkwX0_orderOf_5 : List UInt8 := [162, 0, 21, 25, 4, 21, 7, 25, 4, 21, 7, 4, 100, 46, 79, 132, 7, 255, 167, 255, 214, 25, 4]
abbrev dktX0_orderOf_5 : List UInt8 := dkwX0_orderOf_5 ++ dktX0_orderOf_6
def dkwX0_orderOf_4 : List UInt8 := [158, 0, 43, 42, 180, 1, 165, 25, 4, 21, 7, 4, 100, 46, 46, 42, 180, 1, 165, 21, 5, 46]
abbrev dktX0_orderOf_4 : List UInt8 := dkwX0_orderOf_4 ++ dktX0_orderOf_5
def dkwX0_orderOf_3 : List UInt8 := [42, 180, 1, 211, 28, 50, 42, 180, 1, 115, 185, 2, 11, 2, 0, 79, 21, 5, 54, 7, 21, 7]
abbrev dktX0_orderOf_3 : List UInt8 := dkwX0_orderOf_3 ++ dktX0_orderOf_4
def dkwX0_orderOf_2 : List UInt8 := [180, 1, 115, 27, 42, 180, 0, 108, 27, 50, 21, 5, 46, 182, 0, 115, 54, 6, 42, 180, 1, 165, 21, 5]
abbrev dktX0_orderOf_2 : List UInt8 := dkwX0_orderOf_2 ++ dktX0_orderOf_3
def dkwX0_orderOf_1 : List UInt8 := [180, 0, 108, 27, 50, 190, 188, 10, 58, 4, 3, 54, 5, 21, 5, 25, 4, 190, 162, 0, 107, 42, 42]
abbrev dktX0_orderOf_1 : List UInt8 := dkwX0_orderOf_1 ++ dktX0_orderOf_2
def dkwX0_orderOf_0 : List UInt8 := [16, 11, 27, 104, 28, 96, 62, 42, 180, 1, 168, 29, 50, 198, 0, 10, 42, 180, 1, 168, 29, 50, 176, 42]
abbrev dktX0_orderOf_0 : List UInt8 := dkwX0_orderOf_0 ++ dktX0_orderOf_1
theorem dksX0_orderOf_0 : cX0_orderOf.data.toList.drop 0 = dktX0_orderOf_0 := by decide +kernel
theorem dksX0_orderOf_1 : cX0_orderOf.data.toList.drop 24 = dktX0_orderOf_1 := dk_seg dksX0_orderOf_0 24 rfl rfl
theorem dksX0_orderOf_2 : cX0_orderOf.data.toList.drop 47 = dktX0_orderOf_2 := dk_seg dksX0_orderOf_1 23 rfl rfl
theorem dksX0_orderOf_3 : cX0_orderOf.data.toList.drop 71 = dktX0_orderOf_3 := dk_seg dksX0_orderOf_2 24 rfl rfl
theorem dksX0_orderOf_4 : cX0_orderOf.data.toList.drop 93 = dktX0_orderOf_4 := dk_seg dksX0_orderOf_3 22 rfl rfl
theorem dksX0_orderOf_5 : cX0_orderOf.data.toList.drop 115 = dktX0_orderOf_5 := dk_seg dksX0_orderOf_4 22 rfl rfl
theorem dksX0_orderOf_6 : cX0_orderOf.data.toList.drop 138 = dktX0_orderOf_6 := dk_seg dksX0_orderOf_5 23 rfl rfl
theorem dX0_orderOf_0 : decode cX0_orderOf 0 = .ok (.bipush 11, 2) := dk_16 11 (dk_at dksX0_orderOf_0 0 rfl rfl)
theorem dX0_orderOf_2 : decode cX0_orderOf 2 = .ok (.iload_n 1, 1) := dk_27 (dk_at dksX0_orderOf_0 2 rfl rfl)
theorem dX0_orderOf_3 : decode cX0_orderOf 3 = .ok (.imul, 1) := dk_104 (dk_at dksX0_orderOf_0 3 rfl rfl)
theorem dX0_orderOf_4 : decode cX0_orderOf 4 = .ok (.iload_n 2, 1) := dk_28 (dk_at dksX0_orderOf_0 4 rfl rfl)
theorem dX0_orderOf_5 : decode cX0_orderOf 5 = .ok (.iadd, 1) := dk_96 (dk_at dksX0_orderOf_0 5 rfl rfl)
theorem dX0_orderOf_6 : decode cX0_orderOf 6 = .ok (.istore_n 3, 1) := dk_62 (dk_at dksX0_orderOf_0 6 rfl rfl)
theorem dX0_orderOf_7 : decode cX0_orderOf 7 = .ok (.aload_n 0, 1) := dk_42 (dk_at dksX0_orderOf_0 7 rfl rfl)
theorem dX0_orderOf_8 : decode cX0_orderOf 8 = .ok (.getfield 424, 3) := dk_180 1 168 (dk_at dksX0_orderOf_0 8 rfl rfl)
theorem dX0_orderOf_11 : decode cX0_orderOf 11 = .ok (.iload_n 3, 1) := dk_29 (dk_at dksX0_orderOf_0 11 rfl rfl)
theorem dX0_orderOf_12 : decode cX0_orderOf 12 = .ok (.aaload, 1) := dk_50 (dk_at dksX0_orderOf_0 12 rfl rfl)
theorem dX0_orderOf_13 : decode cX0_orderOf 13 = .ok (.ifnull 10, 3) := dk_198 0 10 (dk_at dksX0_orderOf_0 13 rfl rfl)
theorem dX0_orderOf_16 : decode cX0_orderOf 16 = .ok (.aload_n 0, 1) := dk_42 (dk_at dksX0_orderOf_0 16 rfl rfl)
theorem dX0_orderOf_17 : decode cX0_orderOf 17 = .ok (.getfield 424, 3) := dk_180 1 168 (dk_at dksX0_orderOf_0 17 rfl rfl)
theorem dX0_orderOf_20 : decode cX0_orderOf 20 = .ok (.iload_n 3, 1) := dk_29 (dk_at dksX0_orderOf_0 20 rfl rfl)
theorem dX0_orderOf_21 : decode cX0_orderOf 21 = .ok (.aaload, 1) := dk_50 (dk_at dksX0_orderOf_0 21 rfl rfl)
theorem dX0_orderOf_22 : decode cX0_orderOf 22 = .ok (.areturn, 1) := dk_176 (dk_at dksX0_orderOf_0 22 rfl rfl)
theorem dX0_orderOf_23 : decode cX0_orderOf 23 = .ok (.aload_n 0, 1) := dk_42 (dk_at dksX0_orderOf_0 23 rfl rfl)
theorem dX0_orderOf_24 : decode cX0_orderOf 24 = .ok (.getfield 108, 3) := dk_180 0 108 (dk_at dksX0_orderOf_1 0 rfl rfl)
theorem dX0_orderOf_27 : decode cX0_orderOf 27 = .ok (.iload_n 1, 1) := dk_27 (dk_at dksX0_orderOf_1 3 rfl rfl)
theorem dX0_orderOf_28 : decode cX0_orderOf 28 = .ok (.aaload, 1) := dk_50 (dk_at dksX0_orderOf_1 4 rfl rfl)
theorem dX0_orderOf_29 : decode cX0_orderOf 29 = .ok (.arraylength, 1) := dk_190 (dk_at dksX0_orderOf_1 5 rfl rfl)
theorem dX0_orderOf_30 : decode cX0_orderOf 30 = .ok (.newarray .int, 2) := dk_188_10 (dk_at dksX0_orderOf_1 6 rfl rfl)
theorem dX0_orderOf_32 : decode cX0_orderOf 32 = .ok (.astore 4, 2) := dk_58 4 (dk_at dksX0_orderOf_1 8 rfl rfl)
theorem dX0_orderOf_34 : decode cX0_orderOf 34 = .ok (.iconst 0, 1) := dk_3 (dk_at dksX0_orderOf_1 10 rfl rfl)
theorem dX0_orderOf_35 : decode cX0_orderOf 35 = .ok (.istore 5, 2) := dk_54 5 (dk_at dksX0_orderOf_1 11 rfl rfl)
theorem dX0_orderOf_37 : decode cX0_orderOf 37 = .ok (.iload 5, 2) := dk_21 5 (dk_at dksX0_orderOf_1 13 rfl rfl)
theorem dX0_orderOf_39 : decode cX0_orderOf 39 = .ok (.aload 4, 2) := dk_25 4 (dk_at dksX0_orderOf_1 15 rfl rfl)
theorem dX0_orderOf_41 : decode cX0_orderOf 41 = .ok (.arraylength, 1) := dk_190 (dk_at dksX0_orderOf_1 17 rfl rfl)
theorem dX0_orderOf_42 : decode cX0_orderOf 42 = .ok (.if_icmp .ge 107, 3) := dk_162 0 107 (dk_at dksX0_orderOf_1 18 rfl rfl)
theorem dX0_orderOf_45 : decode cX0_orderOf 45 = .ok (.aload_n 0, 1) := dk_42 (dk_at dksX0_orderOf_1 21 rfl rfl)
theorem dX0_orderOf_46 : decode cX0_orderOf 46 = .ok (.aload_n 0, 1) := dk_42 (dk_at dksX0_orderOf_1 22 rfl rfl)
theorem dX0_orderOf_47 : decode cX0_orderOf 47 = .ok (.getfield 371, 3) := dk_180 1 115 (dk_at dksX0_orderOf_2 0 rfl rfl)
theorem dX0_orderOf_50 : decode cX0_orderOf 50 = .ok (.iload_n 1, 1) := dk_27 (dk_at dksX0_orderOf_2 3 rfl rfl)
theorem dX0_orderOf_51 : decode cX0_orderOf 51 = .ok (.aload_n 0, 1) := dk_42 (dk_at dksX0_orderOf_2 4 rfl rfl)
theorem dX0_orderOf_52 : decode cX0_orderOf 52 = .ok (.getfield 108, 3) := dk_180 0 108 (dk_at dksX0_orderOf_2 5 rfl rfl)
theorem dX0_orderOf_55 : decode cX0_orderOf 55 = .ok (.iload_n 1, 1) := dk_27 (dk_at dksX0_orderOf_2 8 rfl rfl)
theorem dX0_orderOf_56 : decode cX0_orderOf 56 = .ok (.aaload, 1) := dk_50 (dk_at dksX0_orderOf_2 9 rfl rfl)
theorem dX0_orderOf_57 : decode cX0_orderOf 57 = .ok (.iload 5, 2) := dk_21 5 (dk_at dksX0_orderOf_2 10 rfl rfl)
theorem dX0_orderOf_59 : decode cX0_orderOf 59 = .ok (.iaload, 1) := dk_46 (dk_at dksX0_orderOf_2 12 rfl rfl)
theorem dX0_orderOf_60 : decode cX0_orderOf 60 = .ok (.invokevirtual 115, 3) := dk_182 0 115 (dk_at dksX0_orderOf_2 13 rfl rfl)
theorem dX0_orderOf_63 : decode cX0_orderOf 63 = .ok (.istore 6, 2) := dk_54 6 (dk_at dksX0_orderOf_2 16 rfl rfl)
theorem dX0_orderOf_65 : decode cX0_orderOf 65 = .ok (.aload_n 0, 1) := dk_42 (dk_at dksX0_orderOf_2 18 rfl rfl)
theorem dX0_orderOf_66 : decode cX0_orderOf 66 = .ok (.getfield 421, 3) := dk_180 1 165 (dk_at dksX0_orderOf_2 19 rfl rfl)
theorem dX0_orderOf_69 : decode cX0_orderOf 69 = .ok (.iload 5, 2) := dk_21 5 (dk_at dksX0_orderOf_2 22 rfl rfl)
theorem dX0_orderOf_71 : decode cX0_orderOf 71 = .ok (.aload_n 0, 1) := dk_42 (dk_at dksX0_orderOf_3 0 rfl rfl)
theorem dX0_orderOf_72 : decode cX0_orderOf 72 = .ok (.getfield 467, 3) := dk_180 1 211 (dk_at dksX0_orderOf_3 1 rfl rfl)
theorem dX0_orderOf_75 : decode cX0_orderOf 75 = .ok (.iload_n 2, 1) := dk_28 (dk_at dksX0_orderOf_3 4 rfl rfl)
theorem dX0_orderOf_76 : decode cX0_orderOf 76 = .ok (.aaload, 1) := dk_50 (dk_at dksX0_orderOf_3 5 rfl rfl)
theorem dX0_orderOf_77 : decode cX0_orderOf 77 = .ok (.aload_n 0, 1) := dk_42 (dk_at dksX0_orderOf_3 6 rfl rfl)
theorem dX0_orderOf_78 : decode cX0_orderOf 78 = .ok (.getfield 371, 3) := dk_180 1 115 (dk_at dksX0_orderOf_3 7 rfl rfl)
theorem dX0_orderOf_81 : decode cX0_orderOf 81 = .ok (.invokeinterface 523 2, 5) := by decide +kernel
theorem dX0_orderOf_86 : decode cX0_orderOf 86 = .ok (.iastore, 1) := dk_79 (dk_at dksX0_orderOf_3 15 rfl rfl)
theorem dX0_orderOf_87 : decode cX0_orderOf 87 = .ok (.iload 5, 2) := dk_21 5 (dk_at dksX0_orderOf_3 16 rfl rfl)
theorem dX0_orderOf_89 : decode cX0_orderOf 89 = .ok (.istore 7, 2) := dk_54 7 (dk_at dksX0_orderOf_3 18 rfl rfl)
theorem dX0_orderOf_91 : decode cX0_orderOf 91 = .ok (.iload 7, 2) := dk_21 7 (dk_at dksX0_orderOf_3 20 rfl rfl)
theorem dX0_orderOf_93 : decode cX0_orderOf 93 = .ok (.ifCond .le 43, 3) := dk_158 0 43 (dk_at dksX0_orderOf_4 0 rfl rfl)
theorem dX0_orderOf_96 : decode cX0_orderOf 96 = .ok (.aload_n 0, 1) := dk_42 (dk_at dksX0_orderOf_4 3 rfl rfl)
theorem dX0_orderOf_97 : decode cX0_orderOf 97 = .ok (.getfield 421, 3) := dk_180 1 165 (dk_at dksX0_orderOf_4 4 rfl rfl)
theorem dX0_orderOf_100 : decode cX0_orderOf 100 = .ok (.aload 4, 2) := dk_25 4 (dk_at dksX0_orderOf_4 7 rfl rfl)
theorem dX0_orderOf_102 : decode cX0_orderOf 102 = .ok (.iload 7, 2) := dk_21 7 (dk_at dksX0_orderOf_4 9 rfl rfl)
theorem dX0_orderOf_104 : decode cX0_orderOf 104 = .ok (.iconst 1, 1) := dk_4 (dk_at dksX0_orderOf_4 11 rfl rfl)
theorem dX0_orderOf_105 : decode cX0_orderOf 105 = .ok (.isub, 1) := dk_100 (dk_at dksX0_orderOf_4 12 rfl rfl)
theorem dX0_orderOf_106 : decode cX0_orderOf 106 = .ok (.iaload, 1) := dk_46 (dk_at dksX0_orderOf_4 13 rfl rfl)
theorem dX0_orderOf_107 : decode cX0_orderOf 107 = .ok (.iaload, 1) := dk_46 (dk_at dksX0_orderOf_4 14 rfl rfl)
theorem dX0_orderOf_108 : decode cX0_orderOf 108 = .ok (.aload_n 0, 1) := dk_42 (dk_at dksX0_orderOf_4 15 rfl rfl)
theorem dX0_orderOf_109 : decode cX0_orderOf 109 = .ok (.getfield 421, 3) := dk_180 1 165 (dk_at dksX0_orderOf_4 16 rfl rfl)
theorem dX0_orderOf_112 : decode cX0_orderOf 112 = .ok (.iload 5, 2) := dk_21 5 (dk_at dksX0_orderOf_4 19 rfl rfl)
theorem dX0_orderOf_114 : decode cX0_orderOf 114 = .ok (.iaload, 1) := dk_46 (dk_at dksX0_orderOf_4 21 rfl rfl)
theorem dX0_orderOf_115 : decode cX0_orderOf 115 = .ok (.if_icmp .ge 21, 3) := dk_162 0 21 (dk_at dksX0_orderOf_5 0 rfl rfl)
theorem dX0_orderOf_118 : decode cX0_orderOf 118 = .ok (.aload 4, 2) := dk_25 4 (dk_at dksX0_orderOf_5 3 rfl rfl)
theorem dX0_orderOf_120 : decode cX0_orderOf 120 = .ok (.iload 7, 2) := dk_21 7 (dk_at dksX0_orderOf_5 5 rfl rfl)
theorem dX0_orderOf_122 : decode cX0_orderOf 122 = .ok (.aload 4, 2) := dk_25 4 (dk_at dksX0_orderOf_5 7 rfl rfl)
theorem dX0_orderOf_124 : decode cX0_orderOf 124 = .ok (.iload 7, 2) := dk_21 7 (dk_at dksX0_orderOf_5 9 rfl rfl)
theorem dX0_orderOf_126 : decode cX0_orderOf 126 = .ok (.iconst 1, 1) := dk_4 (dk_at dksX0_orderOf_5 11 rfl rfl)
theorem dX0_orderOf_127 : decode cX0_orderOf 127 = .ok (.isub, 1) := dk_100 (dk_at dksX0_orderOf_5 12 rfl rfl)
theorem dX0_orderOf_128 : decode cX0_orderOf 128 = .ok (.iaload, 1) := dk_46 (dk_at dksX0_orderOf_5 13 rfl rfl)
theorem dX0_orderOf_129 : decode cX0_orderOf 129 = .ok (.iastore, 1) := dk_79 (dk_at dksX0_orderOf_5 14 rfl rfl)
theorem dX0_orderOf_130 : decode cX0_orderOf 130 = .ok (.iinc 7 (-1), 3) := dk_132 7 255 (dk_at dksX0_orderOf_5 15 rfl rfl)
theorem dX0_orderOf_133 : decode cX0_orderOf 133 = .ok (.goto (-42), 3) := dk_167 255 214 (dk_at dksX0_orderOf_5 18 rfl rfl)
theorem dX0_orderOf_136 : decode cX0_orderOf 136 = .ok (.aload 4, 2) := dk_25 4 (dk_at dksX0_orderOf_5 21 rfl rfl)
theorem dX0_orderOf_138 : decode cX0_orderOf 138 = .ok (.iload 7, 2) := dk_21 7 (dk_at dksX0_orderOf_6 0 rfl rfl)
theorem dX0_orderOf_140 : decode cX0_orderOf 140 = .ok (.iload 5, 2) := dk_21 5 (dk_at dksX0_orderOf_6 2 rfl rfl)
theorem dX0_orderOf_142 : decode cX0_orderOf 142 = .ok (.iastore, 1) := dk_79 (dk_at dksX0_orderOf_6 4 rfl rfl)
theorem dX0_orderOf_143 : decode cX0_orderOf 143 = .ok (.iinc 5 1, 3) := dk_132 5 1 (dk_at dksX0_orderOf_6 5 rfl rfl)
theorem dX0_orderOf_146 : decode cX0_orderOf 146 = .ok (.goto (-109), 3) := dk_167 255 147 (dk_at dksX0_orderOf_6 8 rfl rfl)
theorem dX0_orderOf_149 : decode cX0_orderOf 149 = .ok (.aload_n 0, 1) := dk_42 (dk_at dksX0_orderOf_6 11 rfl rfl)
theorem dX0_orderOf_150 : decode cX0_orderOf 150 = .ok (.getfield 424, 3) := dk_180 1 168 (dk_at dksX0_orderOf_6 12 rfl rfl)
theorem dX0_orderOf_153 : decode cX0_orderOf 153 = .ok (.iload_n 3, 1) := dk_29 (dk_at dksX0_orderOf_6 15 rfl rfl)
theorem dX0_orderOf_154 : decode cX0_orderOf 154 = .ok (.aload 4, 2) := dk_25 4 (dk_at dksX0_orderOf_6 16 rfl rfl)
theorem dX0_orderOf_156 : decode cX0_orderOf 156 = .ok (.aastore, 1) := dk_83 (dk_at dksX0_orderOf_6 18 rfl rfl)
theorem dX0_orderOf_157 : decode cX0_orderOf 157 = .ok (.aload 4, 2) := dk_25 4 (dk_at dksX0_orderOf_6 19 rfl rfl)
theorem dX0_orderOf_159 : decode cX0_orderOf 159 = .ok (.areturn, 1) := dk_176 (dk_at dksX0_orderOf_6 21 rfl rfl)
abbrev cX0_name : ByteArray := prog_1_method_74_code
def yX0_name : MethodName := ⟨RX0, "name", "(I)I"⟩
def dkwX0_name_1 : List UInt8 := [182, 2, 18, 27, 184, 2, 7, 172]
abbrev dktX0_name_1 : List UInt8 := dkwX0_name_1 ++ []
def dkwX0_name_0 : List UInt8 := [27, 2, 160, 0, 17, 42, 42, 180, 1, 109, 182, 2, 18, 182, 0, 251, 167, 0, 15, 42, 42, 180, 1, 109]
abbrev dktX0_name_0 : List UInt8 := dkwX0_name_0 ++ dktX0_name_1
theorem dksX0_name_0 : cX0_name.data.toList.drop 0 = dktX0_name_0 := by decide +kernel
theorem dksX0_name_1 : cX0_name.data.toList.drop 24 = dktX0_name_1 := dk_seg dksX0_name_0 24 rfl rfl
theorem dX0_name_0 : decode cX0_name 0 = .ok (.iload_n 1, 1) := dk_27 (dk_at dksX0_name_0 0 rfl rfl)
theorem dX0_name_1 : decode cX0_name 1 = .ok (.iconst (-1), 1) := dk_2 (dk_at dksX0_name_0 1 rfl rfl)
theorem dX0_name_2 : decode cX0_name 2 = .ok (.if_icmp .ne 17, 3) := dk_160 0 17 (dk_at dksX0_name_0 2 rfl rfl)
theorem dX0_name_5 : decode cX0_name 5 = .ok (.aload_n 0, 1) := dk_42 (dk_at dksX0_name_0 5 rfl rfl)
theorem dX0_name_6 : decode cX0_name 6 = .ok (.aload_n 0, 1) := dk_42 (dk_at dksX0_name_0 6 rfl rfl)
theorem dX0_name_7 : decode cX0_name 7 = .ok (.getfield 365, 3) := dk_180 1 109 (dk_at dksX0_name_0 7 rfl rfl)
theorem dX0_name_10 : decode cX0_name 10 = .ok (.invokevirtual 530, 3) := dk_182 2 18 (dk_at dksX0_name_0 10 rfl rfl)
theorem dX0_name_13 : decode cX0_name 13 = .ok (.invokevirtual 251, 3) := dk_182 0 251 (dk_at dksX0_name_0 13 rfl rfl)
theorem dX0_name_16 : decode cX0_name 16 = .ok (.goto 15, 3) := dk_167 0 15 (dk_at dksX0_name_0 16 rfl rfl)
theorem dX0_name_19 : decode cX0_name 19 = .ok (.aload_n 0, 1) := dk_42 (dk_at dksX0_name_0 19 rfl rfl)
theorem dX0_name_20 : decode cX0_name 20 = .ok (.aload_n 0, 1) := dk_42 (dk_at dksX0_name_0 20 rfl rfl)
theorem dX0_name_21 : decode cX0_name 21 = .ok (.getfield 365, 3) := dk_180 1 109 (dk_at dksX0_name_0 21 rfl rfl)
theorem dX0_name_24 : decode cX0_name 24 = .ok (.invokevirtual 530, 3) := dk_182 2 18 (dk_at dksX0_name_1 0 rfl rfl)
theorem dX0_name_27 : decode cX0_name 27 = .ok (.iload_n 1, 1) := dk_27 (dk_at dksX0_name_1 3 rfl rfl)
theorem dX0_name_28 : decode cX0_name 28 = .ok (.invokestatic 519, 3) := dk_184 2 7 (dk_at dksX0_name_1 4 rfl rfl)
theorem dX0_name_31 : decode cX0_name 31 = .ok (.ireturn, 1) := dk_172 (dk_at dksX0_name_1 7 rfl rfl)
abbrev cX0_nameOf_2 : ByteArray := prog_1_method_49_code
def yX0_nameOf_2 : MethodName := ⟨RX0, "nameOf", "(LBranchNames$Tree;)Ljava/lang/String;"⟩
def dkwX0_nameOf_2_0 : List UInt8 := [42, 43, 182, 1, 102, 180, 0, 195, 176]
abbrev dktX0_nameOf_2_0 : List UInt8 := dkwX0_nameOf_2_0 ++ []
theorem dksX0_nameOf_2_0 : cX0_nameOf_2.data.toList.drop 0 = dktX0_nameOf_2_0 := by decide +kernel
theorem dX0_nameOf_2_0 : decode cX0_nameOf_2 0 = .ok (.aload_n 0, 1) := dk_42 (dk_at dksX0_nameOf_2_0 0 rfl rfl)
theorem dX0_nameOf_2_1 : decode cX0_nameOf_2 1 = .ok (.aload_n 1, 1) := dk_43 (dk_at dksX0_nameOf_2_0 1 rfl rfl)
theorem dX0_nameOf_2_2 : decode cX0_nameOf_2 2 = .ok (.invokevirtual 358, 3) := dk_182 1 102 (dk_at dksX0_nameOf_2_0 2 rfl rfl)
theorem dX0_nameOf_2_5 : decode cX0_nameOf_2 5 = .ok (.getfield 195, 3) := dk_180 0 195 (dk_at dksX0_nameOf_2_0 5 rfl rfl)
theorem dX0_nameOf_2_8 : decode cX0_nameOf_2 8 = .ok (.areturn, 1) := dk_176 (dk_at dksX0_nameOf_2_0 8 rfl rfl)
abbrev cX0_chainOf_2 : ByteArray := prog_1_method_40_code
def yX0_chainOf_2 : MethodName := ⟨RX0, "chainOf", "(LBranchNames$Tree;)LBranchNames$Way;"⟩
def dkwX0_chainOf_2_0 : List UInt8 := [43, 180, 0, 243, 199, 0, 14, 43, 42, 43, 2, 2, 182, 0, 247, 181, 0, 243, 43, 180, 0, 243, 176]
abbrev dktX0_chainOf_2_0 : List UInt8 := dkwX0_chainOf_2_0 ++ []
theorem dksX0_chainOf_2_0 : cX0_chainOf_2.data.toList.drop 0 = dktX0_chainOf_2_0 := by decide +kernel
theorem dX0_chainOf_2_0 : decode cX0_chainOf_2 0 = .ok (.aload_n 1, 1) := dk_43 (dk_at dksX0_chainOf_2_0 0 rfl rfl)
theorem dX0_chainOf_2_1 : decode cX0_chainOf_2 1 = .ok (.getfield 243, 3) := dk_180 0 243 (dk_at dksX0_chainOf_2_0 1 rfl rfl)
theorem dX0_chainOf_2_4 : decode cX0_chainOf_2 4 = .ok (.ifnonnull 14, 3) := dk_199 0 14 (dk_at dksX0_chainOf_2_0 4 rfl rfl)
theorem dX0_chainOf_2_7 : decode cX0_chainOf_2 7 = .ok (.aload_n 1, 1) := dk_43 (dk_at dksX0_chainOf_2_0 7 rfl rfl)
theorem dX0_chainOf_2_8 : decode cX0_chainOf_2 8 = .ok (.aload_n 0, 1) := dk_42 (dk_at dksX0_chainOf_2_0 8 rfl rfl)
theorem dX0_chainOf_2_9 : decode cX0_chainOf_2 9 = .ok (.aload_n 1, 1) := dk_43 (dk_at dksX0_chainOf_2_0 9 rfl rfl)
theorem dX0_chainOf_2_10 : decode cX0_chainOf_2 10 = .ok (.iconst (-1), 1) := dk_2 (dk_at dksX0_chainOf_2_0 10 rfl rfl)
theorem dX0_chainOf_2_11 : decode cX0_chainOf_2 11 = .ok (.iconst (-1), 1) := dk_2 (dk_at dksX0_chainOf_2_0 11 rfl rfl)
theorem dX0_chainOf_2_12 : decode cX0_chainOf_2 12 = .ok (.invokevirtual 247, 3) := dk_182 0 247 (dk_at dksX0_chainOf_2_0 12 rfl rfl)
theorem dX0_chainOf_2_15 : decode cX0_chainOf_2 15 = .ok (.putfield 243, 3) := dk_181 0 243 (dk_at dksX0_chainOf_2_0 15 rfl rfl)
theorem dX0_chainOf_2_18 : decode cX0_chainOf_2 18 = .ok (.aload_n 1, 1) := dk_43 (dk_at dksX0_chainOf_2_0 18 rfl rfl)
theorem dX0_chainOf_2_19 : decode cX0_chainOf_2 19 = .ok (.getfield 243, 3) := dk_180 0 243 (dk_at dksX0_chainOf_2_0 19 rfl rfl)
theorem dX0_chainOf_2_22 : decode cX0_chainOf_2 22 = .ok (.areturn, 1) := dk_176 (dk_at dksX0_chainOf_2_0 22 rfl rfl)
abbrev cX0_named : ByteArray := prog_1_method_76_code
def yX0_named : MethodName := ⟨RX0, "named", "(III)I"⟩
def dkwX0_named_1 : List UInt8 := [25, 4, 182, 0, 251, 167, 0, 9, 25, 4, 29, 184, 2, 7, 172]
abbrev dktX0_named_1 : List UInt8 := dkwX0_named_1 ++ []
def dkwX0_named_0 : List UInt8 := [42, 27, 28, 182, 1, 246, 154, 0, 5, 2, 172, 42, 27, 28, 182, 2, 21, 58, 4, 29, 2, 160, 0, 11]
abbrev dktX0_named_0 : List UInt8 := dkwX0_named_0 ++ dktX0_named_1
theorem dksX0_named_0 : cX0_named.data.toList.drop 0 = dktX0_named_0 := by decide +kernel
theorem dksX0_named_1 : cX0_named.data.toList.drop 24 = dktX0_named_1 := dk_seg dksX0_named_0 24 rfl rfl
theorem dX0_named_0 : decode cX0_named 0 = .ok (.aload_n 0, 1) := dk_42 (dk_at dksX0_named_0 0 rfl rfl)
theorem dX0_named_1 : decode cX0_named 1 = .ok (.iload_n 1, 1) := dk_27 (dk_at dksX0_named_0 1 rfl rfl)
theorem dX0_named_2 : decode cX0_named 2 = .ok (.iload_n 2, 1) := dk_28 (dk_at dksX0_named_0 2 rfl rfl)
theorem dX0_named_3 : decode cX0_named 3 = .ok (.invokevirtual 502, 3) := dk_182 1 246 (dk_at dksX0_named_0 3 rfl rfl)
theorem dX0_named_6 : decode cX0_named 6 = .ok (.ifCond .ne 5, 3) := dk_154 0 5 (dk_at dksX0_named_0 6 rfl rfl)
theorem dX0_named_9 : decode cX0_named 9 = .ok (.iconst (-1), 1) := dk_2 (dk_at dksX0_named_0 9 rfl rfl)
theorem dX0_named_10 : decode cX0_named 10 = .ok (.ireturn, 1) := dk_172 (dk_at dksX0_named_0 10 rfl rfl)
theorem dX0_named_11 : decode cX0_named 11 = .ok (.aload_n 0, 1) := dk_42 (dk_at dksX0_named_0 11 rfl rfl)
theorem dX0_named_12 : decode cX0_named 12 = .ok (.iload_n 1, 1) := dk_27 (dk_at dksX0_named_0 12 rfl rfl)
theorem dX0_named_13 : decode cX0_named 13 = .ok (.iload_n 2, 1) := dk_28 (dk_at dksX0_named_0 13 rfl rfl)
theorem dX0_named_14 : decode cX0_named 14 = .ok (.invokevirtual 533, 3) := dk_182 2 21 (dk_at dksX0_named_0 14 rfl rfl)
theorem dX0_named_17 : decode cX0_named 17 = .ok (.astore 4, 2) := dk_58 4 (dk_at dksX0_named_0 17 rfl rfl)
theorem dX0_named_19 : decode cX0_named 19 = .ok (.iload_n 3, 1) := dk_29 (dk_at dksX0_named_0 19 rfl rfl)
theorem dX0_named_20 : decode cX0_named 20 = .ok (.iconst (-1), 1) := dk_2 (dk_at dksX0_named_0 20 rfl rfl)
theorem dX0_named_21 : decode cX0_named 21 = .ok (.if_icmp .ne 11, 3) := dk_160 0 11 (dk_at dksX0_named_0 21 rfl rfl)
theorem dX0_named_24 : decode cX0_named 24 = .ok (.aload 4, 2) := dk_25 4 (dk_at dksX0_named_1 0 rfl rfl)
theorem dX0_named_26 : decode cX0_named 26 = .ok (.invokevirtual 251, 3) := dk_182 0 251 (dk_at dksX0_named_1 2 rfl rfl)
theorem dX0_named_29 : decode cX0_named 29 = .ok (.goto 9, 3) := dk_167 0 9 (dk_at dksX0_named_1 5 rfl rfl)
theorem dX0_named_32 : decode cX0_named 32 = .ok (.aload 4, 2) := dk_25 4 (dk_at dksX0_named_1 8 rfl rfl)
theorem dX0_named_34 : decode cX0_named 34 = .ok (.iload_n 3, 1) := dk_29 (dk_at dksX0_named_1 10 rfl rfl)
theorem dX0_named_35 : decode cX0_named 35 = .ok (.invokestatic 519, 3) := dk_184 2 7 (dk_at dksX0_named_1 11 rfl rfl)
theorem dX0_named_38 : decode cX0_named 38 = .ok (.ireturn, 1) := dk_172 (dk_at dksX0_named_1 14 rfl rfl)
abbrev cX0_nameListed : ByteArray := prog_1_method_75_code
def yX0_nameListed : MethodName := ⟨RX0, "nameListed", "(II)Ljava/lang/String;"⟩
def dkwX0_nameListed_2 : List UInt8 := [180, 1, 172, 27, 50, 28, 50, 176]
abbrev dktX0_nameListed_2 : List UInt8 := dkwX0_nameListed_2 ++ []
def dkwX0_nameListed_1 : List UInt8 := [46, 182, 0, 115, 62, 42, 180, 1, 172, 27, 50, 28, 42, 42, 180, 0, 111, 182, 2, 18, 83, 42]
abbrev dktX0_nameListed_1 : List UInt8 := dkwX0_nameListed_1 ++ dktX0_nameListed_2
def dkwX0_nameListed_0 : List UInt8 := [42, 180, 1, 172, 27, 50, 28, 50, 199, 0, 37, 42, 42, 180, 0, 111, 27, 42, 180, 0, 108, 27, 50, 28]
abbrev dktX0_nameListed_0 : List UInt8 := dkwX0_nameListed_0 ++ dktX0_nameListed_1
theorem dksX0_nameListed_0 : cX0_nameListed.data.toList.drop 0 = dktX0_nameListed_0 := by decide +kernel
theorem dksX0_nameListed_1 : cX0_nameListed.data.toList.drop 24 = dktX0_nameListed_1 := dk_seg dksX0_nameListed_0 24 rfl rfl
theorem dksX0_nameListed_2 : cX0_nameListed.data.toList.drop 46 = dktX0_nameListed_2 := dk_seg dksX0_nameListed_1 22 rfl rfl
theorem dX0_nameListed_0 : decode cX0_nameListed 0 = .ok (.aload_n 0, 1) := dk_42 (dk_at dksX0_nameListed_0 0 rfl rfl)
theorem dX0_nameListed_1 : decode cX0_nameListed 1 = .ok (.getfield 428, 3) := dk_180 1 172 (dk_at dksX0_nameListed_0 1 rfl rfl)
theorem dX0_nameListed_4 : decode cX0_nameListed 4 = .ok (.iload_n 1, 1) := dk_27 (dk_at dksX0_nameListed_0 4 rfl rfl)
theorem dX0_nameListed_5 : decode cX0_nameListed 5 = .ok (.aaload, 1) := dk_50 (dk_at dksX0_nameListed_0 5 rfl rfl)
theorem dX0_nameListed_6 : decode cX0_nameListed 6 = .ok (.iload_n 2, 1) := dk_28 (dk_at dksX0_nameListed_0 6 rfl rfl)
theorem dX0_nameListed_7 : decode cX0_nameListed 7 = .ok (.aaload, 1) := dk_50 (dk_at dksX0_nameListed_0 7 rfl rfl)
theorem dX0_nameListed_8 : decode cX0_nameListed 8 = .ok (.ifnonnull 37, 3) := dk_199 0 37 (dk_at dksX0_nameListed_0 8 rfl rfl)
theorem dX0_nameListed_11 : decode cX0_nameListed 11 = .ok (.aload_n 0, 1) := dk_42 (dk_at dksX0_nameListed_0 11 rfl rfl)
theorem dX0_nameListed_12 : decode cX0_nameListed 12 = .ok (.aload_n 0, 1) := dk_42 (dk_at dksX0_nameListed_0 12 rfl rfl)
theorem dX0_nameListed_13 : decode cX0_nameListed 13 = .ok (.getfield 111, 3) := dk_180 0 111 (dk_at dksX0_nameListed_0 13 rfl rfl)
theorem dX0_nameListed_16 : decode cX0_nameListed 16 = .ok (.iload_n 1, 1) := dk_27 (dk_at dksX0_nameListed_0 16 rfl rfl)
theorem dX0_nameListed_17 : decode cX0_nameListed 17 = .ok (.aload_n 0, 1) := dk_42 (dk_at dksX0_nameListed_0 17 rfl rfl)
theorem dX0_nameListed_18 : decode cX0_nameListed 18 = .ok (.getfield 108, 3) := dk_180 0 108 (dk_at dksX0_nameListed_0 18 rfl rfl)
theorem dX0_nameListed_21 : decode cX0_nameListed 21 = .ok (.iload_n 1, 1) := dk_27 (dk_at dksX0_nameListed_0 21 rfl rfl)
theorem dX0_nameListed_22 : decode cX0_nameListed 22 = .ok (.aaload, 1) := dk_50 (dk_at dksX0_nameListed_0 22 rfl rfl)
theorem dX0_nameListed_23 : decode cX0_nameListed 23 = .ok (.iload_n 2, 1) := dk_28 (dk_at dksX0_nameListed_0 23 rfl rfl)
theorem dX0_nameListed_24 : decode cX0_nameListed 24 = .ok (.iaload, 1) := dk_46 (dk_at dksX0_nameListed_1 0 rfl rfl)
theorem dX0_nameListed_25 : decode cX0_nameListed 25 = .ok (.invokevirtual 115, 3) := dk_182 0 115 (dk_at dksX0_nameListed_1 1 rfl rfl)
theorem dX0_nameListed_28 : decode cX0_nameListed 28 = .ok (.istore_n 3, 1) := dk_62 (dk_at dksX0_nameListed_1 4 rfl rfl)
theorem dX0_nameListed_29 : decode cX0_nameListed 29 = .ok (.aload_n 0, 1) := dk_42 (dk_at dksX0_nameListed_1 5 rfl rfl)
theorem dX0_nameListed_30 : decode cX0_nameListed 30 = .ok (.getfield 428, 3) := dk_180 1 172 (dk_at dksX0_nameListed_1 6 rfl rfl)
theorem dX0_nameListed_33 : decode cX0_nameListed 33 = .ok (.iload_n 1, 1) := dk_27 (dk_at dksX0_nameListed_1 9 rfl rfl)
theorem dX0_nameListed_34 : decode cX0_nameListed 34 = .ok (.aaload, 1) := dk_50 (dk_at dksX0_nameListed_1 10 rfl rfl)
theorem dX0_nameListed_35 : decode cX0_nameListed 35 = .ok (.iload_n 2, 1) := dk_28 (dk_at dksX0_nameListed_1 11 rfl rfl)
theorem dX0_nameListed_36 : decode cX0_nameListed 36 = .ok (.aload_n 0, 1) := dk_42 (dk_at dksX0_nameListed_1 12 rfl rfl)
theorem dX0_nameListed_37 : decode cX0_nameListed 37 = .ok (.aload_n 0, 1) := dk_42 (dk_at dksX0_nameListed_1 13 rfl rfl)
theorem dX0_nameListed_38 : decode cX0_nameListed 38 = .ok (.getfield 111, 3) := dk_180 0 111 (dk_at dksX0_nameListed_1 14 rfl rfl)
theorem dX0_nameListed_41 : decode cX0_nameListed 41 = .ok (.invokevirtual 530, 3) := dk_182 2 18 (dk_at dksX0_nameListed_1 17 rfl rfl)
theorem dX0_nameListed_44 : decode cX0_nameListed 44 = .ok (.aastore, 1) := dk_83 (dk_at dksX0_nameListed_1 20 rfl rfl)
theorem dX0_nameListed_45 : decode cX0_nameListed 45 = .ok (.aload_n 0, 1) := dk_42 (dk_at dksX0_nameListed_1 21 rfl rfl)
theorem dX0_nameListed_46 : decode cX0_nameListed 46 = .ok (.getfield 428, 3) := dk_180 1 172 (dk_at dksX0_nameListed_2 0 rfl rfl)
theorem dX0_nameListed_49 : decode cX0_nameListed 49 = .ok (.iload_n 1, 1) := dk_27 (dk_at dksX0_nameListed_2 3 rfl rfl)
theorem dX0_nameListed_50 : decode cX0_nameListed 50 = .ok (.aaload, 1) := dk_50 (dk_at dksX0_nameListed_2 4 rfl rfl)
theorem dX0_nameListed_51 : decode cX0_nameListed 51 = .ok (.iload_n 2, 1) := dk_28 (dk_at dksX0_nameListed_2 5 rfl rfl)
theorem dX0_nameListed_52 : decode cX0_nameListed 52 = .ok (.aaload, 1) := dk_50 (dk_at dksX0_nameListed_2 6 rfl rfl)
theorem dX0_nameListed_53 : decode cX0_nameListed 53 = .ok (.areturn, 1) := dk_176 (dk_at dksX0_nameListed_2 7 rfl rfl)
abbrev cX0_chain : ByteArray := prog_1_method_78_code
def yX0_chain : MethodName := ⟨RX0, "chain", "(I)I"⟩
def dkwX0_chain_2 : List UInt8 := [16, 10, 100, 182, 2, 25, 172]
abbrev dktX0_chain_2 : List UInt8 := dkwX0_chain_2 ++ []
def dkwX0_chain_1 : List UInt8 := [160, 0, 10, 44, 180, 0, 182, 167, 0, 22, 27, 16, 10, 162, 0, 7, 2, 167, 0, 12, 42, 44, 27]
abbrev dktX0_chain_1 : List UInt8 := dkwX0_chain_1 ++ dktX0_chain_2
def dkwX0_chain_0 : List UInt8 := [42, 42, 180, 1, 109, 182, 1, 102, 77, 27, 154, 0, 10, 44, 180, 0, 177, 167, 0, 34, 27, 4]
abbrev dktX0_chain_0 : List UInt8 := dkwX0_chain_0 ++ dktX0_chain_1
theorem dksX0_chain_0 : cX0_chain.data.toList.drop 0 = dktX0_chain_0 := by decide +kernel
theorem dksX0_chain_1 : cX0_chain.data.toList.drop 22 = dktX0_chain_1 := dk_seg dksX0_chain_0 22 rfl rfl
theorem dksX0_chain_2 : cX0_chain.data.toList.drop 45 = dktX0_chain_2 := dk_seg dksX0_chain_1 23 rfl rfl
theorem dX0_chain_0 : decode cX0_chain 0 = .ok (.aload_n 0, 1) := dk_42 (dk_at dksX0_chain_0 0 rfl rfl)
theorem dX0_chain_1 : decode cX0_chain 1 = .ok (.aload_n 0, 1) := dk_42 (dk_at dksX0_chain_0 1 rfl rfl)
theorem dX0_chain_2 : decode cX0_chain 2 = .ok (.getfield 365, 3) := dk_180 1 109 (dk_at dksX0_chain_0 2 rfl rfl)
theorem dX0_chain_5 : decode cX0_chain 5 = .ok (.invokevirtual 358, 3) := dk_182 1 102 (dk_at dksX0_chain_0 5 rfl rfl)
theorem dX0_chain_8 : decode cX0_chain 8 = .ok (.astore_n 2, 1) := dk_77 (dk_at dksX0_chain_0 8 rfl rfl)
theorem dX0_chain_9 : decode cX0_chain 9 = .ok (.iload_n 1, 1) := dk_27 (dk_at dksX0_chain_0 9 rfl rfl)
theorem dX0_chain_10 : decode cX0_chain 10 = .ok (.ifCond .ne 10, 3) := dk_154 0 10 (dk_at dksX0_chain_0 10 rfl rfl)
theorem dX0_chain_13 : decode cX0_chain 13 = .ok (.aload_n 2, 1) := dk_44 (dk_at dksX0_chain_0 13 rfl rfl)
theorem dX0_chain_14 : decode cX0_chain 14 = .ok (.getfield 177, 3) := dk_180 0 177 (dk_at dksX0_chain_0 14 rfl rfl)
theorem dX0_chain_17 : decode cX0_chain 17 = .ok (.goto 34, 3) := dk_167 0 34 (dk_at dksX0_chain_0 17 rfl rfl)
theorem dX0_chain_20 : decode cX0_chain 20 = .ok (.iload_n 1, 1) := dk_27 (dk_at dksX0_chain_0 20 rfl rfl)
theorem dX0_chain_21 : decode cX0_chain 21 = .ok (.iconst 1, 1) := dk_4 (dk_at dksX0_chain_0 21 rfl rfl)
theorem dX0_chain_22 : decode cX0_chain 22 = .ok (.if_icmp .ne 10, 3) := dk_160 0 10 (dk_at dksX0_chain_1 0 rfl rfl)
theorem dX0_chain_25 : decode cX0_chain 25 = .ok (.aload_n 2, 1) := dk_44 (dk_at dksX0_chain_1 3 rfl rfl)
theorem dX0_chain_26 : decode cX0_chain 26 = .ok (.getfield 182, 3) := dk_180 0 182 (dk_at dksX0_chain_1 4 rfl rfl)
theorem dX0_chain_29 : decode cX0_chain 29 = .ok (.goto 22, 3) := dk_167 0 22 (dk_at dksX0_chain_1 7 rfl rfl)
theorem dX0_chain_32 : decode cX0_chain 32 = .ok (.iload_n 1, 1) := dk_27 (dk_at dksX0_chain_1 10 rfl rfl)
theorem dX0_chain_33 : decode cX0_chain 33 = .ok (.bipush 10, 2) := dk_16 10 (dk_at dksX0_chain_1 11 rfl rfl)
theorem dX0_chain_35 : decode cX0_chain 35 = .ok (.if_icmp .ge 7, 3) := dk_162 0 7 (dk_at dksX0_chain_1 13 rfl rfl)
theorem dX0_chain_38 : decode cX0_chain 38 = .ok (.iconst (-1), 1) := dk_2 (dk_at dksX0_chain_1 16 rfl rfl)
theorem dX0_chain_39 : decode cX0_chain 39 = .ok (.goto 12, 3) := dk_167 0 12 (dk_at dksX0_chain_1 17 rfl rfl)
theorem dX0_chain_42 : decode cX0_chain 42 = .ok (.aload_n 0, 1) := dk_42 (dk_at dksX0_chain_1 20 rfl rfl)
theorem dX0_chain_43 : decode cX0_chain 43 = .ok (.aload_n 2, 1) := dk_44 (dk_at dksX0_chain_1 21 rfl rfl)
theorem dX0_chain_44 : decode cX0_chain 44 = .ok (.iload_n 1, 1) := dk_27 (dk_at dksX0_chain_1 22 rfl rfl)
theorem dX0_chain_45 : decode cX0_chain 45 = .ok (.bipush 10, 2) := dk_16 10 (dk_at dksX0_chain_2 0 rfl rfl)
theorem dX0_chain_47 : decode cX0_chain 47 = .ok (.isub, 1) := dk_100 (dk_at dksX0_chain_2 2 rfl rfl)
theorem dX0_chain_48 : decode cX0_chain 48 = .ok (.invokevirtual 537, 3) := dk_182 2 25 (dk_at dksX0_chain_2 3 rfl rfl)
theorem dX0_chain_51 : decode cX0_chain 51 = .ok (.ireturn, 1) := dk_172 (dk_at dksX0_chain_2 6 rfl rfl)
abbrev cX0_numberAt : ByteArray := prog_1_method_77_code
def yX0_numberAt : MethodName := ⟨RX0, "numberAt", "(LBranchNames$Way;I)I"⟩
def dkwX0_numberAt_1 : List UInt8 := [184, 0, 191, 100, 62, 29, 156, 0, 8, 21, 4, 4, 96, 172, 132, 4, 1, 167, 255, 221, 2, 172]
abbrev dktX0_numberAt_1 : List UInt8 := dkwX0_numberAt_1 ++ []
def dkwX0_numberAt_0 : List UInt8 := [28, 62, 3, 54, 4, 21, 4, 43, 180, 0, 177, 162, 0, 32, 29, 42, 180, 1, 109, 2, 43, 21, 4]
abbrev dktX0_numberAt_0 : List UInt8 := dkwX0_numberAt_0 ++ dktX0_numberAt_1
theorem dksX0_numberAt_0 : cX0_numberAt.data.toList.drop 0 = dktX0_numberAt_0 := by decide +kernel
theorem dksX0_numberAt_1 : cX0_numberAt.data.toList.drop 23 = dktX0_numberAt_1 := dk_seg dksX0_numberAt_0 23 rfl rfl
theorem dX0_numberAt_0 : decode cX0_numberAt 0 = .ok (.iload_n 2, 1) := dk_28 (dk_at dksX0_numberAt_0 0 rfl rfl)
theorem dX0_numberAt_1 : decode cX0_numberAt 1 = .ok (.istore_n 3, 1) := dk_62 (dk_at dksX0_numberAt_0 1 rfl rfl)
theorem dX0_numberAt_2 : decode cX0_numberAt 2 = .ok (.iconst 0, 1) := dk_3 (dk_at dksX0_numberAt_0 2 rfl rfl)
theorem dX0_numberAt_3 : decode cX0_numberAt 3 = .ok (.istore 4, 2) := dk_54 4 (dk_at dksX0_numberAt_0 3 rfl rfl)
theorem dX0_numberAt_5 : decode cX0_numberAt 5 = .ok (.iload 4, 2) := dk_21 4 (dk_at dksX0_numberAt_0 5 rfl rfl)
theorem dX0_numberAt_7 : decode cX0_numberAt 7 = .ok (.aload_n 1, 1) := dk_43 (dk_at dksX0_numberAt_0 7 rfl rfl)
theorem dX0_numberAt_8 : decode cX0_numberAt 8 = .ok (.getfield 177, 3) := dk_180 0 177 (dk_at dksX0_numberAt_0 8 rfl rfl)
theorem dX0_numberAt_11 : decode cX0_numberAt 11 = .ok (.if_icmp .ge 32, 3) := dk_162 0 32 (dk_at dksX0_numberAt_0 11 rfl rfl)
theorem dX0_numberAt_14 : decode cX0_numberAt 14 = .ok (.iload_n 3, 1) := dk_29 (dk_at dksX0_numberAt_0 14 rfl rfl)
theorem dX0_numberAt_15 : decode cX0_numberAt 15 = .ok (.aload_n 0, 1) := dk_42 (dk_at dksX0_numberAt_0 15 rfl rfl)
theorem dX0_numberAt_16 : decode cX0_numberAt 16 = .ok (.getfield 365, 3) := dk_180 1 109 (dk_at dksX0_numberAt_0 16 rfl rfl)
theorem dX0_numberAt_19 : decode cX0_numberAt 19 = .ok (.iconst (-1), 1) := dk_2 (dk_at dksX0_numberAt_0 19 rfl rfl)
theorem dX0_numberAt_20 : decode cX0_numberAt 20 = .ok (.aload_n 1, 1) := dk_43 (dk_at dksX0_numberAt_0 20 rfl rfl)
theorem dX0_numberAt_21 : decode cX0_numberAt 21 = .ok (.iload 4, 2) := dk_21 4 (dk_at dksX0_numberAt_0 21 rfl rfl)
theorem dX0_numberAt_23 : decode cX0_numberAt 23 = .ok (.invokestatic 191, 3) := dk_184 0 191 (dk_at dksX0_numberAt_1 0 rfl rfl)
theorem dX0_numberAt_26 : decode cX0_numberAt 26 = .ok (.isub, 1) := dk_100 (dk_at dksX0_numberAt_1 3 rfl rfl)
theorem dX0_numberAt_27 : decode cX0_numberAt 27 = .ok (.istore_n 3, 1) := dk_62 (dk_at dksX0_numberAt_1 4 rfl rfl)
theorem dX0_numberAt_28 : decode cX0_numberAt 28 = .ok (.iload_n 3, 1) := dk_29 (dk_at dksX0_numberAt_1 5 rfl rfl)
theorem dX0_numberAt_29 : decode cX0_numberAt 29 = .ok (.ifCond .ge 8, 3) := dk_156 0 8 (dk_at dksX0_numberAt_1 6 rfl rfl)
theorem dX0_numberAt_32 : decode cX0_numberAt 32 = .ok (.iload 4, 2) := dk_21 4 (dk_at dksX0_numberAt_1 9 rfl rfl)
theorem dX0_numberAt_34 : decode cX0_numberAt 34 = .ok (.iconst 1, 1) := dk_4 (dk_at dksX0_numberAt_1 11 rfl rfl)
theorem dX0_numberAt_35 : decode cX0_numberAt 35 = .ok (.iadd, 1) := dk_96 (dk_at dksX0_numberAt_1 12 rfl rfl)
theorem dX0_numberAt_36 : decode cX0_numberAt 36 = .ok (.ireturn, 1) := dk_172 (dk_at dksX0_numberAt_1 13 rfl rfl)
theorem dX0_numberAt_37 : decode cX0_numberAt 37 = .ok (.iinc 4 1, 3) := dk_132 4 1 (dk_at dksX0_numberAt_1 14 rfl rfl)
theorem dX0_numberAt_40 : decode cX0_numberAt 40 = .ok (.goto (-35), 3) := dk_167 255 221 (dk_at dksX0_numberAt_1 17 rfl rfl)
theorem dX0_numberAt_43 : decode cX0_numberAt 43 = .ok (.iconst (-1), 1) := dk_2 (dk_at dksX0_numberAt_1 20 rfl rfl)
theorem dX0_numberAt_44 : decode cX0_numberAt 44 = .ok (.ireturn, 1) := dk_172 (dk_at dksX0_numberAt_1 21 rfl rfl)
abbrev cX0_feed : ByteArray := prog_1_method_79_code
def yX0_feed : MethodName := ⟨RX0, "feed", "(I)I"⟩
def dkwX0_feed_2 : List UInt8 := [42, 180, 2, 31, 172]
abbrev dktX0_feed_2 : List UInt8 := dkwX0_feed_2 ++ []
def dkwX0_feed_1 : List UInt8 := [16, 252, 172, 42, 180, 1, 175, 42, 180, 2, 31, 27, 145, 84, 42, 89, 180, 2, 31, 4, 96, 181, 2, 31]
abbrev dktX0_feed_1 : List UInt8 := dkwX0_feed_1 ++ dktX0_feed_2
def dkwX0_feed_0 : List UInt8 := [27, 133, 9, 20, 2, 29, 184, 0, 142, 154, 0, 6, 16, 254, 172, 42, 180, 2, 31, 16, 80, 160, 0, 6]
abbrev dktX0_feed_0 : List UInt8 := dkwX0_feed_0 ++ dktX0_feed_1
theorem dksX0_feed_0 : cX0_feed.data.toList.drop 0 = dktX0_feed_0 := by decide +kernel
theorem dksX0_feed_1 : cX0_feed.data.toList.drop 24 = dktX0_feed_1 := dk_seg dksX0_feed_0 24 rfl rfl
theorem dksX0_feed_2 : cX0_feed.data.toList.drop 48 = dktX0_feed_2 := dk_seg dksX0_feed_1 24 rfl rfl
theorem dX0_feed_0 : decode cX0_feed 0 = .ok (.iload_n 1, 1) := dk_27 (dk_at dksX0_feed_0 0 rfl rfl)
theorem dX0_feed_1 : decode cX0_feed 1 = .ok (.i2l, 1) := dk_133 (dk_at dksX0_feed_0 1 rfl rfl)
theorem dX0_feed_2 : decode cX0_feed 2 = .ok (.lconst 0, 1) := dk_9 (dk_at dksX0_feed_0 2 rfl rfl)
theorem dX0_feed_3 : decode cX0_feed 3 = .ok (.ldc2_w 541, 3) := dk_20 2 29 (dk_at dksX0_feed_0 3 rfl rfl)
theorem dX0_feed_6 : decode cX0_feed 6 = .ok (.invokestatic 142, 3) := dk_184 0 142 (dk_at dksX0_feed_0 6 rfl rfl)
theorem dX0_feed_9 : decode cX0_feed 9 = .ok (.ifCond .ne 6, 3) := dk_154 0 6 (dk_at dksX0_feed_0 9 rfl rfl)
theorem dX0_feed_12 : decode cX0_feed 12 = .ok (.bipush (-2), 2) := dk_16 254 (dk_at dksX0_feed_0 12 rfl rfl)
theorem dX0_feed_14 : decode cX0_feed 14 = .ok (.ireturn, 1) := dk_172 (dk_at dksX0_feed_0 14 rfl rfl)
theorem dX0_feed_15 : decode cX0_feed 15 = .ok (.aload_n 0, 1) := dk_42 (dk_at dksX0_feed_0 15 rfl rfl)
theorem dX0_feed_16 : decode cX0_feed 16 = .ok (.getfield 543, 3) := dk_180 2 31 (dk_at dksX0_feed_0 16 rfl rfl)
theorem dX0_feed_19 : decode cX0_feed 19 = .ok (.bipush 80, 2) := dk_16 80 (dk_at dksX0_feed_0 19 rfl rfl)
theorem dX0_feed_21 : decode cX0_feed 21 = .ok (.if_icmp .ne 6, 3) := dk_160 0 6 (dk_at dksX0_feed_0 21 rfl rfl)
theorem dX0_feed_24 : decode cX0_feed 24 = .ok (.bipush (-4), 2) := dk_16 252 (dk_at dksX0_feed_1 0 rfl rfl)
theorem dX0_feed_26 : decode cX0_feed 26 = .ok (.ireturn, 1) := dk_172 (dk_at dksX0_feed_1 2 rfl rfl)
theorem dX0_feed_27 : decode cX0_feed 27 = .ok (.aload_n 0, 1) := dk_42 (dk_at dksX0_feed_1 3 rfl rfl)
theorem dX0_feed_28 : decode cX0_feed 28 = .ok (.getfield 431, 3) := dk_180 1 175 (dk_at dksX0_feed_1 4 rfl rfl)
theorem dX0_feed_31 : decode cX0_feed 31 = .ok (.aload_n 0, 1) := dk_42 (dk_at dksX0_feed_1 7 rfl rfl)
theorem dX0_feed_32 : decode cX0_feed 32 = .ok (.getfield 543, 3) := dk_180 2 31 (dk_at dksX0_feed_1 8 rfl rfl)
theorem dX0_feed_35 : decode cX0_feed 35 = .ok (.iload_n 1, 1) := dk_27 (dk_at dksX0_feed_1 11 rfl rfl)
theorem dX0_feed_36 : decode cX0_feed 36 = .ok (.i2b, 1) := dk_145 (dk_at dksX0_feed_1 12 rfl rfl)
theorem dX0_feed_37 : decode cX0_feed 37 = .ok (.bastore, 1) := dk_84 (dk_at dksX0_feed_1 13 rfl rfl)
theorem dX0_feed_38 : decode cX0_feed 38 = .ok (.aload_n 0, 1) := dk_42 (dk_at dksX0_feed_1 14 rfl rfl)
theorem dX0_feed_39 : decode cX0_feed 39 = .ok (.dup, 1) := dk_89 (dk_at dksX0_feed_1 15 rfl rfl)
theorem dX0_feed_40 : decode cX0_feed 40 = .ok (.getfield 543, 3) := dk_180 2 31 (dk_at dksX0_feed_1 16 rfl rfl)
theorem dX0_feed_43 : decode cX0_feed 43 = .ok (.iconst 1, 1) := dk_4 (dk_at dksX0_feed_1 19 rfl rfl)
theorem dX0_feed_44 : decode cX0_feed 44 = .ok (.iadd, 1) := dk_96 (dk_at dksX0_feed_1 20 rfl rfl)
theorem dX0_feed_45 : decode cX0_feed 45 = .ok (.putfield 543, 3) := dk_181 2 31 (dk_at dksX0_feed_1 21 rfl rfl)
theorem dX0_feed_48 : decode cX0_feed 48 = .ok (.aload_n 0, 1) := dk_42 (dk_at dksX0_feed_2 0 rfl rfl)
theorem dX0_feed_49 : decode cX0_feed 49 = .ok (.getfield 543, 3) := dk_180 2 31 (dk_at dksX0_feed_2 1 rfl rfl)
theorem dX0_feed_52 : decode cX0_feed 52 = .ok (.ireturn, 1) := dk_172 (dk_at dksX0_feed_2 4 rfl rfl)
abbrev cX0_clear : ByteArray := prog_1_method_80_code
def yX0_clear : MethodName := ⟨RX0, "clear", "()I"⟩
def dkwX0_clear_0 : List UInt8 := [42, 180, 2, 31, 60, 42, 3, 181, 2, 31, 27, 172]
abbrev dktX0_clear_0 : List UInt8 := dkwX0_clear_0 ++ []
theorem dksX0_clear_0 : cX0_clear.data.toList.drop 0 = dktX0_clear_0 := by decide +kernel
theorem dX0_clear_0 : decode cX0_clear 0 = .ok (.aload_n 0, 1) := dk_42 (dk_at dksX0_clear_0 0 rfl rfl)
theorem dX0_clear_1 : decode cX0_clear 1 = .ok (.getfield 543, 3) := dk_180 2 31 (dk_at dksX0_clear_0 1 rfl rfl)
theorem dX0_clear_4 : decode cX0_clear 4 = .ok (.istore_n 1, 1) := dk_60 (dk_at dksX0_clear_0 4 rfl rfl)
theorem dX0_clear_5 : decode cX0_clear 5 = .ok (.aload_n 0, 1) := dk_42 (dk_at dksX0_clear_0 5 rfl rfl)
theorem dX0_clear_6 : decode cX0_clear 6 = .ok (.iconst 0, 1) := dk_3 (dk_at dksX0_clear_0 6 rfl rfl)
theorem dX0_clear_7 : decode cX0_clear 7 = .ok (.putfield 543, 3) := dk_181 2 31 (dk_at dksX0_clear_0 7 rfl rfl)
theorem dX0_clear_10 : decode cX0_clear 10 = .ok (.iload_n 1, 1) := dk_27 (dk_at dksX0_clear_0 10 rfl rfl)
theorem dX0_clear_11 : decode cX0_clear 11 = .ok (.ireturn, 1) := dk_172 (dk_at dksX0_clear_0 11 rfl rfl)
abbrev cX0_read : ByteArray := prog_1_method_87_code
def yX0_read : MethodName := ⟨RX0, "read", "()I"⟩
def dkwX0_read_3 : List UInt8 := [3, 181, 2, 31, 45, 191]
abbrev dktX0_read_3 : List UInt8 := dkwX0_read_3 ++ []
def dkwX0_read_2 : List UInt8 := [4, 96, 181, 2, 117, 42, 3, 181, 2, 31, 28, 172, 78, 42, 89, 180, 2, 117, 4, 96, 181, 2, 117, 42]
abbrev dktX0_read_2 : List UInt8 := dkwX0_read_2 ++ dktX0_read_3
def dkwX0_read_1 : List UInt8 := [193, 2, 44, 153, 0, 11, 42, 43, 192, 2, 44, 182, 2, 122, 43, 182, 2, 125, 61, 42, 89, 180, 2, 117]
abbrev dktX0_read_1 : List UInt8 := dkwX0_read_1 ++ dktX0_read_2
def dkwX0_read_0 : List UInt8 := [42, 182, 2, 114, 60, 42, 89, 180, 2, 117, 4, 96, 181, 2, 117, 42, 3, 181, 2, 31, 27, 172, 76, 43]
abbrev dktX0_read_0 : List UInt8 := dkwX0_read_0 ++ dktX0_read_1
theorem dksX0_read_0 : cX0_read.data.toList.drop 0 = dktX0_read_0 := by decide +kernel
theorem dksX0_read_1 : cX0_read.data.toList.drop 24 = dktX0_read_1 := dk_seg dksX0_read_0 24 rfl rfl
theorem dksX0_read_2 : cX0_read.data.toList.drop 48 = dktX0_read_2 := dk_seg dksX0_read_1 24 rfl rfl
theorem dksX0_read_3 : cX0_read.data.toList.drop 72 = dktX0_read_3 := dk_seg dksX0_read_2 24 rfl rfl
theorem dX0_read_0 : decode cX0_read 0 = .ok (.aload_n 0, 1) := dk_42 (dk_at dksX0_read_0 0 rfl rfl)
theorem dX0_read_1 : decode cX0_read 1 = .ok (.invokevirtual 626, 3) := dk_182 2 114 (dk_at dksX0_read_0 1 rfl rfl)
theorem dX0_read_4 : decode cX0_read 4 = .ok (.istore_n 1, 1) := dk_60 (dk_at dksX0_read_0 4 rfl rfl)
theorem dX0_read_5 : decode cX0_read 5 = .ok (.aload_n 0, 1) := dk_42 (dk_at dksX0_read_0 5 rfl rfl)
theorem dX0_read_6 : decode cX0_read 6 = .ok (.dup, 1) := dk_89 (dk_at dksX0_read_0 6 rfl rfl)
theorem dX0_read_7 : decode cX0_read 7 = .ok (.getfield 629, 3) := dk_180 2 117 (dk_at dksX0_read_0 7 rfl rfl)
theorem dX0_read_10 : decode cX0_read 10 = .ok (.iconst 1, 1) := dk_4 (dk_at dksX0_read_0 10 rfl rfl)
theorem dX0_read_11 : decode cX0_read 11 = .ok (.iadd, 1) := dk_96 (dk_at dksX0_read_0 11 rfl rfl)
theorem dX0_read_12 : decode cX0_read 12 = .ok (.putfield 629, 3) := dk_181 2 117 (dk_at dksX0_read_0 12 rfl rfl)
theorem dX0_read_15 : decode cX0_read 15 = .ok (.aload_n 0, 1) := dk_42 (dk_at dksX0_read_0 15 rfl rfl)
theorem dX0_read_16 : decode cX0_read 16 = .ok (.iconst 0, 1) := dk_3 (dk_at dksX0_read_0 16 rfl rfl)
theorem dX0_read_17 : decode cX0_read 17 = .ok (.putfield 543, 3) := dk_181 2 31 (dk_at dksX0_read_0 17 rfl rfl)
theorem dX0_read_20 : decode cX0_read 20 = .ok (.iload_n 1, 1) := dk_27 (dk_at dksX0_read_0 20 rfl rfl)
theorem dX0_read_21 : decode cX0_read 21 = .ok (.ireturn, 1) := dk_172 (dk_at dksX0_read_0 21 rfl rfl)
theorem dX0_read_22 : decode cX0_read 22 = .ok (.astore_n 1, 1) := dk_76 (dk_at dksX0_read_0 22 rfl rfl)
theorem dX0_read_23 : decode cX0_read 23 = .ok (.aload_n 1, 1) := dk_43 (dk_at dksX0_read_0 23 rfl rfl)
theorem dX0_read_24 : decode cX0_read 24 = .ok (.instanceof 556, 3) := dk_193 2 44 (dk_at dksX0_read_1 0 rfl rfl)
theorem dX0_read_27 : decode cX0_read 27 = .ok (.ifCond .eq 11, 3) := dk_153 0 11 (dk_at dksX0_read_1 3 rfl rfl)
theorem dX0_read_30 : decode cX0_read 30 = .ok (.aload_n 0, 1) := dk_42 (dk_at dksX0_read_1 6 rfl rfl)
theorem dX0_read_31 : decode cX0_read 31 = .ok (.aload_n 1, 1) := dk_43 (dk_at dksX0_read_1 7 rfl rfl)
theorem dX0_read_32 : decode cX0_read 32 = .ok (.checkcast 556, 3) := dk_192 2 44 (dk_at dksX0_read_1 8 rfl rfl)
theorem dX0_read_35 : decode cX0_read 35 = .ok (.invokevirtual 634, 3) := dk_182 2 122 (dk_at dksX0_read_1 11 rfl rfl)
theorem dX0_read_38 : decode cX0_read 38 = .ok (.aload_n 1, 1) := dk_43 (dk_at dksX0_read_1 14 rfl rfl)
theorem dX0_read_39 : decode cX0_read 39 = .ok (.invokevirtual 637, 3) := dk_182 2 125 (dk_at dksX0_read_1 15 rfl rfl)
theorem dX0_read_42 : decode cX0_read 42 = .ok (.istore_n 2, 1) := dk_61 (dk_at dksX0_read_1 18 rfl rfl)
theorem dX0_read_43 : decode cX0_read 43 = .ok (.aload_n 0, 1) := dk_42 (dk_at dksX0_read_1 19 rfl rfl)
theorem dX0_read_44 : decode cX0_read 44 = .ok (.dup, 1) := dk_89 (dk_at dksX0_read_1 20 rfl rfl)
theorem dX0_read_45 : decode cX0_read 45 = .ok (.getfield 629, 3) := dk_180 2 117 (dk_at dksX0_read_1 21 rfl rfl)
theorem dX0_read_48 : decode cX0_read 48 = .ok (.iconst 1, 1) := dk_4 (dk_at dksX0_read_2 0 rfl rfl)
theorem dX0_read_49 : decode cX0_read 49 = .ok (.iadd, 1) := dk_96 (dk_at dksX0_read_2 1 rfl rfl)
theorem dX0_read_50 : decode cX0_read 50 = .ok (.putfield 629, 3) := dk_181 2 117 (dk_at dksX0_read_2 2 rfl rfl)
theorem dX0_read_53 : decode cX0_read 53 = .ok (.aload_n 0, 1) := dk_42 (dk_at dksX0_read_2 5 rfl rfl)
theorem dX0_read_54 : decode cX0_read 54 = .ok (.iconst 0, 1) := dk_3 (dk_at dksX0_read_2 6 rfl rfl)
theorem dX0_read_55 : decode cX0_read 55 = .ok (.putfield 543, 3) := dk_181 2 31 (dk_at dksX0_read_2 7 rfl rfl)
theorem dX0_read_58 : decode cX0_read 58 = .ok (.iload_n 2, 1) := dk_28 (dk_at dksX0_read_2 10 rfl rfl)
theorem dX0_read_59 : decode cX0_read 59 = .ok (.ireturn, 1) := dk_172 (dk_at dksX0_read_2 11 rfl rfl)
theorem dX0_read_60 : decode cX0_read 60 = .ok (.astore_n 3, 1) := dk_78 (dk_at dksX0_read_2 12 rfl rfl)
theorem dX0_read_61 : decode cX0_read 61 = .ok (.aload_n 0, 1) := dk_42 (dk_at dksX0_read_2 13 rfl rfl)
theorem dX0_read_62 : decode cX0_read 62 = .ok (.dup, 1) := dk_89 (dk_at dksX0_read_2 14 rfl rfl)
theorem dX0_read_63 : decode cX0_read 63 = .ok (.getfield 629, 3) := dk_180 2 117 (dk_at dksX0_read_2 15 rfl rfl)
theorem dX0_read_66 : decode cX0_read 66 = .ok (.iconst 1, 1) := dk_4 (dk_at dksX0_read_2 18 rfl rfl)
theorem dX0_read_67 : decode cX0_read 67 = .ok (.iadd, 1) := dk_96 (dk_at dksX0_read_2 19 rfl rfl)
theorem dX0_read_68 : decode cX0_read 68 = .ok (.putfield 629, 3) := dk_181 2 117 (dk_at dksX0_read_2 20 rfl rfl)
theorem dX0_read_71 : decode cX0_read 71 = .ok (.aload_n 0, 1) := dk_42 (dk_at dksX0_read_2 23 rfl rfl)
theorem dX0_read_72 : decode cX0_read 72 = .ok (.iconst 0, 1) := dk_3 (dk_at dksX0_read_3 0 rfl rfl)
theorem dX0_read_73 : decode cX0_read 73 = .ok (.putfield 543, 3) := dk_181 2 31 (dk_at dksX0_read_3 1 rfl rfl)
theorem dX0_read_76 : decode cX0_read 76 = .ok (.aload_n 3, 1) := dk_45 (dk_at dksX0_read_3 4 rfl rfl)
theorem dX0_read_77 : decode cX0_read 77 = .ok (.athrow, 1) := dk_191 (dk_at dksX0_read_3 5 rfl rfl)
abbrev cX0_reading : ByteArray := prog_1_method_86_code
def yX0_reading : MethodName := ⟨RX0, "reading", "()I"⟩
def dkwX0_reading_3 : List UInt8 := [96, 172]
abbrev dktX0_reading_3 : List UInt8 := dkwX0_reading_3 ++ []
def dkwX0_reading_2 : List UInt8 := [180, 0, 44, 42, 42, 42, 180, 1, 109, 182, 2, 18, 182, 2, 110, 153, 0, 7, 3, 167, 0, 5, 16, 100]
abbrev dktX0_reading_2 : List UInt8 := dkwX0_reading_2 ++ dktX0_reading_3
def dkwX0_reading_1 : List UInt8 := [180, 1, 109, 42, 180, 0, 122, 182, 0, 125, 42, 89, 180, 2, 107, 4, 96, 181, 2, 107, 42, 180, 1, 109]
abbrev dktX0_reading_1 : List UInt8 := dkwX0_reading_1 ++ dktX0_reading_2
def dkwX0_reading_0 : List UInt8 := [187, 2, 98, 89, 42, 183, 2, 100, 182, 2, 103, 76, 42, 43, 42, 180, 0, 122, 3, 182, 2, 40, 42]
abbrev dktX0_reading_0 : List UInt8 := dkwX0_reading_0 ++ dktX0_reading_1
theorem dksX0_reading_0 : cX0_reading.data.toList.drop 0 = dktX0_reading_0 := by decide +kernel
theorem dksX0_reading_1 : cX0_reading.data.toList.drop 23 = dktX0_reading_1 := dk_seg dksX0_reading_0 23 rfl rfl
theorem dksX0_reading_2 : cX0_reading.data.toList.drop 47 = dktX0_reading_2 := dk_seg dksX0_reading_1 24 rfl rfl
theorem dksX0_reading_3 : cX0_reading.data.toList.drop 71 = dktX0_reading_3 := dk_seg dksX0_reading_2 24 rfl rfl
theorem dX0_reading_0 : decode cX0_reading 0 = .ok (.new 610, 3) := dk_187 2 98 (dk_at dksX0_reading_0 0 rfl rfl)
theorem dX0_reading_3 : decode cX0_reading 3 = .ok (.dup, 1) := dk_89 (dk_at dksX0_reading_0 3 rfl rfl)
theorem dX0_reading_4 : decode cX0_reading 4 = .ok (.aload_n 0, 1) := dk_42 (dk_at dksX0_reading_0 4 rfl rfl)
theorem dX0_reading_5 : decode cX0_reading 5 = .ok (.invokespecial 612, 3) := dk_183 2 100 (dk_at dksX0_reading_0 5 rfl rfl)
theorem dX0_reading_8 : decode cX0_reading 8 = .ok (.invokevirtual 615, 3) := dk_182 2 103 (dk_at dksX0_reading_0 8 rfl rfl)
theorem dX0_reading_11 : decode cX0_reading 11 = .ok (.astore_n 1, 1) := dk_76 (dk_at dksX0_reading_0 11 rfl rfl)
theorem dX0_reading_12 : decode cX0_reading 12 = .ok (.aload_n 0, 1) := dk_42 (dk_at dksX0_reading_0 12 rfl rfl)
theorem dX0_reading_13 : decode cX0_reading 13 = .ok (.aload_n 1, 1) := dk_43 (dk_at dksX0_reading_0 13 rfl rfl)
theorem dX0_reading_14 : decode cX0_reading 14 = .ok (.aload_n 0, 1) := dk_42 (dk_at dksX0_reading_0 14 rfl rfl)
theorem dX0_reading_15 : decode cX0_reading 15 = .ok (.getfield 122, 3) := dk_180 0 122 (dk_at dksX0_reading_0 15 rfl rfl)
theorem dX0_reading_18 : decode cX0_reading 18 = .ok (.iconst 0, 1) := dk_3 (dk_at dksX0_reading_0 18 rfl rfl)
theorem dX0_reading_19 : decode cX0_reading 19 = .ok (.invokevirtual 552, 3) := dk_182 2 40 (dk_at dksX0_reading_0 19 rfl rfl)
theorem dX0_reading_22 : decode cX0_reading 22 = .ok (.aload_n 0, 1) := dk_42 (dk_at dksX0_reading_0 22 rfl rfl)
theorem dX0_reading_23 : decode cX0_reading 23 = .ok (.getfield 365, 3) := dk_180 1 109 (dk_at dksX0_reading_1 0 rfl rfl)
theorem dX0_reading_26 : decode cX0_reading 26 = .ok (.aload_n 0, 1) := dk_42 (dk_at dksX0_reading_1 3 rfl rfl)
theorem dX0_reading_27 : decode cX0_reading 27 = .ok (.getfield 122, 3) := dk_180 0 122 (dk_at dksX0_reading_1 4 rfl rfl)
theorem dX0_reading_30 : decode cX0_reading 30 = .ok (.invokevirtual 125, 3) := dk_182 0 125 (dk_at dksX0_reading_1 7 rfl rfl)
theorem dX0_reading_33 : decode cX0_reading 33 = .ok (.aload_n 0, 1) := dk_42 (dk_at dksX0_reading_1 10 rfl rfl)
theorem dX0_reading_34 : decode cX0_reading 34 = .ok (.dup, 1) := dk_89 (dk_at dksX0_reading_1 11 rfl rfl)
theorem dX0_reading_35 : decode cX0_reading 35 = .ok (.getfield 619, 3) := dk_180 2 107 (dk_at dksX0_reading_1 12 rfl rfl)
theorem dX0_reading_38 : decode cX0_reading 38 = .ok (.iconst 1, 1) := dk_4 (dk_at dksX0_reading_1 15 rfl rfl)
theorem dX0_reading_39 : decode cX0_reading 39 = .ok (.iadd, 1) := dk_96 (dk_at dksX0_reading_1 16 rfl rfl)
theorem dX0_reading_40 : decode cX0_reading 40 = .ok (.putfield 619, 3) := dk_181 2 107 (dk_at dksX0_reading_1 17 rfl rfl)
theorem dX0_reading_43 : decode cX0_reading 43 = .ok (.aload_n 0, 1) := dk_42 (dk_at dksX0_reading_1 20 rfl rfl)
theorem dX0_reading_44 : decode cX0_reading 44 = .ok (.getfield 365, 3) := dk_180 1 109 (dk_at dksX0_reading_1 21 rfl rfl)
theorem dX0_reading_47 : decode cX0_reading 47 = .ok (.getfield 44, 3) := dk_180 0 44 (dk_at dksX0_reading_2 0 rfl rfl)
theorem dX0_reading_50 : decode cX0_reading 50 = .ok (.aload_n 0, 1) := dk_42 (dk_at dksX0_reading_2 3 rfl rfl)
theorem dX0_reading_51 : decode cX0_reading 51 = .ok (.aload_n 0, 1) := dk_42 (dk_at dksX0_reading_2 4 rfl rfl)
theorem dX0_reading_52 : decode cX0_reading 52 = .ok (.aload_n 0, 1) := dk_42 (dk_at dksX0_reading_2 5 rfl rfl)
theorem dX0_reading_53 : decode cX0_reading 53 = .ok (.getfield 365, 3) := dk_180 1 109 (dk_at dksX0_reading_2 6 rfl rfl)
theorem dX0_reading_56 : decode cX0_reading 56 = .ok (.invokevirtual 530, 3) := dk_182 2 18 (dk_at dksX0_reading_2 9 rfl rfl)
theorem dX0_reading_59 : decode cX0_reading 59 = .ok (.invokevirtual 622, 3) := dk_182 2 110 (dk_at dksX0_reading_2 12 rfl rfl)
theorem dX0_reading_62 : decode cX0_reading 62 = .ok (.ifCond .eq 7, 3) := dk_153 0 7 (dk_at dksX0_reading_2 15 rfl rfl)
theorem dX0_reading_65 : decode cX0_reading 65 = .ok (.iconst 0, 1) := dk_3 (dk_at dksX0_reading_2 18 rfl rfl)
theorem dX0_reading_66 : decode cX0_reading 66 = .ok (.goto 5, 3) := dk_167 0 5 (dk_at dksX0_reading_2 19 rfl rfl)
theorem dX0_reading_69 : decode cX0_reading 69 = .ok (.bipush 100, 2) := dk_16 100 (dk_at dksX0_reading_2 22 rfl rfl)
theorem dX0_reading_71 : decode cX0_reading 71 = .ok (.iadd, 1) := dk_96 (dk_at dksX0_reading_3 0 rfl rfl)
theorem dX0_reading_72 : decode cX0_reading 72 = .ok (.ireturn, 1) := dk_172 (dk_at dksX0_reading_3 1 rfl rfl)
abbrev cX0_makes : ByteArray := prog_1_method_83_code
def yX0_makes : MethodName := ⟨RX0, "makes", "(LBranchNames$Branch;LBranchNames$Tree;I)V"⟩
def dkwX0_makes_6 : List UInt8 := [25, 4, 182, 2, 82, 132, 7, 1, 167, 255, 221, 132, 5, 1, 167, 255, 123, 177]
abbrev dktX0_makes_6 : List UInt8 := dkwX0_makes_6 ++ []
def dkwX0_makes_5 : List UInt8 := [180, 2, 68, 162, 0, 31, 42, 44, 25, 6, 25, 6, 180, 2, 79, 21, 7, 46, 43, 180, 2, 55, 29]
abbrev dktX0_makes_5 : List UInt8 := dkwX0_makes_5 ++ dktX0_makes_6
def dkwX0_makes_4 : List UInt8 := [167, 0, 16, 25, 4, 25, 6, 180, 2, 34, 180, 2, 55, 182, 2, 60, 3, 54, 7, 21, 7, 25, 6]
abbrev dktX0_makes_4 : List UInt8 := dkwX0_makes_4 ++ dktX0_makes_5
def dkwX0_makes_3 : List UInt8 := [183, 2, 49, 191, 25, 6, 180, 2, 34, 180, 2, 71, 153, 0, 14, 42, 25, 6, 25, 4, 182, 2, 75]
abbrev dktX0_makes_3 : List UInt8 := dkwX0_makes_3 ++ dktX0_makes_4
def dkwX0_makes_2 : List UInt8 := [25, 6, 180, 2, 67, 25, 6, 180, 2, 68, 159, 0, 18, 187, 2, 44, 89, 6, 25, 6, 180, 2, 46, 1]
abbrev dktX0_makes_2 : List UInt8 := dkwX0_makes_2 ++ dktX0_makes_3
def dkwX0_makes_1 : List UInt8 := [180, 2, 63, 182, 1, 28, 162, 0, 127, 43, 180, 2, 63, 21, 5, 182, 1, 33, 192, 2, 35, 58, 6]
abbrev dktX0_makes_1 : List UInt8 := dkwX0_makes_1 ++ dktX0_makes_2
def dkwX0_makes_0 : List UInt8 := [44, 43, 180, 2, 55, 182, 2, 60, 187, 0, 12, 89, 183, 1, 108, 58, 4, 3, 54, 5, 21, 5, 43]
abbrev dktX0_makes_0 : List UInt8 := dkwX0_makes_0 ++ dktX0_makes_1
theorem dksX0_makes_0 : cX0_makes.data.toList.drop 0 = dktX0_makes_0 := by decide +kernel
theorem dksX0_makes_1 : cX0_makes.data.toList.drop 23 = dktX0_makes_1 := dk_seg dksX0_makes_0 23 rfl rfl
theorem dksX0_makes_2 : cX0_makes.data.toList.drop 46 = dktX0_makes_2 := dk_seg dksX0_makes_1 23 rfl rfl
theorem dksX0_makes_3 : cX0_makes.data.toList.drop 70 = dktX0_makes_3 := dk_seg dksX0_makes_2 24 rfl rfl
theorem dksX0_makes_4 : cX0_makes.data.toList.drop 93 = dktX0_makes_4 := dk_seg dksX0_makes_3 23 rfl rfl
theorem dksX0_makes_5 : cX0_makes.data.toList.drop 116 = dktX0_makes_5 := dk_seg dksX0_makes_4 23 rfl rfl
theorem dksX0_makes_6 : cX0_makes.data.toList.drop 139 = dktX0_makes_6 := dk_seg dksX0_makes_5 23 rfl rfl
theorem dX0_makes_0 : decode cX0_makes 0 = .ok (.aload_n 2, 1) := dk_44 (dk_at dksX0_makes_0 0 rfl rfl)
theorem dX0_makes_1 : decode cX0_makes 1 = .ok (.aload_n 1, 1) := dk_43 (dk_at dksX0_makes_0 1 rfl rfl)
theorem dX0_makes_2 : decode cX0_makes 2 = .ok (.getfield 567, 3) := dk_180 2 55 (dk_at dksX0_makes_0 2 rfl rfl)
theorem dX0_makes_5 : decode cX0_makes 5 = .ok (.invokevirtual 572, 3) := dk_182 2 60 (dk_at dksX0_makes_0 5 rfl rfl)
theorem dX0_makes_8 : decode cX0_makes 8 = .ok (.new 12, 3) := dk_187 0 12 (dk_at dksX0_makes_0 8 rfl rfl)
theorem dX0_makes_11 : decode cX0_makes 11 = .ok (.dup, 1) := dk_89 (dk_at dksX0_makes_0 11 rfl rfl)
theorem dX0_makes_12 : decode cX0_makes 12 = .ok (.invokespecial 364, 3) := dk_183 1 108 (dk_at dksX0_makes_0 12 rfl rfl)
theorem dX0_makes_15 : decode cX0_makes 15 = .ok (.astore 4, 2) := dk_58 4 (dk_at dksX0_makes_0 15 rfl rfl)
theorem dX0_makes_17 : decode cX0_makes 17 = .ok (.iconst 0, 1) := dk_3 (dk_at dksX0_makes_0 17 rfl rfl)
theorem dX0_makes_18 : decode cX0_makes 18 = .ok (.istore 5, 2) := dk_54 5 (dk_at dksX0_makes_0 18 rfl rfl)
theorem dX0_makes_20 : decode cX0_makes 20 = .ok (.iload 5, 2) := dk_21 5 (dk_at dksX0_makes_0 20 rfl rfl)
theorem dX0_makes_22 : decode cX0_makes 22 = .ok (.aload_n 1, 1) := dk_43 (dk_at dksX0_makes_0 22 rfl rfl)
theorem dX0_makes_23 : decode cX0_makes 23 = .ok (.getfield 575, 3) := dk_180 2 63 (dk_at dksX0_makes_1 0 rfl rfl)
theorem dX0_makes_26 : decode cX0_makes 26 = .ok (.invokevirtual 284, 3) := dk_182 1 28 (dk_at dksX0_makes_1 3 rfl rfl)
theorem dX0_makes_29 : decode cX0_makes 29 = .ok (.if_icmp .ge 127, 3) := dk_162 0 127 (dk_at dksX0_makes_1 6 rfl rfl)
theorem dX0_makes_32 : decode cX0_makes 32 = .ok (.aload_n 1, 1) := dk_43 (dk_at dksX0_makes_1 9 rfl rfl)
theorem dX0_makes_33 : decode cX0_makes 33 = .ok (.getfield 575, 3) := dk_180 2 63 (dk_at dksX0_makes_1 10 rfl rfl)
theorem dX0_makes_36 : decode cX0_makes 36 = .ok (.iload 5, 2) := dk_21 5 (dk_at dksX0_makes_1 13 rfl rfl)
theorem dX0_makes_38 : decode cX0_makes 38 = .ok (.invokevirtual 289, 3) := dk_182 1 33 (dk_at dksX0_makes_1 15 rfl rfl)
theorem dX0_makes_41 : decode cX0_makes 41 = .ok (.checkcast 547, 3) := dk_192 2 35 (dk_at dksX0_makes_1 18 rfl rfl)
theorem dX0_makes_44 : decode cX0_makes 44 = .ok (.astore 6, 2) := dk_58 6 (dk_at dksX0_makes_1 21 rfl rfl)
theorem dX0_makes_46 : decode cX0_makes 46 = .ok (.aload 6, 2) := dk_25 6 (dk_at dksX0_makes_2 0 rfl rfl)
theorem dX0_makes_48 : decode cX0_makes 48 = .ok (.getfield 579, 3) := dk_180 2 67 (dk_at dksX0_makes_2 2 rfl rfl)
theorem dX0_makes_51 : decode cX0_makes 51 = .ok (.aload 6, 2) := dk_25 6 (dk_at dksX0_makes_2 5 rfl rfl)
theorem dX0_makes_53 : decode cX0_makes 53 = .ok (.getfield 580, 3) := dk_180 2 68 (dk_at dksX0_makes_2 7 rfl rfl)
theorem dX0_makes_56 : decode cX0_makes 56 = .ok (.if_icmp .eq 18, 3) := dk_159 0 18 (dk_at dksX0_makes_2 10 rfl rfl)
theorem dX0_makes_59 : decode cX0_makes 59 = .ok (.new 556, 3) := dk_187 2 44 (dk_at dksX0_makes_2 13 rfl rfl)
theorem dX0_makes_62 : decode cX0_makes 62 = .ok (.dup, 1) := dk_89 (dk_at dksX0_makes_2 16 rfl rfl)
theorem dX0_makes_63 : decode cX0_makes 63 = .ok (.iconst 3, 1) := dk_6 (dk_at dksX0_makes_2 17 rfl rfl)
theorem dX0_makes_64 : decode cX0_makes 64 = .ok (.aload 6, 2) := dk_25 6 (dk_at dksX0_makes_2 18 rfl rfl)
theorem dX0_makes_66 : decode cX0_makes 66 = .ok (.getfield 558, 3) := dk_180 2 46 (dk_at dksX0_makes_2 20 rfl rfl)
theorem dX0_makes_69 : decode cX0_makes 69 = .ok (.aconst_null, 1) := dk_1 (dk_at dksX0_makes_2 23 rfl rfl)
theorem dX0_makes_70 : decode cX0_makes 70 = .ok (.invokespecial 561, 3) := dk_183 2 49 (dk_at dksX0_makes_3 0 rfl rfl)
theorem dX0_makes_73 : decode cX0_makes 73 = .ok (.athrow, 1) := dk_191 (dk_at dksX0_makes_3 3 rfl rfl)
theorem dX0_makes_74 : decode cX0_makes 74 = .ok (.aload 6, 2) := dk_25 6 (dk_at dksX0_makes_3 4 rfl rfl)
theorem dX0_makes_76 : decode cX0_makes 76 = .ok (.getfield 546, 3) := dk_180 2 34 (dk_at dksX0_makes_3 6 rfl rfl)
theorem dX0_makes_79 : decode cX0_makes 79 = .ok (.getfield 583, 3) := dk_180 2 71 (dk_at dksX0_makes_3 9 rfl rfl)
theorem dX0_makes_82 : decode cX0_makes 82 = .ok (.ifCond .eq 14, 3) := dk_153 0 14 (dk_at dksX0_makes_3 12 rfl rfl)
theorem dX0_makes_85 : decode cX0_makes 85 = .ok (.aload_n 0, 1) := dk_42 (dk_at dksX0_makes_3 15 rfl rfl)
theorem dX0_makes_86 : decode cX0_makes 86 = .ok (.aload 6, 2) := dk_25 6 (dk_at dksX0_makes_3 16 rfl rfl)
theorem dX0_makes_88 : decode cX0_makes 88 = .ok (.aload 4, 2) := dk_25 4 (dk_at dksX0_makes_3 18 rfl rfl)
theorem dX0_makes_90 : decode cX0_makes 90 = .ok (.invokevirtual 587, 3) := dk_182 2 75 (dk_at dksX0_makes_3 20 rfl rfl)
theorem dX0_makes_93 : decode cX0_makes 93 = .ok (.goto 16, 3) := dk_167 0 16 (dk_at dksX0_makes_4 0 rfl rfl)
theorem dX0_makes_96 : decode cX0_makes 96 = .ok (.aload 4, 2) := dk_25 4 (dk_at dksX0_makes_4 3 rfl rfl)
theorem dX0_makes_98 : decode cX0_makes 98 = .ok (.aload 6, 2) := dk_25 6 (dk_at dksX0_makes_4 5 rfl rfl)
theorem dX0_makes_100 : decode cX0_makes 100 = .ok (.getfield 546, 3) := dk_180 2 34 (dk_at dksX0_makes_4 7 rfl rfl)
theorem dX0_makes_103 : decode cX0_makes 103 = .ok (.getfield 567, 3) := dk_180 2 55 (dk_at dksX0_makes_4 10 rfl rfl)
theorem dX0_makes_106 : decode cX0_makes 106 = .ok (.invokevirtual 572, 3) := dk_182 2 60 (dk_at dksX0_makes_4 13 rfl rfl)
theorem dX0_makes_109 : decode cX0_makes 109 = .ok (.iconst 0, 1) := dk_3 (dk_at dksX0_makes_4 16 rfl rfl)
theorem dX0_makes_110 : decode cX0_makes 110 = .ok (.istore 7, 2) := dk_54 7 (dk_at dksX0_makes_4 17 rfl rfl)
theorem dX0_makes_112 : decode cX0_makes 112 = .ok (.iload 7, 2) := dk_21 7 (dk_at dksX0_makes_4 19 rfl rfl)
theorem dX0_makes_114 : decode cX0_makes 114 = .ok (.aload 6, 2) := dk_25 6 (dk_at dksX0_makes_4 21 rfl rfl)
theorem dX0_makes_116 : decode cX0_makes 116 = .ok (.getfield 580, 3) := dk_180 2 68 (dk_at dksX0_makes_5 0 rfl rfl)
theorem dX0_makes_119 : decode cX0_makes 119 = .ok (.if_icmp .ge 31, 3) := dk_162 0 31 (dk_at dksX0_makes_5 3 rfl rfl)
theorem dX0_makes_122 : decode cX0_makes 122 = .ok (.aload_n 0, 1) := dk_42 (dk_at dksX0_makes_5 6 rfl rfl)
theorem dX0_makes_123 : decode cX0_makes 123 = .ok (.aload_n 2, 1) := dk_44 (dk_at dksX0_makes_5 7 rfl rfl)
theorem dX0_makes_124 : decode cX0_makes 124 = .ok (.aload 6, 2) := dk_25 6 (dk_at dksX0_makes_5 8 rfl rfl)
theorem dX0_makes_126 : decode cX0_makes 126 = .ok (.aload 6, 2) := dk_25 6 (dk_at dksX0_makes_5 10 rfl rfl)
theorem dX0_makes_128 : decode cX0_makes 128 = .ok (.getfield 591, 3) := dk_180 2 79 (dk_at dksX0_makes_5 12 rfl rfl)
theorem dX0_makes_131 : decode cX0_makes 131 = .ok (.iload 7, 2) := dk_21 7 (dk_at dksX0_makes_5 15 rfl rfl)
theorem dX0_makes_133 : decode cX0_makes 133 = .ok (.iaload, 1) := dk_46 (dk_at dksX0_makes_5 17 rfl rfl)
theorem dX0_makes_134 : decode cX0_makes 134 = .ok (.aload_n 1, 1) := dk_43 (dk_at dksX0_makes_5 18 rfl rfl)
theorem dX0_makes_135 : decode cX0_makes 135 = .ok (.getfield 567, 3) := dk_180 2 55 (dk_at dksX0_makes_5 19 rfl rfl)
theorem dX0_makes_138 : decode cX0_makes 138 = .ok (.iload_n 3, 1) := dk_29 (dk_at dksX0_makes_5 22 rfl rfl)
theorem dX0_makes_139 : decode cX0_makes 139 = .ok (.aload 4, 2) := dk_25 4 (dk_at dksX0_makes_6 0 rfl rfl)
theorem dX0_makes_141 : decode cX0_makes 141 = .ok (.invokevirtual 594, 3) := dk_182 2 82 (dk_at dksX0_makes_6 2 rfl rfl)
theorem dX0_makes_144 : decode cX0_makes 144 = .ok (.iinc 7 1, 3) := dk_132 7 1 (dk_at dksX0_makes_6 5 rfl rfl)
theorem dX0_makes_147 : decode cX0_makes 147 = .ok (.goto (-35), 3) := dk_167 255 221 (dk_at dksX0_makes_6 8 rfl rfl)
theorem dX0_makes_150 : decode cX0_makes 150 = .ok (.iinc 5 1, 3) := dk_132 5 1 (dk_at dksX0_makes_6 11 rfl rfl)
theorem dX0_makes_153 : decode cX0_makes 153 = .ok (.goto (-133), 3) := dk_167 255 123 (dk_at dksX0_makes_6 14 rfl rfl)
theorem dX0_makes_156 : decode cX0_makes 156 = .ok (.return_, 1) := dk_177 (dk_at dksX0_makes_6 17 rfl rfl)
abbrev cX0_makesWithin : ByteArray := prog_1_method_81_code
def yX0_makesWithin : MethodName := ⟨RX0, "makesWithin", "(LBranchNames$Part;LBranchNames$Tree;)V"⟩
def dkwX0_makesWithin_1 : List UInt8 := [183, 2, 49, 191, 177]
abbrev dktX0_makesWithin_1 : List UInt8 := dkwX0_makesWithin_1 ++ []
def dkwX0_makesWithin_0 : List UInt8 := [42, 43, 180, 2, 34, 44, 4, 182, 2, 40, 167, 0, 18, 78, 187, 2, 44, 89, 8, 43, 180, 2, 46, 45]
abbrev dktX0_makesWithin_0 : List UInt8 := dkwX0_makesWithin_0 ++ dktX0_makesWithin_1
theorem dksX0_makesWithin_0 : cX0_makesWithin.data.toList.drop 0 = dktX0_makesWithin_0 := by decide +kernel
theorem dksX0_makesWithin_1 : cX0_makesWithin.data.toList.drop 24 = dktX0_makesWithin_1 := dk_seg dksX0_makesWithin_0 24 rfl rfl
theorem dX0_makesWithin_0 : decode cX0_makesWithin 0 = .ok (.aload_n 0, 1) := dk_42 (dk_at dksX0_makesWithin_0 0 rfl rfl)
theorem dX0_makesWithin_1 : decode cX0_makesWithin 1 = .ok (.aload_n 1, 1) := dk_43 (dk_at dksX0_makesWithin_0 1 rfl rfl)
theorem dX0_makesWithin_2 : decode cX0_makesWithin 2 = .ok (.getfield 546, 3) := dk_180 2 34 (dk_at dksX0_makesWithin_0 2 rfl rfl)
theorem dX0_makesWithin_5 : decode cX0_makesWithin 5 = .ok (.aload_n 2, 1) := dk_44 (dk_at dksX0_makesWithin_0 5 rfl rfl)
theorem dX0_makesWithin_6 : decode cX0_makesWithin 6 = .ok (.iconst 1, 1) := dk_4 (dk_at dksX0_makesWithin_0 6 rfl rfl)
theorem dX0_makesWithin_7 : decode cX0_makesWithin 7 = .ok (.invokevirtual 552, 3) := dk_182 2 40 (dk_at dksX0_makesWithin_0 7 rfl rfl)
theorem dX0_makesWithin_10 : decode cX0_makesWithin 10 = .ok (.goto 18, 3) := dk_167 0 18 (dk_at dksX0_makesWithin_0 10 rfl rfl)
theorem dX0_makesWithin_13 : decode cX0_makesWithin 13 = .ok (.astore_n 3, 1) := dk_78 (dk_at dksX0_makesWithin_0 13 rfl rfl)
theorem dX0_makesWithin_14 : decode cX0_makesWithin 14 = .ok (.new 556, 3) := dk_187 2 44 (dk_at dksX0_makesWithin_0 14 rfl rfl)
theorem dX0_makesWithin_17 : decode cX0_makesWithin 17 = .ok (.dup, 1) := dk_89 (dk_at dksX0_makesWithin_0 17 rfl rfl)
theorem dX0_makesWithin_18 : decode cX0_makesWithin 18 = .ok (.iconst 5, 1) := dk_8 (dk_at dksX0_makesWithin_0 18 rfl rfl)
theorem dX0_makesWithin_19 : decode cX0_makesWithin 19 = .ok (.aload_n 1, 1) := dk_43 (dk_at dksX0_makesWithin_0 19 rfl rfl)
theorem dX0_makesWithin_20 : decode cX0_makesWithin 20 = .ok (.getfield 558, 3) := dk_180 2 46 (dk_at dksX0_makesWithin_0 20 rfl rfl)
theorem dX0_makesWithin_23 : decode cX0_makesWithin 23 = .ok (.aload_n 3, 1) := dk_45 (dk_at dksX0_makesWithin_0 23 rfl rfl)
theorem dX0_makesWithin_24 : decode cX0_makesWithin 24 = .ok (.invokespecial 561, 3) := dk_183 2 49 (dk_at dksX0_makesWithin_1 0 rfl rfl)
theorem dX0_makesWithin_27 : decode cX0_makesWithin 27 = .ok (.athrow, 1) := dk_191 (dk_at dksX0_makesWithin_1 3 rfl rfl)
theorem dX0_makesWithin_28 : decode cX0_makesWithin 28 = .ok (.return_, 1) := dk_177 (dk_at dksX0_makesWithin_1 4 rfl rfl)
abbrev cX0_comes : ByteArray := prog_1_method_82_code
def yX0_comes : MethodName := ⟨RX0, "comes", "(LBranchNames$Tree;LBranchNames$Part;IIILBranchNames$Tree;)V"⟩
def dkwX0_comes_4 : List UInt8 := [182, 2, 52, 177]
abbrev dktX0_comes_4 : List UInt8 := dkwX0_comes_4 ++ []
def dkwX0_comes_3 : List UInt8 := [164, 0, 17, 187, 2, 44, 89, 7, 44, 180, 2, 46, 1, 183, 2, 49, 191, 43, 25, 6, 29, 4, 100]
abbrev dktX0_comes_3 : List UInt8 := dkwX0_comes_3 ++ dktX0_comes_4
def dkwX0_comes_2 : List UInt8 := [5, 44, 180, 2, 46, 1, 183, 2, 49, 191, 43, 180, 0, 44, 25, 6, 180, 0, 44, 96, 16, 12]
abbrev dktX0_comes_2 : List UInt8 := dkwX0_comes_2 ++ dktX0_comes_3
def dkwX0_comes_1 : List UInt8 := [29, 4, 100, 46, 29, 4, 160, 0, 8, 21, 5, 167, 0, 4, 3, 96, 7, 161, 0, 17, 187, 2, 44, 89]
abbrev dktX0_comes_1 : List UInt8 := dkwX0_comes_1 ++ dktX0_comes_2
def dkwX0_comes_0 : List UInt8 := [29, 21, 4, 164, 0, 17, 187, 2, 44, 89, 4, 44, 180, 2, 46, 1, 183, 2, 49, 191, 43, 180, 0, 11]
abbrev dktX0_comes_0 : List UInt8 := dkwX0_comes_0 ++ dktX0_comes_1
theorem dksX0_comes_0 : cX0_comes.data.toList.drop 0 = dktX0_comes_0 := by decide +kernel
theorem dksX0_comes_1 : cX0_comes.data.toList.drop 24 = dktX0_comes_1 := dk_seg dksX0_comes_0 24 rfl rfl
theorem dksX0_comes_2 : cX0_comes.data.toList.drop 48 = dktX0_comes_2 := dk_seg dksX0_comes_1 24 rfl rfl
theorem dksX0_comes_3 : cX0_comes.data.toList.drop 70 = dktX0_comes_3 := dk_seg dksX0_comes_2 22 rfl rfl
theorem dksX0_comes_4 : cX0_comes.data.toList.drop 93 = dktX0_comes_4 := dk_seg dksX0_comes_3 23 rfl rfl
theorem dX0_comes_0 : decode cX0_comes 0 = .ok (.iload_n 3, 1) := dk_29 (dk_at dksX0_comes_0 0 rfl rfl)
theorem dX0_comes_1 : decode cX0_comes 1 = .ok (.iload 4, 2) := dk_21 4 (dk_at dksX0_comes_0 1 rfl rfl)
theorem dX0_comes_3 : decode cX0_comes 3 = .ok (.if_icmp .le 17, 3) := dk_164 0 17 (dk_at dksX0_comes_0 3 rfl rfl)
theorem dX0_comes_6 : decode cX0_comes 6 = .ok (.new 556, 3) := dk_187 2 44 (dk_at dksX0_comes_0 6 rfl rfl)
theorem dX0_comes_9 : decode cX0_comes 9 = .ok (.dup, 1) := dk_89 (dk_at dksX0_comes_0 9 rfl rfl)
theorem dX0_comes_10 : decode cX0_comes 10 = .ok (.iconst 1, 1) := dk_4 (dk_at dksX0_comes_0 10 rfl rfl)
theorem dX0_comes_11 : decode cX0_comes 11 = .ok (.aload_n 2, 1) := dk_44 (dk_at dksX0_comes_0 11 rfl rfl)
theorem dX0_comes_12 : decode cX0_comes 12 = .ok (.getfield 558, 3) := dk_180 2 46 (dk_at dksX0_comes_0 12 rfl rfl)
theorem dX0_comes_15 : decode cX0_comes 15 = .ok (.aconst_null, 1) := dk_1 (dk_at dksX0_comes_0 15 rfl rfl)
theorem dX0_comes_16 : decode cX0_comes 16 = .ok (.invokespecial 561, 3) := dk_183 2 49 (dk_at dksX0_comes_0 16 rfl rfl)
theorem dX0_comes_19 : decode cX0_comes 19 = .ok (.athrow, 1) := dk_191 (dk_at dksX0_comes_0 19 rfl rfl)
theorem dX0_comes_20 : decode cX0_comes 20 = .ok (.aload_n 1, 1) := dk_43 (dk_at dksX0_comes_0 20 rfl rfl)
theorem dX0_comes_21 : decode cX0_comes 21 = .ok (.getfield 11, 3) := dk_180 0 11 (dk_at dksX0_comes_0 21 rfl rfl)
theorem dX0_comes_24 : decode cX0_comes 24 = .ok (.iload_n 3, 1) := dk_29 (dk_at dksX0_comes_1 0 rfl rfl)
theorem dX0_comes_25 : decode cX0_comes 25 = .ok (.iconst 1, 1) := dk_4 (dk_at dksX0_comes_1 1 rfl rfl)
theorem dX0_comes_26 : decode cX0_comes 26 = .ok (.isub, 1) := dk_100 (dk_at dksX0_comes_1 2 rfl rfl)
theorem dX0_comes_27 : decode cX0_comes 27 = .ok (.iaload, 1) := dk_46 (dk_at dksX0_comes_1 3 rfl rfl)
theorem dX0_comes_28 : decode cX0_comes 28 = .ok (.iload_n 3, 1) := dk_29 (dk_at dksX0_comes_1 4 rfl rfl)
theorem dX0_comes_29 : decode cX0_comes 29 = .ok (.iconst 1, 1) := dk_4 (dk_at dksX0_comes_1 5 rfl rfl)
theorem dX0_comes_30 : decode cX0_comes 30 = .ok (.if_icmp .ne 8, 3) := dk_160 0 8 (dk_at dksX0_comes_1 6 rfl rfl)
theorem dX0_comes_33 : decode cX0_comes 33 = .ok (.iload 5, 2) := dk_21 5 (dk_at dksX0_comes_1 9 rfl rfl)
theorem dX0_comes_35 : decode cX0_comes 35 = .ok (.goto 4, 3) := dk_167 0 4 (dk_at dksX0_comes_1 11 rfl rfl)
theorem dX0_comes_38 : decode cX0_comes 38 = .ok (.iconst 0, 1) := dk_3 (dk_at dksX0_comes_1 14 rfl rfl)
theorem dX0_comes_39 : decode cX0_comes 39 = .ok (.iadd, 1) := dk_96 (dk_at dksX0_comes_1 15 rfl rfl)
theorem dX0_comes_40 : decode cX0_comes 40 = .ok (.iconst 4, 1) := dk_7 (dk_at dksX0_comes_1 16 rfl rfl)
theorem dX0_comes_41 : decode cX0_comes 41 = .ok (.if_icmp .lt 17, 3) := dk_161 0 17 (dk_at dksX0_comes_1 17 rfl rfl)
theorem dX0_comes_44 : decode cX0_comes 44 = .ok (.new 556, 3) := dk_187 2 44 (dk_at dksX0_comes_1 20 rfl rfl)
theorem dX0_comes_47 : decode cX0_comes 47 = .ok (.dup, 1) := dk_89 (dk_at dksX0_comes_1 23 rfl rfl)
theorem dX0_comes_48 : decode cX0_comes 48 = .ok (.iconst 2, 1) := dk_5 (dk_at dksX0_comes_2 0 rfl rfl)
theorem dX0_comes_49 : decode cX0_comes 49 = .ok (.aload_n 2, 1) := dk_44 (dk_at dksX0_comes_2 1 rfl rfl)
theorem dX0_comes_50 : decode cX0_comes 50 = .ok (.getfield 558, 3) := dk_180 2 46 (dk_at dksX0_comes_2 2 rfl rfl)
theorem dX0_comes_53 : decode cX0_comes 53 = .ok (.aconst_null, 1) := dk_1 (dk_at dksX0_comes_2 5 rfl rfl)
theorem dX0_comes_54 : decode cX0_comes 54 = .ok (.invokespecial 561, 3) := dk_183 2 49 (dk_at dksX0_comes_2 6 rfl rfl)
theorem dX0_comes_57 : decode cX0_comes 57 = .ok (.athrow, 1) := dk_191 (dk_at dksX0_comes_2 9 rfl rfl)
theorem dX0_comes_58 : decode cX0_comes 58 = .ok (.aload_n 1, 1) := dk_43 (dk_at dksX0_comes_2 10 rfl rfl)
theorem dX0_comes_59 : decode cX0_comes 59 = .ok (.getfield 44, 3) := dk_180 0 44 (dk_at dksX0_comes_2 11 rfl rfl)
theorem dX0_comes_62 : decode cX0_comes 62 = .ok (.aload 6, 2) := dk_25 6 (dk_at dksX0_comes_2 14 rfl rfl)
theorem dX0_comes_64 : decode cX0_comes 64 = .ok (.getfield 44, 3) := dk_180 0 44 (dk_at dksX0_comes_2 16 rfl rfl)
theorem dX0_comes_67 : decode cX0_comes 67 = .ok (.iadd, 1) := dk_96 (dk_at dksX0_comes_2 19 rfl rfl)
theorem dX0_comes_68 : decode cX0_comes 68 = .ok (.bipush 12, 2) := dk_16 12 (dk_at dksX0_comes_2 20 rfl rfl)
theorem dX0_comes_70 : decode cX0_comes 70 = .ok (.if_icmp .le 17, 3) := dk_164 0 17 (dk_at dksX0_comes_3 0 rfl rfl)
theorem dX0_comes_73 : decode cX0_comes 73 = .ok (.new 556, 3) := dk_187 2 44 (dk_at dksX0_comes_3 3 rfl rfl)
theorem dX0_comes_76 : decode cX0_comes 76 = .ok (.dup, 1) := dk_89 (dk_at dksX0_comes_3 6 rfl rfl)
theorem dX0_comes_77 : decode cX0_comes 77 = .ok (.iconst 4, 1) := dk_7 (dk_at dksX0_comes_3 7 rfl rfl)
theorem dX0_comes_78 : decode cX0_comes 78 = .ok (.aload_n 2, 1) := dk_44 (dk_at dksX0_comes_3 8 rfl rfl)
theorem dX0_comes_79 : decode cX0_comes 79 = .ok (.getfield 558, 3) := dk_180 2 46 (dk_at dksX0_comes_3 9 rfl rfl)
theorem dX0_comes_82 : decode cX0_comes 82 = .ok (.aconst_null, 1) := dk_1 (dk_at dksX0_comes_3 12 rfl rfl)
theorem dX0_comes_83 : decode cX0_comes 83 = .ok (.invokespecial 561, 3) := dk_183 2 49 (dk_at dksX0_comes_3 13 rfl rfl)
theorem dX0_comes_86 : decode cX0_comes 86 = .ok (.athrow, 1) := dk_191 (dk_at dksX0_comes_3 16 rfl rfl)
theorem dX0_comes_87 : decode cX0_comes 87 = .ok (.aload_n 1, 1) := dk_43 (dk_at dksX0_comes_3 17 rfl rfl)
theorem dX0_comes_88 : decode cX0_comes 88 = .ok (.aload 6, 2) := dk_25 6 (dk_at dksX0_comes_3 18 rfl rfl)
theorem dX0_comes_90 : decode cX0_comes 90 = .ok (.iload_n 3, 1) := dk_29 (dk_at dksX0_comes_3 20 rfl rfl)
theorem dX0_comes_91 : decode cX0_comes 91 = .ok (.iconst 1, 1) := dk_4 (dk_at dksX0_comes_3 21 rfl rfl)
theorem dX0_comes_92 : decode cX0_comes 92 = .ok (.isub, 1) := dk_100 (dk_at dksX0_comes_3 22 rfl rfl)
theorem dX0_comes_93 : decode cX0_comes 93 = .ok (.invokevirtual 564, 3) := dk_182 2 52 (dk_at dksX0_comes_4 0 rfl rfl)
theorem dX0_comes_96 : decode cX0_comes 96 = .ok (.return_, 1) := dk_177 (dk_at dksX0_comes_4 3 rfl rfl)
abbrev cX0_isWord : ByteArray := prog_1_method_85_code
def yX0_isWord : MethodName := ⟨RX0, "isWord", "(Ljava/lang/String;)Z"⟩
def dkwX0_isWord_1 : List UInt8 := [28, 182, 1, 1, 42, 180, 1, 175, 28, 51, 159, 0, 5, 3, 172, 132, 2, 1, 167, 255, 229, 4, 172]
abbrev dktX0_isWord_1 : List UInt8 := dkwX0_isWord_1 ++ []
def dkwX0_isWord_0 : List UInt8 := [43, 182, 0, 251, 42, 180, 2, 31, 159, 0, 5, 3, 172, 3, 61, 28, 42, 180, 2, 31, 162, 0, 25, 43]
abbrev dktX0_isWord_0 : List UInt8 := dkwX0_isWord_0 ++ dktX0_isWord_1
theorem dksX0_isWord_0 : cX0_isWord.data.toList.drop 0 = dktX0_isWord_0 := by decide +kernel
theorem dksX0_isWord_1 : cX0_isWord.data.toList.drop 24 = dktX0_isWord_1 := dk_seg dksX0_isWord_0 24 rfl rfl
theorem dX0_isWord_0 : decode cX0_isWord 0 = .ok (.aload_n 1, 1) := dk_43 (dk_at dksX0_isWord_0 0 rfl rfl)
theorem dX0_isWord_1 : decode cX0_isWord 1 = .ok (.invokevirtual 251, 3) := dk_182 0 251 (dk_at dksX0_isWord_0 1 rfl rfl)
theorem dX0_isWord_4 : decode cX0_isWord 4 = .ok (.aload_n 0, 1) := dk_42 (dk_at dksX0_isWord_0 4 rfl rfl)
theorem dX0_isWord_5 : decode cX0_isWord 5 = .ok (.getfield 543, 3) := dk_180 2 31 (dk_at dksX0_isWord_0 5 rfl rfl)
theorem dX0_isWord_8 : decode cX0_isWord 8 = .ok (.if_icmp .eq 5, 3) := dk_159 0 5 (dk_at dksX0_isWord_0 8 rfl rfl)
theorem dX0_isWord_11 : decode cX0_isWord 11 = .ok (.iconst 0, 1) := dk_3 (dk_at dksX0_isWord_0 11 rfl rfl)
theorem dX0_isWord_12 : decode cX0_isWord 12 = .ok (.ireturn, 1) := dk_172 (dk_at dksX0_isWord_0 12 rfl rfl)
theorem dX0_isWord_13 : decode cX0_isWord 13 = .ok (.iconst 0, 1) := dk_3 (dk_at dksX0_isWord_0 13 rfl rfl)
theorem dX0_isWord_14 : decode cX0_isWord 14 = .ok (.istore_n 2, 1) := dk_61 (dk_at dksX0_isWord_0 14 rfl rfl)
theorem dX0_isWord_15 : decode cX0_isWord 15 = .ok (.iload_n 2, 1) := dk_28 (dk_at dksX0_isWord_0 15 rfl rfl)
theorem dX0_isWord_16 : decode cX0_isWord 16 = .ok (.aload_n 0, 1) := dk_42 (dk_at dksX0_isWord_0 16 rfl rfl)
theorem dX0_isWord_17 : decode cX0_isWord 17 = .ok (.getfield 543, 3) := dk_180 2 31 (dk_at dksX0_isWord_0 17 rfl rfl)
theorem dX0_isWord_20 : decode cX0_isWord 20 = .ok (.if_icmp .ge 25, 3) := dk_162 0 25 (dk_at dksX0_isWord_0 20 rfl rfl)
theorem dX0_isWord_23 : decode cX0_isWord 23 = .ok (.aload_n 1, 1) := dk_43 (dk_at dksX0_isWord_0 23 rfl rfl)
theorem dX0_isWord_24 : decode cX0_isWord 24 = .ok (.iload_n 2, 1) := dk_28 (dk_at dksX0_isWord_1 0 rfl rfl)
theorem dX0_isWord_25 : decode cX0_isWord 25 = .ok (.invokevirtual 257, 3) := dk_182 1 1 (dk_at dksX0_isWord_1 1 rfl rfl)
theorem dX0_isWord_28 : decode cX0_isWord 28 = .ok (.aload_n 0, 1) := dk_42 (dk_at dksX0_isWord_1 4 rfl rfl)
theorem dX0_isWord_29 : decode cX0_isWord 29 = .ok (.getfield 431, 3) := dk_180 1 175 (dk_at dksX0_isWord_1 5 rfl rfl)
theorem dX0_isWord_32 : decode cX0_isWord 32 = .ok (.iload_n 2, 1) := dk_28 (dk_at dksX0_isWord_1 8 rfl rfl)
theorem dX0_isWord_33 : decode cX0_isWord 33 = .ok (.baload, 1) := dk_51 (dk_at dksX0_isWord_1 9 rfl rfl)
theorem dX0_isWord_34 : decode cX0_isWord 34 = .ok (.if_icmp .eq 5, 3) := dk_159 0 5 (dk_at dksX0_isWord_1 10 rfl rfl)
theorem dX0_isWord_37 : decode cX0_isWord 37 = .ok (.iconst 0, 1) := dk_3 (dk_at dksX0_isWord_1 13 rfl rfl)
theorem dX0_isWord_38 : decode cX0_isWord 38 = .ok (.ireturn, 1) := dk_172 (dk_at dksX0_isWord_1 14 rfl rfl)
theorem dX0_isWord_39 : decode cX0_isWord 39 = .ok (.iinc 2 1, 3) := dk_132 2 1 (dk_at dksX0_isWord_1 15 rfl rfl)
theorem dX0_isWord_42 : decode cX0_isWord 42 = .ok (.goto (-27), 3) := dk_167 255 229 (dk_at dksX0_isWord_1 18 rfl rfl)
theorem dX0_isWord_45 : decode cX0_isWord 45 = .ok (.iconst 1, 1) := dk_4 (dk_at dksX0_isWord_1 21 rfl rfl)
theorem dX0_isWord_46 : decode cX0_isWord 46 = .ok (.ireturn, 1) := dk_172 (dk_at dksX0_isWord_1 22 rfl rfl)
abbrev cX0_tells : ByteArray := prog_1_method_84_code
def yX0_tells : MethodName := ⟨RX0, "tells", "(LBranchNames$Trouble;)V"⟩
def dkwX0_tells_2 : List UInt8 := [89, 180, 2, 85, 4, 96, 181, 2, 85, 44, 182, 2, 92, 77, 167, 255, 202, 177]
abbrev dktX0_tells_2 : List UInt8 := dkwX0_tells_2 ++ []
def dkwX0_tells_1 : List UInt8 := [192, 2, 44, 180, 2, 88, 79, 42, 180, 1, 182, 42, 180, 2, 85, 44, 192, 2, 44, 180, 2, 91, 79, 42]
abbrev dktX0_tells_1 : List UInt8 := dkwX0_tells_1 ++ dktX0_tells_2
def dkwX0_tells_0 : List UInt8 := [42, 3, 181, 2, 85, 43, 77, 44, 193, 2, 44, 153, 0, 53, 42, 180, 1, 179, 42, 180, 2, 85, 44]
abbrev dktX0_tells_0 : List UInt8 := dkwX0_tells_0 ++ dktX0_tells_1
theorem dksX0_tells_0 : cX0_tells.data.toList.drop 0 = dktX0_tells_0 := by decide +kernel
theorem dksX0_tells_1 : cX0_tells.data.toList.drop 23 = dktX0_tells_1 := dk_seg dksX0_tells_0 23 rfl rfl
theorem dksX0_tells_2 : cX0_tells.data.toList.drop 47 = dktX0_tells_2 := dk_seg dksX0_tells_1 24 rfl rfl
theorem dX0_tells_0 : decode cX0_tells 0 = .ok (.aload_n 0, 1) := dk_42 (dk_at dksX0_tells_0 0 rfl rfl)
theorem dX0_tells_1 : decode cX0_tells 1 = .ok (.iconst 0, 1) := dk_3 (dk_at dksX0_tells_0 1 rfl rfl)
theorem dX0_tells_2 : decode cX0_tells 2 = .ok (.putfield 597, 3) := dk_181 2 85 (dk_at dksX0_tells_0 2 rfl rfl)
theorem dX0_tells_5 : decode cX0_tells 5 = .ok (.aload_n 1, 1) := dk_43 (dk_at dksX0_tells_0 5 rfl rfl)
theorem dX0_tells_6 : decode cX0_tells 6 = .ok (.astore_n 2, 1) := dk_77 (dk_at dksX0_tells_0 6 rfl rfl)
theorem dX0_tells_7 : decode cX0_tells 7 = .ok (.aload_n 2, 1) := dk_44 (dk_at dksX0_tells_0 7 rfl rfl)
theorem dX0_tells_8 : decode cX0_tells 8 = .ok (.instanceof 556, 3) := dk_193 2 44 (dk_at dksX0_tells_0 8 rfl rfl)
theorem dX0_tells_11 : decode cX0_tells 11 = .ok (.ifCond .eq 53, 3) := dk_153 0 53 (dk_at dksX0_tells_0 11 rfl rfl)
theorem dX0_tells_14 : decode cX0_tells 14 = .ok (.aload_n 0, 1) := dk_42 (dk_at dksX0_tells_0 14 rfl rfl)
theorem dX0_tells_15 : decode cX0_tells 15 = .ok (.getfield 435, 3) := dk_180 1 179 (dk_at dksX0_tells_0 15 rfl rfl)
theorem dX0_tells_18 : decode cX0_tells 18 = .ok (.aload_n 0, 1) := dk_42 (dk_at dksX0_tells_0 18 rfl rfl)
theorem dX0_tells_19 : decode cX0_tells 19 = .ok (.getfield 597, 3) := dk_180 2 85 (dk_at dksX0_tells_0 19 rfl rfl)
theorem dX0_tells_22 : decode cX0_tells 22 = .ok (.aload_n 2, 1) := dk_44 (dk_at dksX0_tells_0 22 rfl rfl)
theorem dX0_tells_23 : decode cX0_tells 23 = .ok (.checkcast 556, 3) := dk_192 2 44 (dk_at dksX0_tells_1 0 rfl rfl)
theorem dX0_tells_26 : decode cX0_tells 26 = .ok (.getfield 600, 3) := dk_180 2 88 (dk_at dksX0_tells_1 3 rfl rfl)
theorem dX0_tells_29 : decode cX0_tells 29 = .ok (.iastore, 1) := dk_79 (dk_at dksX0_tells_1 6 rfl rfl)
theorem dX0_tells_30 : decode cX0_tells 30 = .ok (.aload_n 0, 1) := dk_42 (dk_at dksX0_tells_1 7 rfl rfl)
theorem dX0_tells_31 : decode cX0_tells 31 = .ok (.getfield 438, 3) := dk_180 1 182 (dk_at dksX0_tells_1 8 rfl rfl)
theorem dX0_tells_34 : decode cX0_tells 34 = .ok (.aload_n 0, 1) := dk_42 (dk_at dksX0_tells_1 11 rfl rfl)
theorem dX0_tells_35 : decode cX0_tells 35 = .ok (.getfield 597, 3) := dk_180 2 85 (dk_at dksX0_tells_1 12 rfl rfl)
theorem dX0_tells_38 : decode cX0_tells 38 = .ok (.aload_n 2, 1) := dk_44 (dk_at dksX0_tells_1 15 rfl rfl)
theorem dX0_tells_39 : decode cX0_tells 39 = .ok (.checkcast 556, 3) := dk_192 2 44 (dk_at dksX0_tells_1 16 rfl rfl)
theorem dX0_tells_42 : decode cX0_tells 42 = .ok (.getfield 603, 3) := dk_180 2 91 (dk_at dksX0_tells_1 19 rfl rfl)
theorem dX0_tells_45 : decode cX0_tells 45 = .ok (.iastore, 1) := dk_79 (dk_at dksX0_tells_1 22 rfl rfl)
theorem dX0_tells_46 : decode cX0_tells 46 = .ok (.aload_n 0, 1) := dk_42 (dk_at dksX0_tells_1 23 rfl rfl)
theorem dX0_tells_47 : decode cX0_tells 47 = .ok (.dup, 1) := dk_89 (dk_at dksX0_tells_2 0 rfl rfl)
theorem dX0_tells_48 : decode cX0_tells 48 = .ok (.getfield 597, 3) := dk_180 2 85 (dk_at dksX0_tells_2 1 rfl rfl)
theorem dX0_tells_51 : decode cX0_tells 51 = .ok (.iconst 1, 1) := dk_4 (dk_at dksX0_tells_2 4 rfl rfl)
theorem dX0_tells_52 : decode cX0_tells 52 = .ok (.iadd, 1) := dk_96 (dk_at dksX0_tells_2 5 rfl rfl)
theorem dX0_tells_53 : decode cX0_tells 53 = .ok (.putfield 597, 3) := dk_181 2 85 (dk_at dksX0_tells_2 6 rfl rfl)
theorem dX0_tells_56 : decode cX0_tells 56 = .ok (.aload_n 2, 1) := dk_44 (dk_at dksX0_tells_2 9 rfl rfl)
theorem dX0_tells_57 : decode cX0_tells 57 = .ok (.invokevirtual 604, 3) := dk_182 2 92 (dk_at dksX0_tells_2 10 rfl rfl)
theorem dX0_tells_60 : decode cX0_tells 60 = .ok (.astore_n 2, 1) := dk_77 (dk_at dksX0_tells_2 13 rfl rfl)
theorem dX0_tells_61 : decode cX0_tells 61 = .ok (.goto (-54), 3) := dk_167 255 202 (dk_at dksX0_tells_2 14 rfl rfl)
theorem dX0_tells_64 : decode cX0_tells 64 = .ok (.return_, 1) := dk_177 (dk_at dksX0_tells_2 17 rfl rfl)
abbrev cX0_why : ByteArray := prog_1_method_88_code
def yX0_why : MethodName := ⟨RX0, "why", "(II)I"⟩
def dkwX0_why_2 : List UInt8 := [172]
abbrev dktX0_why_2 : List UInt8 := dkwX0_why_2 ++ []
def dkwX0_why_1 : List UInt8 := [153, 0, 23, 28, 154, 0, 10, 42, 180, 1, 179, 167, 0, 7, 42, 180, 1, 182, 27, 46, 167, 0, 4, 2]
abbrev dktX0_why_1 : List UInt8 := dkwX0_why_1 ++ dktX0_why_2
def dkwX0_why_0 : List UInt8 := [27, 133, 9, 42, 180, 2, 85, 4, 100, 133, 184, 0, 142, 153, 0, 33, 28, 133, 9, 10, 184, 0, 142]
abbrev dktX0_why_0 : List UInt8 := dkwX0_why_0 ++ dktX0_why_1
theorem dksX0_why_0 : cX0_why.data.toList.drop 0 = dktX0_why_0 := by decide +kernel
theorem dksX0_why_1 : cX0_why.data.toList.drop 23 = dktX0_why_1 := dk_seg dksX0_why_0 23 rfl rfl
theorem dksX0_why_2 : cX0_why.data.toList.drop 47 = dktX0_why_2 := dk_seg dksX0_why_1 24 rfl rfl
theorem dX0_why_0 : decode cX0_why 0 = .ok (.iload_n 1, 1) := dk_27 (dk_at dksX0_why_0 0 rfl rfl)
theorem dX0_why_1 : decode cX0_why 1 = .ok (.i2l, 1) := dk_133 (dk_at dksX0_why_0 1 rfl rfl)
theorem dX0_why_2 : decode cX0_why 2 = .ok (.lconst 0, 1) := dk_9 (dk_at dksX0_why_0 2 rfl rfl)
theorem dX0_why_3 : decode cX0_why 3 = .ok (.aload_n 0, 1) := dk_42 (dk_at dksX0_why_0 3 rfl rfl)
theorem dX0_why_4 : decode cX0_why 4 = .ok (.getfield 597, 3) := dk_180 2 85 (dk_at dksX0_why_0 4 rfl rfl)
theorem dX0_why_7 : decode cX0_why 7 = .ok (.iconst 1, 1) := dk_4 (dk_at dksX0_why_0 7 rfl rfl)
theorem dX0_why_8 : decode cX0_why 8 = .ok (.isub, 1) := dk_100 (dk_at dksX0_why_0 8 rfl rfl)
theorem dX0_why_9 : decode cX0_why 9 = .ok (.i2l, 1) := dk_133 (dk_at dksX0_why_0 9 rfl rfl)
theorem dX0_why_10 : decode cX0_why 10 = .ok (.invokestatic 142, 3) := dk_184 0 142 (dk_at dksX0_why_0 10 rfl rfl)
theorem dX0_why_13 : decode cX0_why 13 = .ok (.ifCond .eq 33, 3) := dk_153 0 33 (dk_at dksX0_why_0 13 rfl rfl)
theorem dX0_why_16 : decode cX0_why 16 = .ok (.iload_n 2, 1) := dk_28 (dk_at dksX0_why_0 16 rfl rfl)
theorem dX0_why_17 : decode cX0_why 17 = .ok (.i2l, 1) := dk_133 (dk_at dksX0_why_0 17 rfl rfl)
theorem dX0_why_18 : decode cX0_why 18 = .ok (.lconst 0, 1) := dk_9 (dk_at dksX0_why_0 18 rfl rfl)
theorem dX0_why_19 : decode cX0_why 19 = .ok (.lconst 1, 1) := dk_10 (dk_at dksX0_why_0 19 rfl rfl)
theorem dX0_why_20 : decode cX0_why 20 = .ok (.invokestatic 142, 3) := dk_184 0 142 (dk_at dksX0_why_0 20 rfl rfl)
theorem dX0_why_23 : decode cX0_why 23 = .ok (.ifCond .eq 23, 3) := dk_153 0 23 (dk_at dksX0_why_1 0 rfl rfl)
theorem dX0_why_26 : decode cX0_why 26 = .ok (.iload_n 2, 1) := dk_28 (dk_at dksX0_why_1 3 rfl rfl)
theorem dX0_why_27 : decode cX0_why 27 = .ok (.ifCond .ne 10, 3) := dk_154 0 10 (dk_at dksX0_why_1 4 rfl rfl)
theorem dX0_why_30 : decode cX0_why 30 = .ok (.aload_n 0, 1) := dk_42 (dk_at dksX0_why_1 7 rfl rfl)
theorem dX0_why_31 : decode cX0_why 31 = .ok (.getfield 435, 3) := dk_180 1 179 (dk_at dksX0_why_1 8 rfl rfl)
theorem dX0_why_34 : decode cX0_why 34 = .ok (.goto 7, 3) := dk_167 0 7 (dk_at dksX0_why_1 11 rfl rfl)
theorem dX0_why_37 : decode cX0_why 37 = .ok (.aload_n 0, 1) := dk_42 (dk_at dksX0_why_1 14 rfl rfl)
theorem dX0_why_38 : decode cX0_why 38 = .ok (.getfield 438, 3) := dk_180 1 182 (dk_at dksX0_why_1 15 rfl rfl)
theorem dX0_why_41 : decode cX0_why 41 = .ok (.iload_n 1, 1) := dk_27 (dk_at dksX0_why_1 18 rfl rfl)
theorem dX0_why_42 : decode cX0_why 42 = .ok (.iaload, 1) := dk_46 (dk_at dksX0_why_1 19 rfl rfl)
theorem dX0_why_43 : decode cX0_why 43 = .ok (.goto 4, 3) := dk_167 0 4 (dk_at dksX0_why_1 20 rfl rfl)
theorem dX0_why_46 : decode cX0_why 46 = .ok (.iconst (-1), 1) := dk_2 (dk_at dksX0_why_1 23 rfl rfl)
theorem dX0_why_47 : decode cX0_why 47 = .ok (.ireturn, 1) := dk_172 (dk_at dksX0_why_2 0 rfl rfl)
abbrev cX0_told : ByteArray := prog_1_method_89_code
def yX0_told : MethodName := ⟨RX0, "told", "(I)I"⟩
def dkwX0_told_2 : List UInt8 := [42, 180, 2, 31, 172, 42, 180, 2, 85, 172, 42, 180, 2, 107, 172, 42, 180, 2, 117, 172, 16, 254, 172]
abbrev dktX0_told_2 : List UInt8 := dkwX0_told_2 ++ []
def dkwX0_told_1 : List UInt8 := [170, 0, 0, 0, 0, 0, 51, 0, 0, 0, 0, 0, 0, 0, 3, 0, 0, 0, 31, 0, 0, 0, 36, 0, 0, 0, 41, 0, 0, 0, 46]
abbrev dktX0_told_1 : List UInt8 := dkwX0_told_1 ++ dktX0_told_2
def dkwX0_told_0 : List UInt8 := [27]
abbrev dktX0_told_0 : List UInt8 := dkwX0_told_0 ++ dktX0_told_1
theorem dksX0_told_0 : cX0_told.data.toList.drop 0 = dktX0_told_0 := by decide +kernel
theorem dksX0_told_1 : cX0_told.data.toList.drop 1 = dktX0_told_1 := dk_seg dksX0_told_0 1 rfl rfl
theorem dksX0_told_2 : cX0_told.data.toList.drop 32 = dktX0_told_2 := dk_seg dksX0_told_1 31 rfl rfl
theorem dX0_told_0 : decode cX0_told 0 = .ok (.iload_n 1, 1) := dk_27 (dk_at dksX0_told_0 0 rfl rfl)
theorem dX0_told_1 : decode cX0_told 1 = .ok (.tableswitch 51 0 3 #[31, 36, 41, 46], 31) := by decide +kernel
theorem dX0_told_32 : decode cX0_told 32 = .ok (.aload_n 0, 1) := dk_42 (dk_at dksX0_told_2 0 rfl rfl)
theorem dX0_told_33 : decode cX0_told 33 = .ok (.getfield 543, 3) := dk_180 2 31 (dk_at dksX0_told_2 1 rfl rfl)
theorem dX0_told_36 : decode cX0_told 36 = .ok (.ireturn, 1) := dk_172 (dk_at dksX0_told_2 4 rfl rfl)
theorem dX0_told_37 : decode cX0_told 37 = .ok (.aload_n 0, 1) := dk_42 (dk_at dksX0_told_2 5 rfl rfl)
theorem dX0_told_38 : decode cX0_told 38 = .ok (.getfield 597, 3) := dk_180 2 85 (dk_at dksX0_told_2 6 rfl rfl)
theorem dX0_told_41 : decode cX0_told 41 = .ok (.ireturn, 1) := dk_172 (dk_at dksX0_told_2 9 rfl rfl)
theorem dX0_told_42 : decode cX0_told 42 = .ok (.aload_n 0, 1) := dk_42 (dk_at dksX0_told_2 10 rfl rfl)
theorem dX0_told_43 : decode cX0_told 43 = .ok (.getfield 619, 3) := dk_180 2 107 (dk_at dksX0_told_2 11 rfl rfl)
theorem dX0_told_46 : decode cX0_told 46 = .ok (.ireturn, 1) := dk_172 (dk_at dksX0_told_2 14 rfl rfl)
theorem dX0_told_47 : decode cX0_told 47 = .ok (.aload_n 0, 1) := dk_42 (dk_at dksX0_told_2 15 rfl rfl)
theorem dX0_told_48 : decode cX0_told 48 = .ok (.getfield 629, 3) := dk_180 2 117 (dk_at dksX0_told_2 16 rfl rfl)
theorem dX0_told_51 : decode cX0_told 51 = .ok (.ireturn, 1) := dk_172 (dk_at dksX0_told_2 19 rfl rfl)
theorem dX0_told_52 : decode cX0_told 52 = .ok (.bipush (-2), 2) := dk_16 254 (dk_at dksX0_told_2 20 rfl rfl)
theorem dX0_told_54 : decode cX0_told 54 = .ok (.ireturn, 1) := dk_172 (dk_at dksX0_told_2 22 rfl rfl)
abbrev cX0_row : ByteArray := prog_1_method_94_code
def yX0_row : MethodName := ⟨RX0, "row", "(III)I"⟩
def dkwX0_row_3 : List UInt8 := [4, 160, 0, 10, 29, 184, 2, 152, 167, 0, 7, 29, 184, 2, 155, 83, 4, 172]
abbrev dktX0_row_3 : List UInt8 := dkwX0_row_3 ++ []
def dkwX0_row_2 : List UInt8 := [180, 1, 187, 27, 28, 156, 0, 7, 1, 167, 0, 30, 28, 154, 0, 10, 29, 184, 2, 148, 167, 0, 19, 28]
abbrev dktX0_row_2 : List UInt8 := dkwX0_row_2 ++ dktX0_row_3
def dkwX0_row_1 : List UInt8 := [155, 0, 12, 29, 16, 40, 164, 0, 6, 16, 254, 172, 28, 155, 0, 10, 29, 156, 0, 6, 16, 242, 172, 42]
abbrev dktX0_row_1 : List UInt8 := dkwX0_row_1 ++ dktX0_row_2
def dkwX0_row_0 : List UInt8 := [27, 184, 2, 141, 154, 0, 5, 2, 172, 28, 133, 20, 2, 144, 20, 2, 146, 184, 0, 142, 153, 0, 13, 28]
abbrev dktX0_row_0 : List UInt8 := dkwX0_row_0 ++ dktX0_row_1
theorem dksX0_row_0 : cX0_row.data.toList.drop 0 = dktX0_row_0 := by decide +kernel
theorem dksX0_row_1 : cX0_row.data.toList.drop 24 = dktX0_row_1 := dk_seg dksX0_row_0 24 rfl rfl
theorem dksX0_row_2 : cX0_row.data.toList.drop 48 = dktX0_row_2 := dk_seg dksX0_row_1 24 rfl rfl
theorem dksX0_row_3 : cX0_row.data.toList.drop 72 = dktX0_row_3 := dk_seg dksX0_row_2 24 rfl rfl
theorem dX0_row_0 : decode cX0_row 0 = .ok (.iload_n 1, 1) := dk_27 (dk_at dksX0_row_0 0 rfl rfl)
theorem dX0_row_1 : decode cX0_row 1 = .ok (.invokestatic 653, 3) := dk_184 2 141 (dk_at dksX0_row_0 1 rfl rfl)
theorem dX0_row_4 : decode cX0_row 4 = .ok (.ifCond .ne 5, 3) := dk_154 0 5 (dk_at dksX0_row_0 4 rfl rfl)
theorem dX0_row_7 : decode cX0_row 7 = .ok (.iconst (-1), 1) := dk_2 (dk_at dksX0_row_0 7 rfl rfl)
theorem dX0_row_8 : decode cX0_row 8 = .ok (.ireturn, 1) := dk_172 (dk_at dksX0_row_0 8 rfl rfl)
theorem dX0_row_9 : decode cX0_row 9 = .ok (.iload_n 2, 1) := dk_28 (dk_at dksX0_row_0 9 rfl rfl)
theorem dX0_row_10 : decode cX0_row 10 = .ok (.i2l, 1) := dk_133 (dk_at dksX0_row_0 10 rfl rfl)
theorem dX0_row_11 : decode cX0_row 11 = .ok (.ldc2_w 656, 3) := dk_20 2 144 (dk_at dksX0_row_0 11 rfl rfl)
theorem dX0_row_14 : decode cX0_row 14 = .ok (.ldc2_w 658, 3) := dk_20 2 146 (dk_at dksX0_row_0 14 rfl rfl)
theorem dX0_row_17 : decode cX0_row 17 = .ok (.invokestatic 142, 3) := dk_184 0 142 (dk_at dksX0_row_0 17 rfl rfl)
theorem dX0_row_20 : decode cX0_row 20 = .ok (.ifCond .eq 13, 3) := dk_153 0 13 (dk_at dksX0_row_0 20 rfl rfl)
theorem dX0_row_23 : decode cX0_row 23 = .ok (.iload_n 2, 1) := dk_28 (dk_at dksX0_row_0 23 rfl rfl)
theorem dX0_row_24 : decode cX0_row 24 = .ok (.ifCond .lt 12, 3) := dk_155 0 12 (dk_at dksX0_row_1 0 rfl rfl)
theorem dX0_row_27 : decode cX0_row 27 = .ok (.iload_n 3, 1) := dk_29 (dk_at dksX0_row_1 3 rfl rfl)
theorem dX0_row_28 : decode cX0_row 28 = .ok (.bipush 40, 2) := dk_16 40 (dk_at dksX0_row_1 4 rfl rfl)
theorem dX0_row_30 : decode cX0_row 30 = .ok (.if_icmp .le 6, 3) := dk_164 0 6 (dk_at dksX0_row_1 6 rfl rfl)
theorem dX0_row_33 : decode cX0_row 33 = .ok (.bipush (-2), 2) := dk_16 254 (dk_at dksX0_row_1 9 rfl rfl)
theorem dX0_row_35 : decode cX0_row 35 = .ok (.ireturn, 1) := dk_172 (dk_at dksX0_row_1 11 rfl rfl)
theorem dX0_row_36 : decode cX0_row 36 = .ok (.iload_n 2, 1) := dk_28 (dk_at dksX0_row_1 12 rfl rfl)
theorem dX0_row_37 : decode cX0_row 37 = .ok (.ifCond .lt 10, 3) := dk_155 0 10 (dk_at dksX0_row_1 13 rfl rfl)
theorem dX0_row_40 : decode cX0_row 40 = .ok (.iload_n 3, 1) := dk_29 (dk_at dksX0_row_1 16 rfl rfl)
theorem dX0_row_41 : decode cX0_row 41 = .ok (.ifCond .ge 6, 3) := dk_156 0 6 (dk_at dksX0_row_1 17 rfl rfl)
theorem dX0_row_44 : decode cX0_row 44 = .ok (.bipush (-14), 2) := dk_16 242 (dk_at dksX0_row_1 20 rfl rfl)
theorem dX0_row_46 : decode cX0_row 46 = .ok (.ireturn, 1) := dk_172 (dk_at dksX0_row_1 22 rfl rfl)
theorem dX0_row_47 : decode cX0_row 47 = .ok (.aload_n 0, 1) := dk_42 (dk_at dksX0_row_1 23 rfl rfl)
theorem dX0_row_48 : decode cX0_row 48 = .ok (.getfield 443, 3) := dk_180 1 187 (dk_at dksX0_row_2 0 rfl rfl)
theorem dX0_row_51 : decode cX0_row 51 = .ok (.iload_n 1, 1) := dk_27 (dk_at dksX0_row_2 3 rfl rfl)
theorem dX0_row_52 : decode cX0_row 52 = .ok (.iload_n 2, 1) := dk_28 (dk_at dksX0_row_2 4 rfl rfl)
theorem dX0_row_53 : decode cX0_row 53 = .ok (.ifCond .ge 7, 3) := dk_156 0 7 (dk_at dksX0_row_2 5 rfl rfl)
theorem dX0_row_56 : decode cX0_row 56 = .ok (.aconst_null, 1) := dk_1 (dk_at dksX0_row_2 8 rfl rfl)
theorem dX0_row_57 : decode cX0_row 57 = .ok (.goto 30, 3) := dk_167 0 30 (dk_at dksX0_row_2 9 rfl rfl)
theorem dX0_row_60 : decode cX0_row 60 = .ok (.iload_n 2, 1) := dk_28 (dk_at dksX0_row_2 12 rfl rfl)
theorem dX0_row_61 : decode cX0_row 61 = .ok (.ifCond .ne 10, 3) := dk_154 0 10 (dk_at dksX0_row_2 13 rfl rfl)
theorem dX0_row_64 : decode cX0_row 64 = .ok (.iload_n 3, 1) := dk_29 (dk_at dksX0_row_2 16 rfl rfl)
theorem dX0_row_65 : decode cX0_row 65 = .ok (.invokestatic 660, 3) := dk_184 2 148 (dk_at dksX0_row_2 17 rfl rfl)
theorem dX0_row_68 : decode cX0_row 68 = .ok (.goto 19, 3) := dk_167 0 19 (dk_at dksX0_row_2 20 rfl rfl)
theorem dX0_row_71 : decode cX0_row 71 = .ok (.iload_n 2, 1) := dk_28 (dk_at dksX0_row_2 23 rfl rfl)
theorem dX0_row_72 : decode cX0_row 72 = .ok (.iconst 1, 1) := dk_4 (dk_at dksX0_row_3 0 rfl rfl)
theorem dX0_row_73 : decode cX0_row 73 = .ok (.if_icmp .ne 10, 3) := dk_160 0 10 (dk_at dksX0_row_3 1 rfl rfl)
theorem dX0_row_76 : decode cX0_row 76 = .ok (.iload_n 3, 1) := dk_29 (dk_at dksX0_row_3 4 rfl rfl)
theorem dX0_row_77 : decode cX0_row 77 = .ok (.invokestatic 664, 3) := dk_184 2 152 (dk_at dksX0_row_3 5 rfl rfl)
theorem dX0_row_80 : decode cX0_row 80 = .ok (.goto 7, 3) := dk_167 0 7 (dk_at dksX0_row_3 8 rfl rfl)
theorem dX0_row_83 : decode cX0_row 83 = .ok (.iload_n 3, 1) := dk_29 (dk_at dksX0_row_3 11 rfl rfl)
theorem dX0_row_84 : decode cX0_row 84 = .ok (.invokestatic 667, 3) := dk_184 2 155 (dk_at dksX0_row_3 12 rfl rfl)
theorem dX0_row_87 : decode cX0_row 87 = .ok (.aastore, 1) := dk_83 (dk_at dksX0_row_3 15 rfl rfl)
theorem dX0_row_88 : decode cX0_row 88 = .ok (.iconst 1, 1) := dk_4 (dk_at dksX0_row_3 16 rfl rfl)
theorem dX0_row_89 : decode cX0_row 89 = .ok (.ireturn, 1) := dk_172 (dk_at dksX0_row_3 17 rfl rfl)
abbrev cX0_isRow : ByteArray := prog_1_method_93_code
def yX0_isRow : MethodName := ⟨RX0, "isRow", "(I)Z"⟩
def dkwX0_isRow_0 : List UInt8 := [26, 133, 9, 20, 2, 139, 184, 0, 142, 172]
abbrev dktX0_isRow_0 : List UInt8 := dkwX0_isRow_0 ++ []
theorem dksX0_isRow_0 : cX0_isRow.data.toList.drop 0 = dktX0_isRow_0 := by decide +kernel
theorem dX0_isRow_0 : decode cX0_isRow 0 = .ok (.iload_n 0, 1) := dk_26 (dk_at dksX0_isRow_0 0 rfl rfl)
theorem dX0_isRow_1 : decode cX0_isRow 1 = .ok (.i2l, 1) := dk_133 (dk_at dksX0_isRow_0 1 rfl rfl)
theorem dX0_isRow_2 : decode cX0_isRow 2 = .ok (.lconst 0, 1) := dk_9 (dk_at dksX0_isRow_0 2 rfl rfl)
theorem dX0_isRow_3 : decode cX0_isRow 3 = .ok (.ldc2_w 651, 3) := dk_20 2 139 (dk_at dksX0_isRow_0 3 rfl rfl)
theorem dX0_isRow_6 : decode cX0_isRow 6 = .ok (.invokestatic 142, 3) := dk_184 0 142 (dk_at dksX0_isRow_0 6 rfl rfl)
theorem dX0_isRow_9 : decode cX0_isRow 9 = .ok (.ireturn, 1) := dk_172 (dk_at dksX0_isRow_0 9 rfl rfl)
abbrev cX0_ints : ByteArray := prog_1_method_90_code
def yX0_ints : MethodName := ⟨RX0, "ints", "(I)LBranchNames$Items;"⟩
def dkwX0_ints_0 : List UInt8 := [187, 2, 129, 89, 26, 183, 2, 131, 176]
abbrev dktX0_ints_0 : List UInt8 := dkwX0_ints_0 ++ []
theorem dksX0_ints_0 : cX0_ints.data.toList.drop 0 = dktX0_ints_0 := by decide +kernel
theorem dX0_ints_0 : decode cX0_ints 0 = .ok (.new 641, 3) := dk_187 2 129 (dk_at dksX0_ints_0 0 rfl rfl)
theorem dX0_ints_3 : decode cX0_ints 3 = .ok (.dup, 1) := dk_89 (dk_at dksX0_ints_0 3 rfl rfl)
theorem dX0_ints_4 : decode cX0_ints 4 = .ok (.iload_n 0, 1) := dk_26 (dk_at dksX0_ints_0 4 rfl rfl)
theorem dX0_ints_5 : decode cX0_ints 5 = .ok (.invokespecial 643, 3) := dk_183 2 131 (dk_at dksX0_ints_0 5 rfl rfl)
theorem dX0_ints_8 : decode cX0_ints 8 = .ok (.areturn, 1) := dk_176 (dk_at dksX0_ints_0 8 rfl rfl)
abbrev cX0_longs : ByteArray := prog_1_method_91_code
def yX0_longs : MethodName := ⟨RX0, "longs", "(I)LBranchNames$Items;"⟩
def dkwX0_longs_0 : List UInt8 := [187, 2, 133, 89, 26, 183, 2, 135, 176]
abbrev dktX0_longs_0 : List UInt8 := dkwX0_longs_0 ++ []
theorem dksX0_longs_0 : cX0_longs.data.toList.drop 0 = dktX0_longs_0 := by decide +kernel
theorem dX0_longs_0 : decode cX0_longs 0 = .ok (.new 645, 3) := dk_187 2 133 (dk_at dksX0_longs_0 0 rfl rfl)
theorem dX0_longs_3 : decode cX0_longs 3 = .ok (.dup, 1) := dk_89 (dk_at dksX0_longs_0 3 rfl rfl)
theorem dX0_longs_4 : decode cX0_longs 4 = .ok (.iload_n 0, 1) := dk_26 (dk_at dksX0_longs_0 4 rfl rfl)
theorem dX0_longs_5 : decode cX0_longs 5 = .ok (.invokespecial 647, 3) := dk_183 2 135 (dk_at dksX0_longs_0 5 rfl rfl)
theorem dX0_longs_8 : decode cX0_longs 8 = .ok (.areturn, 1) := dk_176 (dk_at dksX0_longs_0 8 rfl rfl)
abbrev cX0_bytes : ByteArray := prog_1_method_92_code
def yX0_bytes : MethodName := ⟨RX0, "bytes", "(I)LBranchNames$Items;"⟩
def dkwX0_bytes_0 : List UInt8 := [187, 2, 136, 89, 26, 183, 2, 138, 176]
abbrev dktX0_bytes_0 : List UInt8 := dkwX0_bytes_0 ++ []
theorem dksX0_bytes_0 : cX0_bytes.data.toList.drop 0 = dktX0_bytes_0 := by decide +kernel
theorem dX0_bytes_0 : decode cX0_bytes 0 = .ok (.new 648, 3) := dk_187 2 136 (dk_at dksX0_bytes_0 0 rfl rfl)
theorem dX0_bytes_3 : decode cX0_bytes 3 = .ok (.dup, 1) := dk_89 (dk_at dksX0_bytes_0 3 rfl rfl)
theorem dX0_bytes_4 : decode cX0_bytes 4 = .ok (.iload_n 0, 1) := dk_26 (dk_at dksX0_bytes_0 4 rfl rfl)
theorem dX0_bytes_5 : decode cX0_bytes 5 = .ok (.invokespecial 650, 3) := dk_183 2 138 (dk_at dksX0_bytes_0 5 rfl rfl)
theorem dX0_bytes_8 : decode cX0_bytes 8 = .ok (.areturn, 1) := dk_176 (dk_at dksX0_bytes_0 8 rfl rfl)
abbrev cX0_put : ByteArray := prog_1_method_95_code
def yX0_put : MethodName := ⟨RX0, "put", "(IIJ)I"⟩
def dkwX0_put_2 : List UInt8 := [180, 1, 187, 27, 50, 28, 33, 185, 2, 160, 4, 0, 4, 172]
abbrev dktX0_put_2 : List UInt8 := dkwX0_put_2 ++ []
def dkwX0_put_1 : List UInt8 := [42, 180, 1, 187, 27, 50, 185, 2, 158, 1, 0, 4, 100, 133, 184, 0, 142, 154, 0, 6, 16, 243, 172, 42]
abbrev dktX0_put_1 : List UInt8 := dkwX0_put_1 ++ dktX0_put_2
def dkwX0_put_0 : List UInt8 := [27, 184, 2, 141, 154, 0, 5, 2, 172, 42, 180, 1, 187, 27, 50, 199, 0, 6, 16, 245, 172, 28, 133, 9]
abbrev dktX0_put_0 : List UInt8 := dkwX0_put_0 ++ dktX0_put_1
theorem dksX0_put_0 : cX0_put.data.toList.drop 0 = dktX0_put_0 := by decide +kernel
theorem dksX0_put_1 : cX0_put.data.toList.drop 24 = dktX0_put_1 := dk_seg dksX0_put_0 24 rfl rfl
theorem dksX0_put_2 : cX0_put.data.toList.drop 48 = dktX0_put_2 := dk_seg dksX0_put_1 24 rfl rfl
theorem dX0_put_0 : decode cX0_put 0 = .ok (.iload_n 1, 1) := dk_27 (dk_at dksX0_put_0 0 rfl rfl)
theorem dX0_put_1 : decode cX0_put 1 = .ok (.invokestatic 653, 3) := dk_184 2 141 (dk_at dksX0_put_0 1 rfl rfl)
theorem dX0_put_4 : decode cX0_put 4 = .ok (.ifCond .ne 5, 3) := dk_154 0 5 (dk_at dksX0_put_0 4 rfl rfl)
theorem dX0_put_7 : decode cX0_put 7 = .ok (.iconst (-1), 1) := dk_2 (dk_at dksX0_put_0 7 rfl rfl)
theorem dX0_put_8 : decode cX0_put 8 = .ok (.ireturn, 1) := dk_172 (dk_at dksX0_put_0 8 rfl rfl)
theorem dX0_put_9 : decode cX0_put 9 = .ok (.aload_n 0, 1) := dk_42 (dk_at dksX0_put_0 9 rfl rfl)
theorem dX0_put_10 : decode cX0_put 10 = .ok (.getfield 443, 3) := dk_180 1 187 (dk_at dksX0_put_0 10 rfl rfl)
theorem dX0_put_13 : decode cX0_put 13 = .ok (.iload_n 1, 1) := dk_27 (dk_at dksX0_put_0 13 rfl rfl)
theorem dX0_put_14 : decode cX0_put 14 = .ok (.aaload, 1) := dk_50 (dk_at dksX0_put_0 14 rfl rfl)
theorem dX0_put_15 : decode cX0_put 15 = .ok (.ifnonnull 6, 3) := dk_199 0 6 (dk_at dksX0_put_0 15 rfl rfl)
theorem dX0_put_18 : decode cX0_put 18 = .ok (.bipush (-11), 2) := dk_16 245 (dk_at dksX0_put_0 18 rfl rfl)
theorem dX0_put_20 : decode cX0_put 20 = .ok (.ireturn, 1) := dk_172 (dk_at dksX0_put_0 20 rfl rfl)
theorem dX0_put_21 : decode cX0_put 21 = .ok (.iload_n 2, 1) := dk_28 (dk_at dksX0_put_0 21 rfl rfl)
theorem dX0_put_22 : decode cX0_put 22 = .ok (.i2l, 1) := dk_133 (dk_at dksX0_put_0 22 rfl rfl)
theorem dX0_put_23 : decode cX0_put 23 = .ok (.lconst 0, 1) := dk_9 (dk_at dksX0_put_0 23 rfl rfl)
theorem dX0_put_24 : decode cX0_put 24 = .ok (.aload_n 0, 1) := dk_42 (dk_at dksX0_put_1 0 rfl rfl)
theorem dX0_put_25 : decode cX0_put 25 = .ok (.getfield 443, 3) := dk_180 1 187 (dk_at dksX0_put_1 1 rfl rfl)
theorem dX0_put_28 : decode cX0_put 28 = .ok (.iload_n 1, 1) := dk_27 (dk_at dksX0_put_1 4 rfl rfl)
theorem dX0_put_29 : decode cX0_put 29 = .ok (.aaload, 1) := dk_50 (dk_at dksX0_put_1 5 rfl rfl)
theorem dX0_put_30 : decode cX0_put 30 = .ok (.invokeinterface 670 1, 5) := by decide +kernel
theorem dX0_put_35 : decode cX0_put 35 = .ok (.iconst 1, 1) := dk_4 (dk_at dksX0_put_1 11 rfl rfl)
theorem dX0_put_36 : decode cX0_put 36 = .ok (.isub, 1) := dk_100 (dk_at dksX0_put_1 12 rfl rfl)
theorem dX0_put_37 : decode cX0_put 37 = .ok (.i2l, 1) := dk_133 (dk_at dksX0_put_1 13 rfl rfl)
theorem dX0_put_38 : decode cX0_put 38 = .ok (.invokestatic 142, 3) := dk_184 0 142 (dk_at dksX0_put_1 14 rfl rfl)
theorem dX0_put_41 : decode cX0_put 41 = .ok (.ifCond .ne 6, 3) := dk_154 0 6 (dk_at dksX0_put_1 17 rfl rfl)
theorem dX0_put_44 : decode cX0_put 44 = .ok (.bipush (-13), 2) := dk_16 243 (dk_at dksX0_put_1 20 rfl rfl)
theorem dX0_put_46 : decode cX0_put 46 = .ok (.ireturn, 1) := dk_172 (dk_at dksX0_put_1 22 rfl rfl)
theorem dX0_put_47 : decode cX0_put 47 = .ok (.aload_n 0, 1) := dk_42 (dk_at dksX0_put_1 23 rfl rfl)
theorem dX0_put_48 : decode cX0_put 48 = .ok (.getfield 443, 3) := dk_180 1 187 (dk_at dksX0_put_2 0 rfl rfl)
theorem dX0_put_51 : decode cX0_put 51 = .ok (.iload_n 1, 1) := dk_27 (dk_at dksX0_put_2 3 rfl rfl)
theorem dX0_put_52 : decode cX0_put 52 = .ok (.aaload, 1) := dk_50 (dk_at dksX0_put_2 4 rfl rfl)
theorem dX0_put_53 : decode cX0_put 53 = .ok (.iload_n 2, 1) := dk_28 (dk_at dksX0_put_2 5 rfl rfl)
theorem dX0_put_54 : decode cX0_put 54 = .ok (.lload_n 3, 1) := dk_33 (dk_at dksX0_put_2 6 rfl rfl)
theorem dX0_put_55 : decode cX0_put 55 = .ok (.invokeinterface 672 4, 5) := by decide +kernel
theorem dX0_put_60 : decode cX0_put 60 = .ok (.iconst 1, 1) := dk_4 (dk_at dksX0_put_2 12 rfl rfl)
theorem dX0_put_61 : decode cX0_put 61 = .ok (.ireturn, 1) := dk_172 (dk_at dksX0_put_2 13 rfl rfl)
abbrev cX0_get : ByteArray := prog_1_method_96_code
def yX0_get : MethodName := ⟨RX0, "get", "(II)J"⟩
def dkwX0_get_2 : List UInt8 := [185, 2, 164, 2, 0, 167, 0, 6, 20, 1, 228, 173]
abbrev dktX0_get_2 : List UInt8 := dkwX0_get_2 ++ []
def dkwX0_get_1 : List UInt8 := [50, 185, 2, 158, 1, 0, 4, 100, 133, 184, 0, 142, 153, 0, 18, 42, 180, 1, 187, 27, 50, 28]
abbrev dktX0_get_1 : List UInt8 := dkwX0_get_1 ++ dktX0_get_2
def dkwX0_get_0 : List UInt8 := [27, 184, 2, 141, 153, 0, 50, 42, 180, 1, 187, 27, 50, 198, 0, 41, 28, 133, 9, 42, 180, 1, 187, 27]
abbrev dktX0_get_0 : List UInt8 := dkwX0_get_0 ++ dktX0_get_1
theorem dksX0_get_0 : cX0_get.data.toList.drop 0 = dktX0_get_0 := by decide +kernel
theorem dksX0_get_1 : cX0_get.data.toList.drop 24 = dktX0_get_1 := dk_seg dksX0_get_0 24 rfl rfl
theorem dksX0_get_2 : cX0_get.data.toList.drop 46 = dktX0_get_2 := dk_seg dksX0_get_1 22 rfl rfl
theorem dX0_get_0 : decode cX0_get 0 = .ok (.iload_n 1, 1) := dk_27 (dk_at dksX0_get_0 0 rfl rfl)
theorem dX0_get_1 : decode cX0_get 1 = .ok (.invokestatic 653, 3) := dk_184 2 141 (dk_at dksX0_get_0 1 rfl rfl)
theorem dX0_get_4 : decode cX0_get 4 = .ok (.ifCond .eq 50, 3) := dk_153 0 50 (dk_at dksX0_get_0 4 rfl rfl)
theorem dX0_get_7 : decode cX0_get 7 = .ok (.aload_n 0, 1) := dk_42 (dk_at dksX0_get_0 7 rfl rfl)
theorem dX0_get_8 : decode cX0_get 8 = .ok (.getfield 443, 3) := dk_180 1 187 (dk_at dksX0_get_0 8 rfl rfl)
theorem dX0_get_11 : decode cX0_get 11 = .ok (.iload_n 1, 1) := dk_27 (dk_at dksX0_get_0 11 rfl rfl)
theorem dX0_get_12 : decode cX0_get 12 = .ok (.aaload, 1) := dk_50 (dk_at dksX0_get_0 12 rfl rfl)
theorem dX0_get_13 : decode cX0_get 13 = .ok (.ifnull 41, 3) := dk_198 0 41 (dk_at dksX0_get_0 13 rfl rfl)
theorem dX0_get_16 : decode cX0_get 16 = .ok (.iload_n 2, 1) := dk_28 (dk_at dksX0_get_0 16 rfl rfl)
theorem dX0_get_17 : decode cX0_get 17 = .ok (.i2l, 1) := dk_133 (dk_at dksX0_get_0 17 rfl rfl)
theorem dX0_get_18 : decode cX0_get 18 = .ok (.lconst 0, 1) := dk_9 (dk_at dksX0_get_0 18 rfl rfl)
theorem dX0_get_19 : decode cX0_get 19 = .ok (.aload_n 0, 1) := dk_42 (dk_at dksX0_get_0 19 rfl rfl)
theorem dX0_get_20 : decode cX0_get 20 = .ok (.getfield 443, 3) := dk_180 1 187 (dk_at dksX0_get_0 20 rfl rfl)
theorem dX0_get_23 : decode cX0_get 23 = .ok (.iload_n 1, 1) := dk_27 (dk_at dksX0_get_0 23 rfl rfl)
theorem dX0_get_24 : decode cX0_get 24 = .ok (.aaload, 1) := dk_50 (dk_at dksX0_get_1 0 rfl rfl)
theorem dX0_get_25 : decode cX0_get 25 = .ok (.invokeinterface 670 1, 5) := by decide +kernel
theorem dX0_get_30 : decode cX0_get 30 = .ok (.iconst 1, 1) := dk_4 (dk_at dksX0_get_1 6 rfl rfl)
theorem dX0_get_31 : decode cX0_get 31 = .ok (.isub, 1) := dk_100 (dk_at dksX0_get_1 7 rfl rfl)
theorem dX0_get_32 : decode cX0_get 32 = .ok (.i2l, 1) := dk_133 (dk_at dksX0_get_1 8 rfl rfl)
theorem dX0_get_33 : decode cX0_get 33 = .ok (.invokestatic 142, 3) := dk_184 0 142 (dk_at dksX0_get_1 9 rfl rfl)
theorem dX0_get_36 : decode cX0_get 36 = .ok (.ifCond .eq 18, 3) := dk_153 0 18 (dk_at dksX0_get_1 12 rfl rfl)
theorem dX0_get_39 : decode cX0_get 39 = .ok (.aload_n 0, 1) := dk_42 (dk_at dksX0_get_1 15 rfl rfl)
theorem dX0_get_40 : decode cX0_get 40 = .ok (.getfield 443, 3) := dk_180 1 187 (dk_at dksX0_get_1 16 rfl rfl)
theorem dX0_get_43 : decode cX0_get 43 = .ok (.iload_n 1, 1) := dk_27 (dk_at dksX0_get_1 19 rfl rfl)
theorem dX0_get_44 : decode cX0_get 44 = .ok (.aaload, 1) := dk_50 (dk_at dksX0_get_1 20 rfl rfl)
theorem dX0_get_45 : decode cX0_get 45 = .ok (.iload_n 2, 1) := dk_28 (dk_at dksX0_get_1 21 rfl rfl)
theorem dX0_get_46 : decode cX0_get 46 = .ok (.invokeinterface 676 2, 5) := by decide +kernel
theorem dX0_get_51 : decode cX0_get 51 = .ok (.goto 6, 3) := dk_167 0 6 (dk_at dksX0_get_2 5 rfl rfl)
theorem dX0_get_54 : decode cX0_get 54 = .ok (.ldc2_w 484, 3) := dk_20 1 228 (dk_at dksX0_get_2 8 rfl rfl)
theorem dX0_get_57 : decode cX0_get 57 = .ok (.lreturn, 1) := dk_173 (dk_at dksX0_get_2 11 rfl rfl)
abbrev cX0_fill : ByteArray := prog_1_method_97_code
def yX0_fill : MethodName := ⟨RX0, "fill", "(II)I"⟩
def dkwX0_fill_4 : List UInt8 := [46, 133, 185, 2, 160, 4, 0, 132, 4, 1, 167, 255, 224, 29, 172]
abbrev dktX0_fill_4 : List UInt8 := dkwX0_fill_4 ++ []
def dkwX0_fill_3 : List UInt8 := [54, 4, 21, 4, 29, 162, 0, 32, 42, 180, 1, 187, 27, 50, 21, 4, 42, 180, 0, 108, 28, 50, 21, 4]
abbrev dktX0_fill_3 : List UInt8 := dkwX0_fill_3 ++ dktX0_fill_4
def dkwX0_fill_2 : List UInt8 := [42, 180, 1, 187, 27, 50, 185, 2, 158, 1, 0, 42, 180, 0, 108, 28, 50, 190, 184, 0, 62, 62, 3]
abbrev dktX0_fill_2 : List UInt8 := dkwX0_fill_2 ++ dktX0_fill_3
def dkwX0_fill_1 : List UInt8 := [199, 0, 6, 16, 245, 172, 42, 180, 1, 187, 27, 50, 185, 2, 167, 1, 0, 5, 160, 0, 6, 16, 244, 172]
abbrev dktX0_fill_1 : List UInt8 := dkwX0_fill_1 ++ dktX0_fill_2
def dkwX0_fill_0 : List UInt8 := [27, 184, 2, 141, 153, 0, 11, 42, 28, 182, 0, 146, 154, 0, 5, 2, 172, 42, 180, 1, 187, 27, 50]
abbrev dktX0_fill_0 : List UInt8 := dkwX0_fill_0 ++ dktX0_fill_1
theorem dksX0_fill_0 : cX0_fill.data.toList.drop 0 = dktX0_fill_0 := by decide +kernel
theorem dksX0_fill_1 : cX0_fill.data.toList.drop 23 = dktX0_fill_1 := dk_seg dksX0_fill_0 23 rfl rfl
theorem dksX0_fill_2 : cX0_fill.data.toList.drop 47 = dktX0_fill_2 := dk_seg dksX0_fill_1 24 rfl rfl
theorem dksX0_fill_3 : cX0_fill.data.toList.drop 70 = dktX0_fill_3 := dk_seg dksX0_fill_2 23 rfl rfl
theorem dksX0_fill_4 : cX0_fill.data.toList.drop 94 = dktX0_fill_4 := dk_seg dksX0_fill_3 24 rfl rfl
theorem dX0_fill_0 : decode cX0_fill 0 = .ok (.iload_n 1, 1) := dk_27 (dk_at dksX0_fill_0 0 rfl rfl)
theorem dX0_fill_1 : decode cX0_fill 1 = .ok (.invokestatic 653, 3) := dk_184 2 141 (dk_at dksX0_fill_0 1 rfl rfl)
theorem dX0_fill_4 : decode cX0_fill 4 = .ok (.ifCond .eq 11, 3) := dk_153 0 11 (dk_at dksX0_fill_0 4 rfl rfl)
theorem dX0_fill_7 : decode cX0_fill 7 = .ok (.aload_n 0, 1) := dk_42 (dk_at dksX0_fill_0 7 rfl rfl)
theorem dX0_fill_8 : decode cX0_fill 8 = .ok (.iload_n 2, 1) := dk_28 (dk_at dksX0_fill_0 8 rfl rfl)
theorem dX0_fill_9 : decode cX0_fill 9 = .ok (.invokevirtual 146, 3) := dk_182 0 146 (dk_at dksX0_fill_0 9 rfl rfl)
theorem dX0_fill_12 : decode cX0_fill 12 = .ok (.ifCond .ne 5, 3) := dk_154 0 5 (dk_at dksX0_fill_0 12 rfl rfl)
theorem dX0_fill_15 : decode cX0_fill 15 = .ok (.iconst (-1), 1) := dk_2 (dk_at dksX0_fill_0 15 rfl rfl)
theorem dX0_fill_16 : decode cX0_fill 16 = .ok (.ireturn, 1) := dk_172 (dk_at dksX0_fill_0 16 rfl rfl)
theorem dX0_fill_17 : decode cX0_fill 17 = .ok (.aload_n 0, 1) := dk_42 (dk_at dksX0_fill_0 17 rfl rfl)
theorem dX0_fill_18 : decode cX0_fill 18 = .ok (.getfield 443, 3) := dk_180 1 187 (dk_at dksX0_fill_0 18 rfl rfl)
theorem dX0_fill_21 : decode cX0_fill 21 = .ok (.iload_n 1, 1) := dk_27 (dk_at dksX0_fill_0 21 rfl rfl)
theorem dX0_fill_22 : decode cX0_fill 22 = .ok (.aaload, 1) := dk_50 (dk_at dksX0_fill_0 22 rfl rfl)
theorem dX0_fill_23 : decode cX0_fill 23 = .ok (.ifnonnull 6, 3) := dk_199 0 6 (dk_at dksX0_fill_1 0 rfl rfl)
theorem dX0_fill_26 : decode cX0_fill 26 = .ok (.bipush (-11), 2) := dk_16 245 (dk_at dksX0_fill_1 3 rfl rfl)
theorem dX0_fill_28 : decode cX0_fill 28 = .ok (.ireturn, 1) := dk_172 (dk_at dksX0_fill_1 5 rfl rfl)
theorem dX0_fill_29 : decode cX0_fill 29 = .ok (.aload_n 0, 1) := dk_42 (dk_at dksX0_fill_1 6 rfl rfl)
theorem dX0_fill_30 : decode cX0_fill 30 = .ok (.getfield 443, 3) := dk_180 1 187 (dk_at dksX0_fill_1 7 rfl rfl)
theorem dX0_fill_33 : decode cX0_fill 33 = .ok (.iload_n 1, 1) := dk_27 (dk_at dksX0_fill_1 10 rfl rfl)
theorem dX0_fill_34 : decode cX0_fill 34 = .ok (.aaload, 1) := dk_50 (dk_at dksX0_fill_1 11 rfl rfl)
theorem dX0_fill_35 : decode cX0_fill 35 = .ok (.invokeinterface 679 1, 5) := by decide +kernel
theorem dX0_fill_40 : decode cX0_fill 40 = .ok (.iconst 2, 1) := dk_5 (dk_at dksX0_fill_1 17 rfl rfl)
theorem dX0_fill_41 : decode cX0_fill 41 = .ok (.if_icmp .ne 6, 3) := dk_160 0 6 (dk_at dksX0_fill_1 18 rfl rfl)
theorem dX0_fill_44 : decode cX0_fill 44 = .ok (.bipush (-12), 2) := dk_16 244 (dk_at dksX0_fill_1 21 rfl rfl)
theorem dX0_fill_46 : decode cX0_fill 46 = .ok (.ireturn, 1) := dk_172 (dk_at dksX0_fill_1 23 rfl rfl)
theorem dX0_fill_47 : decode cX0_fill 47 = .ok (.aload_n 0, 1) := dk_42 (dk_at dksX0_fill_2 0 rfl rfl)
theorem dX0_fill_48 : decode cX0_fill 48 = .ok (.getfield 443, 3) := dk_180 1 187 (dk_at dksX0_fill_2 1 rfl rfl)
theorem dX0_fill_51 : decode cX0_fill 51 = .ok (.iload_n 1, 1) := dk_27 (dk_at dksX0_fill_2 4 rfl rfl)
theorem dX0_fill_52 : decode cX0_fill 52 = .ok (.aaload, 1) := dk_50 (dk_at dksX0_fill_2 5 rfl rfl)
theorem dX0_fill_53 : decode cX0_fill 53 = .ok (.invokeinterface 670 1, 5) := by decide +kernel
theorem dX0_fill_58 : decode cX0_fill 58 = .ok (.aload_n 0, 1) := dk_42 (dk_at dksX0_fill_2 11 rfl rfl)
theorem dX0_fill_59 : decode cX0_fill 59 = .ok (.getfield 108, 3) := dk_180 0 108 (dk_at dksX0_fill_2 12 rfl rfl)
theorem dX0_fill_62 : decode cX0_fill 62 = .ok (.iload_n 2, 1) := dk_28 (dk_at dksX0_fill_2 15 rfl rfl)
theorem dX0_fill_63 : decode cX0_fill 63 = .ok (.aaload, 1) := dk_50 (dk_at dksX0_fill_2 16 rfl rfl)
theorem dX0_fill_64 : decode cX0_fill 64 = .ok (.arraylength, 1) := dk_190 (dk_at dksX0_fill_2 17 rfl rfl)
theorem dX0_fill_65 : decode cX0_fill 65 = .ok (.invokestatic 62, 3) := dk_184 0 62 (dk_at dksX0_fill_2 18 rfl rfl)
theorem dX0_fill_68 : decode cX0_fill 68 = .ok (.istore_n 3, 1) := dk_62 (dk_at dksX0_fill_2 21 rfl rfl)
theorem dX0_fill_69 : decode cX0_fill 69 = .ok (.iconst 0, 1) := dk_3 (dk_at dksX0_fill_2 22 rfl rfl)
theorem dX0_fill_70 : decode cX0_fill 70 = .ok (.istore 4, 2) := dk_54 4 (dk_at dksX0_fill_3 0 rfl rfl)
theorem dX0_fill_72 : decode cX0_fill 72 = .ok (.iload 4, 2) := dk_21 4 (dk_at dksX0_fill_3 2 rfl rfl)
theorem dX0_fill_74 : decode cX0_fill 74 = .ok (.iload_n 3, 1) := dk_29 (dk_at dksX0_fill_3 4 rfl rfl)
theorem dX0_fill_75 : decode cX0_fill 75 = .ok (.if_icmp .ge 32, 3) := dk_162 0 32 (dk_at dksX0_fill_3 5 rfl rfl)
theorem dX0_fill_78 : decode cX0_fill 78 = .ok (.aload_n 0, 1) := dk_42 (dk_at dksX0_fill_3 8 rfl rfl)
theorem dX0_fill_79 : decode cX0_fill 79 = .ok (.getfield 443, 3) := dk_180 1 187 (dk_at dksX0_fill_3 9 rfl rfl)
theorem dX0_fill_82 : decode cX0_fill 82 = .ok (.iload_n 1, 1) := dk_27 (dk_at dksX0_fill_3 12 rfl rfl)
theorem dX0_fill_83 : decode cX0_fill 83 = .ok (.aaload, 1) := dk_50 (dk_at dksX0_fill_3 13 rfl rfl)
theorem dX0_fill_84 : decode cX0_fill 84 = .ok (.iload 4, 2) := dk_21 4 (dk_at dksX0_fill_3 14 rfl rfl)
theorem dX0_fill_86 : decode cX0_fill 86 = .ok (.aload_n 0, 1) := dk_42 (dk_at dksX0_fill_3 16 rfl rfl)
theorem dX0_fill_87 : decode cX0_fill 87 = .ok (.getfield 108, 3) := dk_180 0 108 (dk_at dksX0_fill_3 17 rfl rfl)
theorem dX0_fill_90 : decode cX0_fill 90 = .ok (.iload_n 2, 1) := dk_28 (dk_at dksX0_fill_3 20 rfl rfl)
theorem dX0_fill_91 : decode cX0_fill 91 = .ok (.aaload, 1) := dk_50 (dk_at dksX0_fill_3 21 rfl rfl)
theorem dX0_fill_92 : decode cX0_fill 92 = .ok (.iload 4, 2) := dk_21 4 (dk_at dksX0_fill_3 22 rfl rfl)
theorem dX0_fill_94 : decode cX0_fill 94 = .ok (.iaload, 1) := dk_46 (dk_at dksX0_fill_4 0 rfl rfl)
theorem dX0_fill_95 : decode cX0_fill 95 = .ok (.i2l, 1) := dk_133 (dk_at dksX0_fill_4 1 rfl rfl)
theorem dX0_fill_96 : decode cX0_fill 96 = .ok (.invokeinterface 672 4, 5) := by decide +kernel
theorem dX0_fill_101 : decode cX0_fill 101 = .ok (.iinc 4 1, 3) := dk_132 4 1 (dk_at dksX0_fill_4 7 rfl rfl)
theorem dX0_fill_104 : decode cX0_fill 104 = .ok (.goto (-32), 3) := dk_167 255 224 (dk_at dksX0_fill_4 10 rfl rfl)
theorem dX0_fill_107 : decode cX0_fill 107 = .ok (.iload_n 3, 1) := dk_29 (dk_at dksX0_fill_4 13 rfl rfl)
theorem dX0_fill_108 : decode cX0_fill 108 = .ok (.ireturn, 1) := dk_172 (dk_at dksX0_fill_4 14 rfl rfl)
abbrev cX0_judge : ByteArray := prog_1_method_98_code
def yX0_judge : MethodName := ⟨RX0, "judge", "(II)I"⟩
def dkwX0_judge_3 : List UInt8 := [180, 0, 108, 28, 50, 29, 46, 133, 148, 153, 0, 5, 29, 172, 132, 3, 1, 167, 255, 200, 2, 172]
abbrev dktX0_judge_3 : List UInt8 := dkwX0_judge_3 ++ []
def dkwX0_judge_2 : List UInt8 := [42, 180, 0, 108, 28, 50, 190, 162, 0, 28, 42, 180, 1, 187, 27, 50, 29, 185, 2, 164, 2, 0, 42]
abbrev dktX0_judge_2 : List UInt8 := dkwX0_judge_2 ++ dktX0_judge_3
def dkwX0_judge_1 : List UInt8 := [199, 0, 6, 16, 245, 172, 3, 62, 29, 42, 180, 1, 187, 27, 50, 185, 2, 158, 1, 0, 162, 0, 47, 29]
abbrev dktX0_judge_1 : List UInt8 := dkwX0_judge_1 ++ dktX0_judge_2
def dkwX0_judge_0 : List UInt8 := [27, 184, 2, 141, 153, 0, 11, 42, 28, 182, 0, 146, 154, 0, 5, 2, 172, 42, 180, 1, 187, 27, 50]
abbrev dktX0_judge_0 : List UInt8 := dkwX0_judge_0 ++ dktX0_judge_1
theorem dksX0_judge_0 : cX0_judge.data.toList.drop 0 = dktX0_judge_0 := by decide +kernel
theorem dksX0_judge_1 : cX0_judge.data.toList.drop 23 = dktX0_judge_1 := dk_seg dksX0_judge_0 23 rfl rfl
theorem dksX0_judge_2 : cX0_judge.data.toList.drop 47 = dktX0_judge_2 := dk_seg dksX0_judge_1 24 rfl rfl
theorem dksX0_judge_3 : cX0_judge.data.toList.drop 70 = dktX0_judge_3 := dk_seg dksX0_judge_2 23 rfl rfl
theorem dX0_judge_0 : decode cX0_judge 0 = .ok (.iload_n 1, 1) := dk_27 (dk_at dksX0_judge_0 0 rfl rfl)
theorem dX0_judge_1 : decode cX0_judge 1 = .ok (.invokestatic 653, 3) := dk_184 2 141 (dk_at dksX0_judge_0 1 rfl rfl)
theorem dX0_judge_4 : decode cX0_judge 4 = .ok (.ifCond .eq 11, 3) := dk_153 0 11 (dk_at dksX0_judge_0 4 rfl rfl)
theorem dX0_judge_7 : decode cX0_judge 7 = .ok (.aload_n 0, 1) := dk_42 (dk_at dksX0_judge_0 7 rfl rfl)
theorem dX0_judge_8 : decode cX0_judge 8 = .ok (.iload_n 2, 1) := dk_28 (dk_at dksX0_judge_0 8 rfl rfl)
theorem dX0_judge_9 : decode cX0_judge 9 = .ok (.invokevirtual 146, 3) := dk_182 0 146 (dk_at dksX0_judge_0 9 rfl rfl)
theorem dX0_judge_12 : decode cX0_judge 12 = .ok (.ifCond .ne 5, 3) := dk_154 0 5 (dk_at dksX0_judge_0 12 rfl rfl)
theorem dX0_judge_15 : decode cX0_judge 15 = .ok (.iconst (-1), 1) := dk_2 (dk_at dksX0_judge_0 15 rfl rfl)
theorem dX0_judge_16 : decode cX0_judge 16 = .ok (.ireturn, 1) := dk_172 (dk_at dksX0_judge_0 16 rfl rfl)
theorem dX0_judge_17 : decode cX0_judge 17 = .ok (.aload_n 0, 1) := dk_42 (dk_at dksX0_judge_0 17 rfl rfl)
theorem dX0_judge_18 : decode cX0_judge 18 = .ok (.getfield 443, 3) := dk_180 1 187 (dk_at dksX0_judge_0 18 rfl rfl)
theorem dX0_judge_21 : decode cX0_judge 21 = .ok (.iload_n 1, 1) := dk_27 (dk_at dksX0_judge_0 21 rfl rfl)
theorem dX0_judge_22 : decode cX0_judge 22 = .ok (.aaload, 1) := dk_50 (dk_at dksX0_judge_0 22 rfl rfl)
theorem dX0_judge_23 : decode cX0_judge 23 = .ok (.ifnonnull 6, 3) := dk_199 0 6 (dk_at dksX0_judge_1 0 rfl rfl)
theorem dX0_judge_26 : decode cX0_judge 26 = .ok (.bipush (-11), 2) := dk_16 245 (dk_at dksX0_judge_1 3 rfl rfl)
theorem dX0_judge_28 : decode cX0_judge 28 = .ok (.ireturn, 1) := dk_172 (dk_at dksX0_judge_1 5 rfl rfl)
theorem dX0_judge_29 : decode cX0_judge 29 = .ok (.iconst 0, 1) := dk_3 (dk_at dksX0_judge_1 6 rfl rfl)
theorem dX0_judge_30 : decode cX0_judge 30 = .ok (.istore_n 3, 1) := dk_62 (dk_at dksX0_judge_1 7 rfl rfl)
theorem dX0_judge_31 : decode cX0_judge 31 = .ok (.iload_n 3, 1) := dk_29 (dk_at dksX0_judge_1 8 rfl rfl)
theorem dX0_judge_32 : decode cX0_judge 32 = .ok (.aload_n 0, 1) := dk_42 (dk_at dksX0_judge_1 9 rfl rfl)
theorem dX0_judge_33 : decode cX0_judge 33 = .ok (.getfield 443, 3) := dk_180 1 187 (dk_at dksX0_judge_1 10 rfl rfl)
theorem dX0_judge_36 : decode cX0_judge 36 = .ok (.iload_n 1, 1) := dk_27 (dk_at dksX0_judge_1 13 rfl rfl)
theorem dX0_judge_37 : decode cX0_judge 37 = .ok (.aaload, 1) := dk_50 (dk_at dksX0_judge_1 14 rfl rfl)
theorem dX0_judge_38 : decode cX0_judge 38 = .ok (.invokeinterface 670 1, 5) := by decide +kernel
theorem dX0_judge_43 : decode cX0_judge 43 = .ok (.if_icmp .ge 47, 3) := dk_162 0 47 (dk_at dksX0_judge_1 20 rfl rfl)
theorem dX0_judge_46 : decode cX0_judge 46 = .ok (.iload_n 3, 1) := dk_29 (dk_at dksX0_judge_1 23 rfl rfl)
theorem dX0_judge_47 : decode cX0_judge 47 = .ok (.aload_n 0, 1) := dk_42 (dk_at dksX0_judge_2 0 rfl rfl)
theorem dX0_judge_48 : decode cX0_judge 48 = .ok (.getfield 108, 3) := dk_180 0 108 (dk_at dksX0_judge_2 1 rfl rfl)
theorem dX0_judge_51 : decode cX0_judge 51 = .ok (.iload_n 2, 1) := dk_28 (dk_at dksX0_judge_2 4 rfl rfl)
theorem dX0_judge_52 : decode cX0_judge 52 = .ok (.aaload, 1) := dk_50 (dk_at dksX0_judge_2 5 rfl rfl)
theorem dX0_judge_53 : decode cX0_judge 53 = .ok (.arraylength, 1) := dk_190 (dk_at dksX0_judge_2 6 rfl rfl)
theorem dX0_judge_54 : decode cX0_judge 54 = .ok (.if_icmp .ge 28, 3) := dk_162 0 28 (dk_at dksX0_judge_2 7 rfl rfl)
theorem dX0_judge_57 : decode cX0_judge 57 = .ok (.aload_n 0, 1) := dk_42 (dk_at dksX0_judge_2 10 rfl rfl)
theorem dX0_judge_58 : decode cX0_judge 58 = .ok (.getfield 443, 3) := dk_180 1 187 (dk_at dksX0_judge_2 11 rfl rfl)
theorem dX0_judge_61 : decode cX0_judge 61 = .ok (.iload_n 1, 1) := dk_27 (dk_at dksX0_judge_2 14 rfl rfl)
theorem dX0_judge_62 : decode cX0_judge 62 = .ok (.aaload, 1) := dk_50 (dk_at dksX0_judge_2 15 rfl rfl)
theorem dX0_judge_63 : decode cX0_judge 63 = .ok (.iload_n 3, 1) := dk_29 (dk_at dksX0_judge_2 16 rfl rfl)
theorem dX0_judge_64 : decode cX0_judge 64 = .ok (.invokeinterface 676 2, 5) := by decide +kernel
theorem dX0_judge_69 : decode cX0_judge 69 = .ok (.aload_n 0, 1) := dk_42 (dk_at dksX0_judge_2 22 rfl rfl)
theorem dX0_judge_70 : decode cX0_judge 70 = .ok (.getfield 108, 3) := dk_180 0 108 (dk_at dksX0_judge_3 0 rfl rfl)
theorem dX0_judge_73 : decode cX0_judge 73 = .ok (.iload_n 2, 1) := dk_28 (dk_at dksX0_judge_3 3 rfl rfl)
theorem dX0_judge_74 : decode cX0_judge 74 = .ok (.aaload, 1) := dk_50 (dk_at dksX0_judge_3 4 rfl rfl)
theorem dX0_judge_75 : decode cX0_judge 75 = .ok (.iload_n 3, 1) := dk_29 (dk_at dksX0_judge_3 5 rfl rfl)
theorem dX0_judge_76 : decode cX0_judge 76 = .ok (.iaload, 1) := dk_46 (dk_at dksX0_judge_3 6 rfl rfl)
theorem dX0_judge_77 : decode cX0_judge 77 = .ok (.i2l, 1) := dk_133 (dk_at dksX0_judge_3 7 rfl rfl)
theorem dX0_judge_78 : decode cX0_judge 78 = .ok (.lcmp, 1) := dk_148 (dk_at dksX0_judge_3 8 rfl rfl)
theorem dX0_judge_79 : decode cX0_judge 79 = .ok (.ifCond .eq 5, 3) := dk_153 0 5 (dk_at dksX0_judge_3 9 rfl rfl)
theorem dX0_judge_82 : decode cX0_judge 82 = .ok (.iload_n 3, 1) := dk_29 (dk_at dksX0_judge_3 12 rfl rfl)
theorem dX0_judge_83 : decode cX0_judge 83 = .ok (.ireturn, 1) := dk_172 (dk_at dksX0_judge_3 13 rfl rfl)
theorem dX0_judge_84 : decode cX0_judge 84 = .ok (.iinc 3 1, 3) := dk_132 3 1 (dk_at dksX0_judge_3 14 rfl rfl)
theorem dX0_judge_87 : decode cX0_judge 87 = .ok (.goto (-56), 3) := dk_167 255 200 (dk_at dksX0_judge_3 17 rfl rfl)
theorem dX0_judge_90 : decode cX0_judge 90 = .ok (.iconst (-1), 1) := dk_2 (dk_at dksX0_judge_3 20 rfl rfl)
theorem dX0_judge_91 : decode cX0_judge 91 = .ok (.ireturn, 1) := dk_172 (dk_at dksX0_judge_3 21 rfl rfl)
abbrev cX0_copy : ByteArray := prog_1_method_100_code
def yX0_copy : MethodName := ⟨RX0, "copy", "(IIIII)I"⟩
def dkwX0_copy_6 : List UInt8 := [185, 2, 164, 2, 0, 185, 2, 160, 4, 0, 132, 8, 1, 167, 255, 203, 21, 5, 172]
abbrev dktX0_copy_6 : List UInt8 := dkwX0_copy_6 ++ []
def dkwX0_copy_5 : List UInt8 := [21, 5, 4, 100, 21, 8, 100, 54, 9, 25, 7, 21, 4, 21, 9, 96, 25, 6, 28, 21, 9, 96]
abbrev dktX0_copy_5 : List UInt8 := dkwX0_copy_5 ++ dktX0_copy_6
def dkwX0_copy_4 : List UInt8 := [16, 243, 172, 3, 54, 8, 21, 8, 21, 5, 162, 0, 52, 28, 21, 4, 164, 0, 8, 21, 8, 167, 0, 10]
abbrev dktX0_copy_4 : List UInt8 := dkwX0_copy_4 ++ dktX0_copy_5
def dkwX0_copy_3 : List UInt8 := [25, 6, 28, 21, 5, 184, 2, 170, 153, 0, 15, 25, 7, 21, 4, 21, 5, 184, 2, 170, 154, 0, 6]
abbrev dktX0_copy_3 : List UInt8 := dkwX0_copy_3 ++ dktX0_copy_4
def dkwX0_copy_2 : List UInt8 := [185, 2, 167, 1, 0, 25, 7, 185, 2, 167, 1, 0, 159, 0, 6, 16, 244, 172, 21, 5, 155, 0, 26]
abbrev dktX0_copy_2 : List UInt8 := dkwX0_copy_2 ++ dktX0_copy_3
def dkwX0_copy_1 : List UInt8 := [42, 180, 1, 187, 29, 50, 58, 7, 25, 6, 198, 0, 8, 25, 7, 199, 0, 6, 16, 245, 172, 25, 6]
abbrev dktX0_copy_1 : List UInt8 := dkwX0_copy_1 ++ dktX0_copy_2
def dkwX0_copy_0 : List UInt8 := [27, 184, 2, 141, 153, 0, 10, 29, 184, 2, 141, 154, 0, 5, 2, 172, 42, 180, 1, 187, 27, 50, 58, 6]
abbrev dktX0_copy_0 : List UInt8 := dkwX0_copy_0 ++ dktX0_copy_1
theorem dksX0_copy_0 : cX0_copy.data.toList.drop 0 = dktX0_copy_0 := by decide +kernel
theorem dksX0_copy_1 : cX0_copy.data.toList.drop 24 = dktX0_copy_1 := dk_seg dksX0_copy_0 24 rfl rfl
theorem dksX0_copy_2 : cX0_copy.data.toList.drop 47 = dktX0_copy_2 := dk_seg dksX0_copy_1 23 rfl rfl
theorem dksX0_copy_3 : cX0_copy.data.toList.drop 70 = dktX0_copy_3 := dk_seg dksX0_copy_2 23 rfl rfl
theorem dksX0_copy_4 : cX0_copy.data.toList.drop 93 = dktX0_copy_4 := dk_seg dksX0_copy_3 23 rfl rfl
theorem dksX0_copy_5 : cX0_copy.data.toList.drop 117 = dktX0_copy_5 := dk_seg dksX0_copy_4 24 rfl rfl
theorem dksX0_copy_6 : cX0_copy.data.toList.drop 139 = dktX0_copy_6 := dk_seg dksX0_copy_5 22 rfl rfl
theorem dX0_copy_0 : decode cX0_copy 0 = .ok (.iload_n 1, 1) := dk_27 (dk_at dksX0_copy_0 0 rfl rfl)
theorem dX0_copy_1 : decode cX0_copy 1 = .ok (.invokestatic 653, 3) := dk_184 2 141 (dk_at dksX0_copy_0 1 rfl rfl)
theorem dX0_copy_4 : decode cX0_copy 4 = .ok (.ifCond .eq 10, 3) := dk_153 0 10 (dk_at dksX0_copy_0 4 rfl rfl)
theorem dX0_copy_7 : decode cX0_copy 7 = .ok (.iload_n 3, 1) := dk_29 (dk_at dksX0_copy_0 7 rfl rfl)
theorem dX0_copy_8 : decode cX0_copy 8 = .ok (.invokestatic 653, 3) := dk_184 2 141 (dk_at dksX0_copy_0 8 rfl rfl)
theorem dX0_copy_11 : decode cX0_copy 11 = .ok (.ifCond .ne 5, 3) := dk_154 0 5 (dk_at dksX0_copy_0 11 rfl rfl)
theorem dX0_copy_14 : decode cX0_copy 14 = .ok (.iconst (-1), 1) := dk_2 (dk_at dksX0_copy_0 14 rfl rfl)
theorem dX0_copy_15 : decode cX0_copy 15 = .ok (.ireturn, 1) := dk_172 (dk_at dksX0_copy_0 15 rfl rfl)
theorem dX0_copy_16 : decode cX0_copy 16 = .ok (.aload_n 0, 1) := dk_42 (dk_at dksX0_copy_0 16 rfl rfl)
theorem dX0_copy_17 : decode cX0_copy 17 = .ok (.getfield 443, 3) := dk_180 1 187 (dk_at dksX0_copy_0 17 rfl rfl)
theorem dX0_copy_20 : decode cX0_copy 20 = .ok (.iload_n 1, 1) := dk_27 (dk_at dksX0_copy_0 20 rfl rfl)
theorem dX0_copy_21 : decode cX0_copy 21 = .ok (.aaload, 1) := dk_50 (dk_at dksX0_copy_0 21 rfl rfl)
theorem dX0_copy_22 : decode cX0_copy 22 = .ok (.astore 6, 2) := dk_58 6 (dk_at dksX0_copy_0 22 rfl rfl)
theorem dX0_copy_24 : decode cX0_copy 24 = .ok (.aload_n 0, 1) := dk_42 (dk_at dksX0_copy_1 0 rfl rfl)
theorem dX0_copy_25 : decode cX0_copy 25 = .ok (.getfield 443, 3) := dk_180 1 187 (dk_at dksX0_copy_1 1 rfl rfl)
theorem dX0_copy_28 : decode cX0_copy 28 = .ok (.iload_n 3, 1) := dk_29 (dk_at dksX0_copy_1 4 rfl rfl)
theorem dX0_copy_29 : decode cX0_copy 29 = .ok (.aaload, 1) := dk_50 (dk_at dksX0_copy_1 5 rfl rfl)
theorem dX0_copy_30 : decode cX0_copy 30 = .ok (.astore 7, 2) := dk_58 7 (dk_at dksX0_copy_1 6 rfl rfl)
theorem dX0_copy_32 : decode cX0_copy 32 = .ok (.aload 6, 2) := dk_25 6 (dk_at dksX0_copy_1 8 rfl rfl)
theorem dX0_copy_34 : decode cX0_copy 34 = .ok (.ifnull 8, 3) := dk_198 0 8 (dk_at dksX0_copy_1 10 rfl rfl)
theorem dX0_copy_37 : decode cX0_copy 37 = .ok (.aload 7, 2) := dk_25 7 (dk_at dksX0_copy_1 13 rfl rfl)
theorem dX0_copy_39 : decode cX0_copy 39 = .ok (.ifnonnull 6, 3) := dk_199 0 6 (dk_at dksX0_copy_1 15 rfl rfl)
theorem dX0_copy_42 : decode cX0_copy 42 = .ok (.bipush (-11), 2) := dk_16 245 (dk_at dksX0_copy_1 18 rfl rfl)
theorem dX0_copy_44 : decode cX0_copy 44 = .ok (.ireturn, 1) := dk_172 (dk_at dksX0_copy_1 20 rfl rfl)
theorem dX0_copy_45 : decode cX0_copy 45 = .ok (.aload 6, 2) := dk_25 6 (dk_at dksX0_copy_1 21 rfl rfl)
theorem dX0_copy_47 : decode cX0_copy 47 = .ok (.invokeinterface 679 1, 5) := by decide +kernel
theorem dX0_copy_52 : decode cX0_copy 52 = .ok (.aload 7, 2) := dk_25 7 (dk_at dksX0_copy_2 5 rfl rfl)
theorem dX0_copy_54 : decode cX0_copy 54 = .ok (.invokeinterface 679 1, 5) := by decide +kernel
theorem dX0_copy_59 : decode cX0_copy 59 = .ok (.if_icmp .eq 6, 3) := dk_159 0 6 (dk_at dksX0_copy_2 12 rfl rfl)
theorem dX0_copy_62 : decode cX0_copy 62 = .ok (.bipush (-12), 2) := dk_16 244 (dk_at dksX0_copy_2 15 rfl rfl)
theorem dX0_copy_64 : decode cX0_copy 64 = .ok (.ireturn, 1) := dk_172 (dk_at dksX0_copy_2 17 rfl rfl)
theorem dX0_copy_65 : decode cX0_copy 65 = .ok (.iload 5, 2) := dk_21 5 (dk_at dksX0_copy_2 18 rfl rfl)
theorem dX0_copy_67 : decode cX0_copy 67 = .ok (.ifCond .lt 26, 3) := dk_155 0 26 (dk_at dksX0_copy_2 20 rfl rfl)
theorem dX0_copy_70 : decode cX0_copy 70 = .ok (.aload 6, 2) := dk_25 6 (dk_at dksX0_copy_3 0 rfl rfl)
theorem dX0_copy_72 : decode cX0_copy 72 = .ok (.iload_n 2, 1) := dk_28 (dk_at dksX0_copy_3 2 rfl rfl)
theorem dX0_copy_73 : decode cX0_copy 73 = .ok (.iload 5, 2) := dk_21 5 (dk_at dksX0_copy_3 3 rfl rfl)
theorem dX0_copy_75 : decode cX0_copy 75 = .ok (.invokestatic 682, 3) := dk_184 2 170 (dk_at dksX0_copy_3 5 rfl rfl)
theorem dX0_copy_78 : decode cX0_copy 78 = .ok (.ifCond .eq 15, 3) := dk_153 0 15 (dk_at dksX0_copy_3 8 rfl rfl)
theorem dX0_copy_81 : decode cX0_copy 81 = .ok (.aload 7, 2) := dk_25 7 (dk_at dksX0_copy_3 11 rfl rfl)
theorem dX0_copy_83 : decode cX0_copy 83 = .ok (.iload 4, 2) := dk_21 4 (dk_at dksX0_copy_3 13 rfl rfl)
theorem dX0_copy_85 : decode cX0_copy 85 = .ok (.iload 5, 2) := dk_21 5 (dk_at dksX0_copy_3 15 rfl rfl)
theorem dX0_copy_87 : decode cX0_copy 87 = .ok (.invokestatic 682, 3) := dk_184 2 170 (dk_at dksX0_copy_3 17 rfl rfl)
theorem dX0_copy_90 : decode cX0_copy 90 = .ok (.ifCond .ne 6, 3) := dk_154 0 6 (dk_at dksX0_copy_3 20 rfl rfl)
theorem dX0_copy_93 : decode cX0_copy 93 = .ok (.bipush (-13), 2) := dk_16 243 (dk_at dksX0_copy_4 0 rfl rfl)
theorem dX0_copy_95 : decode cX0_copy 95 = .ok (.ireturn, 1) := dk_172 (dk_at dksX0_copy_4 2 rfl rfl)
theorem dX0_copy_96 : decode cX0_copy 96 = .ok (.iconst 0, 1) := dk_3 (dk_at dksX0_copy_4 3 rfl rfl)
theorem dX0_copy_97 : decode cX0_copy 97 = .ok (.istore 8, 2) := dk_54 8 (dk_at dksX0_copy_4 4 rfl rfl)
theorem dX0_copy_99 : decode cX0_copy 99 = .ok (.iload 8, 2) := dk_21 8 (dk_at dksX0_copy_4 6 rfl rfl)
theorem dX0_copy_101 : decode cX0_copy 101 = .ok (.iload 5, 2) := dk_21 5 (dk_at dksX0_copy_4 8 rfl rfl)
theorem dX0_copy_103 : decode cX0_copy 103 = .ok (.if_icmp .ge 52, 3) := dk_162 0 52 (dk_at dksX0_copy_4 10 rfl rfl)
theorem dX0_copy_106 : decode cX0_copy 106 = .ok (.iload_n 2, 1) := dk_28 (dk_at dksX0_copy_4 13 rfl rfl)
theorem dX0_copy_107 : decode cX0_copy 107 = .ok (.iload 4, 2) := dk_21 4 (dk_at dksX0_copy_4 14 rfl rfl)
theorem dX0_copy_109 : decode cX0_copy 109 = .ok (.if_icmp .le 8, 3) := dk_164 0 8 (dk_at dksX0_copy_4 16 rfl rfl)
theorem dX0_copy_112 : decode cX0_copy 112 = .ok (.iload 8, 2) := dk_21 8 (dk_at dksX0_copy_4 19 rfl rfl)
theorem dX0_copy_114 : decode cX0_copy 114 = .ok (.goto 10, 3) := dk_167 0 10 (dk_at dksX0_copy_4 21 rfl rfl)
theorem dX0_copy_117 : decode cX0_copy 117 = .ok (.iload 5, 2) := dk_21 5 (dk_at dksX0_copy_5 0 rfl rfl)
theorem dX0_copy_119 : decode cX0_copy 119 = .ok (.iconst 1, 1) := dk_4 (dk_at dksX0_copy_5 2 rfl rfl)
theorem dX0_copy_120 : decode cX0_copy 120 = .ok (.isub, 1) := dk_100 (dk_at dksX0_copy_5 3 rfl rfl)
theorem dX0_copy_121 : decode cX0_copy 121 = .ok (.iload 8, 2) := dk_21 8 (dk_at dksX0_copy_5 4 rfl rfl)
theorem dX0_copy_123 : decode cX0_copy 123 = .ok (.isub, 1) := dk_100 (dk_at dksX0_copy_5 6 rfl rfl)
theorem dX0_copy_124 : decode cX0_copy 124 = .ok (.istore 9, 2) := dk_54 9 (dk_at dksX0_copy_5 7 rfl rfl)
theorem dX0_copy_126 : decode cX0_copy 126 = .ok (.aload 7, 2) := dk_25 7 (dk_at dksX0_copy_5 9 rfl rfl)
theorem dX0_copy_128 : decode cX0_copy 128 = .ok (.iload 4, 2) := dk_21 4 (dk_at dksX0_copy_5 11 rfl rfl)
theorem dX0_copy_130 : decode cX0_copy 130 = .ok (.iload 9, 2) := dk_21 9 (dk_at dksX0_copy_5 13 rfl rfl)
theorem dX0_copy_132 : decode cX0_copy 132 = .ok (.iadd, 1) := dk_96 (dk_at dksX0_copy_5 15 rfl rfl)
theorem dX0_copy_133 : decode cX0_copy 133 = .ok (.aload 6, 2) := dk_25 6 (dk_at dksX0_copy_5 16 rfl rfl)
theorem dX0_copy_135 : decode cX0_copy 135 = .ok (.iload_n 2, 1) := dk_28 (dk_at dksX0_copy_5 18 rfl rfl)
theorem dX0_copy_136 : decode cX0_copy 136 = .ok (.iload 9, 2) := dk_21 9 (dk_at dksX0_copy_5 19 rfl rfl)
theorem dX0_copy_138 : decode cX0_copy 138 = .ok (.iadd, 1) := dk_96 (dk_at dksX0_copy_5 21 rfl rfl)
theorem dX0_copy_139 : decode cX0_copy 139 = .ok (.invokeinterface 676 2, 5) := by decide +kernel
theorem dX0_copy_144 : decode cX0_copy 144 = .ok (.invokeinterface 672 4, 5) := by decide +kernel
theorem dX0_copy_149 : decode cX0_copy 149 = .ok (.iinc 8 1, 3) := dk_132 8 1 (dk_at dksX0_copy_6 10 rfl rfl)
theorem dX0_copy_152 : decode cX0_copy 152 = .ok (.goto (-53), 3) := dk_167 255 203 (dk_at dksX0_copy_6 13 rfl rfl)
theorem dX0_copy_155 : decode cX0_copy 155 = .ok (.iload 5, 2) := dk_21 5 (dk_at dksX0_copy_6 16 rfl rfl)
theorem dX0_copy_157 : decode cX0_copy 157 = .ok (.ireturn, 1) := dk_172 (dk_at dksX0_copy_6 18 rfl rfl)
abbrev cX0_isOf : ByteArray := prog_1_method_99_code
def yX0_isOf : MethodName := ⟨RX0, "isOf", "(LBranchNames$Items;II)Z"⟩
def dkwX0_isOf_0 : List UInt8 := [27, 155, 0, 19, 28, 42, 185, 2, 158, 1, 0, 27, 100, 163, 0, 7, 4, 167, 0, 4, 3, 172]
abbrev dktX0_isOf_0 : List UInt8 := dkwX0_isOf_0 ++ []
theorem dksX0_isOf_0 : cX0_isOf.data.toList.drop 0 = dktX0_isOf_0 := by decide +kernel
theorem dX0_isOf_0 : decode cX0_isOf 0 = .ok (.iload_n 1, 1) := dk_27 (dk_at dksX0_isOf_0 0 rfl rfl)
theorem dX0_isOf_1 : decode cX0_isOf 1 = .ok (.ifCond .lt 19, 3) := dk_155 0 19 (dk_at dksX0_isOf_0 1 rfl rfl)
theorem dX0_isOf_4 : decode cX0_isOf 4 = .ok (.iload_n 2, 1) := dk_28 (dk_at dksX0_isOf_0 4 rfl rfl)
theorem dX0_isOf_5 : decode cX0_isOf 5 = .ok (.aload_n 0, 1) := dk_42 (dk_at dksX0_isOf_0 5 rfl rfl)
theorem dX0_isOf_6 : decode cX0_isOf 6 = .ok (.invokeinterface 670 1, 5) := by decide +kernel
theorem dX0_isOf_11 : decode cX0_isOf 11 = .ok (.iload_n 1, 1) := dk_27 (dk_at dksX0_isOf_0 11 rfl rfl)
theorem dX0_isOf_12 : decode cX0_isOf 12 = .ok (.isub, 1) := dk_100 (dk_at dksX0_isOf_0 12 rfl rfl)
theorem dX0_isOf_13 : decode cX0_isOf 13 = .ok (.if_icmp .gt 7, 3) := dk_163 0 7 (dk_at dksX0_isOf_0 13 rfl rfl)
theorem dX0_isOf_16 : decode cX0_isOf 16 = .ok (.iconst 1, 1) := dk_4 (dk_at dksX0_isOf_0 16 rfl rfl)
theorem dX0_isOf_17 : decode cX0_isOf 17 = .ok (.goto 4, 3) := dk_167 0 4 (dk_at dksX0_isOf_0 17 rfl rfl)
theorem dX0_isOf_20 : decode cX0_isOf 20 = .ok (.iconst 0, 1) := dk_3 (dk_at dksX0_isOf_0 20 rfl rfl)
theorem dX0_isOf_21 : decode cX0_isOf 21 = .ok (.ireturn, 1) := dk_172 (dk_at dksX0_isOf_0 21 rfl rfl)
abbrev cX0_image : ByteArray := prog_1_method_101_code
def yX0_image : MethodName := ⟨RX0, "image", "()I"⟩
def dkwX0_image_0 : List UInt8 := [42, 180, 1, 112, 42, 180, 1, 109, 182, 0, 125, 42, 4, 181, 2, 174, 42, 180, 1, 112, 180, 0, 44, 172]
abbrev dktX0_image_0 : List UInt8 := dkwX0_image_0 ++ []
theorem dksX0_image_0 : cX0_image.data.toList.drop 0 = dktX0_image_0 := by decide +kernel
theorem dX0_image_0 : decode cX0_image 0 = .ok (.aload_n 0, 1) := dk_42 (dk_at dksX0_image_0 0 rfl rfl)
theorem dX0_image_1 : decode cX0_image 1 = .ok (.getfield 368, 3) := dk_180 1 112 (dk_at dksX0_image_0 1 rfl rfl)
theorem dX0_image_4 : decode cX0_image 4 = .ok (.aload_n 0, 1) := dk_42 (dk_at dksX0_image_0 4 rfl rfl)
theorem dX0_image_5 : decode cX0_image 5 = .ok (.getfield 365, 3) := dk_180 1 109 (dk_at dksX0_image_0 5 rfl rfl)
theorem dX0_image_8 : decode cX0_image 8 = .ok (.invokevirtual 125, 3) := dk_182 0 125 (dk_at dksX0_image_0 8 rfl rfl)
theorem dX0_image_11 : decode cX0_image 11 = .ok (.aload_n 0, 1) := dk_42 (dk_at dksX0_image_0 11 rfl rfl)
theorem dX0_image_12 : decode cX0_image 12 = .ok (.iconst 1, 1) := dk_4 (dk_at dksX0_image_0 12 rfl rfl)
theorem dX0_image_13 : decode cX0_image 13 = .ok (.putfield 686, 3) := dk_181 2 174 (dk_at dksX0_image_0 13 rfl rfl)
theorem dX0_image_16 : decode cX0_image 16 = .ok (.aload_n 0, 1) := dk_42 (dk_at dksX0_image_0 16 rfl rfl)
theorem dX0_image_17 : decode cX0_image 17 = .ok (.getfield 368, 3) := dk_180 1 112 (dk_at dksX0_image_0 17 rfl rfl)
theorem dX0_image_20 : decode cX0_image 20 = .ok (.getfield 44, 3) := dk_180 0 44 (dk_at dksX0_image_0 20 rfl rfl)
theorem dX0_image_23 : decode cX0_image 23 = .ok (.ireturn, 1) := dk_172 (dk_at dksX0_image_0 23 rfl rfl)
abbrev cX0_undo : ByteArray := prog_1_method_102_code
def yX0_undo : MethodName := ⟨RX0, "undo", "()I"⟩
def dkwX0_undo_1 : List UInt8 := [180, 1, 109, 180, 0, 44, 172]
abbrev dktX0_undo_1 : List UInt8 := dkwX0_undo_1 ++ []
def dkwX0_undo_0 : List UInt8 := [42, 180, 2, 174, 154, 0, 6, 16, 253, 172, 42, 180, 1, 109, 42, 180, 1, 112, 182, 0, 125, 42]
abbrev dktX0_undo_0 : List UInt8 := dkwX0_undo_0 ++ dktX0_undo_1
theorem dksX0_undo_0 : cX0_undo.data.toList.drop 0 = dktX0_undo_0 := by decide +kernel
theorem dksX0_undo_1 : cX0_undo.data.toList.drop 22 = dktX0_undo_1 := dk_seg dksX0_undo_0 22 rfl rfl
theorem dX0_undo_0 : decode cX0_undo 0 = .ok (.aload_n 0, 1) := dk_42 (dk_at dksX0_undo_0 0 rfl rfl)
theorem dX0_undo_1 : decode cX0_undo 1 = .ok (.getfield 686, 3) := dk_180 2 174 (dk_at dksX0_undo_0 1 rfl rfl)
theorem dX0_undo_4 : decode cX0_undo 4 = .ok (.ifCond .ne 6, 3) := dk_154 0 6 (dk_at dksX0_undo_0 4 rfl rfl)
theorem dX0_undo_7 : decode cX0_undo 7 = .ok (.bipush (-3), 2) := dk_16 253 (dk_at dksX0_undo_0 7 rfl rfl)
theorem dX0_undo_9 : decode cX0_undo 9 = .ok (.ireturn, 1) := dk_172 (dk_at dksX0_undo_0 9 rfl rfl)
theorem dX0_undo_10 : decode cX0_undo 10 = .ok (.aload_n 0, 1) := dk_42 (dk_at dksX0_undo_0 10 rfl rfl)
theorem dX0_undo_11 : decode cX0_undo 11 = .ok (.getfield 365, 3) := dk_180 1 109 (dk_at dksX0_undo_0 11 rfl rfl)
theorem dX0_undo_14 : decode cX0_undo 14 = .ok (.aload_n 0, 1) := dk_42 (dk_at dksX0_undo_0 14 rfl rfl)
theorem dX0_undo_15 : decode cX0_undo 15 = .ok (.getfield 368, 3) := dk_180 1 112 (dk_at dksX0_undo_0 15 rfl rfl)
theorem dX0_undo_18 : decode cX0_undo 18 = .ok (.invokevirtual 125, 3) := dk_182 0 125 (dk_at dksX0_undo_0 18 rfl rfl)
theorem dX0_undo_21 : decode cX0_undo 21 = .ok (.aload_n 0, 1) := dk_42 (dk_at dksX0_undo_0 21 rfl rfl)
theorem dX0_undo_22 : decode cX0_undo 22 = .ok (.getfield 365, 3) := dk_180 1 109 (dk_at dksX0_undo_1 0 rfl rfl)
theorem dX0_undo_25 : decode cX0_undo 25 = .ok (.getfield 44, 3) := dk_180 0 44 (dk_at dksX0_undo_1 3 rfl rfl)
theorem dX0_undo_28 : decode cX0_undo 28 = .ok (.ireturn, 1) := dk_172 (dk_at dksX0_undo_1 6 rfl rfl)
theorem q152 : (Jvm.Cond.initialized "BranchNames") ∈ lw_all := lw_g (lw_at lw_m1 1 rfl) rfl
theorem q187 : (Jvm.Cond.instantiable "BranchNames" (34 : Nat)) ∈ lw_all := lw_g (lw_at lw_m1 36 rfl) rfl
theorem q189 : (Jvm.Cond.instanceMethod ({ cls := "BranchNames", name := "<init>", desc := "()V" } : Jvm.MethodName)) ∈ lw_all := lw_g (lw_at lw_m1 38 rfl) rfl
theorem q190 : (Jvm.Cond.code ({ cls := "BranchNames", name := "<init>", desc := "()V" } : Jvm.MethodName) prog_1_method_50_code (2 : Nat) (Option.none : Option Jvm.ClassFile.FieldType)) ∈ lw_all := lw_g (lw_at lw_m1 39 rfl) rfl
theorem q191 : (Jvm.Cond.methodLink "BranchNames" (361 : Nat) ({ cls := "java/lang/Object", name := "<init>", desc := "()V" } : Jvm.MethodName)) ∈ lw_all := lw_g (lw_at lw_m1 40 rfl) rfl
theorem q194 : (Jvm.Cond.classLink "BranchNames" (12 : Nat) "BranchNames$Tree") ∈ lw_all := lw_g (lw_at lw_m1 43 rfl) rfl
theorem q196 : (Jvm.Cond.methodLink "BranchNames" (364 : Nat) ({ cls := "BranchNames$Tree", name := "<init>", desc := "()V" } : Jvm.MethodName)) ∈ lw_all := lw_g (lw_at lw_m1 45 rfl) rfl
theorem q216 : (Jvm.Cond.fieldLinkNest "BranchNames" (17 : Nat) "BranchNames$Tree" "next" "[[I" "BranchNames") ∈ lw_tbl := lw_at lw_m1 65 rfl
theorem q219 : (Jvm.Cond.fieldLinkNest "BranchNames" (354 : Nat) "BranchNames$Tree" "names" "[[Ljava/lang/String;" "BranchNames") ∈ lw_tbl := lw_at lw_m1 68 rfl
theorem q222 : (Jvm.Cond.fieldLinkNest "BranchNames" (11 : Nat) "BranchNames$Tree" "bonds" "[I" "BranchNames") ∈ lw_tbl := lw_at lw_m1 71 rfl
theorem q224 : (Jvm.Cond.fieldLinkNest "BranchNames" (44 : Nat) "BranchNames$Tree" "atoms" "I" "BranchNames") ∈ lw_tbl := lw_at lw_m1 73 rfl
theorem q227 : (Jvm.Cond.fieldLinkNest "BranchNames" (243 : Nat) "BranchNames$Tree" "way" "LBranchNames$Way;" "BranchNames") ∈ lw_tbl := lw_at lw_m1 76 rfl
theorem q244 : (Jvm.Cond.classLink "BranchNames" (374 : Nat) "[[J") ∈ lw_all := lw_g (lw_at lw_m1 93 rfl) rfl
theorem q246 : (Jvm.Cond.classLink "BranchNames" (375 : Nat) "[[I") ∈ lw_all := lw_g (lw_at lw_m1 95 rfl) rfl
theorem q247 : (Jvm.Cond.classLink "BranchNames" (376 : Nat) "[I") ∈ lw_all := lw_g (lw_at lw_m1 96 rfl) rfl
theorem q248 : (Jvm.Cond.classLink "BranchNames" (252 : Nat) "java/lang/String") ∈ lw_all := lw_g (lw_at lw_m1 97 rfl) rfl
theorem q249 : (Jvm.Cond.stringRef "BranchNames" (377 : Nat) "meth") ∈ lw_tbl := lw_at lw_m1 98 rfl
theorem q250 : (Jvm.Cond.stringRef "BranchNames" (379 : Nat) "eth") ∈ lw_tbl := lw_at lw_m1 99 rfl
theorem q251 : (Jvm.Cond.stringRef "BranchNames" (381 : Nat) "prop") ∈ lw_tbl := lw_at lw_m1 100 rfl
theorem q252 : (Jvm.Cond.stringRef "BranchNames" (383 : Nat) "but") ∈ lw_tbl := lw_at lw_m1 101 rfl
theorem q253 : (Jvm.Cond.stringRef "BranchNames" (385 : Nat) "pent") ∈ lw_tbl := lw_at lw_m1 102 rfl
theorem q254 : (Jvm.Cond.stringRef "BranchNames" (387 : Nat) "hex") ∈ lw_tbl := lw_at lw_m1 103 rfl
theorem q255 : (Jvm.Cond.stringRef "BranchNames" (389 : Nat) "hept") ∈ lw_tbl := lw_at lw_m1 104 rfl
theorem q256 : (Jvm.Cond.stringRef "BranchNames" (391 : Nat) "oct") ∈ lw_tbl := lw_at lw_m1 105 rfl
theorem q257 : (Jvm.Cond.stringRef "BranchNames" (393 : Nat) "non") ∈ lw_tbl := lw_at lw_m1 106 rfl
theorem q258 : (Jvm.Cond.stringRef "BranchNames" (395 : Nat) "dec") ∈ lw_tbl := lw_at lw_m1 107 rfl
theorem q259 : (Jvm.Cond.stringRef "BranchNames" (397 : Nat) "undec") ∈ lw_tbl := lw_at lw_m1 108 rfl
theorem q260 : (Jvm.Cond.stringRef "BranchNames" (399 : Nat) "dodec") ∈ lw_tbl := lw_at lw_m1 109 rfl
theorem q261 : (Jvm.Cond.stringRef "BranchNames" (401 : Nat) "di") ∈ lw_tbl := lw_at lw_m1 110 rfl
theorem q262 : (Jvm.Cond.stringRef "BranchNames" (403 : Nat) "tri") ∈ lw_tbl := lw_at lw_m1 111 rfl
theorem q263 : (Jvm.Cond.stringRef "BranchNames" (405 : Nat) "tetra") ∈ lw_tbl := lw_at lw_m1 112 rfl
theorem q264 : (Jvm.Cond.stringRef "BranchNames" (407 : Nat) "penta") ∈ lw_tbl := lw_at lw_m1 113 rfl
theorem q265 : (Jvm.Cond.stringRef "BranchNames" (409 : Nat) "hexa") ∈ lw_tbl := lw_at lw_m1 114 rfl
theorem q266 : (Jvm.Cond.stringRef "BranchNames" (411 : Nat) "hepta") ∈ lw_tbl := lw_at lw_m1 115 rfl
theorem q267 : (Jvm.Cond.stringRef "BranchNames" (413 : Nat) "octa") ∈ lw_tbl := lw_at lw_m1 116 rfl
theorem q268 : (Jvm.Cond.classLink "BranchNames" (427 : Nat) "[Ljava/lang/String;") ∈ lw_all := lw_g (lw_at lw_m1 117 rfl) rfl
theorem q269 : (Jvm.Cond.classLink "BranchNames" (441 : Nat) "BranchNames$Items") ∈ lw_all := lw_g (lw_at lw_m1 118 rfl) rfl
theorem q271 : (Jvm.Cond.constantLong "BranchNames" (447 : Nat) (5 : Int64)) ∈ lw_all := lw_g (lw_at lw_m1 120 rfl) rfl
theorem q272 : (Jvm.Cond.classLink "BranchNames" (269 : Nat) "java/lang/StringBuilder") ∈ lw_all := lw_g (lw_at lw_m1 121 rfl) rfl
theorem q274 : (Jvm.Cond.methodLink "BranchNames" (271 : Nat) ({ cls := "java/lang/StringBuilder", name := "<init>", desc := "()V" } : Jvm.MethodName)) ∈ lw_all := lw_g (lw_at lw_m1 123 rfl) rfl
theorem q305 : (Jvm.Cond.methodLink "BranchNames" (333 : Nat) ({ cls := "java/lang/StringBuilder", name := "append", desc := "(Ljava/lang/String;)Ljava/lang/StringBuilder;" } : Jvm.MethodName)) ∈ lw_all := lw_g (lw_at lw_m1 154 rfl) rfl
theorem q425 : (Jvm.Cond.stringRef "BranchNames" (338 : Nat) "yl") ∈ lw_tbl := lw_at lw_m2 34 rfl
theorem q426 : (Jvm.Cond.methodLink "BranchNames" (280 : Nat) ({ cls := "java/lang/StringBuilder", name := "toString", desc := "()Ljava/lang/String;" } : Jvm.MethodName)) ∈ lw_all := lw_g (lw_at lw_m2 35 rfl) rfl
theorem q486 : (Jvm.Cond.classLink "BranchNames" (449 : Nat) "BranchNames$Measure") ∈ lw_all := lw_g (lw_at lw_m2 95 rfl) rfl
theorem q488 : (Jvm.Cond.static ({ cls := "BranchNames", name := "atomsOf", desc := "(LBranchNames$Tree;)I" } : Jvm.MethodName)) ∈ lw_all := lw_g (lw_at lw_m2 97 rfl) rfl
theorem q489 : (Jvm.Cond.code ({ cls := "BranchNames", name := "atomsOf", desc := "(LBranchNames$Tree;)I" } : Jvm.MethodName) prog_1_method_19_code (1 : Nat) (Option.some Jvm.ClassFile.FieldType.int)) ∈ lw_all := lw_g (lw_at lw_m2 98 rfl) rfl
theorem q490 : (Jvm.Cond.static ({ cls := "BranchNames", name := "hydrogensOf", desc := "(LBranchNames$Tree;)I" } : Jvm.MethodName)) ∈ lw_all := lw_g (lw_at lw_m2 99 rfl) rfl
theorem q491 : (Jvm.Cond.code ({ cls := "BranchNames", name := "hydrogensOf", desc := "(LBranchNames$Tree;)I" } : Jvm.MethodName) prog_1_method_20_code (1 : Nat) (Option.some Jvm.ClassFile.FieldType.int)) ∈ lw_all := lw_g (lw_at lw_m2 100 rfl) rfl
theorem q492 : (Jvm.Cond.privateMethod ({ cls := "BranchNames", name := "lambda$new$2", desc := "(LBranchNames$Tree;)I" } : Jvm.MethodName)) ∈ lw_tbl := lw_at lw_m2 101 rfl
theorem q493 : (Jvm.Cond.instanceMethod ({ cls := "BranchNames", name := "lambda$new$2", desc := "(LBranchNames$Tree;)I" } : Jvm.MethodName)) ∈ lw_all := lw_g (lw_at lw_m2 102 rfl) rfl
theorem q494 : (Jvm.Cond.code ({ cls := "BranchNames", name := "lambda$new$2", desc := "(LBranchNames$Tree;)I" } : Jvm.MethodName) prog_1_method_105_code (2 : Nat) (Option.some Jvm.ClassFile.FieldType.int)) ∈ lw_all := lw_g (lw_at lw_m2 103 rfl) rfl
theorem q495 : (Jvm.Cond.methodLink "BranchNames" (692 : Nat) ({ cls := "BranchNames", name := "twos", desc := "(LBranchNames$Tree;I)I" } : Jvm.MethodName)) ∈ lw_all := lw_g (lw_at lw_m2 104 rfl) rfl
theorem q496 : (Jvm.Cond.privateMethod ({ cls := "BranchNames", name := "twos", desc := "(LBranchNames$Tree;I)I" } : Jvm.MethodName)) ∈ lw_tbl := lw_at lw_m2 105 rfl
theorem q497 : (Jvm.Cond.instanceMethod ({ cls := "BranchNames", name := "twos", desc := "(LBranchNames$Tree;I)I" } : Jvm.MethodName)) ∈ lw_all := lw_g (lw_at lw_m2 106 rfl) rfl
theorem q498 : (Jvm.Cond.code ({ cls := "BranchNames", name := "twos", desc := "(LBranchNames$Tree;I)I" } : Jvm.MethodName) prog_1_method_22_code (6 : Nat) (Option.some Jvm.ClassFile.FieldType.int)) ∈ lw_all := lw_g (lw_at lw_m2 107 rfl) rfl
theorem q499 : (Jvm.Cond.methodLink "BranchNames" (54 : Nat) ({ cls := "BranchNames", name := "measures", desc := "(LBranchNames$Tree;)V" } : Jvm.MethodName)) ∈ lw_all := lw_g (lw_at lw_m2 108 rfl) rfl
theorem q500 : (Jvm.Cond.privateMethod ({ cls := "BranchNames", name := "measures", desc := "(LBranchNames$Tree;)V" } : Jvm.MethodName)) ∈ lw_tbl := lw_at lw_m2 109 rfl
theorem q501 : (Jvm.Cond.instanceMethod ({ cls := "BranchNames", name := "measures", desc := "(LBranchNames$Tree;)V" } : Jvm.MethodName)) ∈ lw_all := lw_g (lw_at lw_m2 110 rfl) rfl
theorem q502 : (Jvm.Cond.code ({ cls := "BranchNames", name := "measures", desc := "(LBranchNames$Tree;)V" } : Jvm.MethodName) prog_1_method_7_code (3 : Nat) (Option.none : Option Jvm.ClassFile.FieldType)) ∈ lw_all := lw_g (lw_at lw_m2 111 rfl) rfl
theorem q503 : (Jvm.Cond.methodLink "BranchNames" (40 : Nat) ({ cls := "BranchNames", name := "goes", desc := "(LBranchNames$Tree;IIII)V" } : Jvm.MethodName)) ∈ lw_all := lw_g (lw_at lw_m2 112 rfl) rfl
theorem q504 : (Jvm.Cond.privateMethod ({ cls := "BranchNames", name := "goes", desc := "(LBranchNames$Tree;IIII)V" } : Jvm.MethodName)) ∈ lw_tbl := lw_at lw_m2 113 rfl
theorem q505 : (Jvm.Cond.instanceMethod ({ cls := "BranchNames", name := "goes", desc := "(LBranchNames$Tree;IIII)V" } : Jvm.MethodName)) ∈ lw_all := lw_g (lw_at lw_m2 114 rfl) rfl
theorem q506 : (Jvm.Cond.code ({ cls := "BranchNames", name := "goes", desc := "(LBranchNames$Tree;IIII)V" } : Jvm.MethodName) prog_1_method_6_code (7 : Nat) (Option.none : Option Jvm.ClassFile.FieldType)) ∈ lw_all := lw_g (lw_at lw_m2 115 rfl) rfl
theorem q507 : (Jvm.Cond.static ({ cls := "BranchNames", name := "endsOf", desc := "(LBranchNames$Tree;)I" } : Jvm.MethodName)) ∈ lw_all := lw_g (lw_at lw_m2 116 rfl) rfl
theorem q508 : (Jvm.Cond.code ({ cls := "BranchNames", name := "endsOf", desc := "(LBranchNames$Tree;)I" } : Jvm.MethodName) prog_1_method_21_code (3 : Nat) (Option.some Jvm.ClassFile.FieldType.int)) ∈ lw_all := lw_g (lw_at lw_m2 117 rfl) rfl
theorem q509 : (Jvm.Cond.privateMethod ({ cls := "BranchNames", name := "lambda$new$3", desc := "(LBranchNames$Tree;)I" } : Jvm.MethodName)) ∈ lw_tbl := lw_at lw_m2 118 rfl
theorem q510 : (Jvm.Cond.instanceMethod ({ cls := "BranchNames", name := "lambda$new$3", desc := "(LBranchNames$Tree;)I" } : Jvm.MethodName)) ∈ lw_all := lw_g (lw_at lw_m2 119 rfl) rfl
theorem q511 : (Jvm.Cond.code ({ cls := "BranchNames", name := "lambda$new$3", desc := "(LBranchNames$Tree;)I" } : Jvm.MethodName) prog_1_method_104_code (2 : Nat) (Option.some Jvm.ClassFile.FieldType.int)) ∈ lw_all := lw_g (lw_at lw_m2 120 rfl) rfl
theorem q512 : (Jvm.Cond.privateMethod ({ cls := "BranchNames", name := "leastDeep", desc := "(LBranchNames$Tree;)I" } : Jvm.MethodName)) ∈ lw_tbl := lw_at lw_m2 121 rfl
theorem q513 : (Jvm.Cond.instanceMethod ({ cls := "BranchNames", name := "leastDeep", desc := "(LBranchNames$Tree;)I" } : Jvm.MethodName)) ∈ lw_all := lw_g (lw_at lw_m2 122 rfl) rfl
theorem q514 : (Jvm.Cond.code ({ cls := "BranchNames", name := "leastDeep", desc := "(LBranchNames$Tree;)I" } : Jvm.MethodName) prog_1_method_23_code (3 : Nat) (Option.some Jvm.ClassFile.FieldType.int)) ∈ lw_all := lw_g (lw_at lw_m2 123 rfl) rfl
theorem q515 : (Jvm.Cond.methodLink "BranchNames" (65 : Nat) ({ cls := "BranchNames", name := "centre", desc := "(LBranchNames$Tree;I)I" } : Jvm.MethodName)) ∈ lw_all := lw_g (lw_at lw_m2 124 rfl) rfl
theorem q516 : (Jvm.Cond.privateMethod ({ cls := "BranchNames", name := "centre", desc := "(LBranchNames$Tree;I)I" } : Jvm.MethodName)) ∈ lw_tbl := lw_at lw_m2 125 rfl
theorem q517 : (Jvm.Cond.instanceMethod ({ cls := "BranchNames", name := "centre", desc := "(LBranchNames$Tree;I)I" } : Jvm.MethodName)) ∈ lw_all := lw_g (lw_at lw_m2 126 rfl) rfl
theorem q518 : (Jvm.Cond.code ({ cls := "BranchNames", name := "centre", desc := "(LBranchNames$Tree;I)I" } : Jvm.MethodName) prog_1_method_9_code (6 : Nat) (Option.some Jvm.ClassFile.FieldType.int)) ∈ lw_all := lw_g (lw_at lw_m2 127 rfl) rfl
theorem q519 : (Jvm.Cond.methodLink "BranchNames" (58 : Nat) ({ cls := "BranchNames", name := "deep", desc := "(LBranchNames$Tree;I)I" } : Jvm.MethodName)) ∈ lw_all := lw_g (lw_at lw_m2 128 rfl) rfl
theorem q520 : (Jvm.Cond.privateMethod ({ cls := "BranchNames", name := "deep", desc := "(LBranchNames$Tree;I)I" } : Jvm.MethodName)) ∈ lw_tbl := lw_at lw_m2 129 rfl
theorem q521 : (Jvm.Cond.instanceMethod ({ cls := "BranchNames", name := "deep", desc := "(LBranchNames$Tree;I)I" } : Jvm.MethodName)) ∈ lw_all := lw_g (lw_at lw_m2 130 rfl) rfl
theorem q522 : (Jvm.Cond.code ({ cls := "BranchNames", name := "deep", desc := "(LBranchNames$Tree;I)I" } : Jvm.MethodName) prog_1_method_8_code (5 : Nat) (Option.some Jvm.ClassFile.FieldType.int)) ∈ lw_all := lw_g (lw_at lw_m2 131 rfl) rfl
theorem q523 : (Jvm.Cond.methodLink "BranchNames" (48 : Nat) ({ cls := "java/lang/Math", name := "max", desc := "(II)I" } : Jvm.MethodName)) ∈ lw_all := lw_g (lw_at lw_m2 132 rfl) rfl
theorem q524 : (Jvm.Cond.methodLink "BranchNames" (62 : Nat) ({ cls := "java/lang/Math", name := "min", desc := "(II)I" } : Jvm.MethodName)) ∈ lw_all := lw_g (lw_at lw_m2 133 rfl) rfl
theorem q525 : (Jvm.Cond.privateMethod ({ cls := "BranchNames", name := "unlikeOf", desc := "(LBranchNames$Tree;)I" } : Jvm.MethodName)) ∈ lw_tbl := lw_at lw_m2 134 rfl
theorem q526 : (Jvm.Cond.instanceMethod ({ cls := "BranchNames", name := "unlikeOf", desc := "(LBranchNames$Tree;)I" } : Jvm.MethodName)) ∈ lw_all := lw_g (lw_at lw_m2 135 rfl) rfl
theorem q527 : (Jvm.Cond.code ({ cls := "BranchNames", name := "unlikeOf", desc := "(LBranchNames$Tree;)I" } : Jvm.MethodName) prog_1_method_28_code (4 : Nat) (Option.some Jvm.ClassFile.FieldType.int)) ∈ lw_all := lw_g (lw_at lw_m2 136 rfl) rfl
theorem q528 : (Jvm.Cond.methodLink "BranchNames" (152 : Nat) ({ cls := "BranchNames", name := "looks", desc := "(LBranchNames$Tree;)V" } : Jvm.MethodName)) ∈ lw_all := lw_g (lw_at lw_m2 137 rfl) rfl
theorem q529 : (Jvm.Cond.privateMethod ({ cls := "BranchNames", name := "looks", desc := "(LBranchNames$Tree;)V" } : Jvm.MethodName)) ∈ lw_tbl := lw_at lw_m2 138 rfl
theorem q530 : (Jvm.Cond.instanceMethod ({ cls := "BranchNames", name := "looks", desc := "(LBranchNames$Tree;)V" } : Jvm.MethodName)) ∈ lw_all := lw_g (lw_at lw_m2 139 rfl) rfl
theorem q531 : (Jvm.Cond.code ({ cls := "BranchNames", name := "looks", desc := "(LBranchNames$Tree;)V" } : Jvm.MethodName) prog_1_method_25_code (3 : Nat) (Option.none : Option Jvm.ClassFile.FieldType)) ∈ lw_all := lw_g (lw_at lw_m2 140 rfl) rfl
theorem q532 : (Jvm.Cond.methodLink "BranchNames" (68 : Nat) ({ cls := "BranchNames", name := "seenAt", desc := "(LBranchNames$Tree;I)J" } : Jvm.MethodName)) ∈ lw_all := lw_g (lw_at lw_m2 141 rfl) rfl
theorem q533 : (Jvm.Cond.privateMethod ({ cls := "BranchNames", name := "seenAt", desc := "(LBranchNames$Tree;I)J" } : Jvm.MethodName)) ∈ lw_tbl := lw_at lw_m2 142 rfl
theorem q534 : (Jvm.Cond.instanceMethod ({ cls := "BranchNames", name := "seenAt", desc := "(LBranchNames$Tree;I)J" } : Jvm.MethodName)) ∈ lw_all := lw_g (lw_at lw_m2 143 rfl) rfl
theorem q535 : (Jvm.Cond.code ({ cls := "BranchNames", name := "seenAt", desc := "(LBranchNames$Tree;I)J" } : Jvm.MethodName) prog_1_method_5_code (3 : Nat) (Option.some Jvm.ClassFile.FieldType.long)) ∈ lw_all := lw_g (lw_at lw_m2 144 rfl) rfl
theorem q536 : (Jvm.Cond.methodLink "BranchNames" (21 : Nat) ({ cls := "BranchNames", name := "codeOf", desc := "(LBranchNames$Tree;III)J" } : Jvm.MethodName)) ∈ lw_all := lw_g (lw_at lw_m2 145 rfl) rfl
theorem q537 : (Jvm.Cond.privateMethod ({ cls := "BranchNames", name := "codeOf", desc := "(LBranchNames$Tree;III)J" } : Jvm.MethodName)) ∈ lw_tbl := lw_at lw_m2 146 rfl
theorem q538 : (Jvm.Cond.instanceMethod ({ cls := "BranchNames", name := "codeOf", desc := "(LBranchNames$Tree;III)J" } : Jvm.MethodName)) ∈ lw_all := lw_g (lw_at lw_m2 147 rfl) rfl
theorem q539 : (Jvm.Cond.code ({ cls := "BranchNames", name := "codeOf", desc := "(LBranchNames$Tree;III)J" } : Jvm.MethodName) prog_1_method_4_code (13 : Nat) (Option.some Jvm.ClassFile.FieldType.long)) ∈ lw_all := lw_g (lw_at lw_m2 148 rfl) rfl
theorem q540 : (Jvm.Cond.methodLink "BranchNames" (25 : Nat) ({ cls := "BranchNames", name := "digitsOf", desc := "(J)I" } : Jvm.MethodName)) ∈ lw_all := lw_g (lw_at lw_m2 149 rfl) rfl
theorem q541 : (Jvm.Cond.static ({ cls := "BranchNames", name := "digitsOf", desc := "(J)I" } : Jvm.MethodName)) ∈ lw_all := lw_g (lw_at lw_m2 150 rfl) rfl
theorem q542 : (Jvm.Cond.code ({ cls := "BranchNames", name := "digitsOf", desc := "(J)I" } : Jvm.MethodName) prog_1_method_2_code (2 : Nat) (Option.some Jvm.ClassFile.FieldType.int)) ∈ lw_all := lw_g (lw_at lw_m2 151 rfl) rfl
theorem q543 : (Jvm.Cond.constantLong "BranchNames" (5 : Nat) (1220703125 : Int64)) ∈ lw_all := lw_g (lw_at lw_m2 152 rfl) rfl
theorem q544 : (Jvm.Cond.methodLink "BranchNames" (33 : Nat) ({ cls := "BranchNames", name := "numberOf", desc := "(J)J" } : Jvm.MethodName)) ∈ lw_all := lw_g (lw_at lw_m2 153 rfl) rfl
theorem q545 : (Jvm.Cond.static ({ cls := "BranchNames", name := "numberOf", desc := "(J)J" } : Jvm.MethodName)) ∈ lw_all := lw_g (lw_at lw_m2 154 rfl) rfl
theorem q546 : (Jvm.Cond.code ({ cls := "BranchNames", name := "numberOf", desc := "(J)J" } : Jvm.MethodName) prog_1_method_3_code (2 : Nat) (Option.some Jvm.ClassFile.FieldType.long)) ∈ lw_all := lw_g (lw_at lw_m2 155 rfl) rfl
theorem q547 : (Jvm.Cond.methodLink "BranchNames" (155 : Nat) ({ cls := "BranchNames", name := "leastAlike", desc := "(I)I" } : Jvm.MethodName)) ∈ lw_all := lw_g (lw_at lw_m2 156 rfl) rfl
theorem q548 : (Jvm.Cond.privateMethod ({ cls := "BranchNames", name := "leastAlike", desc := "(I)I" } : Jvm.MethodName)) ∈ lw_tbl := lw_at lw_m2 157 rfl
theorem q549 : (Jvm.Cond.instanceMethod ({ cls := "BranchNames", name := "leastAlike", desc := "(I)I" } : Jvm.MethodName)) ∈ lw_all := lw_g (lw_at lw_m2 158 rfl) rfl
theorem q550 : (Jvm.Cond.code ({ cls := "BranchNames", name := "leastAlike", desc := "(I)I" } : Jvm.MethodName) prog_1_method_26_code (3 : Nat) (Option.some Jvm.ClassFile.FieldType.int)) ∈ lw_all := lw_g (lw_at lw_m2 159 rfl) rfl
theorem q551 : (Jvm.Cond.privateMethod ({ cls := "BranchNames", name := "waysOf", desc := "(LBranchNames$Tree;)I" } : Jvm.MethodName)) ∈ lw_tbl := lw_at lw_m2 160 rfl
theorem q552 : (Jvm.Cond.instanceMethod ({ cls := "BranchNames", name := "waysOf", desc := "(LBranchNames$Tree;)I" } : Jvm.MethodName)) ∈ lw_all := lw_g (lw_at lw_m2 161 rfl) rfl
theorem q553 : (Jvm.Cond.code ({ cls := "BranchNames", name := "waysOf", desc := "(LBranchNames$Tree;)I" } : Jvm.MethodName) prog_1_method_30_code (2 : Nat) (Option.some Jvm.ClassFile.FieldType.int)) ∈ lw_all := lw_g (lw_at lw_m2 162 rfl) rfl
theorem q554 : (Jvm.Cond.methodLink "BranchNames" (165 : Nat) ({ cls := "BranchNames", name := "alike", desc := "(LBranchNames$Tree;I)I" } : Jvm.MethodName)) ∈ lw_all := lw_g (lw_at lw_m2 163 rfl) rfl
theorem q555 : (Jvm.Cond.privateMethod ({ cls := "BranchNames", name := "alike", desc := "(LBranchNames$Tree;I)I" } : Jvm.MethodName)) ∈ lw_tbl := lw_at lw_m2 164 rfl
theorem q556 : (Jvm.Cond.instanceMethod ({ cls := "BranchNames", name := "alike", desc := "(LBranchNames$Tree;I)I" } : Jvm.MethodName)) ∈ lw_all := lw_g (lw_at lw_m2 165 rfl) rfl
theorem q557 : (Jvm.Cond.code ({ cls := "BranchNames", name := "alike", desc := "(LBranchNames$Tree;I)I" } : Jvm.MethodName) prog_1_method_27_code (5 : Nat) (Option.some Jvm.ClassFile.FieldType.int)) ∈ lw_all := lw_g (lw_at lw_m2 166 rfl) rfl
theorem q558 : (Jvm.Cond.methodLink "BranchNames" (161 : Nat) ({ cls := "BranchNames", name := "ways", desc := "(LBranchNames$Tree;III)I" } : Jvm.MethodName)) ∈ lw_all := lw_g (lw_at lw_m2 167 rfl) rfl
theorem q559 : (Jvm.Cond.privateMethod ({ cls := "BranchNames", name := "ways", desc := "(LBranchNames$Tree;III)I" } : Jvm.MethodName)) ∈ lw_tbl := lw_at lw_m2 168 rfl
theorem q560 : (Jvm.Cond.instanceMethod ({ cls := "BranchNames", name := "ways", desc := "(LBranchNames$Tree;III)I" } : Jvm.MethodName)) ∈ lw_all := lw_g (lw_at lw_m2 169 rfl) rfl
theorem q561 : (Jvm.Cond.code ({ cls := "BranchNames", name := "ways", desc := "(LBranchNames$Tree;III)I" } : Jvm.MethodName) prog_1_method_29_code (12 : Nat) (Option.some Jvm.ClassFile.FieldType.int)) ∈ lw_all := lw_g (lw_at lw_m2 170 rfl) rfl
theorem q562 : (Jvm.Cond.privateMethod ({ cls := "BranchNames", name := "grownOf", desc := "(LBranchNames$Tree;)I" } : Jvm.MethodName)) ∈ lw_tbl := lw_at lw_m2 171 rfl
theorem q563 : (Jvm.Cond.instanceMethod ({ cls := "BranchNames", name := "grownOf", desc := "(LBranchNames$Tree;)I" } : Jvm.MethodName)) ∈ lw_all := lw_g (lw_at lw_m2 172 rfl) rfl
theorem q564 : (Jvm.Cond.code ({ cls := "BranchNames", name := "grownOf", desc := "(LBranchNames$Tree;)I" } : Jvm.MethodName) prog_1_method_31_code (9 : Nat) (Option.some Jvm.ClassFile.FieldType.int)) ∈ lw_all := lw_g (lw_at lw_m2 173 rfl) rfl
theorem q565 : (Jvm.Cond.methodLink "BranchNames" (118 : Nat) ({ cls := "BranchNames$Tree", name := "isFull", desc := "(I)Z" } : Jvm.MethodName)) ∈ lw_all := lw_g (lw_at lw_m2 174 rfl) rfl
theorem q569 : (Jvm.Cond.methodLink "BranchNames" (125 : Nat) ({ cls := "BranchNames$Tree", name := "becomes", desc := "(LBranchNames$Tree;)V" } : Jvm.MethodName)) ∈ lw_all := lw_g (lw_at lw_m2 178 rfl) rfl
theorem q573 : (Jvm.Cond.methodLink "BranchNames" (81 : Nat) ({ cls := "BranchNames$Tree", name := "grows", desc := "(I)I" } : Jvm.MethodName)) ∈ lw_all := lw_g (lw_at lw_m2 182 rfl) rfl
theorem q581 : (Jvm.Cond.methodLink "BranchNames" (128 : Nat) ({ cls := "BranchNames", name := "keyOf", desc := "(LBranchNames$Tree;)J" } : Jvm.MethodName)) ∈ lw_all := lw_g (lw_at lw_m2 190 rfl) rfl
theorem q582 : (Jvm.Cond.privateMethod ({ cls := "BranchNames", name := "keyOf", desc := "(LBranchNames$Tree;)J" } : Jvm.MethodName)) ∈ lw_tbl := lw_at lw_m2 191 rfl
theorem q583 : (Jvm.Cond.instanceMethod ({ cls := "BranchNames", name := "keyOf", desc := "(LBranchNames$Tree;)J" } : Jvm.MethodName)) ∈ lw_all := lw_g (lw_at lw_m2 192 rfl) rfl
theorem q584 : (Jvm.Cond.code ({ cls := "BranchNames", name := "keyOf", desc := "(LBranchNames$Tree;)J" } : Jvm.MethodName) prog_1_method_10_code (5 : Nat) (Option.some Jvm.ClassFile.FieldType.long)) ∈ lw_all := lw_g (lw_at lw_m2 193 rfl) rfl
theorem q585 : (Jvm.Cond.methodLink "BranchNames" (72 : Nat) ({ cls := "java/lang/Math", name := "max", desc := "(JJ)J" } : Jvm.MethodName)) ∈ lw_all := lw_g (lw_at lw_m2 194 rfl) rfl
theorem q588 : (Jvm.Cond.privateMethod ({ cls := "BranchNames", name := "lambda$new$4", desc := "(LBranchNames$Tree;)I" } : Jvm.MethodName)) ∈ lw_tbl := lw_at lw_m2 197 rfl
theorem q589 : (Jvm.Cond.instanceMethod ({ cls := "BranchNames", name := "lambda$new$4", desc := "(LBranchNames$Tree;)I" } : Jvm.MethodName)) ∈ lw_all := lw_g (lw_at lw_m2 198 rfl) rfl
theorem q590 : (Jvm.Cond.code ({ cls := "BranchNames", name := "lambda$new$4", desc := "(LBranchNames$Tree;)I" } : Jvm.MethodName) prog_1_method_103_code (2 : Nat) (Option.some Jvm.ClassFile.FieldType.int)) ∈ lw_all := lw_g (lw_at lw_m2 199 rfl) rfl
theorem q591 : (Jvm.Cond.methodLink "BranchNames" (689 : Nat) ({ cls := "BranchNames", name := "greatestDeep", desc := "(LBranchNames$Tree;)I" } : Jvm.MethodName)) ∈ lw_all := lw_g (lw_at lw_m2 200 rfl) rfl
theorem q592 : (Jvm.Cond.privateMethod ({ cls := "BranchNames", name := "greatestDeep", desc := "(LBranchNames$Tree;)I" } : Jvm.MethodName)) ∈ lw_tbl := lw_at lw_m2 201 rfl
theorem q593 : (Jvm.Cond.instanceMethod ({ cls := "BranchNames", name := "greatestDeep", desc := "(LBranchNames$Tree;)I" } : Jvm.MethodName)) ∈ lw_all := lw_g (lw_at lw_m2 202 rfl) rfl
theorem q594 : (Jvm.Cond.code ({ cls := "BranchNames", name := "greatestDeep", desc := "(LBranchNames$Tree;)I" } : Jvm.MethodName) prog_1_method_24_code (4 : Nat) (Option.some Jvm.ClassFile.FieldType.int)) ∈ lw_all := lw_g (lw_at lw_m2 203 rfl) rfl
theorem q595 : (Jvm.Cond.privateMethod ({ cls := "BranchNames", name := "branchesOf", desc := "(LBranchNames$Tree;)I" } : Jvm.MethodName)) ∈ lw_tbl := lw_at lw_m2 204 rfl
theorem q596 : (Jvm.Cond.instanceMethod ({ cls := "BranchNames", name := "branchesOf", desc := "(LBranchNames$Tree;)I" } : Jvm.MethodName)) ∈ lw_all := lw_g (lw_at lw_m2 205 rfl) rfl
theorem q597 : (Jvm.Cond.code ({ cls := "BranchNames", name := "branchesOf", desc := "(LBranchNames$Tree;)I" } : Jvm.MethodName) prog_1_method_41_code (3 : Nat) (Option.some Jvm.ClassFile.FieldType.int)) ∈ lw_all := lw_g (lw_at lw_m2 206 rfl) rfl
theorem q598 : (Jvm.Cond.classLink "BranchNames" (216 : Nat) "BranchNames$Prefers") ∈ lw_all := lw_g (lw_at lw_m2 207 rfl) rfl
theorem q600 : (Jvm.Cond.static ({ cls := "BranchNames", name := "prefersLong", desc := "(LBranchNames$Way;LBranchNames$Way;)I" } : Jvm.MethodName)) ∈ lw_all := lw_g (lw_at lw_m2 209 rfl) rfl
theorem q601 : (Jvm.Cond.code ({ cls := "BranchNames", name := "prefersLong", desc := "(LBranchNames$Way;LBranchNames$Way;)I" } : Jvm.MethodName) prog_1_method_33_code (2 : Nat) (Option.some Jvm.ClassFile.FieldType.int)) ∈ lw_all := lw_g (lw_at lw_m2 210 rfl) rfl
theorem q602 : (Jvm.Cond.static ({ cls := "BranchNames", name := "prefersBranched", desc := "(LBranchNames$Way;LBranchNames$Way;)I" } : Jvm.MethodName)) ∈ lw_all := lw_g (lw_at lw_m2 211 rfl) rfl
theorem q603 : (Jvm.Cond.code ({ cls := "BranchNames", name := "prefersBranched", desc := "(LBranchNames$Way;LBranchNames$Way;)I" } : Jvm.MethodName) prog_1_method_34_code (2 : Nat) (Option.some Jvm.ClassFile.FieldType.int)) ∈ lw_all := lw_g (lw_at lw_m2 212 rfl) rfl
theorem q604 : (Jvm.Cond.methodLink "BranchNames" (229 : Nat) ({ cls := "BranchNames", name := "chooser", desc := "([LBranchNames$Prefers;)LBranchNames$Chooses;" } : Jvm.MethodName)) ∈ lw_all := lw_g (lw_at lw_m2 213 rfl) rfl
theorem q605 : (Jvm.Cond.static ({ cls := "BranchNames", name := "chooser", desc := "([LBranchNames$Prefers;)LBranchNames$Chooses;" } : Jvm.MethodName)) ∈ lw_all := lw_g (lw_at lw_m2 214 rfl) rfl
theorem q606 : (Jvm.Cond.code ({ cls := "BranchNames", name := "chooser", desc := "([LBranchNames$Prefers;)LBranchNames$Chooses;" } : Jvm.MethodName) prog_1_method_32_code (1 : Nat) (Option.some (Jvm.ClassFile.FieldType.object "BranchNames$Chooses"))) ∈ lw_all := lw_g (lw_at lw_m2 215 rfl) rfl
theorem q607 : (Jvm.Cond.classLink "BranchNames" (171 : Nat) "BranchNames$1") ∈ lw_all := lw_g (lw_at lw_m2 216 rfl) rfl
theorem q609 : (Jvm.Cond.methodLink "BranchNames" (173 : Nat) ({ cls := "BranchNames$1", name := "<init>", desc := "([LBranchNames$Prefers;)V" } : Jvm.MethodName)) ∈ lw_all := lw_g (lw_at lw_m2 218 rfl) rfl
theorem q621 : (Jvm.Cond.fieldLinkNest "BranchNames" (185 : Nat) "BranchNames$Way" "atom" "[I" "BranchNames") ∈ lw_tbl := lw_at lw_m2 230 rfl
theorem q625 : (Jvm.Cond.fieldLinkNest "BranchNames" (177 : Nat) "BranchNames$Way" "many" "I" "BranchNames") ∈ lw_tbl := lw_at lw_m2 234 rfl
theorem q628 : (Jvm.Cond.fieldLinkNest "BranchNames" (182 : Nat) "BranchNames$Way" "branches" "I" "BranchNames") ∈ lw_tbl := lw_at lw_m2 237 rfl
theorem q631 : (Jvm.Cond.fieldLinkNest "BranchNames" (195 : Nat) "BranchNames$Way" "name" "Ljava/lang/String;" "BranchNames") ∈ lw_tbl := lw_at lw_m3 0 rfl
theorem q648 : (Jvm.Cond.methodLink "BranchNames" (233 : Nat) ({ cls := "BranchNames", name := "seeksAll", desc := "(LBranchNames$Tree;IILBranchNames$Sees;)V" } : Jvm.MethodName)) ∈ lw_all := lw_g (lw_at lw_m3 17 rfl) rfl
theorem q649 : (Jvm.Cond.privateMethod ({ cls := "BranchNames", name := "seeksAll", desc := "(LBranchNames$Tree;IILBranchNames$Sees;)V" } : Jvm.MethodName)) ∈ lw_tbl := lw_at lw_m3 18 rfl
theorem q650 : (Jvm.Cond.instanceMethod ({ cls := "BranchNames", name := "seeksAll", desc := "(LBranchNames$Tree;IILBranchNames$Sees;)V" } : Jvm.MethodName)) ∈ lw_all := lw_g (lw_at lw_m3 19 rfl) rfl
theorem q651 : (Jvm.Cond.code ({ cls := "BranchNames", name := "seeksAll", desc := "(LBranchNames$Tree;IILBranchNames$Sees;)V" } : Jvm.MethodName) prog_1_method_38_code (7 : Nat) (Option.none : Option Jvm.ClassFile.FieldType)) ∈ lw_all := lw_g (lw_at lw_m3 20 rfl) rfl
theorem q652 : (Jvm.Cond.classLink "BranchNames" (207 : Nat) "BranchNames$Seeker") ∈ lw_all := lw_g (lw_at lw_m3 21 rfl) rfl
theorem q654 : (Jvm.Cond.methodLink "BranchNames" (209 : Nat) ({ cls := "BranchNames$Seeker", name := "<init>", desc := "(LBranchNames$Tree;I)V" } : Jvm.MethodName)) ∈ lw_all := lw_g (lw_at lw_m3 23 rfl) rfl
theorem q670 : (Jvm.Cond.methodLink "BranchNames" (212 : Nat) ({ cls := "BranchNames$Seeker", name := "seeks", desc := "(IILBranchNames$Sees;)V" } : Jvm.MethodName)) ∈ lw_all := lw_g (lw_at lw_m3 39 rfl) rfl
theorem q709 : (Jvm.Cond.interfaceEntry "BranchNames" (237 : Nat)) ∈ lw_tbl := lw_at lw_m3 78 rfl
theorem q710 : (Jvm.Cond.methodLink "BranchNames" (237 : Nat) ({ cls := "BranchNames$Chooses", name := "chosen", desc := "()LBranchNames$Way;" } : Jvm.MethodName)) ∈ lw_all := lw_g (lw_at lw_m3 79 rfl) rfl
theorem q719 : (Jvm.Cond.methodLink "BranchNames" (132 : Nat) ({ cls := "BranchNames", name := "comesIn", desc := "(I)V" } : Jvm.MethodName)) ∈ lw_all := lw_g (lw_at lw_m3 88 rfl) rfl
theorem q720 : (Jvm.Cond.privateMethod ({ cls := "BranchNames", name := "comesIn", desc := "(I)V" } : Jvm.MethodName)) ∈ lw_tbl := lw_at lw_m3 89 rfl
theorem q721 : (Jvm.Cond.instanceMethod ({ cls := "BranchNames", name := "comesIn", desc := "(I)V" } : Jvm.MethodName)) ∈ lw_all := lw_g (lw_at lw_m3 90 rfl) rfl
theorem q722 : (Jvm.Cond.code ({ cls := "BranchNames", name := "comesIn", desc := "(I)V" } : Jvm.MethodName) prog_1_method_14_code (4 : Nat) (Option.none : Option Jvm.ClassFile.FieldType)) ∈ lw_all := lw_g (lw_at lw_m3 91 rfl) rfl
theorem q723 : (Jvm.Cond.methodLink "BranchNames" (136 : Nat) ({ cls := "BranchNames", name := "copied", desc := "()[I" } : Jvm.MethodName)) ∈ lw_all := lw_g (lw_at lw_m3 92 rfl) rfl
theorem q724 : (Jvm.Cond.privateMethod ({ cls := "BranchNames", name := "copied", desc := "()[I" } : Jvm.MethodName)) ∈ lw_tbl := lw_at lw_m3 93 rfl
theorem q725 : (Jvm.Cond.instanceMethod ({ cls := "BranchNames", name := "copied", desc := "()[I" } : Jvm.MethodName)) ∈ lw_all := lw_g (lw_at lw_m3 94 rfl) rfl
theorem q726 : (Jvm.Cond.code ({ cls := "BranchNames", name := "copied", desc := "()[I" } : Jvm.MethodName) prog_1_method_15_code (2 : Nat) (Option.some (Jvm.ClassFile.FieldType.array Jvm.ClassFile.FieldType.int))) ∈ lw_all := lw_g (lw_at lw_m3 95 rfl) rfl
theorem q727 : (Jvm.Cond.methodLink "BranchNames" (102 : Nat) ({ cls := "java/lang/System", name := "arraycopy", desc := "(Ljava/lang/Object;ILjava/lang/Object;II)V" } : Jvm.MethodName)) ∈ lw_all := lw_g (lw_at lw_m3 96 rfl) rfl
theorem q728 : (Jvm.Cond.methodLink "BranchNames" (470 : Nat) ({ cls := "BranchNames", name := "lists", desc := "(I)V" } : Jvm.MethodName)) ∈ lw_all := lw_g (lw_at lw_m3 97 rfl) rfl
theorem q729 : (Jvm.Cond.privateMethod ({ cls := "BranchNames", name := "lists", desc := "(I)V" } : Jvm.MethodName)) ∈ lw_tbl := lw_at lw_m3 98 rfl
theorem q730 : (Jvm.Cond.instanceMethod ({ cls := "BranchNames", name := "lists", desc := "(I)V" } : Jvm.MethodName)) ∈ lw_all := lw_g (lw_at lw_m3 99 rfl) rfl
theorem q731 : (Jvm.Cond.code ({ cls := "BranchNames", name := "lists", desc := "(I)V" } : Jvm.MethodName) prog_1_method_16_code (6 : Nat) (Option.none : Option Jvm.ClassFile.FieldType)) ∈ lw_all := lw_g (lw_at lw_m3 100 rfl) rfl
theorem q732 : (Jvm.Cond.methodLink "BranchNames" (115 : Nat) ({ cls := "BranchNames", name := "isBy", desc := "(LBranchNames$Tree;II)Z" } : Jvm.MethodName)) ∈ lw_all := lw_g (lw_at lw_m3 101 rfl) rfl
theorem q733 : (Jvm.Cond.privateMethod ({ cls := "BranchNames", name := "isBy", desc := "(LBranchNames$Tree;II)Z" } : Jvm.MethodName)) ∈ lw_tbl := lw_at lw_m3 102 rfl
theorem q734 : (Jvm.Cond.instanceMethod ({ cls := "BranchNames", name := "isBy", desc := "(LBranchNames$Tree;II)Z" } : Jvm.MethodName)) ∈ lw_all := lw_g (lw_at lw_m3 103 rfl) rfl
theorem q735 : (Jvm.Cond.code ({ cls := "BranchNames", name := "isBy", desc := "(LBranchNames$Tree;II)Z" } : Jvm.MethodName) prog_1_method_13_code (4 : Nat) (Option.some Jvm.ClassFile.FieldType.boolean)) ∈ lw_all := lw_g (lw_at lw_m3 104 rfl) rfl
theorem q736 : (Jvm.Cond.methodLink "BranchNames" (89 : Nat) ({ cls := "BranchNames", name := "digitsOf", desc := "(II)V" } : Jvm.MethodName)) ∈ lw_all := lw_g (lw_at lw_m3 105 rfl) rfl
theorem q737 : (Jvm.Cond.privateMethod ({ cls := "BranchNames", name := "digitsOf", desc := "(II)V" } : Jvm.MethodName)) ∈ lw_tbl := lw_at lw_m3 106 rfl
theorem q738 : (Jvm.Cond.instanceMethod ({ cls := "BranchNames", name := "digitsOf", desc := "(II)V" } : Jvm.MethodName)) ∈ lw_all := lw_g (lw_at lw_m3 107 rfl) rfl
theorem q739 : (Jvm.Cond.code ({ cls := "BranchNames", name := "digitsOf", desc := "(II)V" } : Jvm.MethodName) prog_1_method_11_code (5 : Nat) (Option.none : Option Jvm.ClassFile.FieldType)) ∈ lw_all := lw_g (lw_at lw_m3 108 rfl) rfl
theorem q740 : (Jvm.Cond.methodLink "BranchNames" (92 : Nat) ({ cls := "BranchNames$Tree", name := "begins", desc := "()V" } : Jvm.MethodName)) ∈ lw_all := lw_g (lw_at lw_m3 109 rfl) rfl
theorem q741 : (Jvm.Cond.methodLink "BranchNames" (85 : Nat) ({ cls := "BranchNames", name := "isTwig", desc := "(LBranchNames$Tree;II)Z" } : Jvm.MethodName)) ∈ lw_all := lw_g (lw_at lw_m3 110 rfl) rfl
theorem q742 : (Jvm.Cond.privateMethod ({ cls := "BranchNames", name := "isTwig", desc := "(LBranchNames$Tree;II)Z" } : Jvm.MethodName)) ∈ lw_tbl := lw_at lw_m3 111 rfl
theorem q743 : (Jvm.Cond.instanceMethod ({ cls := "BranchNames", name := "isTwig", desc := "(LBranchNames$Tree;II)Z" } : Jvm.MethodName)) ∈ lw_all := lw_g (lw_at lw_m3 112 rfl) rfl
theorem q744 : (Jvm.Cond.code ({ cls := "BranchNames", name := "isTwig", desc := "(LBranchNames$Tree;II)Z" } : Jvm.MethodName) prog_1_method_12_code (6 : Nat) (Option.some Jvm.ClassFile.FieldType.boolean)) ∈ lw_all := lw_g (lw_at lw_m3 113 rfl) rfl
theorem q745 : (Jvm.Cond.methodLink "BranchNames" (472 : Nat) ({ cls := "BranchNames", name := "counts", desc := "()V" } : Jvm.MethodName)) ∈ lw_all := lw_g (lw_at lw_m3 114 rfl) rfl
theorem q746 : (Jvm.Cond.privateMethod ({ cls := "BranchNames", name := "counts", desc := "()V" } : Jvm.MethodName)) ∈ lw_tbl := lw_at lw_m3 115 rfl
theorem q747 : (Jvm.Cond.instanceMethod ({ cls := "BranchNames", name := "counts", desc := "()V" } : Jvm.MethodName)) ∈ lw_all := lw_g (lw_at lw_m3 116 rfl) rfl
theorem q748 : (Jvm.Cond.code ({ cls := "BranchNames", name := "counts", desc := "()V" } : Jvm.MethodName) prog_1_method_53_code (5 : Nat) (Option.none : Option Jvm.ClassFile.FieldType)) ∈ lw_all := lw_g (lw_at lw_m3 117 rfl) rfl
theorem q749 : (Jvm.Cond.methodLink "BranchNames" (475 : Nat) ({ cls := "BranchNames", name := "setsOf", desc := "(II)J" } : Jvm.MethodName)) ∈ lw_all := lw_g (lw_at lw_m3 118 rfl) rfl
theorem q750 : (Jvm.Cond.privateMethod ({ cls := "BranchNames", name := "setsOf", desc := "(II)J" } : Jvm.MethodName)) ∈ lw_tbl := lw_at lw_m3 119 rfl
theorem q751 : (Jvm.Cond.instanceMethod ({ cls := "BranchNames", name := "setsOf", desc := "(II)J" } : Jvm.MethodName)) ∈ lw_all := lw_g (lw_at lw_m3 120 rfl) rfl
theorem q752 : (Jvm.Cond.code ({ cls := "BranchNames", name := "setsOf", desc := "(II)J" } : Jvm.MethodName) prog_1_method_52_code (6 : Nat) (Option.some Jvm.ClassFile.FieldType.long)) ∈ lw_all := lw_g (lw_at lw_m3 121 rfl) rfl
theorem q753 : (Jvm.Cond.methodLink "BranchNames" (479 : Nat) ({ cls := "BranchNames", name := "chosen", desc := "(JI)J" } : Jvm.MethodName)) ∈ lw_all := lw_g (lw_at lw_m3 122 rfl) rfl
theorem q754 : (Jvm.Cond.static ({ cls := "BranchNames", name := "chosen", desc := "(JI)J" } : Jvm.MethodName)) ∈ lw_all := lw_g (lw_at lw_m3 123 rfl) rfl
theorem q755 : (Jvm.Cond.code ({ cls := "BranchNames", name := "chosen", desc := "(JI)J" } : Jvm.MethodName) prog_1_method_51_code (6 : Nat) (Option.some Jvm.ClassFile.FieldType.long)) ∈ lw_all := lw_g (lw_at lw_m3 124 rfl) rfl
theorem q756 : (Jvm.Cond.fieldLink "BranchNames" (365 : Nat) "BranchNames" "drawing" "LBranchNames$Tree;") ∈ lw_all := lw_g (lw_at lw_m3 125 rfl) rfl
theorem q757 : (Jvm.Cond.fieldLink "BranchNames" (368 : Nat) "BranchNames" "kept" "LBranchNames$Tree;") ∈ lw_all := lw_g (lw_at lw_m3 126 rfl) rfl
theorem q758 : (Jvm.Cond.fieldLink "BranchNames" (122 : Nat) "BranchNames" "grown" "LBranchNames$Tree;") ∈ lw_all := lw_g (lw_at lw_m3 127 rfl) rfl
theorem q759 : (Jvm.Cond.fieldLink "BranchNames" (111 : Nat) "BranchNames" "listed" "LBranchNames$Tree;") ∈ lw_all := lw_g (lw_at lw_m3 128 rfl) rfl
theorem q760 : (Jvm.Cond.fieldLink "BranchNames" (371 : Nat) "BranchNames" "ranked" "LBranchNames$Tree;") ∈ lw_all := lw_g (lw_at lw_m3 129 rfl) rfl
theorem q761 : (Jvm.Cond.fieldLink "BranchNames" (686 : Nat) "BranchNames" "isKept" "Z") ∈ lw_all := lw_g (lw_at lw_m3 130 rfl) rfl
theorem q762 : (Jvm.Cond.fieldLink "BranchNames" (7 : Nat) "BranchNames" "twigs" "[[J") ∈ lw_all := lw_g (lw_at lw_m3 131 rfl) rfl
theorem q763 : (Jvm.Cond.fieldLink "BranchNames" (29 : Nat) "BranchNames" "fives" "[J") ∈ lw_all := lw_g (lw_at lw_m3 132 rfl) rfl
theorem q764 : (Jvm.Cond.fieldLink "BranchNames" (37 : Nat) "BranchNames" "far" "[[I") ∈ lw_all := lw_g (lw_at lw_m3 133 rfl) rfl
theorem q765 : (Jvm.Cond.fieldLink "BranchNames" (75 : Nat) "BranchNames" "digits" "[I") ∈ lw_all := lw_g (lw_at lw_m3 134 rfl) rfl
theorem q766 : (Jvm.Cond.fieldLink "BranchNames" (78 : Nat) "BranchNames" "digitAt" "I") ∈ lw_all := lw_g (lw_at lw_m3 135 rfl) rfl
theorem q767 : (Jvm.Cond.fieldLink "BranchNames" (108 : Nat) "BranchNames" "lists" "[[I") ∈ lw_all := lw_g (lw_at lw_m3 136 rfl) rfl
theorem q768 : (Jvm.Cond.fieldLink "BranchNames" (99 : Nat) "BranchNames" "row" "[I") ∈ lw_all := lw_g (lw_at lw_m3 137 rfl) rfl
theorem q769 : (Jvm.Cond.fieldLink "BranchNames" (96 : Nat) "BranchNames" "rowMany" "I") ∈ lw_all := lw_g (lw_at lw_m3 138 rfl) rfl
theorem q770 : (Jvm.Cond.fieldLink "BranchNames" (467 : Nat) "BranchNames" "measures" "[LBranchNames$Measure;") ∈ lw_all := lw_g (lw_at lw_m3 139 rfl) rfl
theorem q771 : (Jvm.Cond.fieldLink "BranchNames" (149 : Nat) "BranchNames" "seen" "[J") ∈ lw_all := lw_g (lw_at lw_m3 140 rfl) rfl
theorem q772 : (Jvm.Cond.fieldLink "BranchNames" (158 : Nat) "BranchNames" "sorted" "[[J") ∈ lw_all := lw_g (lw_at lw_m3 141 rfl) rfl
theorem q773 : (Jvm.Cond.fieldLink "BranchNames" (168 : Nat) "BranchNames" "keys" "[J") ∈ lw_all := lw_g (lw_at lw_m3 142 rfl) rfl
theorem q774 : (Jvm.Cond.fieldLink "BranchNames" (347 : Nat) "BranchNames" "yls" "[Ljava/lang/String;") ∈ lw_all := lw_g (lw_at lw_m3 143 rfl) rfl
theorem q776 : (Jvm.Cond.fieldLink "BranchNames" (330 : Nat) "BranchNames" "stems" "[Ljava/lang/String;") ∈ lw_all := lw_g (lw_at lw_m3 145 rfl) rfl
theorem q778 : (Jvm.Cond.fieldLink "BranchNames" (322 : Nat) "BranchNames" "manies" "[Ljava/lang/String;") ∈ lw_all := lw_g (lw_at lw_m3 147 rfl) rfl
theorem q779 : (Jvm.Cond.fieldLink "BranchNames" (415 : Nat) "BranchNames" "twigsOf" "[J") ∈ lw_all := lw_g (lw_at lw_m3 148 rfl) rfl
theorem q780 : (Jvm.Cond.fieldLink "BranchNames" (418 : Nat) "BranchNames" "sets" "[[J") ∈ lw_all := lw_g (lw_at lw_m3 149 rfl) rfl
theorem q781 : (Jvm.Cond.fieldLink "BranchNames" (421 : Nat) "BranchNames" "value" "[I") ∈ lw_all := lw_g (lw_at lw_m3 150 rfl) rfl
theorem q782 : (Jvm.Cond.fieldLink "BranchNames" (424 : Nat) "BranchNames" "orders" "[[I") ∈ lw_all := lw_g (lw_at lw_m3 151 rfl) rfl
theorem q783 : (Jvm.Cond.fieldLink "BranchNames" (428 : Nat) "BranchNames" "namesListed" "[[Ljava/lang/String;") ∈ lw_all := lw_g (lw_at lw_m3 152 rfl) rfl
theorem q785 : (Jvm.Cond.fieldLink "BranchNames" (431 : Nat) "BranchNames" "tape" "[B") ∈ lw_all := lw_g (lw_at lw_m3 154 rfl) rfl
theorem q787 : (Jvm.Cond.fieldLink "BranchNames" (543 : Nat) "BranchNames" "fed" "I") ∈ lw_all := lw_g (lw_at lw_m3 156 rfl) rfl
theorem q788 : (Jvm.Cond.fieldLink "BranchNames" (435 : Nat) "BranchNames" "why" "[I") ∈ lw_all := lw_g (lw_at lw_m3 157 rfl) rfl
theorem q789 : (Jvm.Cond.fieldLink "BranchNames" (438 : Nat) "BranchNames" "whyPlace" "[I") ∈ lw_all := lw_g (lw_at lw_m3 158 rfl) rfl
theorem q790 : (Jvm.Cond.fieldLink "BranchNames" (597 : Nat) "BranchNames" "whys" "I") ∈ lw_all := lw_g (lw_at lw_m3 159 rfl) rfl
theorem q791 : (Jvm.Cond.fieldLink "BranchNames" (629 : Nat) "BranchNames" "reads" "I") ∈ lw_all := lw_g (lw_at lw_m3 160 rfl) rfl
theorem q792 : (Jvm.Cond.fieldLink "BranchNames" (619 : Nat) "BranchNames" "made" "I") ∈ lw_all := lw_g (lw_at lw_m3 161 rfl) rfl
theorem q793 : (Jvm.Cond.fieldLink "BranchNames" (443 : Nat) "BranchNames" "rows" "[LBranchNames$Items;") ∈ lw_all := lw_g (lw_at lw_m3 162 rfl) rfl
theorem q794 : (Jvm.Cond.laysFinal "BranchNames" "BranchNames" "drawing" "LBranchNames$Tree;") ∈ lw_all := lw_g (lw_at lw_m3 163 rfl) rfl
theorem q795 : (Jvm.Cond.soleField "BranchNames" "drawing") ∈ lw_all := lw_g (lw_at lw_m3 164 rfl) rfl
theorem q796 : (Jvm.Cond.laysFinal "BranchNames" "BranchNames" "kept" "LBranchNames$Tree;") ∈ lw_all := lw_g (lw_at lw_m3 165 rfl) rfl
theorem q797 : (Jvm.Cond.soleField "BranchNames" "kept") ∈ lw_all := lw_g (lw_at lw_m3 166 rfl) rfl
theorem q798 : (Jvm.Cond.laysFinal "BranchNames" "BranchNames" "grown" "LBranchNames$Tree;") ∈ lw_all := lw_g (lw_at lw_m3 167 rfl) rfl
theorem q799 : (Jvm.Cond.soleField "BranchNames" "grown") ∈ lw_all := lw_g (lw_at lw_m3 168 rfl) rfl
theorem q800 : (Jvm.Cond.laysFinal "BranchNames" "BranchNames" "listed" "LBranchNames$Tree;") ∈ lw_all := lw_g (lw_at lw_m3 169 rfl) rfl
theorem q801 : (Jvm.Cond.soleField "BranchNames" "listed") ∈ lw_all := lw_g (lw_at lw_m3 170 rfl) rfl
theorem q802 : (Jvm.Cond.laysFinal "BranchNames" "BranchNames" "ranked" "LBranchNames$Tree;") ∈ lw_all := lw_g (lw_at lw_m3 171 rfl) rfl
theorem q803 : (Jvm.Cond.soleField "BranchNames" "ranked") ∈ lw_all := lw_g (lw_at lw_m3 172 rfl) rfl
theorem q804 : (Jvm.Cond.lays "BranchNames" "BranchNames" "isKept" "Z") ∈ lw_all := lw_g (lw_at lw_m3 173 rfl) rfl
theorem q805 : (Jvm.Cond.soleField "BranchNames" "isKept") ∈ lw_all := lw_g (lw_at lw_m3 174 rfl) rfl
theorem q806 : (Jvm.Cond.laysFinal "BranchNames" "BranchNames" "twigs" "[[J") ∈ lw_all := lw_g (lw_at lw_m3 175 rfl) rfl
theorem q807 : (Jvm.Cond.soleField "BranchNames" "twigs") ∈ lw_all := lw_g (lw_at lw_m3 176 rfl) rfl
theorem q808 : (Jvm.Cond.laysFinal "BranchNames" "BranchNames" "fives" "[J") ∈ lw_all := lw_g (lw_at lw_m3 177 rfl) rfl
theorem q809 : (Jvm.Cond.soleField "BranchNames" "fives") ∈ lw_all := lw_g (lw_at lw_m3 178 rfl) rfl
theorem q810 : (Jvm.Cond.laysFinal "BranchNames" "BranchNames" "far" "[[I") ∈ lw_all := lw_g (lw_at lw_m3 179 rfl) rfl
theorem q811 : (Jvm.Cond.soleField "BranchNames" "far") ∈ lw_all := lw_g (lw_at lw_m3 180 rfl) rfl
theorem q812 : (Jvm.Cond.laysFinal "BranchNames" "BranchNames" "digits" "[I") ∈ lw_all := lw_g (lw_at lw_m3 181 rfl) rfl
theorem q813 : (Jvm.Cond.soleField "BranchNames" "digits") ∈ lw_all := lw_g (lw_at lw_m3 182 rfl) rfl
theorem q814 : (Jvm.Cond.lays "BranchNames" "BranchNames" "digitAt" "I") ∈ lw_all := lw_g (lw_at lw_m3 183 rfl) rfl
theorem q815 : (Jvm.Cond.soleField "BranchNames" "digitAt") ∈ lw_all := lw_g (lw_at lw_m3 184 rfl) rfl
theorem q816 : (Jvm.Cond.laysFinal "BranchNames" "BranchNames" "lists" "[[I") ∈ lw_all := lw_g (lw_at lw_m3 185 rfl) rfl
theorem q817 : (Jvm.Cond.soleField "BranchNames" "lists") ∈ lw_all := lw_g (lw_at lw_m3 186 rfl) rfl
theorem q818 : (Jvm.Cond.laysFinal "BranchNames" "BranchNames" "row" "[I") ∈ lw_all := lw_g (lw_at lw_m3 187 rfl) rfl
theorem q819 : (Jvm.Cond.soleField "BranchNames" "row") ∈ lw_all := lw_g (lw_at lw_m3 188 rfl) rfl
theorem q820 : (Jvm.Cond.lays "BranchNames" "BranchNames" "rowMany" "I") ∈ lw_all := lw_g (lw_at lw_m3 189 rfl) rfl
theorem q821 : (Jvm.Cond.soleField "BranchNames" "rowMany") ∈ lw_all := lw_g (lw_at lw_m3 190 rfl) rfl
theorem q822 : (Jvm.Cond.laysFinal "BranchNames" "BranchNames" "measures" "[LBranchNames$Measure;") ∈ lw_all := lw_g (lw_at lw_m3 191 rfl) rfl
theorem q823 : (Jvm.Cond.soleField "BranchNames" "measures") ∈ lw_all := lw_g (lw_at lw_m3 192 rfl) rfl
theorem q824 : (Jvm.Cond.laysFinal "BranchNames" "BranchNames" "seen" "[J") ∈ lw_all := lw_g (lw_at lw_m3 193 rfl) rfl
theorem q825 : (Jvm.Cond.soleField "BranchNames" "seen") ∈ lw_all := lw_g (lw_at lw_m3 194 rfl) rfl
theorem q826 : (Jvm.Cond.laysFinal "BranchNames" "BranchNames" "sorted" "[[J") ∈ lw_all := lw_g (lw_at lw_m3 195 rfl) rfl
theorem q827 : (Jvm.Cond.soleField "BranchNames" "sorted") ∈ lw_all := lw_g (lw_at lw_m3 196 rfl) rfl
theorem q828 : (Jvm.Cond.laysFinal "BranchNames" "BranchNames" "keys" "[J") ∈ lw_all := lw_g (lw_at lw_m3 197 rfl) rfl
theorem q829 : (Jvm.Cond.soleField "BranchNames" "keys") ∈ lw_all := lw_g (lw_at lw_m3 198 rfl) rfl
theorem q830 : (Jvm.Cond.laysFinal "BranchNames" "BranchNames" "yls" "[Ljava/lang/String;") ∈ lw_all := lw_g (lw_at lw_m3 199 rfl) rfl
theorem q831 : (Jvm.Cond.soleField "BranchNames" "yls") ∈ lw_all := lw_g (lw_at lw_m3 200 rfl) rfl
theorem q832 : (Jvm.Cond.laysFinal "BranchNames" "BranchNames" "stems" "[Ljava/lang/String;") ∈ lw_all := lw_g (lw_at lw_m3 201 rfl) rfl
theorem q833 : (Jvm.Cond.soleField "BranchNames" "stems") ∈ lw_all := lw_g (lw_at lw_m3 202 rfl) rfl
theorem q834 : (Jvm.Cond.laysFinal "BranchNames" "BranchNames" "manies" "[Ljava/lang/String;") ∈ lw_all := lw_g (lw_at lw_m3 203 rfl) rfl
theorem q835 : (Jvm.Cond.soleField "BranchNames" "manies") ∈ lw_all := lw_g (lw_at lw_m3 204 rfl) rfl
theorem q836 : (Jvm.Cond.laysFinal "BranchNames" "BranchNames" "twigsOf" "[J") ∈ lw_all := lw_g (lw_at lw_m3 205 rfl) rfl
theorem q837 : (Jvm.Cond.soleField "BranchNames" "twigsOf") ∈ lw_all := lw_g (lw_at lw_m3 206 rfl) rfl
theorem q838 : (Jvm.Cond.laysFinal "BranchNames" "BranchNames" "sets" "[[J") ∈ lw_all := lw_g (lw_at lw_m3 207 rfl) rfl
theorem q839 : (Jvm.Cond.soleField "BranchNames" "sets") ∈ lw_all := lw_g (lw_at lw_m3 208 rfl) rfl
theorem q840 : (Jvm.Cond.laysFinal "BranchNames" "BranchNames" "value" "[I") ∈ lw_all := lw_g (lw_at lw_m3 209 rfl) rfl
theorem q841 : (Jvm.Cond.soleField "BranchNames" "value") ∈ lw_all := lw_g (lw_at lw_m3 210 rfl) rfl
theorem q842 : (Jvm.Cond.laysFinal "BranchNames" "BranchNames" "orders" "[[I") ∈ lw_all := lw_g (lw_at lw_m3 211 rfl) rfl
theorem q843 : (Jvm.Cond.soleField "BranchNames" "orders") ∈ lw_all := lw_g (lw_at lw_m3 212 rfl) rfl
theorem q844 : (Jvm.Cond.laysFinal "BranchNames" "BranchNames" "namesListed" "[[Ljava/lang/String;") ∈ lw_all := lw_g (lw_at lw_m3 213 rfl) rfl
theorem q845 : (Jvm.Cond.soleField "BranchNames" "namesListed") ∈ lw_all := lw_g (lw_at lw_m3 214 rfl) rfl
theorem q846 : (Jvm.Cond.laysFinal "BranchNames" "BranchNames" "tape" "[B") ∈ lw_all := lw_g (lw_at lw_m3 215 rfl) rfl
theorem q847 : (Jvm.Cond.soleField "BranchNames" "tape") ∈ lw_all := lw_g (lw_at lw_m3 216 rfl) rfl
theorem q848 : (Jvm.Cond.lays "BranchNames" "BranchNames" "fed" "I") ∈ lw_all := lw_g (lw_at lw_m3 217 rfl) rfl
theorem q849 : (Jvm.Cond.soleField "BranchNames" "fed") ∈ lw_all := lw_g (lw_at lw_m3 218 rfl) rfl
theorem q850 : (Jvm.Cond.laysFinal "BranchNames" "BranchNames" "why" "[I") ∈ lw_all := lw_g (lw_at lw_m3 219 rfl) rfl
theorem q851 : (Jvm.Cond.soleField "BranchNames" "why") ∈ lw_all := lw_g (lw_at lw_m3 220 rfl) rfl
theorem q852 : (Jvm.Cond.laysFinal "BranchNames" "BranchNames" "whyPlace" "[I") ∈ lw_all := lw_g (lw_at lw_m3 221 rfl) rfl
theorem q853 : (Jvm.Cond.soleField "BranchNames" "whyPlace") ∈ lw_all := lw_g (lw_at lw_m3 222 rfl) rfl
theorem q854 : (Jvm.Cond.lays "BranchNames" "BranchNames" "whys" "I") ∈ lw_all := lw_g (lw_at lw_m3 223 rfl) rfl
theorem q855 : (Jvm.Cond.soleField "BranchNames" "whys") ∈ lw_all := lw_g (lw_at lw_m3 224 rfl) rfl
theorem q856 : (Jvm.Cond.lays "BranchNames" "BranchNames" "reads" "I") ∈ lw_all := lw_g (lw_at lw_m3 225 rfl) rfl
theorem q857 : (Jvm.Cond.soleField "BranchNames" "reads") ∈ lw_all := lw_g (lw_at lw_m3 226 rfl) rfl
theorem q858 : (Jvm.Cond.lays "BranchNames" "BranchNames" "made" "I") ∈ lw_all := lw_g (lw_at lw_m3 227 rfl) rfl
theorem q859 : (Jvm.Cond.soleField "BranchNames" "made") ∈ lw_all := lw_g (lw_at lw_m3 228 rfl) rfl
theorem q860 : (Jvm.Cond.laysFinal "BranchNames" "BranchNames" "rows" "[LBranchNames$Items;") ∈ lw_all := lw_g (lw_at lw_m3 229 rfl) rfl
theorem q861 : (Jvm.Cond.soleField "BranchNames" "rows") ∈ lw_all := lw_g (lw_at lw_m3 230 rfl) rfl
theorem q862 : (Jvm.Cond.superclass "BranchNames" "java/lang/Object") ∈ lw_all := lw_g (lw_at lw_m3 231 rfl) rfl
theorem q864 : (Jvm.Cond.instanceMethod ({ cls := "BranchNames", name := "counted", desc := "(II)J" } : Jvm.MethodName)) ∈ lw_all := lw_g (lw_at lw_m3 233 rfl) rfl
theorem q865 : (Jvm.Cond.selects "BranchNames" ({ cls := "BranchNames", name := "counted", desc := "(II)J" } : Jvm.MethodName) ({ cls := "BranchNames", name := "counted", desc := "(II)J" } : Jvm.MethodName)) ∈ lw_all := lw_g (lw_at lw_m3 234 rfl) rfl
theorem q866 : (Jvm.Cond.code ({ cls := "BranchNames", name := "counted", desc := "(II)J" } : Jvm.MethodName) prog_1_method_57_code (3 : Nat) (Option.some Jvm.ClassFile.FieldType.long)) ∈ lw_all := lw_g (lw_at lw_m3 235 rfl) rfl
theorem q867 : (Jvm.Cond.constantLong "BranchNames" (482 : Nat) (20 : Int64)) ∈ lw_all := lw_g (lw_at lw_m3 236 rfl) rfl
theorem q868 : (Jvm.Cond.methodLink "BranchNames" (142 : Nat) ({ cls := "BranchNames", name := "isIn", desc := "(JJJ)Z" } : Jvm.MethodName)) ∈ lw_all := lw_g (lw_at lw_m3 237 rfl) rfl
theorem q869 : (Jvm.Cond.static ({ cls := "BranchNames", name := "isIn", desc := "(JJJ)Z" } : Jvm.MethodName)) ∈ lw_all := lw_g (lw_at lw_m3 238 rfl) rfl
theorem q870 : (Jvm.Cond.code ({ cls := "BranchNames", name := "isIn", desc := "(JJJ)Z" } : Jvm.MethodName) prog_1_method_1_code (6 : Nat) (Option.some Jvm.ClassFile.FieldType.boolean)) ∈ lw_all := lw_g (lw_at lw_m3 239 rfl) rfl
theorem q871 : (Jvm.Cond.constantLong "BranchNames" (484 : Nat) (-9223372036854775808 : Int64)) ∈ lw_all := lw_g (lw_at lw_m4 0 rfl) rfl
theorem q872 : (Jvm.Cond.methodLink "BranchNames" (486 : Nat) ({ cls := "BranchNames", name := "rooted", desc := "(I)J" } : Jvm.MethodName)) ∈ lw_all := lw_g (lw_at lw_m4 1 rfl) rfl
theorem q873 : (Jvm.Cond.privateMethod ({ cls := "BranchNames", name := "rooted", desc := "(I)J" } : Jvm.MethodName)) ∈ lw_tbl := lw_at lw_m4 2 rfl
theorem q874 : (Jvm.Cond.instanceMethod ({ cls := "BranchNames", name := "rooted", desc := "(I)J" } : Jvm.MethodName)) ∈ lw_all := lw_g (lw_at lw_m4 3 rfl) rfl
theorem q875 : (Jvm.Cond.code ({ cls := "BranchNames", name := "rooted", desc := "(I)J" } : Jvm.MethodName) prog_1_method_54_code (2 : Nat) (Option.some Jvm.ClassFile.FieldType.long)) ∈ lw_all := lw_g (lw_at lw_m4 4 rfl) rfl
theorem q876 : (Jvm.Cond.methodLink "BranchNames" (490 : Nat) ({ cls := "BranchNames", name := "bonded", desc := "(I)J" } : Jvm.MethodName)) ∈ lw_all := lw_g (lw_at lw_m4 5 rfl) rfl
theorem q877 : (Jvm.Cond.privateMethod ({ cls := "BranchNames", name := "bonded", desc := "(I)J" } : Jvm.MethodName)) ∈ lw_tbl := lw_at lw_m4 6 rfl
theorem q878 : (Jvm.Cond.instanceMethod ({ cls := "BranchNames", name := "bonded", desc := "(I)J" } : Jvm.MethodName)) ∈ lw_all := lw_g (lw_at lw_m4 7 rfl) rfl
theorem q879 : (Jvm.Cond.code ({ cls := "BranchNames", name := "bonded", desc := "(I)J" } : Jvm.MethodName) prog_1_method_56_code (5 : Nat) (Option.some Jvm.ClassFile.FieldType.long)) ∈ lw_all := lw_g (lw_at lw_m4 8 rfl) rfl
theorem q880 : (Jvm.Cond.methodLink "BranchNames" (493 : Nat) ({ cls := "BranchNames", name := "halved", desc := "(I)J" } : Jvm.MethodName)) ∈ lw_all := lw_g (lw_at lw_m4 9 rfl) rfl
theorem q881 : (Jvm.Cond.privateMethod ({ cls := "BranchNames", name := "halved", desc := "(I)J" } : Jvm.MethodName)) ∈ lw_tbl := lw_at lw_m4 10 rfl
theorem q882 : (Jvm.Cond.instanceMethod ({ cls := "BranchNames", name := "halved", desc := "(I)J" } : Jvm.MethodName)) ∈ lw_all := lw_g (lw_at lw_m4 11 rfl) rfl
theorem q883 : (Jvm.Cond.code ({ cls := "BranchNames", name := "halved", desc := "(I)J" } : Jvm.MethodName) prog_1_method_55_code (2 : Nat) (Option.some Jvm.ClassFile.FieldType.long)) ∈ lw_all := lw_g (lw_at lw_m4 12 rfl) rfl
theorem q885 : (Jvm.Cond.instanceMethod ({ cls := "BranchNames", name := "grow", desc := "(I)I" } : Jvm.MethodName)) ∈ lw_all := lw_g (lw_at lw_m4 14 rfl) rfl
theorem q886 : (Jvm.Cond.selects "BranchNames" ({ cls := "BranchNames", name := "grow", desc := "(I)I" } : Jvm.MethodName) ({ cls := "BranchNames", name := "grow", desc := "(I)I" } : Jvm.MethodName)) ∈ lw_all := lw_g (lw_at lw_m4 15 rfl) rfl
theorem q887 : (Jvm.Cond.code ({ cls := "BranchNames", name := "grow", desc := "(I)I" } : Jvm.MethodName) prog_1_method_58_code (2 : Nat) (Option.some Jvm.ClassFile.FieldType.int)) ∈ lw_all := lw_g (lw_at lw_m4 16 rfl) rfl
theorem q888 : (Jvm.Cond.methodLink "BranchNames" (496 : Nat) ({ cls := "BranchNames$Tree", name := "isAtom", desc := "(I)Z" } : Jvm.MethodName)) ∈ lw_all := lw_g (lw_at lw_m4 17 rfl) rfl
theorem q894 : (Jvm.Cond.instanceMethod ({ cls := "BranchNames", name := "cut", desc := "(I)I" } : Jvm.MethodName)) ∈ lw_all := lw_g (lw_at lw_m4 23 rfl) rfl
theorem q895 : (Jvm.Cond.selects "BranchNames" ({ cls := "BranchNames", name := "cut", desc := "(I)I" } : Jvm.MethodName) ({ cls := "BranchNames", name := "cut", desc := "(I)I" } : Jvm.MethodName)) ∈ lw_all := lw_g (lw_at lw_m4 24 rfl) rfl
theorem q896 : (Jvm.Cond.code ({ cls := "BranchNames", name := "cut", desc := "(I)I" } : Jvm.MethodName) prog_1_method_59_code (2 : Nat) (Option.some Jvm.ClassFile.FieldType.int)) ∈ lw_all := lw_g (lw_at lw_m4 25 rfl) rfl
theorem q897 : (Jvm.Cond.methodLink "BranchNames" (499 : Nat) ({ cls := "BranchNames$Tree", name := "cuts", desc := "(I)V" } : Jvm.MethodName)) ∈ lw_all := lw_g (lw_at lw_m4 26 rfl) rfl
theorem q914 : (Jvm.Cond.instanceMethod ({ cls := "BranchNames", name := "take", desc := "(II)I" } : Jvm.MethodName)) ∈ lw_all := lw_g (lw_at lw_m4 43 rfl) rfl
theorem q915 : (Jvm.Cond.selects "BranchNames" ({ cls := "BranchNames", name := "take", desc := "(II)I" } : Jvm.MethodName) ({ cls := "BranchNames", name := "take", desc := "(II)I" } : Jvm.MethodName)) ∈ lw_all := lw_g (lw_at lw_m4 44 rfl) rfl
theorem q916 : (Jvm.Cond.code ({ cls := "BranchNames", name := "take", desc := "(II)I" } : Jvm.MethodName) prog_1_method_60_code (4 : Nat) (Option.some Jvm.ClassFile.FieldType.int)) ∈ lw_all := lw_g (lw_at lw_m4 45 rfl) rfl
theorem q917 : (Jvm.Cond.methodLink "BranchNames" (502 : Nat) ({ cls := "BranchNames", name := "isListed", desc := "(II)Z" } : Jvm.MethodName)) ∈ lw_all := lw_g (lw_at lw_m4 46 rfl) rfl
theorem q918 : (Jvm.Cond.privateMethod ({ cls := "BranchNames", name := "isListed", desc := "(II)Z" } : Jvm.MethodName)) ∈ lw_tbl := lw_at lw_m4 47 rfl
theorem q919 : (Jvm.Cond.instanceMethod ({ cls := "BranchNames", name := "isListed", desc := "(II)Z" } : Jvm.MethodName)) ∈ lw_all := lw_g (lw_at lw_m4 48 rfl) rfl
theorem q920 : (Jvm.Cond.code ({ cls := "BranchNames", name := "isListed", desc := "(II)Z" } : Jvm.MethodName) prog_1_method_18_code (3 : Nat) (Option.some Jvm.ClassFile.FieldType.boolean)) ∈ lw_all := lw_g (lw_at lw_m4 49 rfl) rfl
theorem q921 : (Jvm.Cond.methodLink "BranchNames" (146 : Nat) ({ cls := "BranchNames", name := "isList", desc := "(I)Z" } : Jvm.MethodName)) ∈ lw_all := lw_g (lw_at lw_m4 50 rfl) rfl
theorem q922 : (Jvm.Cond.privateMethod ({ cls := "BranchNames", name := "isList", desc := "(I)Z" } : Jvm.MethodName)) ∈ lw_tbl := lw_at lw_m4 51 rfl
theorem q923 : (Jvm.Cond.instanceMethod ({ cls := "BranchNames", name := "isList", desc := "(I)Z" } : Jvm.MethodName)) ∈ lw_all := lw_g (lw_at lw_m4 52 rfl) rfl
theorem q924 : (Jvm.Cond.code ({ cls := "BranchNames", name := "isList", desc := "(I)Z" } : Jvm.MethodName) prog_1_method_17_code (2 : Nat) (Option.some Jvm.ClassFile.FieldType.boolean)) ∈ lw_all := lw_g (lw_at lw_m4 53 rfl) rfl
theorem q925 : (Jvm.Cond.constantLong "BranchNames" (140 : Nat) (10 : Int64)) ∈ lw_all := lw_g (lw_at lw_m4 54 rfl) rfl
theorem q927 : (Jvm.Cond.instanceMethod ({ cls := "BranchNames", name := "code", desc := "(II)I" } : Jvm.MethodName)) ∈ lw_all := lw_g (lw_at lw_m4 56 rfl) rfl
theorem q928 : (Jvm.Cond.selects "BranchNames" ({ cls := "BranchNames", name := "code", desc := "(II)I" } : Jvm.MethodName) ({ cls := "BranchNames", name := "code", desc := "(II)I" } : Jvm.MethodName)) ∈ lw_all := lw_g (lw_at lw_m4 57 rfl) rfl
theorem q929 : (Jvm.Cond.code ({ cls := "BranchNames", name := "code", desc := "(II)I" } : Jvm.MethodName) prog_1_method_61_code (3 : Nat) (Option.some Jvm.ClassFile.FieldType.int)) ∈ lw_all := lw_g (lw_at lw_m4 58 rfl) rfl
theorem q930 : (Jvm.Cond.constantLong "BranchNames" (505 : Nat) (12 : Int64)) ∈ lw_all := lw_g (lw_at lw_m4 59 rfl) rfl
theorem q932 : (Jvm.Cond.instanceMethod ({ cls := "BranchNames", name := "drawn", desc := "(I)I" } : Jvm.MethodName)) ∈ lw_all := lw_g (lw_at lw_m4 61 rfl) rfl
theorem q933 : (Jvm.Cond.selects "BranchNames" ({ cls := "BranchNames", name := "drawn", desc := "(I)I" } : Jvm.MethodName) ({ cls := "BranchNames", name := "drawn", desc := "(I)I" } : Jvm.MethodName)) ∈ lw_all := lw_g (lw_at lw_m4 62 rfl) rfl
theorem q934 : (Jvm.Cond.code ({ cls := "BranchNames", name := "drawn", desc := "(I)I" } : Jvm.MethodName) prog_1_method_63_code (2 : Nat) (Option.some Jvm.ClassFile.FieldType.int)) ∈ lw_all := lw_g (lw_at lw_m4 63 rfl) rfl
theorem q935 : (Jvm.Cond.methodLink "BranchNames" (507 : Nat) ({ cls := "BranchNames", name := "placeIn", desc := "([IJ)I" } : Jvm.MethodName)) ∈ lw_all := lw_g (lw_at lw_m4 64 rfl) rfl
theorem q936 : (Jvm.Cond.privateMethod ({ cls := "BranchNames", name := "placeIn", desc := "([IJ)I" } : Jvm.MethodName)) ∈ lw_tbl := lw_at lw_m4 65 rfl
theorem q937 : (Jvm.Cond.instanceMethod ({ cls := "BranchNames", name := "placeIn", desc := "([IJ)I" } : Jvm.MethodName)) ∈ lw_all := lw_g (lw_at lw_m4 66 rfl) rfl
theorem q938 : (Jvm.Cond.code ({ cls := "BranchNames", name := "placeIn", desc := "([IJ)I" } : Jvm.MethodName) prog_1_method_62_code (5 : Nat) (Option.some Jvm.ClassFile.FieldType.int)) ∈ lw_all := lw_g (lw_at lw_m4 67 rfl) rfl
theorem q940 : (Jvm.Cond.instanceMethod ({ cls := "BranchNames", name := "atom", desc := "(II)I" } : Jvm.MethodName)) ∈ lw_all := lw_g (lw_at lw_m4 69 rfl) rfl
theorem q941 : (Jvm.Cond.selects "BranchNames" ({ cls := "BranchNames", name := "atom", desc := "(II)I" } : Jvm.MethodName) ({ cls := "BranchNames", name := "atom", desc := "(II)I" } : Jvm.MethodName)) ∈ lw_all := lw_g (lw_at lw_m4 70 rfl) rfl
theorem q942 : (Jvm.Cond.code ({ cls := "BranchNames", name := "atom", desc := "(II)I" } : Jvm.MethodName) prog_1_method_64_code (3 : Nat) (Option.some Jvm.ClassFile.FieldType.int)) ∈ lw_all := lw_g (lw_at lw_m4 71 rfl) rfl
theorem q943 : (Jvm.Cond.constantLong "BranchNames" (511 : Nat) (4 : Int64)) ∈ lw_all := lw_g (lw_at lw_m4 72 rfl) rfl
theorem q945 : (Jvm.Cond.instanceMethod ({ cls := "BranchNames", name := "bond", desc := "(II)I" } : Jvm.MethodName)) ∈ lw_all := lw_g (lw_at lw_m4 74 rfl) rfl
theorem q946 : (Jvm.Cond.selects "BranchNames" ({ cls := "BranchNames", name := "bond", desc := "(II)I" } : Jvm.MethodName) ({ cls := "BranchNames", name := "bond", desc := "(II)I" } : Jvm.MethodName)) ∈ lw_all := lw_g (lw_at lw_m4 75 rfl) rfl
theorem q947 : (Jvm.Cond.code ({ cls := "BranchNames", name := "bond", desc := "(II)I" } : Jvm.MethodName) prog_1_method_65_code (3 : Nat) (Option.some Jvm.ClassFile.FieldType.int)) ∈ lw_all := lw_g (lw_at lw_m4 76 rfl) rfl
theorem q948 : (Jvm.Cond.methodLink "BranchNames" (513 : Nat) ({ cls := "BranchNames$Tree", name := "bound", desc := "(II)I" } : Jvm.MethodName)) ∈ lw_all := lw_g (lw_at lw_m4 77 rfl) rfl
theorem q957 : (Jvm.Cond.instanceMethod ({ cls := "BranchNames", name := "far", desc := "(II)I" } : Jvm.MethodName)) ∈ lw_all := lw_g (lw_at lw_m4 86 rfl) rfl
theorem q958 : (Jvm.Cond.selects "BranchNames" ({ cls := "BranchNames", name := "far", desc := "(II)I" } : Jvm.MethodName) ({ cls := "BranchNames", name := "far", desc := "(II)I" } : Jvm.MethodName)) ∈ lw_all := lw_g (lw_at lw_m4 87 rfl) rfl
theorem q959 : (Jvm.Cond.code ({ cls := "BranchNames", name := "far", desc := "(II)I" } : Jvm.MethodName) prog_1_method_66_code (3 : Nat) (Option.some Jvm.ClassFile.FieldType.int)) ∈ lw_all := lw_g (lw_at lw_m4 88 rfl) rfl
theorem q961 : (Jvm.Cond.instanceMethod ({ cls := "BranchNames", name := "twig", desc := "(III)I" } : Jvm.MethodName)) ∈ lw_all := lw_g (lw_at lw_m4 90 rfl) rfl
theorem q962 : (Jvm.Cond.selects "BranchNames" ({ cls := "BranchNames", name := "twig", desc := "(III)I" } : Jvm.MethodName) ({ cls := "BranchNames", name := "twig", desc := "(III)I" } : Jvm.MethodName)) ∈ lw_all := lw_g (lw_at lw_m4 91 rfl) rfl
theorem q963 : (Jvm.Cond.code ({ cls := "BranchNames", name := "twig", desc := "(III)I" } : Jvm.MethodName) prog_1_method_68_code (6 : Nat) (Option.some Jvm.ClassFile.FieldType.int)) ∈ lw_all := lw_g (lw_at lw_m4 92 rfl) rfl
theorem q964 : (Jvm.Cond.methodLink "BranchNames" (516 : Nat) ({ cls := "BranchNames$Tree", name := "isBound", desc := "(II)Z" } : Jvm.MethodName)) ∈ lw_all := lw_g (lw_at lw_m4 93 rfl) rfl
theorem q965 : (Jvm.Cond.methodLink "BranchNames" (308 : Nat) ({ cls := "BranchNames", name := "nameOf", desc := "(LBranchNames$Tree;II)Ljava/lang/String;" } : Jvm.MethodName)) ∈ lw_all := lw_g (lw_at lw_m4 94 rfl) rfl
theorem q966 : (Jvm.Cond.privateMethod ({ cls := "BranchNames", name := "nameOf", desc := "(LBranchNames$Tree;II)Ljava/lang/String;" } : Jvm.MethodName)) ∈ lw_tbl := lw_at lw_m4 95 rfl
theorem q967 : (Jvm.Cond.instanceMethod ({ cls := "BranchNames", name := "nameOf", desc := "(LBranchNames$Tree;II)Ljava/lang/String;" } : Jvm.MethodName)) ∈ lw_all := lw_g (lw_at lw_m4 96 rfl) rfl
theorem q968 : (Jvm.Cond.code ({ cls := "BranchNames", name := "nameOf", desc := "(LBranchNames$Tree;II)Ljava/lang/String;" } : Jvm.MethodName) prog_1_method_48_code (5 : Nat) (Option.some (Jvm.ClassFile.FieldType.object "java/lang/String"))) ∈ lw_all := lw_g (lw_at lw_m4 97 rfl) rfl
theorem q969 : (Jvm.Cond.methodLink "BranchNames" (340 : Nat) ({ cls := "BranchNames$Tree", name := "isTold", desc := "(II)Z" } : Jvm.MethodName)) ∈ lw_all := lw_g (lw_at lw_m4 98 rfl) rfl
theorem q973 : (Jvm.Cond.methodLink "BranchNames" (344 : Nat) ({ cls := "BranchNames$Tree", name := "straight", desc := "(II)I" } : Jvm.MethodName)) ∈ lw_all := lw_g (lw_at lw_m4 102 rfl) rfl
theorem q977 : (Jvm.Cond.methodLink "BranchNames" (247 : Nat) ({ cls := "BranchNames", name := "chainOf", desc := "(LBranchNames$Tree;II)LBranchNames$Way;" } : Jvm.MethodName)) ∈ lw_all := lw_g (lw_at lw_m4 106 rfl) rfl
theorem q978 : (Jvm.Cond.privateMethod ({ cls := "BranchNames", name := "chainOf", desc := "(LBranchNames$Tree;II)LBranchNames$Way;" } : Jvm.MethodName)) ∈ lw_tbl := lw_at lw_m4 107 rfl
theorem q979 : (Jvm.Cond.instanceMethod ({ cls := "BranchNames", name := "chainOf", desc := "(LBranchNames$Tree;II)LBranchNames$Way;" } : Jvm.MethodName)) ∈ lw_all := lw_g (lw_at lw_m4 108 rfl) rfl
theorem q980 : (Jvm.Cond.code ({ cls := "BranchNames", name := "chainOf", desc := "(LBranchNames$Tree;II)LBranchNames$Way;" } : Jvm.MethodName) prog_1_method_39_code (6 : Nat) (Option.some (Jvm.ClassFile.FieldType.object "BranchNames$Way"))) ∈ lw_all := lw_g (lw_at lw_m4 109 rfl) rfl
theorem q981 : (Jvm.Cond.static ({ cls := "BranchNames", name := "lambda$chainOf$0", desc := "(LBranchNames$Tree;ILBranchNames$Way;LBranchNames$Way;)I" } : Jvm.MethodName)) ∈ lw_all := lw_g (lw_at lw_m4 110 rfl) rfl
theorem q982 : (Jvm.Cond.code ({ cls := "BranchNames", name := "lambda$chainOf$0", desc := "(LBranchNames$Tree;ILBranchNames$Way;LBranchNames$Way;)I" } : Jvm.MethodName) prog_1_method_107_code (4 : Nat) (Option.some Jvm.ClassFile.FieldType.int)) ∈ lw_all := lw_g (lw_at lw_m4 111 rfl) rfl
theorem q983 : (Jvm.Cond.methodLink "BranchNames" (699 : Nat) ({ cls := "BranchNames", name := "prefersLess", desc := "(LBranchNames$Tree;ILBranchNames$Way;LBranchNames$Way;)I" } : Jvm.MethodName)) ∈ lw_all := lw_g (lw_at lw_m4 112 rfl) rfl
theorem q984 : (Jvm.Cond.static ({ cls := "BranchNames", name := "prefersLess", desc := "(LBranchNames$Tree;ILBranchNames$Way;LBranchNames$Way;)I" } : Jvm.MethodName)) ∈ lw_all := lw_g (lw_at lw_m4 113 rfl) rfl
theorem q985 : (Jvm.Cond.code ({ cls := "BranchNames", name := "prefersLess", desc := "(LBranchNames$Tree;ILBranchNames$Way;LBranchNames$Way;)I" } : Jvm.MethodName) prog_1_method_36_code (6 : Nat) (Option.some Jvm.ClassFile.FieldType.int)) ∈ lw_all := lw_g (lw_at lw_m4 114 rfl) rfl
theorem q986 : (Jvm.Cond.methodLink "BranchNames" (191 : Nat) ({ cls := "BranchNames", name := "hangsAt", desc := "(LBranchNames$Tree;ILBranchNames$Way;I)I" } : Jvm.MethodName)) ∈ lw_all := lw_g (lw_at lw_m4 115 rfl) rfl
theorem q987 : (Jvm.Cond.static ({ cls := "BranchNames", name := "hangsAt", desc := "(LBranchNames$Tree;ILBranchNames$Way;I)I" } : Jvm.MethodName)) ∈ lw_all := lw_g (lw_at lw_m4 116 rfl) rfl
theorem q988 : (Jvm.Cond.code ({ cls := "BranchNames", name := "hangsAt", desc := "(LBranchNames$Tree;ILBranchNames$Way;I)I" } : Jvm.MethodName) prog_1_method_35_code (7 : Nat) (Option.some Jvm.ClassFile.FieldType.int)) ∈ lw_all := lw_g (lw_at lw_m4 117 rfl) rfl
theorem q989 : (Jvm.Cond.methodLink "BranchNames" (188 : Nat) ({ cls := "BranchNames$Way", name := "isOn", desc := "(I)Z" } : Jvm.MethodName)) ∈ lw_all := lw_g (lw_at lw_m4 118 rfl) rfl
theorem q990 : (Jvm.Cond.privateMethod ({ cls := "BranchNames", name := "lambda$chainOf$1", desc := "(LBranchNames$Tree;ILBranchNames$Way;LBranchNames$Way;)I" } : Jvm.MethodName)) ∈ lw_tbl := lw_at lw_m4 119 rfl
theorem q991 : (Jvm.Cond.instanceMethod ({ cls := "BranchNames", name := "lambda$chainOf$1", desc := "(LBranchNames$Tree;ILBranchNames$Way;LBranchNames$Way;)I" } : Jvm.MethodName)) ∈ lw_all := lw_g (lw_at lw_m4 120 rfl) rfl
theorem q992 : (Jvm.Cond.code ({ cls := "BranchNames", name := "lambda$chainOf$1", desc := "(LBranchNames$Tree;ILBranchNames$Way;LBranchNames$Way;)I" } : Jvm.MethodName) prog_1_method_106_code (5 : Nat) (Option.some Jvm.ClassFile.FieldType.int)) ∈ lw_all := lw_g (lw_at lw_m4 121 rfl) rfl
theorem q993 : (Jvm.Cond.methodLink "BranchNames" (695 : Nat) ({ cls := "BranchNames", name := "prefersName", desc := "(LBranchNames$Tree;ILBranchNames$Way;LBranchNames$Way;)I" } : Jvm.MethodName)) ∈ lw_all := lw_g (lw_at lw_m4 122 rfl) rfl
theorem q994 : (Jvm.Cond.privateMethod ({ cls := "BranchNames", name := "prefersName", desc := "(LBranchNames$Tree;ILBranchNames$Way;LBranchNames$Way;)I" } : Jvm.MethodName)) ∈ lw_tbl := lw_at lw_m4 123 rfl
theorem q995 : (Jvm.Cond.instanceMethod ({ cls := "BranchNames", name := "prefersName", desc := "(LBranchNames$Tree;ILBranchNames$Way;LBranchNames$Way;)I" } : Jvm.MethodName)) ∈ lw_all := lw_g (lw_at lw_m4 124 rfl) rfl
theorem q996 : (Jvm.Cond.code ({ cls := "BranchNames", name := "prefersName", desc := "(LBranchNames$Tree;ILBranchNames$Way;LBranchNames$Way;)I" } : Jvm.MethodName) prog_1_method_37_code (5 : Nat) (Option.some Jvm.ClassFile.FieldType.int)) ∈ lw_all := lw_g (lw_at lw_m4 125 rfl) rfl
theorem q997 : (Jvm.Cond.methodLink "BranchNames" (199 : Nat) ({ cls := "BranchNames", name := "nameBy", desc := "(LBranchNames$Tree;ILBranchNames$Way;)Ljava/lang/String;" } : Jvm.MethodName)) ∈ lw_all := lw_g (lw_at lw_m4 126 rfl) rfl
theorem q998 : (Jvm.Cond.privateMethod ({ cls := "BranchNames", name := "nameBy", desc := "(LBranchNames$Tree;ILBranchNames$Way;)Ljava/lang/String;" } : Jvm.MethodName)) ∈ lw_tbl := lw_at lw_m4 127 rfl
theorem q999 : (Jvm.Cond.instanceMethod ({ cls := "BranchNames", name := "nameBy", desc := "(LBranchNames$Tree;ILBranchNames$Way;)Ljava/lang/String;" } : Jvm.MethodName)) ∈ lw_all := lw_g (lw_at lw_m4 128 rfl) rfl
theorem q1000 : (Jvm.Cond.code ({ cls := "BranchNames", name := "nameBy", desc := "(LBranchNames$Tree;ILBranchNames$Way;)Ljava/lang/String;" } : Jvm.MethodName) prog_1_method_47_code (9 : Nat) (Option.some (Jvm.ClassFile.FieldType.object "java/lang/String"))) ∈ lw_all := lw_g (lw_at lw_m4 129 rfl) rfl
theorem q1001 : (Jvm.Cond.classLink "BranchNames" (285 : Nat) "java/util/ArrayList") ∈ lw_all := lw_g (lw_at lw_m4 130 rfl) rfl
theorem q1003 : (Jvm.Cond.methodLink "BranchNames" (307 : Nat) ({ cls := "java/util/ArrayList", name := "<init>", desc := "()V" } : Jvm.MethodName)) ∈ lw_all := lw_g (lw_at lw_m4 132 rfl) rfl
theorem q1027 : (Jvm.Cond.methodLink "BranchNames" (312 : Nat) ({ cls := "BranchNames", name := "partOf", desc := "(Ljava/util/ArrayList;Ljava/lang/String;)LBranchNames$Named;" } : Jvm.MethodName)) ∈ lw_all := lw_g (lw_at lw_m4 156 rfl) rfl
theorem q1028 : (Jvm.Cond.static ({ cls := "BranchNames", name := "partOf", desc := "(Ljava/util/ArrayList;Ljava/lang/String;)LBranchNames$Named;" } : Jvm.MethodName)) ∈ lw_all := lw_g (lw_at lw_m4 157 rfl) rfl
theorem q1029 : (Jvm.Cond.code ({ cls := "BranchNames", name := "partOf", desc := "(Ljava/util/ArrayList;Ljava/lang/String;)LBranchNames$Named;" } : Jvm.MethodName) prog_1_method_46_code (4 : Nat) (Option.some (Jvm.ClassFile.FieldType.object "BranchNames$Named"))) ∈ lw_all := lw_g (lw_at lw_m4 158 rfl) rfl
theorem q1030 : (Jvm.Cond.methodLink "BranchNames" (284 : Nat) ({ cls := "java/util/ArrayList", name := "size", desc := "()I" } : Jvm.MethodName)) ∈ lw_all := lw_g (lw_at lw_m4 159 rfl) rfl
theorem q1034 : (Jvm.Cond.methodLink "BranchNames" (289 : Nat) ({ cls := "java/util/ArrayList", name := "get", desc := "(I)Ljava/lang/Object;" } : Jvm.MethodName)) ∈ lw_all := lw_g (lw_at lw_m4 163 rfl) rfl
theorem q1048 : (Jvm.Cond.classLink "BranchNames" (293 : Nat) "BranchNames$Named") ∈ lw_all := lw_g (lw_at lw_m4 177 rfl) rfl
theorem q1049 : (Jvm.Cond.methodLink "BranchNames" (203 : Nat) ({ cls := "BranchNames", name := "compared", desc := "(Ljava/lang/String;Ljava/lang/String;)I" } : Jvm.MethodName)) ∈ lw_all := lw_g (lw_at lw_m4 178 rfl) rfl
theorem q1050 : (Jvm.Cond.static ({ cls := "BranchNames", name := "compared", desc := "(Ljava/lang/String;Ljava/lang/String;)I" } : Jvm.MethodName)) ∈ lw_all := lw_g (lw_at lw_m4 179 rfl) rfl
theorem q1051 : (Jvm.Cond.code ({ cls := "BranchNames", name := "compared", desc := "(Ljava/lang/String;Ljava/lang/String;)I" } : Jvm.MethodName) prog_1_method_42_code (4 : Nat) (Option.some Jvm.ClassFile.FieldType.int)) ∈ lw_all := lw_g (lw_at lw_m4 180 rfl) rfl
theorem q1052 : (Jvm.Cond.methodLink "BranchNames" (251 : Nat) ({ cls := "java/lang/String", name := "length", desc := "()I" } : Jvm.MethodName)) ∈ lw_all := lw_g (lw_at lw_m4 181 rfl) rfl
theorem q1053 : (Jvm.Cond.methodLink "BranchNames" (257 : Nat) ({ cls := "java/lang/String", name := "charAt", desc := "(I)C" } : Jvm.MethodName)) ∈ lw_all := lw_g (lw_at lw_m4 182 rfl) rfl
theorem q1076 : (Jvm.Cond.methodLink "BranchNames" (296 : Nat) ({ cls := "BranchNames$Named", name := "<init>", desc := "(Ljava/lang/String;)V" } : Jvm.MethodName)) ∈ lw_all := lw_g (lw_at lw_m4 205 rfl) rfl
theorem q1081 : (Jvm.Cond.static ({ cls := "BranchNames", name := "lettersOf", desc := "(Ljava/lang/String;)Ljava/lang/String;" } : Jvm.MethodName)) ∈ lw_all := lw_g (lw_at lw_m4 210 rfl) rfl
theorem q1082 : (Jvm.Cond.code ({ cls := "BranchNames", name := "lettersOf", desc := "(Ljava/lang/String;)Ljava/lang/String;" } : Jvm.MethodName) prog_1_method_45_code (3 : Nat) (Option.some (Jvm.ClassFile.FieldType.object "java/lang/String"))) ∈ lw_all := lw_g (lw_at lw_m4 211 rfl) rfl
theorem q1083 : (Jvm.Cond.methodLink "BranchNames" (273 : Nat) ({ cls := "BranchNames", name := "isLetter", desc := "(I)Z" } : Jvm.MethodName)) ∈ lw_all := lw_g (lw_at lw_m4 212 rfl) rfl
theorem q1084 : (Jvm.Cond.static ({ cls := "BranchNames", name := "isLetter", desc := "(I)Z" } : Jvm.MethodName)) ∈ lw_all := lw_g (lw_at lw_m4 213 rfl) rfl
theorem q1085 : (Jvm.Cond.code ({ cls := "BranchNames", name := "isLetter", desc := "(I)Z" } : Jvm.MethodName) prog_1_method_43_code (1 : Nat) (Option.some Jvm.ClassFile.FieldType.boolean)) ∈ lw_all := lw_g (lw_at lw_m4 214 rfl) rfl
theorem q1086 : (Jvm.Cond.constantLong "BranchNames" (261 : Nat) (97 : Int64)) ∈ lw_all := lw_g (lw_at lw_m4 215 rfl) rfl
theorem q1087 : (Jvm.Cond.constantLong "BranchNames" (263 : Nat) (122 : Int64)) ∈ lw_all := lw_g (lw_at lw_m4 216 rfl) rfl
theorem q1088 : (Jvm.Cond.methodLink "BranchNames" (276 : Nat) ({ cls := "java/lang/StringBuilder", name := "append", desc := "(C)Ljava/lang/StringBuilder;" } : Jvm.MethodName)) ∈ lw_all := lw_g (lw_at lw_m4 217 rfl) rfl
theorem q1102 : (Jvm.Cond.fieldLinkNest "BranchNames" (295 : Nat) "BranchNames$Named" "name" "Ljava/lang/String;" "BranchNames") ∈ lw_tbl := lw_at lw_m4 231 rfl
theorem q1106 : (Jvm.Cond.fieldLinkNest "BranchNames" (319 : Nat) "BranchNames$Named" "many" "I" "BranchNames") ∈ lw_tbl := lw_at lw_m4 235 rfl
theorem q1116 : (Jvm.Cond.methodLink "BranchNames" (299 : Nat) ({ cls := "BranchNames$Named", name := "behind", desc := "(LBranchNames$Named;)I" } : Jvm.MethodName)) ∈ lw_all := lw_g (lw_at lw_m5 5 rfl) rfl
theorem q1121 : (Jvm.Cond.methodLink "BranchNames" (303 : Nat) ({ cls := "java/util/ArrayList", name := "add", desc := "(ILjava/lang/Object;)V" } : Jvm.MethodName)) ∈ lw_all := lw_g (lw_at lw_m5 10 rfl) rfl
theorem q1144 : (Jvm.Cond.selects "BranchNames" ({ cls := "java/lang/Object", name := "getClass", desc := "()Ljava/lang/Class;" } : Jvm.MethodName) ({ cls := "java/lang/Object", name := "getClass", desc := "()Ljava/lang/Class;" } : Jvm.MethodName)) ∈ lw_all := lw_g (lw_at lw_m5 33 rfl) rfl
theorem q1172 : (Jvm.Cond.methodLink "BranchNames" (316 : Nat) ({ cls := "BranchNames$Named", name := "comes", desc := "(I)V" } : Jvm.MethodName)) ∈ lw_all := lw_g (lw_at lw_m5 61 rfl) rfl
theorem q1176 : (Jvm.Cond.stringRef "BranchNames" (320 : Nat) "") ∈ lw_tbl := lw_at lw_m5 65 rfl
theorem q1177 : (Jvm.Cond.methodLink "BranchNames" (326 : Nat) ({ cls := "BranchNames$Named", name := "spells", desc := "(Ljava/lang/StringBuilder;Ljava/lang/String;)V" } : Jvm.MethodName)) ∈ lw_all := lw_g (lw_at lw_m5 66 rfl) rfl
theorem q1217 : (Jvm.Cond.static ({ cls := "BranchNames", name := "isDigit", desc := "(I)Z" } : Jvm.MethodName)) ∈ lw_all := lw_g (lw_at lw_m5 106 rfl) rfl
theorem q1218 : (Jvm.Cond.code ({ cls := "BranchNames", name := "isDigit", desc := "(I)Z" } : Jvm.MethodName) prog_1_method_44_code (1 : Nat) (Option.some Jvm.ClassFile.FieldType.boolean)) ∈ lw_all := lw_g (lw_at lw_m5 107 rfl) rfl
theorem q1219 : (Jvm.Cond.constantLong "BranchNames" (265 : Nat) (48 : Int64)) ∈ lw_all := lw_g (lw_at lw_m5 108 rfl) rfl
theorem q1220 : (Jvm.Cond.constantLong "BranchNames" (267 : Nat) (57 : Int64)) ∈ lw_all := lw_g (lw_at lw_m5 109 rfl) rfl
theorem q1221 : (Jvm.Cond.stringRef "BranchNames" (336 : Nat) "ane") ∈ lw_tbl := lw_at lw_m5 110 rfl
theorem q1222 : (Jvm.Cond.methodLink "BranchNames" (350 : Nat) ({ cls := "BranchNames$Tree", name := "tells", desc := "(IILjava/lang/String;)V" } : Jvm.MethodName)) ∈ lw_all := lw_g (lw_at lw_m5 111 rfl) rfl
theorem q1226 : (Jvm.Cond.methodLink "BranchNames" (519 : Nat) ({ cls := "BranchNames", name := "byteOf", desc := "(Ljava/lang/String;I)I" } : Jvm.MethodName)) ∈ lw_all := lw_g (lw_at lw_m5 115 rfl) rfl
theorem q1227 : (Jvm.Cond.static ({ cls := "BranchNames", name := "byteOf", desc := "(Ljava/lang/String;I)I" } : Jvm.MethodName)) ∈ lw_all := lw_g (lw_at lw_m5 116 rfl) rfl
theorem q1228 : (Jvm.Cond.code ({ cls := "BranchNames", name := "byteOf", desc := "(Ljava/lang/String;I)I" } : Jvm.MethodName) prog_1_method_67_code (2 : Nat) (Option.some Jvm.ClassFile.FieldType.int)) ∈ lw_all := lw_g (lw_at lw_m5 117 rfl) rfl
theorem q1230 : (Jvm.Cond.instanceMethod ({ cls := "BranchNames", name := "measure", desc := "(I)I" } : Jvm.MethodName)) ∈ lw_all := lw_g (lw_at lw_m5 119 rfl) rfl
theorem q1231 : (Jvm.Cond.selects "BranchNames" ({ cls := "BranchNames", name := "measure", desc := "(I)I" } : Jvm.MethodName) ({ cls := "BranchNames", name := "measure", desc := "(I)I" } : Jvm.MethodName)) ∈ lw_all := lw_g (lw_at lw_m5 120 rfl) rfl
theorem q1232 : (Jvm.Cond.code ({ cls := "BranchNames", name := "measure", desc := "(I)I" } : Jvm.MethodName) prog_1_method_69_code (2 : Nat) (Option.some Jvm.ClassFile.FieldType.int)) ∈ lw_all := lw_g (lw_at lw_m5 121 rfl) rfl
theorem q1233 : (Jvm.Cond.interfaceEntry "BranchNames" (523 : Nat)) ∈ lw_tbl := lw_at lw_m5 122 rfl
theorem q1234 : (Jvm.Cond.methodLink "BranchNames" (523 : Nat) ({ cls := "BranchNames$Measure", name := "of", desc := "(LBranchNames$Tree;)I" } : Jvm.MethodName)) ∈ lw_all := lw_g (lw_at lw_m5 123 rfl) rfl
theorem q1238 : (Jvm.Cond.instanceMethod ({ cls := "BranchNames", name := "list", desc := "(I)I" } : Jvm.MethodName)) ∈ lw_all := lw_g (lw_at lw_m5 127 rfl) rfl
theorem q1239 : (Jvm.Cond.selects "BranchNames" ({ cls := "BranchNames", name := "list", desc := "(I)I" } : Jvm.MethodName) ({ cls := "BranchNames", name := "list", desc := "(I)I" } : Jvm.MethodName)) ∈ lw_all := lw_g (lw_at lw_m5 128 rfl) rfl
theorem q1240 : (Jvm.Cond.code ({ cls := "BranchNames", name := "list", desc := "(I)I" } : Jvm.MethodName) prog_1_method_70_code (2 : Nat) (Option.some Jvm.ClassFile.FieldType.int)) ∈ lw_all := lw_g (lw_at lw_m5 129 rfl) rfl
theorem q1242 : (Jvm.Cond.instanceMethod ({ cls := "BranchNames", name := "key", desc := "(II)I" } : Jvm.MethodName)) ∈ lw_all := lw_g (lw_at lw_m5 131 rfl) rfl
theorem q1243 : (Jvm.Cond.selects "BranchNames" ({ cls := "BranchNames", name := "key", desc := "(II)I" } : Jvm.MethodName) ({ cls := "BranchNames", name := "key", desc := "(II)I" } : Jvm.MethodName)) ∈ lw_all := lw_g (lw_at lw_m5 132 rfl) rfl
theorem q1244 : (Jvm.Cond.code ({ cls := "BranchNames", name := "key", desc := "(II)I" } : Jvm.MethodName) prog_1_method_71_code (3 : Nat) (Option.some Jvm.ClassFile.FieldType.int)) ∈ lw_all := lw_g (lw_at lw_m5 133 rfl) rfl
theorem q1246 : (Jvm.Cond.instanceMethod ({ cls := "BranchNames", name := "ranked", desc := "(III)I" } : Jvm.MethodName)) ∈ lw_all := lw_g (lw_at lw_m5 135 rfl) rfl
theorem q1247 : (Jvm.Cond.selects "BranchNames" ({ cls := "BranchNames", name := "ranked", desc := "(III)I" } : Jvm.MethodName) ({ cls := "BranchNames", name := "ranked", desc := "(III)I" } : Jvm.MethodName)) ∈ lw_all := lw_g (lw_at lw_m5 136 rfl) rfl
theorem q1248 : (Jvm.Cond.code ({ cls := "BranchNames", name := "ranked", desc := "(III)I" } : Jvm.MethodName) prog_1_method_73_code (4 : Nat) (Option.some Jvm.ClassFile.FieldType.int)) ∈ lw_all := lw_g (lw_at lw_m5 137 rfl) rfl
theorem q1249 : (Jvm.Cond.methodLink "BranchNames" (526 : Nat) ({ cls := "BranchNames", name := "orderOf", desc := "(II)[I" } : Jvm.MethodName)) ∈ lw_all := lw_g (lw_at lw_m5 138 rfl) rfl
theorem q1250 : (Jvm.Cond.privateMethod ({ cls := "BranchNames", name := "orderOf", desc := "(II)[I" } : Jvm.MethodName)) ∈ lw_tbl := lw_at lw_m5 139 rfl
theorem q1251 : (Jvm.Cond.instanceMethod ({ cls := "BranchNames", name := "orderOf", desc := "(II)[I" } : Jvm.MethodName)) ∈ lw_all := lw_g (lw_at lw_m5 140 rfl) rfl
theorem q1252 : (Jvm.Cond.code ({ cls := "BranchNames", name := "orderOf", desc := "(II)[I" } : Jvm.MethodName) prog_1_method_72_code (8 : Nat) (Option.some (Jvm.ClassFile.FieldType.array Jvm.ClassFile.FieldType.int))) ∈ lw_all := lw_g (lw_at lw_m5 141 rfl) rfl
theorem q1254 : (Jvm.Cond.instanceMethod ({ cls := "BranchNames", name := "name", desc := "(I)I" } : Jvm.MethodName)) ∈ lw_all := lw_g (lw_at lw_m5 143 rfl) rfl
theorem q1255 : (Jvm.Cond.selects "BranchNames" ({ cls := "BranchNames", name := "name", desc := "(I)I" } : Jvm.MethodName) ({ cls := "BranchNames", name := "name", desc := "(I)I" } : Jvm.MethodName)) ∈ lw_all := lw_g (lw_at lw_m5 144 rfl) rfl
theorem q1256 : (Jvm.Cond.code ({ cls := "BranchNames", name := "name", desc := "(I)I" } : Jvm.MethodName) prog_1_method_74_code (2 : Nat) (Option.some Jvm.ClassFile.FieldType.int)) ∈ lw_all := lw_g (lw_at lw_m5 145 rfl) rfl
theorem q1257 : (Jvm.Cond.methodLink "BranchNames" (530 : Nat) ({ cls := "BranchNames", name := "nameOf", desc := "(LBranchNames$Tree;)Ljava/lang/String;" } : Jvm.MethodName)) ∈ lw_all := lw_g (lw_at lw_m5 146 rfl) rfl
theorem q1258 : (Jvm.Cond.privateMethod ({ cls := "BranchNames", name := "nameOf", desc := "(LBranchNames$Tree;)Ljava/lang/String;" } : Jvm.MethodName)) ∈ lw_tbl := lw_at lw_m5 147 rfl
theorem q1259 : (Jvm.Cond.instanceMethod ({ cls := "BranchNames", name := "nameOf", desc := "(LBranchNames$Tree;)Ljava/lang/String;" } : Jvm.MethodName)) ∈ lw_all := lw_g (lw_at lw_m5 148 rfl) rfl
theorem q1260 : (Jvm.Cond.code ({ cls := "BranchNames", name := "nameOf", desc := "(LBranchNames$Tree;)Ljava/lang/String;" } : Jvm.MethodName) prog_1_method_49_code (2 : Nat) (Option.some (Jvm.ClassFile.FieldType.object "java/lang/String"))) ∈ lw_all := lw_g (lw_at lw_m5 149 rfl) rfl
theorem q1261 : (Jvm.Cond.methodLink "BranchNames" (358 : Nat) ({ cls := "BranchNames", name := "chainOf", desc := "(LBranchNames$Tree;)LBranchNames$Way;" } : Jvm.MethodName)) ∈ lw_all := lw_g (lw_at lw_m5 150 rfl) rfl
theorem q1262 : (Jvm.Cond.privateMethod ({ cls := "BranchNames", name := "chainOf", desc := "(LBranchNames$Tree;)LBranchNames$Way;" } : Jvm.MethodName)) ∈ lw_tbl := lw_at lw_m5 151 rfl
theorem q1263 : (Jvm.Cond.instanceMethod ({ cls := "BranchNames", name := "chainOf", desc := "(LBranchNames$Tree;)LBranchNames$Way;" } : Jvm.MethodName)) ∈ lw_all := lw_g (lw_at lw_m5 152 rfl) rfl
theorem q1264 : (Jvm.Cond.code ({ cls := "BranchNames", name := "chainOf", desc := "(LBranchNames$Tree;)LBranchNames$Way;" } : Jvm.MethodName) prog_1_method_40_code (2 : Nat) (Option.some (Jvm.ClassFile.FieldType.object "BranchNames$Way"))) ∈ lw_all := lw_g (lw_at lw_m5 153 rfl) rfl
theorem q1266 : (Jvm.Cond.instanceMethod ({ cls := "BranchNames", name := "named", desc := "(III)I" } : Jvm.MethodName)) ∈ lw_all := lw_g (lw_at lw_m5 155 rfl) rfl
theorem q1267 : (Jvm.Cond.selects "BranchNames" ({ cls := "BranchNames", name := "named", desc := "(III)I" } : Jvm.MethodName) ({ cls := "BranchNames", name := "named", desc := "(III)I" } : Jvm.MethodName)) ∈ lw_all := lw_g (lw_at lw_m5 156 rfl) rfl
theorem q1268 : (Jvm.Cond.code ({ cls := "BranchNames", name := "named", desc := "(III)I" } : Jvm.MethodName) prog_1_method_76_code (5 : Nat) (Option.some Jvm.ClassFile.FieldType.int)) ∈ lw_all := lw_g (lw_at lw_m5 157 rfl) rfl
theorem q1269 : (Jvm.Cond.methodLink "BranchNames" (533 : Nat) ({ cls := "BranchNames", name := "nameListed", desc := "(II)Ljava/lang/String;" } : Jvm.MethodName)) ∈ lw_all := lw_g (lw_at lw_m5 158 rfl) rfl
theorem q1270 : (Jvm.Cond.privateMethod ({ cls := "BranchNames", name := "nameListed", desc := "(II)Ljava/lang/String;" } : Jvm.MethodName)) ∈ lw_tbl := lw_at lw_m5 159 rfl
theorem q1271 : (Jvm.Cond.instanceMethod ({ cls := "BranchNames", name := "nameListed", desc := "(II)Ljava/lang/String;" } : Jvm.MethodName)) ∈ lw_all := lw_g (lw_at lw_m5 160 rfl) rfl
theorem q1272 : (Jvm.Cond.code ({ cls := "BranchNames", name := "nameListed", desc := "(II)Ljava/lang/String;" } : Jvm.MethodName) prog_1_method_75_code (4 : Nat) (Option.some (Jvm.ClassFile.FieldType.object "java/lang/String"))) ∈ lw_all := lw_g (lw_at lw_m5 161 rfl) rfl
theorem q1274 : (Jvm.Cond.instanceMethod ({ cls := "BranchNames", name := "chain", desc := "(I)I" } : Jvm.MethodName)) ∈ lw_all := lw_g (lw_at lw_m5 163 rfl) rfl
theorem q1275 : (Jvm.Cond.selects "BranchNames" ({ cls := "BranchNames", name := "chain", desc := "(I)I" } : Jvm.MethodName) ({ cls := "BranchNames", name := "chain", desc := "(I)I" } : Jvm.MethodName)) ∈ lw_all := lw_g (lw_at lw_m5 164 rfl) rfl
theorem q1276 : (Jvm.Cond.code ({ cls := "BranchNames", name := "chain", desc := "(I)I" } : Jvm.MethodName) prog_1_method_78_code (3 : Nat) (Option.some Jvm.ClassFile.FieldType.int)) ∈ lw_all := lw_g (lw_at lw_m5 165 rfl) rfl
theorem q1277 : (Jvm.Cond.methodLink "BranchNames" (537 : Nat) ({ cls := "BranchNames", name := "numberAt", desc := "(LBranchNames$Way;I)I" } : Jvm.MethodName)) ∈ lw_all := lw_g (lw_at lw_m5 166 rfl) rfl
theorem q1278 : (Jvm.Cond.privateMethod ({ cls := "BranchNames", name := "numberAt", desc := "(LBranchNames$Way;I)I" } : Jvm.MethodName)) ∈ lw_tbl := lw_at lw_m5 167 rfl
theorem q1279 : (Jvm.Cond.instanceMethod ({ cls := "BranchNames", name := "numberAt", desc := "(LBranchNames$Way;I)I" } : Jvm.MethodName)) ∈ lw_all := lw_g (lw_at lw_m5 168 rfl) rfl
theorem q1280 : (Jvm.Cond.code ({ cls := "BranchNames", name := "numberAt", desc := "(LBranchNames$Way;I)I" } : Jvm.MethodName) prog_1_method_77_code (5 : Nat) (Option.some Jvm.ClassFile.FieldType.int)) ∈ lw_all := lw_g (lw_at lw_m5 169 rfl) rfl
theorem q1282 : (Jvm.Cond.instanceMethod ({ cls := "BranchNames", name := "feed", desc := "(I)I" } : Jvm.MethodName)) ∈ lw_all := lw_g (lw_at lw_m5 171 rfl) rfl
theorem q1283 : (Jvm.Cond.selects "BranchNames" ({ cls := "BranchNames", name := "feed", desc := "(I)I" } : Jvm.MethodName) ({ cls := "BranchNames", name := "feed", desc := "(I)I" } : Jvm.MethodName)) ∈ lw_all := lw_g (lw_at lw_m5 172 rfl) rfl
theorem q1284 : (Jvm.Cond.code ({ cls := "BranchNames", name := "feed", desc := "(I)I" } : Jvm.MethodName) prog_1_method_79_code (2 : Nat) (Option.some Jvm.ClassFile.FieldType.int)) ∈ lw_all := lw_g (lw_at lw_m5 173 rfl) rfl
theorem q1285 : (Jvm.Cond.constantLong "BranchNames" (541 : Nat) (127 : Int64)) ∈ lw_all := lw_g (lw_at lw_m5 174 rfl) rfl
theorem q1287 : (Jvm.Cond.instanceMethod ({ cls := "BranchNames", name := "clear", desc := "()I" } : Jvm.MethodName)) ∈ lw_all := lw_g (lw_at lw_m5 176 rfl) rfl
theorem q1288 : (Jvm.Cond.selects "BranchNames" ({ cls := "BranchNames", name := "clear", desc := "()I" } : Jvm.MethodName) ({ cls := "BranchNames", name := "clear", desc := "()I" } : Jvm.MethodName)) ∈ lw_all := lw_g (lw_at lw_m5 177 rfl) rfl
theorem q1289 : (Jvm.Cond.code ({ cls := "BranchNames", name := "clear", desc := "()I" } : Jvm.MethodName) prog_1_method_80_code (2 : Nat) (Option.some Jvm.ClassFile.FieldType.int)) ∈ lw_all := lw_g (lw_at lw_m5 178 rfl) rfl
theorem q1291 : (Jvm.Cond.instanceMethod ({ cls := "BranchNames", name := "read", desc := "()I" } : Jvm.MethodName)) ∈ lw_all := lw_g (lw_at lw_m5 180 rfl) rfl
theorem q1292 : (Jvm.Cond.selects "BranchNames" ({ cls := "BranchNames", name := "read", desc := "()I" } : Jvm.MethodName) ({ cls := "BranchNames", name := "read", desc := "()I" } : Jvm.MethodName)) ∈ lw_all := lw_g (lw_at lw_m5 181 rfl) rfl
theorem q1293 : (Jvm.Cond.codeWith ({ cls := "BranchNames", name := "read", desc := "()I" } : Jvm.MethodName) prog_1_method_87_code (4 : Nat) (Option.some Jvm.ClassFile.FieldType.int) [((0 : Nat), (5 : Nat), (22 : Nat), (632 : Nat)), ((0 : Nat), (5 : Nat), (22 : Nat), (556 : Nat)), ((0 : Nat), (5 : Nat), (60 : Nat), (0 : Nat)), ((22 : Nat), (43 : Nat), (60 : Nat), (0 : Nat))]) ∈ lw_all := lw_g (lw_at lw_m5 182 rfl) rfl
theorem q1294 : (Jvm.Cond.classLink "BranchNames" (632 : Nat) "BranchNames$Unread") ∈ lw_all := lw_g (lw_at lw_m5 183 rfl) rfl
theorem q1295 : (Jvm.Cond.classLink "BranchNames" (556 : Nat) "BranchNames$Trouble") ∈ lw_all := lw_g (lw_at lw_m5 184 rfl) rfl
theorem q1296 : (Jvm.Cond.methodLink "BranchNames" (626 : Nat) ({ cls := "BranchNames", name := "reading", desc := "()I" } : Jvm.MethodName)) ∈ lw_all := lw_g (lw_at lw_m5 185 rfl) rfl
theorem q1297 : (Jvm.Cond.privateMethod ({ cls := "BranchNames", name := "reading", desc := "()I" } : Jvm.MethodName)) ∈ lw_tbl := lw_at lw_m5 186 rfl
theorem q1298 : (Jvm.Cond.instanceMethod ({ cls := "BranchNames", name := "reading", desc := "()I" } : Jvm.MethodName)) ∈ lw_all := lw_g (lw_at lw_m5 187 rfl) rfl
theorem q1299 : (Jvm.Cond.code ({ cls := "BranchNames", name := "reading", desc := "()I" } : Jvm.MethodName) prog_1_method_86_code (2 : Nat) (Option.some Jvm.ClassFile.FieldType.int)) ∈ lw_all := lw_g (lw_at lw_m5 188 rfl) rfl
theorem q1300 : (Jvm.Cond.classLink "BranchNames" (610 : Nat) "BranchNames$Reader") ∈ lw_all := lw_g (lw_at lw_m5 189 rfl) rfl
theorem q1302 : (Jvm.Cond.methodLinkNest "BranchNames" (612 : Nat) ({ cls := "BranchNames$Reader", name := "<init>", desc := "(LBranchNames;)V" } : Jvm.MethodName) "BranchNames") ∈ lw_tbl := lw_at lw_m5 191 rfl
theorem q1316 : (Jvm.Cond.methodLink "BranchNames" (615 : Nat) ({ cls := "BranchNames$Reader", name := "whole", desc := "()LBranchNames$Branch;" } : Jvm.MethodName)) ∈ lw_all := lw_g (lw_at lw_m5 205 rfl) rfl
theorem q1341 : (Jvm.Cond.fieldLinkNest "BranchNames" (575 : Nat) "BranchNames$Branch" "parts" "Ljava/util/ArrayList;" "BranchNames") ∈ lw_tbl := lw_at lw_m5 230 rfl
theorem q1343 : (Jvm.Cond.fieldLinkNest "BranchNames" (567 : Nat) "BranchNames$Branch" "stem" "I" "BranchNames") ∈ lw_tbl := lw_at lw_m5 232 rfl
theorem q1345 : (Jvm.Cond.fieldLinkNest "BranchNames" (583 : Nat) "BranchNames$Branch" "isBracketed" "Z" "BranchNames") ∈ lw_tbl := lw_at lw_m5 234 rfl
theorem q1364 : (Jvm.Cond.fieldLinkNest "BranchNames" (558 : Nat) "BranchNames$Part" "place" "I" "BranchNames") ∈ lw_tbl := lw_at lw_m6 13 rfl
theorem q1366 : (Jvm.Cond.fieldLinkNest "BranchNames" (591 : Nat) "BranchNames$Part" "numbers" "[I" "BranchNames") ∈ lw_tbl := lw_at lw_m6 15 rfl
theorem q1368 : (Jvm.Cond.fieldLinkNest "BranchNames" (580 : Nat) "BranchNames$Part" "told" "I" "BranchNames") ∈ lw_tbl := lw_at lw_m6 17 rfl
theorem q1371 : (Jvm.Cond.fieldLinkNest "BranchNames" (579 : Nat) "BranchNames$Part" "many" "I" "BranchNames") ∈ lw_tbl := lw_at lw_m6 20 rfl
theorem q1373 : (Jvm.Cond.fieldLinkNest "BranchNames" (546 : Nat) "BranchNames$Part" "branch" "LBranchNames$Branch;" "BranchNames") ∈ lw_tbl := lw_at lw_m6 22 rfl
theorem q1503 : (Jvm.Cond.methodLink "BranchNames" (552 : Nat) ({ cls := "BranchNames", name := "makes", desc := "(LBranchNames$Branch;LBranchNames$Tree;I)V" } : Jvm.MethodName)) ∈ lw_all := lw_g (lw_at lw_m6 152 rfl) rfl
theorem q1504 : (Jvm.Cond.privateMethod ({ cls := "BranchNames", name := "makes", desc := "(LBranchNames$Branch;LBranchNames$Tree;I)V" } : Jvm.MethodName)) ∈ lw_tbl := lw_at lw_m6 153 rfl
theorem q1505 : (Jvm.Cond.instanceMethod ({ cls := "BranchNames", name := "makes", desc := "(LBranchNames$Branch;LBranchNames$Tree;I)V" } : Jvm.MethodName)) ∈ lw_all := lw_g (lw_at lw_m6 154 rfl) rfl
theorem q1506 : (Jvm.Cond.code ({ cls := "BranchNames", name := "makes", desc := "(LBranchNames$Branch;LBranchNames$Tree;I)V" } : Jvm.MethodName) prog_1_method_83_code (8 : Nat) (Option.none : Option Jvm.ClassFile.FieldType)) ∈ lw_all := lw_g (lw_at lw_m6 155 rfl) rfl
theorem q1507 : (Jvm.Cond.methodLink "BranchNames" (572 : Nat) ({ cls := "BranchNames$Tree", name := "becomesChain", desc := "(I)V" } : Jvm.MethodName)) ∈ lw_all := lw_g (lw_at lw_m6 156 rfl) rfl
theorem q1512 : (Jvm.Cond.classLink "BranchNames" (547 : Nat) "BranchNames$Part") ∈ lw_all := lw_g (lw_at lw_m6 161 rfl) rfl
theorem q1521 : (Jvm.Cond.methodLink "BranchNames" (561 : Nat) ({ cls := "BranchNames$Trouble", name := "<init>", desc := "(IILBranchNames$Trouble;)V" } : Jvm.MethodName)) ∈ lw_all := lw_g (lw_at lw_m6 170 rfl) rfl
theorem q1526 : (Jvm.Cond.fieldLinkNest "BranchNames" (600 : Nat) "BranchNames$Trouble" "which" "I" "BranchNames") ∈ lw_tbl := lw_at lw_m6 175 rfl
theorem q1528 : (Jvm.Cond.fieldLinkNest "BranchNames" (603 : Nat) "BranchNames$Trouble" "place" "I" "BranchNames") ∈ lw_tbl := lw_at lw_m6 177 rfl
theorem q1535 : (Jvm.Cond.methodLink "BranchNames" (587 : Nat) ({ cls := "BranchNames", name := "makesWithin", desc := "(LBranchNames$Part;LBranchNames$Tree;)V" } : Jvm.MethodName)) ∈ lw_all := lw_g (lw_at lw_m6 184 rfl) rfl
theorem q1536 : (Jvm.Cond.privateMethod ({ cls := "BranchNames", name := "makesWithin", desc := "(LBranchNames$Part;LBranchNames$Tree;)V" } : Jvm.MethodName)) ∈ lw_tbl := lw_at lw_m6 185 rfl
theorem q1537 : (Jvm.Cond.instanceMethod ({ cls := "BranchNames", name := "makesWithin", desc := "(LBranchNames$Part;LBranchNames$Tree;)V" } : Jvm.MethodName)) ∈ lw_all := lw_g (lw_at lw_m6 186 rfl) rfl
theorem q1538 : (Jvm.Cond.codeWith ({ cls := "BranchNames", name := "makesWithin", desc := "(LBranchNames$Part;LBranchNames$Tree;)V" } : Jvm.MethodName) prog_1_method_81_code (4 : Nat) (Option.none : Option Jvm.ClassFile.FieldType) [((0 : Nat), (10 : Nat), (13 : Nat), (556 : Nat))]) ∈ lw_all := lw_g (lw_at lw_m6 187 rfl) rfl
theorem q1539 : (Jvm.Cond.methodLink "BranchNames" (594 : Nat) ({ cls := "BranchNames", name := "comes", desc := "(LBranchNames$Tree;LBranchNames$Part;IIILBranchNames$Tree;)V" } : Jvm.MethodName)) ∈ lw_all := lw_g (lw_at lw_m6 188 rfl) rfl
theorem q1540 : (Jvm.Cond.privateMethod ({ cls := "BranchNames", name := "comes", desc := "(LBranchNames$Tree;LBranchNames$Part;IIILBranchNames$Tree;)V" } : Jvm.MethodName)) ∈ lw_tbl := lw_at lw_m6 189 rfl
theorem q1541 : (Jvm.Cond.instanceMethod ({ cls := "BranchNames", name := "comes", desc := "(LBranchNames$Tree;LBranchNames$Part;IIILBranchNames$Tree;)V" } : Jvm.MethodName)) ∈ lw_all := lw_g (lw_at lw_m6 190 rfl) rfl
theorem q1542 : (Jvm.Cond.code ({ cls := "BranchNames", name := "comes", desc := "(LBranchNames$Tree;LBranchNames$Part;IIILBranchNames$Tree;)V" } : Jvm.MethodName) prog_1_method_82_code (7 : Nat) (Option.none : Option Jvm.ClassFile.FieldType)) ∈ lw_all := lw_g (lw_at lw_m6 191 rfl) rfl
theorem q1543 : (Jvm.Cond.methodLink "BranchNames" (564 : Nat) ({ cls := "BranchNames$Tree", name := "takes", desc := "(LBranchNames$Tree;I)V" } : Jvm.MethodName)) ∈ lw_all := lw_g (lw_at lw_m6 192 rfl) rfl
theorem q1547 : (Jvm.Cond.methodLink "BranchNames" (622 : Nat) ({ cls := "BranchNames", name := "isWord", desc := "(Ljava/lang/String;)Z" } : Jvm.MethodName)) ∈ lw_all := lw_g (lw_at lw_m6 196 rfl) rfl
theorem q1548 : (Jvm.Cond.privateMethod ({ cls := "BranchNames", name := "isWord", desc := "(Ljava/lang/String;)Z" } : Jvm.MethodName)) ∈ lw_tbl := lw_at lw_m6 197 rfl
theorem q1549 : (Jvm.Cond.instanceMethod ({ cls := "BranchNames", name := "isWord", desc := "(Ljava/lang/String;)Z" } : Jvm.MethodName)) ∈ lw_all := lw_g (lw_at lw_m6 198 rfl) rfl
theorem q1550 : (Jvm.Cond.code ({ cls := "BranchNames", name := "isWord", desc := "(Ljava/lang/String;)Z" } : Jvm.MethodName) prog_1_method_85_code (3 : Nat) (Option.some Jvm.ClassFile.FieldType.boolean)) ∈ lw_all := lw_g (lw_at lw_m6 199 rfl) rfl
theorem q1551 : (Jvm.Cond.methodLink "BranchNames" (634 : Nat) ({ cls := "BranchNames", name := "tells", desc := "(LBranchNames$Trouble;)V" } : Jvm.MethodName)) ∈ lw_all := lw_g (lw_at lw_m6 200 rfl) rfl
theorem q1552 : (Jvm.Cond.privateMethod ({ cls := "BranchNames", name := "tells", desc := "(LBranchNames$Trouble;)V" } : Jvm.MethodName)) ∈ lw_tbl := lw_at lw_m6 201 rfl
theorem q1553 : (Jvm.Cond.instanceMethod ({ cls := "BranchNames", name := "tells", desc := "(LBranchNames$Trouble;)V" } : Jvm.MethodName)) ∈ lw_all := lw_g (lw_at lw_m6 202 rfl) rfl
theorem q1554 : (Jvm.Cond.code ({ cls := "BranchNames", name := "tells", desc := "(LBranchNames$Trouble;)V" } : Jvm.MethodName) prog_1_method_84_code (3 : Nat) (Option.none : Option Jvm.ClassFile.FieldType)) ∈ lw_all := lw_g (lw_at lw_m6 203 rfl) rfl
theorem q1555 : (Jvm.Cond.methodLink "BranchNames" (604 : Nat) ({ cls := "java/lang/Throwable", name := "getCause", desc := "()Ljava/lang/Throwable;" } : Jvm.MethodName)) ∈ lw_all := lw_g (lw_at lw_m6 204 rfl) rfl
theorem q1561 : (Jvm.Cond.methodLink "BranchNames" (637 : Nat) ({ cls := "BranchNames$Wrong", name := "told", desc := "()I" } : Jvm.MethodName)) ∈ lw_all := lw_g (lw_at lw_m6 210 rfl) rfl
theorem q1571 : (Jvm.Cond.instanceMethod ({ cls := "BranchNames", name := "why", desc := "(II)I" } : Jvm.MethodName)) ∈ lw_all := lw_g (lw_at lw_m6 220 rfl) rfl
theorem q1572 : (Jvm.Cond.selects "BranchNames" ({ cls := "BranchNames", name := "why", desc := "(II)I" } : Jvm.MethodName) ({ cls := "BranchNames", name := "why", desc := "(II)I" } : Jvm.MethodName)) ∈ lw_all := lw_g (lw_at lw_m6 221 rfl) rfl
theorem q1573 : (Jvm.Cond.code ({ cls := "BranchNames", name := "why", desc := "(II)I" } : Jvm.MethodName) prog_1_method_88_code (3 : Nat) (Option.some Jvm.ClassFile.FieldType.int)) ∈ lw_all := lw_g (lw_at lw_m6 222 rfl) rfl
theorem q1575 : (Jvm.Cond.instanceMethod ({ cls := "BranchNames", name := "told", desc := "(I)I" } : Jvm.MethodName)) ∈ lw_all := lw_g (lw_at lw_m6 224 rfl) rfl
theorem q1576 : (Jvm.Cond.selects "BranchNames" ({ cls := "BranchNames", name := "told", desc := "(I)I" } : Jvm.MethodName) ({ cls := "BranchNames", name := "told", desc := "(I)I" } : Jvm.MethodName)) ∈ lw_all := lw_g (lw_at lw_m6 225 rfl) rfl
theorem q1577 : (Jvm.Cond.code ({ cls := "BranchNames", name := "told", desc := "(I)I" } : Jvm.MethodName) prog_1_method_89_code (2 : Nat) (Option.some Jvm.ClassFile.FieldType.int)) ∈ lw_all := lw_g (lw_at lw_m6 226 rfl) rfl
theorem q1579 : (Jvm.Cond.instanceMethod ({ cls := "BranchNames", name := "row", desc := "(III)I" } : Jvm.MethodName)) ∈ lw_all := lw_g (lw_at lw_m6 228 rfl) rfl
theorem q1580 : (Jvm.Cond.selects "BranchNames" ({ cls := "BranchNames", name := "row", desc := "(III)I" } : Jvm.MethodName) ({ cls := "BranchNames", name := "row", desc := "(III)I" } : Jvm.MethodName)) ∈ lw_all := lw_g (lw_at lw_m6 229 rfl) rfl
theorem q1581 : (Jvm.Cond.code ({ cls := "BranchNames", name := "row", desc := "(III)I" } : Jvm.MethodName) prog_1_method_94_code (4 : Nat) (Option.some Jvm.ClassFile.FieldType.int)) ∈ lw_all := lw_g (lw_at lw_m6 230 rfl) rfl
theorem q1582 : (Jvm.Cond.methodLink "BranchNames" (653 : Nat) ({ cls := "BranchNames", name := "isRow", desc := "(I)Z" } : Jvm.MethodName)) ∈ lw_all := lw_g (lw_at lw_m6 231 rfl) rfl
theorem q1583 : (Jvm.Cond.static ({ cls := "BranchNames", name := "isRow", desc := "(I)Z" } : Jvm.MethodName)) ∈ lw_all := lw_g (lw_at lw_m6 232 rfl) rfl
theorem q1584 : (Jvm.Cond.code ({ cls := "BranchNames", name := "isRow", desc := "(I)Z" } : Jvm.MethodName) prog_1_method_93_code (1 : Nat) (Option.some Jvm.ClassFile.FieldType.boolean)) ∈ lw_all := lw_g (lw_at lw_m6 233 rfl) rfl
theorem q1585 : (Jvm.Cond.constantLong "BranchNames" (651 : Nat) (3 : Int64)) ∈ lw_all := lw_g (lw_at lw_m6 234 rfl) rfl
theorem q1586 : (Jvm.Cond.constantLong "BranchNames" (656 : Nat) (-1 : Int64)) ∈ lw_all := lw_g (lw_at lw_m6 235 rfl) rfl
theorem q1587 : (Jvm.Cond.constantLong "BranchNames" (658 : Nat) (2 : Int64)) ∈ lw_all := lw_g (lw_at lw_m6 236 rfl) rfl
theorem q1588 : (Jvm.Cond.methodLink "BranchNames" (660 : Nat) ({ cls := "BranchNames", name := "ints", desc := "(I)LBranchNames$Items;" } : Jvm.MethodName)) ∈ lw_all := lw_g (lw_at lw_m6 237 rfl) rfl
theorem q1589 : (Jvm.Cond.static ({ cls := "BranchNames", name := "ints", desc := "(I)LBranchNames$Items;" } : Jvm.MethodName)) ∈ lw_all := lw_g (lw_at lw_m6 238 rfl) rfl
theorem q1590 : (Jvm.Cond.code ({ cls := "BranchNames", name := "ints", desc := "(I)LBranchNames$Items;" } : Jvm.MethodName) prog_1_method_90_code (1 : Nat) (Option.some (Jvm.ClassFile.FieldType.object "BranchNames$Items"))) ∈ lw_all := lw_g (lw_at lw_m6 239 rfl) rfl
theorem q1591 : (Jvm.Cond.classLink "BranchNames" (641 : Nat) "BranchNames$2") ∈ lw_all := lw_g (lw_at lw_m7 0 rfl) rfl
theorem q1593 : (Jvm.Cond.methodLink "BranchNames" (643 : Nat) ({ cls := "BranchNames$2", name := "<init>", desc := "(I)V" } : Jvm.MethodName)) ∈ lw_all := lw_g (lw_at lw_m7 2 rfl) rfl
theorem q1604 : (Jvm.Cond.methodLink "BranchNames" (664 : Nat) ({ cls := "BranchNames", name := "longs", desc := "(I)LBranchNames$Items;" } : Jvm.MethodName)) ∈ lw_all := lw_g (lw_at lw_m7 13 rfl) rfl
theorem q1605 : (Jvm.Cond.static ({ cls := "BranchNames", name := "longs", desc := "(I)LBranchNames$Items;" } : Jvm.MethodName)) ∈ lw_all := lw_g (lw_at lw_m7 14 rfl) rfl
theorem q1606 : (Jvm.Cond.code ({ cls := "BranchNames", name := "longs", desc := "(I)LBranchNames$Items;" } : Jvm.MethodName) prog_1_method_91_code (1 : Nat) (Option.some (Jvm.ClassFile.FieldType.object "BranchNames$Items"))) ∈ lw_all := lw_g (lw_at lw_m7 15 rfl) rfl
theorem q1607 : (Jvm.Cond.classLink "BranchNames" (645 : Nat) "BranchNames$3") ∈ lw_all := lw_g (lw_at lw_m7 16 rfl) rfl
theorem q1609 : (Jvm.Cond.methodLink "BranchNames" (647 : Nat) ({ cls := "BranchNames$3", name := "<init>", desc := "(I)V" } : Jvm.MethodName)) ∈ lw_all := lw_g (lw_at lw_m7 18 rfl) rfl
theorem q1620 : (Jvm.Cond.methodLink "BranchNames" (667 : Nat) ({ cls := "BranchNames", name := "bytes", desc := "(I)LBranchNames$Items;" } : Jvm.MethodName)) ∈ lw_all := lw_g (lw_at lw_m7 29 rfl) rfl
theorem q1621 : (Jvm.Cond.static ({ cls := "BranchNames", name := "bytes", desc := "(I)LBranchNames$Items;" } : Jvm.MethodName)) ∈ lw_all := lw_g (lw_at lw_m7 30 rfl) rfl
theorem q1622 : (Jvm.Cond.code ({ cls := "BranchNames", name := "bytes", desc := "(I)LBranchNames$Items;" } : Jvm.MethodName) prog_1_method_92_code (1 : Nat) (Option.some (Jvm.ClassFile.FieldType.object "BranchNames$Items"))) ∈ lw_all := lw_g (lw_at lw_m7 31 rfl) rfl
theorem q1623 : (Jvm.Cond.classLink "BranchNames" (648 : Nat) "BranchNames$4") ∈ lw_all := lw_g (lw_at lw_m7 32 rfl) rfl
theorem q1625 : (Jvm.Cond.methodLink "BranchNames" (650 : Nat) ({ cls := "BranchNames$4", name := "<init>", desc := "(I)V" } : Jvm.MethodName)) ∈ lw_all := lw_g (lw_at lw_m7 34 rfl) rfl
theorem q1637 : (Jvm.Cond.instanceMethod ({ cls := "BranchNames", name := "put", desc := "(IIJ)I" } : Jvm.MethodName)) ∈ lw_all := lw_g (lw_at lw_m7 46 rfl) rfl
theorem q1638 : (Jvm.Cond.selects "BranchNames" ({ cls := "BranchNames", name := "put", desc := "(IIJ)I" } : Jvm.MethodName) ({ cls := "BranchNames", name := "put", desc := "(IIJ)I" } : Jvm.MethodName)) ∈ lw_all := lw_g (lw_at lw_m7 47 rfl) rfl
theorem q1639 : (Jvm.Cond.code ({ cls := "BranchNames", name := "put", desc := "(IIJ)I" } : Jvm.MethodName) prog_1_method_95_code (5 : Nat) (Option.some Jvm.ClassFile.FieldType.int)) ∈ lw_all := lw_g (lw_at lw_m7 48 rfl) rfl
theorem q1640 : (Jvm.Cond.interfaceEntry "BranchNames" (670 : Nat)) ∈ lw_tbl := lw_at lw_m7 49 rfl
theorem q1641 : (Jvm.Cond.methodLink "BranchNames" (670 : Nat) ({ cls := "BranchNames$Items", name := "many", desc := "()I" } : Jvm.MethodName)) ∈ lw_all := lw_g (lw_at lw_m7 50 rfl) rfl
theorem q1662 : (Jvm.Cond.interfaceEntry "BranchNames" (672 : Nat)) ∈ lw_tbl := lw_at lw_m7 71 rfl
theorem q1663 : (Jvm.Cond.methodLink "BranchNames" (672 : Nat) ({ cls := "BranchNames$Items", name := "lays", desc := "(IJ)V" } : Jvm.MethodName)) ∈ lw_all := lw_g (lw_at lw_m7 72 rfl) rfl
theorem q1682 : (Jvm.Cond.instanceMethod ({ cls := "BranchNames", name := "get", desc := "(II)J" } : Jvm.MethodName)) ∈ lw_all := lw_g (lw_at lw_m7 91 rfl) rfl
theorem q1683 : (Jvm.Cond.selects "BranchNames" ({ cls := "BranchNames", name := "get", desc := "(II)J" } : Jvm.MethodName) ({ cls := "BranchNames", name := "get", desc := "(II)J" } : Jvm.MethodName)) ∈ lw_all := lw_g (lw_at lw_m7 92 rfl) rfl
theorem q1684 : (Jvm.Cond.code ({ cls := "BranchNames", name := "get", desc := "(II)J" } : Jvm.MethodName) prog_1_method_96_code (3 : Nat) (Option.some Jvm.ClassFile.FieldType.long)) ∈ lw_all := lw_g (lw_at lw_m7 93 rfl) rfl
theorem q1685 : (Jvm.Cond.interfaceEntry "BranchNames" (676 : Nat)) ∈ lw_tbl := lw_at lw_m7 94 rfl
theorem q1686 : (Jvm.Cond.methodLink "BranchNames" (676 : Nat) ({ cls := "BranchNames$Items", name := "at", desc := "(I)J" } : Jvm.MethodName)) ∈ lw_all := lw_g (lw_at lw_m7 95 rfl) rfl
theorem q1705 : (Jvm.Cond.instanceMethod ({ cls := "BranchNames", name := "fill", desc := "(II)I" } : Jvm.MethodName)) ∈ lw_all := lw_g (lw_at lw_m7 114 rfl) rfl
theorem q1706 : (Jvm.Cond.selects "BranchNames" ({ cls := "BranchNames", name := "fill", desc := "(II)I" } : Jvm.MethodName) ({ cls := "BranchNames", name := "fill", desc := "(II)I" } : Jvm.MethodName)) ∈ lw_all := lw_g (lw_at lw_m7 115 rfl) rfl
theorem q1707 : (Jvm.Cond.code ({ cls := "BranchNames", name := "fill", desc := "(II)I" } : Jvm.MethodName) prog_1_method_97_code (5 : Nat) (Option.some Jvm.ClassFile.FieldType.int)) ∈ lw_all := lw_g (lw_at lw_m7 116 rfl) rfl
theorem q1708 : (Jvm.Cond.interfaceEntry "BranchNames" (679 : Nat)) ∈ lw_tbl := lw_at lw_m7 117 rfl
theorem q1709 : (Jvm.Cond.methodLink "BranchNames" (679 : Nat) ({ cls := "BranchNames$Items", name := "sort", desc := "()I" } : Jvm.MethodName)) ∈ lw_all := lw_g (lw_at lw_m7 118 rfl) rfl
theorem q1728 : (Jvm.Cond.instanceMethod ({ cls := "BranchNames", name := "judge", desc := "(II)I" } : Jvm.MethodName)) ∈ lw_all := lw_g (lw_at lw_m7 137 rfl) rfl
theorem q1729 : (Jvm.Cond.selects "BranchNames" ({ cls := "BranchNames", name := "judge", desc := "(II)I" } : Jvm.MethodName) ({ cls := "BranchNames", name := "judge", desc := "(II)I" } : Jvm.MethodName)) ∈ lw_all := lw_g (lw_at lw_m7 138 rfl) rfl
theorem q1730 : (Jvm.Cond.code ({ cls := "BranchNames", name := "judge", desc := "(II)I" } : Jvm.MethodName) prog_1_method_98_code (4 : Nat) (Option.some Jvm.ClassFile.FieldType.int)) ∈ lw_all := lw_g (lw_at lw_m7 139 rfl) rfl
theorem q1732 : (Jvm.Cond.instanceMethod ({ cls := "BranchNames", name := "copy", desc := "(IIIII)I" } : Jvm.MethodName)) ∈ lw_all := lw_g (lw_at lw_m7 141 rfl) rfl
theorem q1733 : (Jvm.Cond.selects "BranchNames" ({ cls := "BranchNames", name := "copy", desc := "(IIIII)I" } : Jvm.MethodName) ({ cls := "BranchNames", name := "copy", desc := "(IIIII)I" } : Jvm.MethodName)) ∈ lw_all := lw_g (lw_at lw_m7 142 rfl) rfl
theorem q1734 : (Jvm.Cond.code ({ cls := "BranchNames", name := "copy", desc := "(IIIII)I" } : Jvm.MethodName) prog_1_method_100_code (10 : Nat) (Option.some Jvm.ClassFile.FieldType.int)) ∈ lw_all := lw_g (lw_at lw_m7 143 rfl) rfl
theorem q1735 : (Jvm.Cond.methodLink "BranchNames" (682 : Nat) ({ cls := "BranchNames", name := "isOf", desc := "(LBranchNames$Items;II)Z" } : Jvm.MethodName)) ∈ lw_all := lw_g (lw_at lw_m7 144 rfl) rfl
theorem q1736 : (Jvm.Cond.static ({ cls := "BranchNames", name := "isOf", desc := "(LBranchNames$Items;II)Z" } : Jvm.MethodName)) ∈ lw_all := lw_g (lw_at lw_m7 145 rfl) rfl
theorem q1737 : (Jvm.Cond.code ({ cls := "BranchNames", name := "isOf", desc := "(LBranchNames$Items;II)Z" } : Jvm.MethodName) prog_1_method_99_code (3 : Nat) (Option.some Jvm.ClassFile.FieldType.boolean)) ∈ lw_all := lw_g (lw_at lw_m7 146 rfl) rfl
theorem q1739 : (Jvm.Cond.instanceMethod ({ cls := "BranchNames", name := "image", desc := "()I" } : Jvm.MethodName)) ∈ lw_all := lw_g (lw_at lw_m7 148 rfl) rfl
theorem q1740 : (Jvm.Cond.selects "BranchNames" ({ cls := "BranchNames", name := "image", desc := "()I" } : Jvm.MethodName) ({ cls := "BranchNames", name := "image", desc := "()I" } : Jvm.MethodName)) ∈ lw_all := lw_g (lw_at lw_m7 149 rfl) rfl
theorem q1741 : (Jvm.Cond.code ({ cls := "BranchNames", name := "image", desc := "()I" } : Jvm.MethodName) prog_1_method_101_code (1 : Nat) (Option.some Jvm.ClassFile.FieldType.int)) ∈ lw_all := lw_g (lw_at lw_m7 150 rfl) rfl
theorem q1743 : (Jvm.Cond.instanceMethod ({ cls := "BranchNames", name := "undo", desc := "()I" } : Jvm.MethodName)) ∈ lw_all := lw_g (lw_at lw_m7 152 rfl) rfl
theorem q1744 : (Jvm.Cond.selects "BranchNames" ({ cls := "BranchNames", name := "undo", desc := "()I" } : Jvm.MethodName) ({ cls := "BranchNames", name := "undo", desc := "()I" } : Jvm.MethodName)) ∈ lw_all := lw_g (lw_at lw_m7 153 rfl) rfl
theorem q1745 : (Jvm.Cond.code ({ cls := "BranchNames", name := "undo", desc := "()I" } : Jvm.MethodName) prog_1_method_102_code (1 : Nat) (Option.some Jvm.ClassFile.FieldType.int)) ∈ lw_all := lw_g (lw_at lw_m7 154 rfl) rfl
theorem q2432 : (Jvm.Cond.castable "BranchNames" "java/lang/Object") ∈ lw_tbl := lw_at lw_m10 121 rfl
theorem in_X0 : ∀ w ∈ wsX00, w ∈ lw_all := lw_in wsX00 [794, 796, 798, 800, 802, 804, 806, 808, 810, 812, 814, 816, 818, 820, 822, 824, 826, 828, 830, 832, 834, 836, 838, 840, 842, 844, 846, 848, 850, 852, 854, 856, 858, 860] (by decide +kernel) (by decide +kernel)
