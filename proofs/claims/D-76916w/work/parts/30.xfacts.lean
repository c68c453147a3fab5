set_option maxRecDepth 100000
theorem nw16 : ∀ j, j < 4 → defaultValue (tyJ2 j) = vp_V (fdl 16 nF nP) j := by decide +kernel
theorem nw1 : ∀ j, j < 7 → defaultValue (tyX1 j) = vp_V (fdl 1 nF nP) j := by decide +kernel
theorem nw2 : ∀ j, j < 2 → defaultValue (tyX2 j) = vp_V (fdl 2 nF nP) j := by decide +kernel
theorem nw4 : ∀ j, j < 3 → defaultValue (tyX4 j) = vp_V (fdl 4 nF nP) j := by decide +kernel
theorem nw17 : ∀ j, j < 3 → defaultValue (tyJ12 j) = vp_V (fdl 17 nF nP) j := by decide +kernel
theorem nw15 : ∀ j, j < 4 → defaultValue (tyJ1 j) = vp_V (fdl 15 nF nP) j := by decide +kernel
theorem nw6 : ∀ j, j < 4 → defaultValue (tyX6 j) = vp_V (fdl 6 nF nP) j := by decide +kernel
theorem nw7 : ∀ j, j < 3 → defaultValue (tyX7 j) = vp_V (fdl 7 nF nP) j := by decide +kernel
theorem nw11 : ∀ j, j < 8 → defaultValue (tyX12 j) = vp_V (fdl 11 nF nP) j := by decide +kernel
theorem nw12 : ∀ j, j < 2 → defaultValue (tyX13 j) = vp_V (fdl 12 nF nP) j := by decide +kernel
theorem nw13 : ∀ j, j < 2 → defaultValue (tyX14 j) = vp_V (fdl 13 nF nP) j := by decide +kernel
theorem nw14 : ∀ j, j < 2 → defaultValue (tyX15 j) = vp_V (fdl 14 nF nP) j := by decide +kernel
theorem nw3 : ∀ j, j < 4 → defaultValue (tyX3 j) = vp_V (fdl 3 nF nP) j := by decide +kernel
theorem nw8 : ∀ j, j < 3 → defaultValue (tyX8 j) = vp_V (fdl 8 nF nP) j := by decide +kernel
theorem nw10 : ∀ j, j < 7 → defaultValue (tyX11 j) = vp_V (fdl 10 nF nP) j := by decide +kernel
theorem nw9 : ∀ j, j < 5 → defaultValue (tyX9 j) = vp_V (fdl 9 nF nP) j := by decide +kernel
theorem pf15_0 : ∀ C T N, cls[15]? = some (C, T, N) → (T 0).2.2.2 = false ∧ parseFieldDescriptor (T 0).2.2.1 = some (.array .byte) := fun C T N h => by cases h; exact ⟨rfl, by decide +kernel⟩
theorem pf15_1 : ∀ C T N, cls[15]? = some (C, T, N) → (T 1).2.2.2 = false ∧ parseFieldDescriptor (T 1).2.2.1 = some (.byte) := fun C T N h => by cases h; exact ⟨rfl, by decide +kernel⟩
theorem pf15_3 : ∀ C T N, cls[15]? = some (C, T, N) → (T 3).2.2.2 = false ∧ parseFieldDescriptor (T 3).2.2.1 = some (.int) := fun C T N h => by cases h; exact ⟨rfl, by decide +kernel⟩
theorem pf17_0 : ∀ C T N, cls[17]? = some (C, T, N) → (T 0).2.2.2 = false ∧ parseFieldDescriptor (T 0).2.2.1 = some (.int) := fun C T N h => by cases h; exact ⟨rfl, by decide +kernel⟩
theorem pf17_1 : ∀ C T N, cls[17]? = some (C, T, N) → (T 1).2.2.2 = false ∧ parseFieldDescriptor (T 1).2.2.1 = some (.array (.object "java/lang/Object")) := fun C T N h => by cases h; exact ⟨rfl, by decide +kernel⟩
theorem pf17_2 : ∀ C T N, cls[17]? = some (C, T, N) → (T 2).2.2.2 = false ∧ parseFieldDescriptor (T 2).2.2.1 = some (.int) := fun C T N h => by cases h; exact ⟨rfl, by decide +kernel⟩
theorem pf10_0 : ∀ C T N, cls[10]? = some (C, T, N) → (T 0).2.2.2 = false ∧ parseFieldDescriptor (T 0).2.2.1 = some (.object "java/lang/Throwable") := fun C T N h => by cases h; exact ⟨rfl, by decide +kernel⟩
theorem pf10_1 : ∀ C T N, cls[10]? = some (C, T, N) → (T 1).2.2.2 = false ∧ parseFieldDescriptor (T 1).2.2.1 = some (.array (.object "java/lang/StackTraceElement")) := fun C T N h => by cases h; exact ⟨rfl, by decide +kernel⟩
theorem pf10_2 : ∀ C T N, cls[10]? = some (C, T, N) → (T 2).2.2.2 = false ∧ parseFieldDescriptor (T 2).2.2.1 = some (.object "java/util/List") := fun C T N h => by cases h; exact ⟨rfl, by decide +kernel⟩
theorem pf10_3 : ∀ C T N, cls[10]? = some (C, T, N) → (T 3).2.2.2 = false ∧ parseFieldDescriptor (T 3).2.2.1 = some (.object "java/lang/String") := fun C T N h => by cases h; exact ⟨rfl, by decide +kernel⟩
theorem pfF16_1 : ∀ C T N, cls[16]? = some (C, T, N) → (T 1).2.2.2 = true ∧ parseFieldDescriptor (T 1).2.2.1 = some (.byte) ∧ (T 1).1 = "java/lang/String" := fun C T N h => by cases h; exact ⟨rfl, by decide +kernel, rfl⟩
theorem pfF16_0 : ∀ C T N, cls[16]? = some (C, T, N) → (T 0).2.2.2 = true ∧ parseFieldDescriptor (T 0).2.2.1 = some (.array .byte) ∧ (T 0).1 = "java/lang/String" := fun C T N h => by cases h; exact ⟨rfl, by decide +kernel, rfl⟩
theorem pf0_13 : ∀ C T N, cls[0]? = some (C, T, N) → (T 13).2.2.2 = false ∧ parseFieldDescriptor (T 13).2.2.1 = some (.int) := fun C T N h => by cases h; exact ⟨rfl, by decide +kernel⟩
theorem pf0_10 : ∀ C T N, cls[0]? = some (C, T, N) → (T 10).2.2.2 = false ∧ parseFieldDescriptor (T 10).2.2.1 = some (.int) := fun C T N h => by cases h; exact ⟨rfl, by decide +kernel⟩
theorem pf3_3 : ∀ C T N, cls[3]? = some (C, T, N) → (T 3).2.2.2 = false ∧ parseFieldDescriptor (T 3).2.2.1 = some (.object "java/lang/String") := fun C T N h => by cases h; exact ⟨rfl, by decide +kernel⟩
theorem pf1_6 : ∀ C T N, cls[1]? = some (C, T, N) → (T 6).2.2.2 = false ∧ parseFieldDescriptor (T 6).2.2.1 = some (.object "BranchNames$Way") := fun C T N h => by cases h; exact ⟨rfl, by decide +kernel⟩
theorem pf0_27 : ∀ C T N, cls[0]? = some (C, T, N) → (T 27).2.2.2 = false ∧ parseFieldDescriptor (T 27).2.2.1 = some (.int) := fun C T N h => by cases h; exact ⟨rfl, by decide +kernel⟩
theorem pf0_32 : ∀ C T N, cls[0]? = some (C, T, N) → (T 32).2.2.2 = false ∧ parseFieldDescriptor (T 32).2.2.1 = some (.int) := fun C T N h => by cases h; exact ⟨rfl, by decide +kernel⟩
theorem pf0_30 : ∀ C T N, cls[0]? = some (C, T, N) → (T 30).2.2.2 = false ∧ parseFieldDescriptor (T 30).2.2.1 = some (.int) := fun C T N h => by cases h; exact ⟨rfl, by decide +kernel⟩
theorem pf0_5 : ∀ C T N, cls[0]? = some (C, T, N) → (T 5).2.2.2 = false ∧ parseFieldDescriptor (T 5).2.2.1 = some (.boolean) := fun C T N h => by cases h; exact ⟨rfl, by decide +kernel⟩
theorem pf1_4 : ∀ C T N, cls[1]? = some (C, T, N) → (T 4).2.2.2 = false ∧ parseFieldDescriptor (T 4).2.2.1 = some (.int) := fun C T N h => by cases h; exact ⟨rfl, by decide +kernel⟩
theorem pf1_5 : ∀ C T N, cls[1]? = some (C, T, N) → (T 5).2.2.2 = false ∧ parseFieldDescriptor (T 5).2.2.1 = some (.int) := fun C T N h => by cases h; exact ⟨rfl, by decide +kernel⟩
theorem pfF10_6 : ∀ C T N, cls[10]? = some (C, T, N) → (T 6).2.2.2 = true ∧ parseFieldDescriptor (T 6).2.2.1 = some (.int) ∧ (T 6).1 = "BranchNames$Unread" := fun C T N h => by cases h; exact ⟨rfl, by decide +kernel, rfl⟩
theorem pfF11_6 : ∀ C T N, cls[11]? = some (C, T, N) → (T 6).2.2.2 = true ∧ parseFieldDescriptor (T 6).2.2.1 = some (.int) ∧ (T 6).1 = "BranchNames$Trouble" := fun C T N h => by cases h; exact ⟨rfl, by decide +kernel, rfl⟩
theorem pfF11_7 : ∀ C T N, cls[11]? = some (C, T, N) → (T 7).2.2.2 = true ∧ parseFieldDescriptor (T 7).2.2.1 = some (.int) ∧ (T 7).1 = "BranchNames$Trouble" := fun C T N h => by cases h; exact ⟨rfl, by decide +kernel, rfl⟩
theorem pfF12_1 : ∀ C T N, cls[12]? = some (C, T, N) → (T 1).2.2.2 = true ∧ parseFieldDescriptor (T 1).2.2.1 = some (.int) ∧ (T 1).1 = "BranchNames$2" := fun C T N h => by cases h; exact ⟨rfl, by decide +kernel, rfl⟩
theorem pfF12_0 : ∀ C T N, cls[12]? = some (C, T, N) → (T 0).2.2.2 = true ∧ parseFieldDescriptor (T 0).2.2.1 = some (.array .int) ∧ (T 0).1 = "BranchNames$2" := fun C T N h => by cases h; exact ⟨rfl, by decide +kernel, rfl⟩
theorem pfF13_1 : ∀ C T N, cls[13]? = some (C, T, N) → (T 1).2.2.2 = true ∧ parseFieldDescriptor (T 1).2.2.1 = some (.int) ∧ (T 1).1 = "BranchNames$3" := fun C T N h => by cases h; exact ⟨rfl, by decide +kernel, rfl⟩
theorem pfF13_0 : ∀ C T N, cls[13]? = some (C, T, N) → (T 0).2.2.2 = true ∧ parseFieldDescriptor (T 0).2.2.1 = some (.array .long) ∧ (T 0).1 = "BranchNames$3" := fun C T N h => by cases h; exact ⟨rfl, by decide +kernel, rfl⟩
theorem pfF14_1 : ∀ C T N, cls[14]? = some (C, T, N) → (T 1).2.2.2 = true ∧ parseFieldDescriptor (T 1).2.2.1 = some (.int) ∧ (T 1).1 = "BranchNames$4" := fun C T N h => by cases h; exact ⟨rfl, by decide +kernel, rfl⟩
theorem pfF14_0 : ∀ C T N, cls[14]? = some (C, T, N) → (T 0).2.2.2 = true ∧ parseFieldDescriptor (T 0).2.2.1 = some (.array .byte) ∧ (T 0).1 = "BranchNames$4" := fun C T N h => by cases h; exact ⟨rfl, by decide +kernel, rfl⟩
theorem pfF2_1 : ∀ C T N, cls[2]? = some (C, T, N) → (T 1).2.2.2 = true ∧ parseFieldDescriptor (T 1).2.2.1 = some (.array (.object "BranchNames$Prefers")) ∧ (T 1).1 = "BranchNames$1" := fun C T N h => by cases h; exact ⟨rfl, by decide +kernel, rfl⟩
theorem pfF2_0 : ∀ C T N, cls[2]? = some (C, T, N) → (T 0).2.2.2 = true ∧ parseFieldDescriptor (T 0).2.2.1 = some (.object "BranchNames$Way") ∧ (T 0).1 = "BranchNames$1" := fun C T N h => by cases h; exact ⟨rfl, by decide +kernel, rfl⟩
theorem pfF3_0 : ∀ C T N, cls[3]? = some (C, T, N) → (T 0).2.2.2 = true ∧ parseFieldDescriptor (T 0).2.2.1 = some (.array .int) ∧ (T 0).1 = "BranchNames$Way" := fun C T N h => by cases h; exact ⟨rfl, by decide +kernel, rfl⟩
theorem pf3_1 : ∀ C T N, cls[3]? = some (C, T, N) → (T 1).2.2.2 = false ∧ parseFieldDescriptor (T 1).2.2.1 = some (.int) := fun C T N h => by cases h; exact ⟨rfl, by decide +kernel⟩
theorem pf3_2 : ∀ C T N, cls[3]? = some (C, T, N) → (T 2).2.2.2 = false ∧ parseFieldDescriptor (T 2).2.2.1 = some (.int) := fun C T N h => by cases h; exact ⟨rfl, by decide +kernel⟩
theorem pfF4_2 : ∀ C T N, cls[4]? = some (C, T, N) → (T 2).2.2.2 = true ∧ parseFieldDescriptor (T 2).2.2.1 = some (.object "BranchNames$Way") ∧ (T 2).1 = "BranchNames$Seeker" := fun C T N h => by cases h; exact ⟨rfl, by decide +kernel, rfl⟩
theorem pfF4_0 : ∀ C T N, cls[4]? = some (C, T, N) → (T 0).2.2.2 = true ∧ parseFieldDescriptor (T 0).2.2.1 = some (.object "BranchNames$Tree") ∧ (T 0).1 = "BranchNames$Seeker" := fun C T N h => by cases h; exact ⟨rfl, by decide +kernel, rfl⟩
theorem pfF4_1 : ∀ C T N, cls[4]? = some (C, T, N) → (T 1).2.2.2 = true ∧ parseFieldDescriptor (T 1).2.2.1 = some (.int) ∧ (T 1).1 = "BranchNames$Seeker" := fun C T N h => by cases h; exact ⟨rfl, by decide +kernel, rfl⟩
theorem pfF6_2 : ∀ C T N, cls[6]? = some (C, T, N) → (T 2).2.2.2 = true ∧ parseFieldDescriptor (T 2).2.2.1 = some (.array .int) ∧ (T 2).1 = "BranchNames$Named" := fun C T N h => by cases h; exact ⟨rfl, by decide +kernel, rfl⟩
theorem pfF6_0 : ∀ C T N, cls[6]? = some (C, T, N) → (T 0).2.2.2 = true ∧ parseFieldDescriptor (T 0).2.2.1 = some (.object "java/lang/String") ∧ (T 0).1 = "BranchNames$Named" := fun C T N h => by cases h; exact ⟨rfl, by decide +kernel, rfl⟩
theorem pfF6_1 : ∀ C T N, cls[6]? = some (C, T, N) → (T 1).2.2.2 = true ∧ parseFieldDescriptor (T 1).2.2.1 = some (.object "java/lang/String") ∧ (T 1).1 = "BranchNames$Named" := fun C T N h => by cases h; exact ⟨rfl, by decide +kernel, rfl⟩
theorem pf6_3 : ∀ C T N, cls[6]? = some (C, T, N) → (T 3).2.2.2 = false ∧ parseFieldDescriptor (T 3).2.2.1 = some (.int) := fun C T N h => by cases h; exact ⟨rfl, by decide +kernel⟩
theorem pfF7_2 : ∀ C T N, cls[7]? = some (C, T, N) → (T 2).2.2.2 = true ∧ parseFieldDescriptor (T 2).2.2.1 = some (.object "BranchNames") ∧ (T 2).1 = "BranchNames$Reader" := fun C T N h => by cases h; exact ⟨rfl, by decide +kernel, rfl⟩
theorem pf8_1 : ∀ C T N, cls[8]? = some (C, T, N) → (T 1).2.2.2 = false ∧ parseFieldDescriptor (T 1).2.2.1 = some (.int) := fun C T N h => by cases h; exact ⟨rfl, by decide +kernel⟩
theorem pf7_0 : ∀ C T N, cls[7]? = some (C, T, N) → (T 0).2.2.2 = false ∧ parseFieldDescriptor (T 0).2.2.1 = some (.int) := fun C T N h => by cases h; exact ⟨rfl, by decide +kernel⟩
theorem pf7_1 : ∀ C T N, cls[7]? = some (C, T, N) → (T 1).2.2.2 = false ∧ parseFieldDescriptor (T 1).2.2.1 = some (.int) := fun C T N h => by cases h; exact ⟨rfl, by decide +kernel⟩
theorem pf9_4 : ∀ C T N, cls[9]? = some (C, T, N) → (T 4).2.2.2 = false ∧ parseFieldDescriptor (T 4).2.2.1 = some (.object "BranchNames$Branch") := fun C T N h => by cases h; exact ⟨rfl, by decide +kernel⟩
theorem pf9_3 : ∀ C T N, cls[9]? = some (C, T, N) → (T 3).2.2.2 = false ∧ parseFieldDescriptor (T 3).2.2.1 = some (.int) := fun C T N h => by cases h; exact ⟨rfl, by decide +kernel⟩
theorem pf8_2 : ∀ C T N, cls[8]? = some (C, T, N) → (T 2).2.2.2 = false ∧ parseFieldDescriptor (T 2).2.2.1 = some (.boolean) := fun C T N h => by cases h; exact ⟨rfl, by decide +kernel⟩
theorem pfF8_0 : ∀ C T N, cls[8]? = some (C, T, N) → (T 0).2.2.2 = true ∧ parseFieldDescriptor (T 0).2.2.1 = some (.object "java/util/ArrayList") ∧ (T 0).1 = "BranchNames$Branch" := fun C T N h => by cases h; exact ⟨rfl, by decide +kernel, rfl⟩
theorem pfF9_1 : ∀ C T N, cls[9]? = some (C, T, N) → (T 1).2.2.2 = true ∧ parseFieldDescriptor (T 1).2.2.1 = some (.array .int) ∧ (T 1).1 = "BranchNames$Part" := fun C T N h => by cases h; exact ⟨rfl, by decide +kernel, rfl⟩
theorem pfF9_0 : ∀ C T N, cls[9]? = some (C, T, N) → (T 0).2.2.2 = true ∧ parseFieldDescriptor (T 0).2.2.1 = some (.int) ∧ (T 0).1 = "BranchNames$Part" := fun C T N h => by cases h; exact ⟨rfl, by decide +kernel, rfl⟩
theorem pf9_2 : ∀ C T N, cls[9]? = some (C, T, N) → (T 2).2.2.2 = false ∧ parseFieldDescriptor (T 2).2.2.1 = some (.int) := fun C T N h => by cases h; exact ⟨rfl, by decide +kernel⟩
theorem fJ0_15 : FL "java/lang/AbstractStringBuilder" 15 15 0 := ⟨RJ1, TJ1, 4, tyJ1, rfl, in_J1, tyJ1_ok, nmJ1, by decide, _, Or.inl q290, Or.inl rfl⟩
theorem fJ0_22 : FL "java/lang/AbstractStringBuilder" 22 15 1 := ⟨RJ1, TJ1, 4, tyJ1, rfl, in_J1, tyJ1_ok, nmJ1, by decide, _, Or.inl q291, Or.inl rfl⟩
theorem fJ0_79 : FL "java/lang/AbstractStringBuilder" 79 15 3 := ⟨RJ1, TJ1, 4, tyJ1, rfl, in_J1, tyJ1_ok, nmJ1, by decide, _, Or.inl q293, Or.inl rfl⟩
theorem fJ11_7 : FL "java/util/AbstractList" 7 17 0 := ⟨RJ12, TJ12, 3, tyJ12, rfl, in_J12, tyJ12_ok, nmJ12, by decide, _, Or.inl q1017, Or.inl rfl⟩
theorem fJ12_9 : FL "java/util/ArrayList" 9 17 1 := ⟨RJ12, TJ12, 3, tyJ12, rfl, in_J12, tyJ12_ok, nmJ12, by decide, _, Or.inl q1015, Or.inl rfl⟩
theorem fJ12_48 : FL "java/util/ArrayList" 48 17 2 := ⟨RJ12, TJ12, 3, tyJ12, rfl, in_J12, tyJ12_ok, nmJ12, by decide, _, Or.inl q1016, Or.inl rfl⟩
theorem fJ12_63 : FL "java/util/ArrayList" 63 17 0 := ⟨RJ12, TJ12, 3, tyJ12, rfl, in_J12, tyJ12_ok, nmJ12, by decide, _, Or.inl q1018, Or.inr q1019⟩
theorem fJ14_7a : FL "java/lang/Throwable" 7 10 0 := ⟨RX11, TX11, 7, tyX11, rfl, in_X11, tyX11_ok, nmX11, by decide, _, Or.inl q1442, Or.inl rfl⟩
theorem fJ14_17a : FL "java/lang/Throwable" 17 10 1 := ⟨RX11, TX11, 7, tyX11, rfl, in_X11, tyX11_ok, nmX11, by decide, _, Or.inl q1443, Or.inl rfl⟩
theorem fJ14_24a : FL "java/lang/Throwable" 24 10 2 := ⟨RX11, TX11, 7, tyX11, rfl, in_X11, tyX11_ok, nmX11, by decide, _, Or.inl q1444, Or.inl rfl⟩
theorem fJ14_31a : FL "java/lang/Throwable" 31 10 3 := ⟨RX11, TX11, 7, tyX11, rfl, in_X11, tyX11_ok, nmX11, by decide, _, Or.inl q1441, Or.inl rfl⟩
theorem fJ2_9 : FL "java/lang/String" 9 16 0 := ⟨RJ2, TJ2, 4, tyJ2, rfl, in_J2, tyJ2_ok, nmJ2, by decide, _, Or.inl q475, Or.inl rfl⟩
theorem fJ2_15 : FL "java/lang/String" 15 16 1 := ⟨RJ2, TJ2, 4, tyJ2, rfl, in_J2, tyJ2_ok, nmJ2, by decide, _, Or.inl q476, Or.inl rfl⟩
theorem fJ2_1048 : FL "java/lang/String" 1048 15 2 := ⟨RJ1, TJ1, 4, tyJ1, rfl, in_J1, tyJ1_ok, nmJ1, by decide, _, Or.inl q292, Or.inl rfl⟩
theorem foJ2_15 : FLo "java/lang/String" 15 16 1 := ⟨RJ2, TJ2, 4, tyJ2, rfl, in_J2, tyJ2_ok, nmJ2, by decide, _, q476, Or.inl rfl⟩
theorem foJ2_9 : FLo "java/lang/String" 9 16 0 := ⟨RJ2, TJ2, 4, tyJ2, rfl, in_J2, tyJ2_ok, nmJ2, by decide, _, q475, Or.inl rfl⟩
theorem fX0_44 : FL "BranchNames" 44 1 4 := ⟨RX1, TX1, 7, tyX1, rfl, in_X1, tyX1_ok, nmX1, by decide, _, Or.inr ⟨_, q224⟩, Or.inl rfl⟩
theorem fX0_37 : FL "BranchNames" 37 0 8 := ⟨RX0, TX0, 34, tyX0, rfl, in_X0, tyX0_ok, nmX0, by decide, _, Or.inl q764, Or.inl rfl⟩
theorem fX0_11 : FL "BranchNames" 11 1 3 := ⟨RX1, TX1, 7, tyX1, rfl, in_X1, tyX1_ok, nmX1, by decide, _, Or.inr ⟨_, q222⟩, Or.inl rfl⟩
theorem fX0_17 : FL "BranchNames" 17 1 0 := ⟨RX1, TX1, 7, tyX1, rfl, in_X1, tyX1_ok, nmX1, by decide, _, Or.inr ⟨_, q216⟩, Or.inl rfl⟩
theorem fX0_149 : FL "BranchNames" 149 0 15 := ⟨RX0, TX0, 34, tyX0, rfl, in_X0, tyX0_ok, nmX0, by decide, _, Or.inl q771, Or.inl rfl⟩
theorem fX0_7 : FL "BranchNames" 7 0 6 := ⟨RX0, TX0, 34, tyX0, rfl, in_X0, tyX0_ok, nmX0, by decide, _, Or.inl q762, Or.inl rfl⟩
theorem fX0_29 : FL "BranchNames" 29 0 7 := ⟨RX0, TX0, 34, tyX0, rfl, in_X0, tyX0_ok, nmX0, by decide, _, Or.inl q763, Or.inl rfl⟩
theorem fX0_158 : FL "BranchNames" 158 0 16 := ⟨RX0, TX0, 34, tyX0, rfl, in_X0, tyX0_ok, nmX0, by decide, _, Or.inl q772, Or.inl rfl⟩
theorem fX0_122 : FL "BranchNames" 122 0 2 := ⟨RX0, TX0, 34, tyX0, rfl, in_X0, tyX0_ok, nmX0, by decide, _, Or.inl q758, Or.inl rfl⟩
theorem fX0_168 : FL "BranchNames" 168 0 17 := ⟨RX0, TX0, 34, tyX0, rfl, in_X0, tyX0_ok, nmX0, by decide, _, Or.inl q773, Or.inl rfl⟩
theorem fX0_177 : FL "BranchNames" 177 3 1 := ⟨RX3, TX3, 4, tyX3, rfl, in_X3, tyX3_ok, nmX3, by decide, _, Or.inr ⟨_, q625⟩, Or.inl rfl⟩
theorem fX0_182 : FL "BranchNames" 182 3 2 := ⟨RX3, TX3, 4, tyX3, rfl, in_X3, tyX3_ok, nmX3, by decide, _, Or.inr ⟨_, q628⟩, Or.inl rfl⟩
theorem fX0_96 : FL "BranchNames" 96 0 13 := ⟨RX0, TX0, 34, tyX0, rfl, in_X0, tyX0_ok, nmX0, by decide, _, Or.inl q769, Or.inl rfl⟩
theorem fX0_99 : FL "BranchNames" 99 0 12 := ⟨RX0, TX0, 34, tyX0, rfl, in_X0, tyX0_ok, nmX0, by decide, _, Or.inl q768, Or.inl rfl⟩
theorem fX0_108 : FL "BranchNames" 108 0 11 := ⟨RX0, TX0, 34, tyX0, rfl, in_X0, tyX0_ok, nmX0, by decide, _, Or.inl q767, Or.inl rfl⟩
theorem fX0_111 : FL "BranchNames" 111 0 3 := ⟨RX0, TX0, 34, tyX0, rfl, in_X0, tyX0_ok, nmX0, by decide, _, Or.inl q759, Or.inl rfl⟩
theorem fX0_78 : FL "BranchNames" 78 0 10 := ⟨RX0, TX0, 34, tyX0, rfl, in_X0, tyX0_ok, nmX0, by decide, _, Or.inl q766, Or.inl rfl⟩
theorem fX0_75 : FL "BranchNames" 75 0 9 := ⟨RX0, TX0, 34, tyX0, rfl, in_X0, tyX0_ok, nmX0, by decide, _, Or.inl q765, Or.inl rfl⟩
theorem fX0_418 : FL "BranchNames" 418 0 22 := ⟨RX0, TX0, 34, tyX0, rfl, in_X0, tyX0_ok, nmX0, by decide, _, Or.inl q780, Or.inl rfl⟩
theorem fX0_415 : FL "BranchNames" 415 0 21 := ⟨RX0, TX0, 34, tyX0, rfl, in_X0, tyX0_ok, nmX0, by decide, _, Or.inl q779, Or.inl rfl⟩
theorem fX0_365 : FL "BranchNames" 365 0 0 := ⟨RX0, TX0, 34, tyX0, rfl, in_X0, tyX0_ok, nmX0, by decide, _, Or.inl q756, Or.inl rfl⟩
theorem fX0_354 : FL "BranchNames" 354 1 2 := ⟨RX1, TX1, 7, tyX1, rfl, in_X1, tyX1_ok, nmX1, by decide, _, Or.inr ⟨_, q219⟩, Or.inl rfl⟩
theorem fX0_347 : FL "BranchNames" 347 0 18 := ⟨RX0, TX0, 34, tyX0, rfl, in_X0, tyX0_ok, nmX0, by decide, _, Or.inl q774, Or.inl rfl⟩
theorem fX0_195 : FL "BranchNames" 195 3 3 := ⟨RX3, TX3, 4, tyX3, rfl, in_X3, tyX3_ok, nmX3, by decide, _, Or.inr ⟨_, q631⟩, Or.inl rfl⟩
theorem fX0_185 : FL "BranchNames" 185 3 0 := ⟨RX3, TX3, 4, tyX3, rfl, in_X3, tyX3_ok, nmX3, by decide, _, Or.inr ⟨_, q621⟩, Or.inl rfl⟩
theorem fX0_330 : FL "BranchNames" 330 0 19 := ⟨RX0, TX0, 34, tyX0, rfl, in_X0, tyX0_ok, nmX0, by decide, _, Or.inl q776, Or.inl rfl⟩
theorem fX0_319 : FL "BranchNames" 319 6 3 := ⟨RX6, TX6, 4, tyX6, rfl, in_X6, tyX6_ok, nmX6, by decide, _, Or.inr ⟨_, q1106⟩, Or.inl rfl⟩
theorem fX0_322 : FL "BranchNames" 322 0 20 := ⟨RX0, TX0, 34, tyX0, rfl, in_X0, tyX0_ok, nmX0, by decide, _, Or.inl q778, Or.inl rfl⟩
theorem fX0_295 : FL "BranchNames" 295 6 0 := ⟨RX6, TX6, 4, tyX6, rfl, in_X6, tyX6_ok, nmX6, by decide, _, Or.inr ⟨_, q1102⟩, Or.inl rfl⟩
theorem fX0_467 : FL "BranchNames" 467 0 14 := ⟨RX0, TX0, 34, tyX0, rfl, in_X0, tyX0_ok, nmX0, by decide, _, Or.inl q770, Or.inl rfl⟩
theorem fX0_424 : FL "BranchNames" 424 0 24 := ⟨RX0, TX0, 34, tyX0, rfl, in_X0, tyX0_ok, nmX0, by decide, _, Or.inl q782, Or.inl rfl⟩
theorem fX0_371 : FL "BranchNames" 371 0 4 := ⟨RX0, TX0, 34, tyX0, rfl, in_X0, tyX0_ok, nmX0, by decide, _, Or.inl q760, Or.inl rfl⟩
theorem fX0_421 : FL "BranchNames" 421 0 23 := ⟨RX0, TX0, 34, tyX0, rfl, in_X0, tyX0_ok, nmX0, by decide, _, Or.inl q781, Or.inl rfl⟩
theorem fX0_243 : FL "BranchNames" 243 1 6 := ⟨RX1, TX1, 7, tyX1, rfl, in_X1, tyX1_ok, nmX1, by decide, _, Or.inr ⟨_, q227⟩, Or.inl rfl⟩
theorem fX0_428 : FL "BranchNames" 428 0 25 := ⟨RX0, TX0, 34, tyX0, rfl, in_X0, tyX0_ok, nmX0, by decide, _, Or.inl q783, Or.inl rfl⟩
theorem fX0_543 : FL "BranchNames" 543 0 27 := ⟨RX0, TX0, 34, tyX0, rfl, in_X0, tyX0_ok, nmX0, by decide, _, Or.inl q787, Or.inl rfl⟩
theorem fX0_431 : FL "BranchNames" 431 0 26 := ⟨RX0, TX0, 34, tyX0, rfl, in_X0, tyX0_ok, nmX0, by decide, _, Or.inl q785, Or.inl rfl⟩
theorem fX0_619 : FL "BranchNames" 619 0 32 := ⟨RX0, TX0, 34, tyX0, rfl, in_X0, tyX0_ok, nmX0, by decide, _, Or.inl q792, Or.inl rfl⟩
theorem fX0_567 : FL "BranchNames" 567 8 1 := ⟨RX8, TX8, 3, tyX8, rfl, in_X8, tyX8_ok, nmX8, by decide, _, Or.inr ⟨_, q1343⟩, Or.inl rfl⟩
theorem fX0_575 : FL "BranchNames" 575 8 0 := ⟨RX8, TX8, 3, tyX8, rfl, in_X8, tyX8_ok, nmX8, by decide, _, Or.inr ⟨_, q1341⟩, Or.inl rfl⟩
theorem fX0_579 : FL "BranchNames" 579 9 3 := ⟨RX9, TX9, 5, tyX9, rfl, in_X9, tyX9_ok, nmX9, by decide, _, Or.inr ⟨_, q1371⟩, Or.inl rfl⟩
theorem fX0_580 : FL "BranchNames" 580 9 2 := ⟨RX9, TX9, 5, tyX9, rfl, in_X9, tyX9_ok, nmX9, by decide, _, Or.inr ⟨_, q1368⟩, Or.inl rfl⟩
theorem fX0_546 : FL "BranchNames" 546 9 4 := ⟨RX9, TX9, 5, tyX9, rfl, in_X9, tyX9_ok, nmX9, by decide, _, Or.inr ⟨_, q1373⟩, Or.inl rfl⟩
theorem fX0_583 : FL "BranchNames" 583 8 2 := ⟨RX8, TX8, 3, tyX8, rfl, in_X8, tyX8_ok, nmX8, by decide, _, Or.inr ⟨_, q1345⟩, Or.inl rfl⟩
theorem fX0_558 : FL "BranchNames" 558 9 0 := ⟨RX9, TX9, 5, tyX9, rfl, in_X9, tyX9_ok, nmX9, by decide, _, Or.inr ⟨_, q1364⟩, Or.inl rfl⟩
theorem fX0_597 : FL "BranchNames" 597 0 30 := ⟨RX0, TX0, 34, tyX0, rfl, in_X0, tyX0_ok, nmX0, by decide, _, Or.inl q790, Or.inl rfl⟩
theorem fX0_438 : FL "BranchNames" 438 0 29 := ⟨RX0, TX0, 34, tyX0, rfl, in_X0, tyX0_ok, nmX0, by decide, _, Or.inl q789, Or.inl rfl⟩
theorem fX0_435 : FL "BranchNames" 435 0 28 := ⟨RX0, TX0, 34, tyX0, rfl, in_X0, tyX0_ok, nmX0, by decide, _, Or.inl q788, Or.inl rfl⟩
theorem fX0_629 : FL "BranchNames" 629 0 31 := ⟨RX0, TX0, 34, tyX0, rfl, in_X0, tyX0_ok, nmX0, by decide, _, Or.inl q791, Or.inl rfl⟩
theorem fX0_443 : FL "BranchNames" 443 0 33 := ⟨RX0, TX0, 34, tyX0, rfl, in_X0, tyX0_ok, nmX0, by decide, _, Or.inl q793, Or.inl rfl⟩
theorem fX0_368 : FL "BranchNames" 368 0 1 := ⟨RX0, TX0, 34, tyX0, rfl, in_X0, tyX0_ok, nmX0, by decide, _, Or.inl q757, Or.inl rfl⟩
theorem fX0_686 : FL "BranchNames" 686 0 5 := ⟨RX0, TX0, 34, tyX0, rfl, in_X0, tyX0_ok, nmX0, by decide, _, Or.inl q761, Or.inl rfl⟩
theorem fX1_31 : FL "BranchNames$Tree" 31 1 4 := ⟨RX1, TX1, 7, tyX1, rfl, in_X1, tyX1_ok, nmX1, by decide, _, Or.inl q223, Or.inl rfl⟩
theorem fX1_24 : FL "BranchNames$Tree" 24 1 3 := ⟨RX1, TX1, 7, tyX1, rfl, in_X1, tyX1_ok, nmX1, by decide, _, Or.inl q220, Or.inl rfl⟩
theorem fX1_38 : FL "BranchNames$Tree" 38 1 5 := ⟨RX1, TX1, 7, tyX1, rfl, in_X1, tyX1_ok, nmX1, by decide, _, Or.inl q225, Or.inl rfl⟩
theorem fX1_41 : FL "BranchNames$Tree" 41 1 6 := ⟨RX1, TX1, 7, tyX1, rfl, in_X1, tyX1_ok, nmX1, by decide, _, Or.inl q226, Or.inl rfl⟩
theorem fX1_11 : FL "BranchNames$Tree" 11 1 0 := ⟨RX1, TX1, 7, tyX1, rfl, in_X1, tyX1_ok, nmX1, by decide, _, Or.inl q214, Or.inl rfl⟩
theorem fX1_16 : FL "BranchNames$Tree" 16 1 1 := ⟨RX1, TX1, 7, tyX1, rfl, in_X1, tyX1_ok, nmX1, by decide, _, Or.inl q217, Or.inl rfl⟩
theorem fX1_21 : FL "BranchNames$Tree" 21 1 2 := ⟨RX1, TX1, 7, tyX1, rfl, in_X1, tyX1_ok, nmX1, by decide, _, Or.inl q218, Or.inl rfl⟩
theorem foX11_7 : FLo "BranchNames$Unread" 7 10 6 := ⟨RX11, TX11, 7, tyX11, rfl, in_X11, tyX11_ok, nmX11, by decide, _, q1439, Or.inl rfl⟩
theorem fX11_7 : FL "BranchNames$Unread" 7 10 6 := ⟨RX11, TX11, 7, tyX11, rfl, in_X11, tyX11_ok, nmX11, by decide, _, Or.inl q1439, Or.inl rfl⟩
theorem foX12_7 : FLo "BranchNames$Trouble" 7 11 6 := ⟨RX12, TX12, 8, tyX12, rfl, in_X12, tyX12_ok, nmX12, by decide, _, q1525, Or.inl rfl⟩
theorem foX12_13 : FLo "BranchNames$Trouble" 13 11 7 := ⟨RX12, TX12, 8, tyX12, rfl, in_X12, tyX12_ok, nmX12, by decide, _, q1527, Or.inl rfl⟩
theorem foX13_1 : FLo "BranchNames$2" 1 12 1 := ⟨RX13, TX13, 2, tyX13, rfl, in_X13, tyX13_ok, nmX13, by decide, _, q1598, Or.inl rfl⟩
theorem fX13_1 : FL "BranchNames$2" 1 12 1 := ⟨RX13, TX13, 2, tyX13, rfl, in_X13, tyX13_ok, nmX13, by decide, _, Or.inl q1598, Or.inl rfl⟩
theorem foX13_13 : FLo "BranchNames$2" 13 12 0 := ⟨RX13, TX13, 2, tyX13, rfl, in_X13, tyX13_ok, nmX13, by decide, _, q1597, Or.inl rfl⟩
theorem fX13_13 : FL "BranchNames$2" 13 12 0 := ⟨RX13, TX13, 2, tyX13, rfl, in_X13, tyX13_ok, nmX13, by decide, _, Or.inl q1597, Or.inl rfl⟩
theorem foX14_1 : FLo "BranchNames$3" 1 13 1 := ⟨RX14, TX14, 2, tyX14, rfl, in_X14, tyX14_ok, nmX14, by decide, _, q1614, Or.inl rfl⟩
theorem fX14_1 : FL "BranchNames$3" 1 13 1 := ⟨RX14, TX14, 2, tyX14, rfl, in_X14, tyX14_ok, nmX14, by decide, _, Or.inl q1614, Or.inl rfl⟩
theorem foX14_13 : FLo "BranchNames$3" 13 13 0 := ⟨RX14, TX14, 2, tyX14, rfl, in_X14, tyX14_ok, nmX14, by decide, _, q1613, Or.inl rfl⟩
theorem fX14_13 : FL "BranchNames$3" 13 13 0 := ⟨RX14, TX14, 2, tyX14, rfl, in_X14, tyX14_ok, nmX14, by decide, _, Or.inl q1613, Or.inl rfl⟩
theorem foX15_1 : FLo "BranchNames$4" 1 14 1 := ⟨RX15, TX15, 2, tyX15, rfl, in_X15, tyX15_ok, nmX15, by decide, _, q1630, Or.inl rfl⟩
theorem fX15_1 : FL "BranchNames$4" 1 14 1 := ⟨RX15, TX15, 2, tyX15, rfl, in_X15, tyX15_ok, nmX15, by decide, _, Or.inl q1630, Or.inl rfl⟩
theorem foX15_13 : FLo "BranchNames$4" 13 14 0 := ⟨RX15, TX15, 2, tyX15, rfl, in_X15, tyX15_ok, nmX15, by decide, _, q1629, Or.inl rfl⟩
theorem fX15_13 : FL "BranchNames$4" 13 14 0 := ⟨RX15, TX15, 2, tyX15, rfl, in_X15, tyX15_ok, nmX15, by decide, _, Or.inl q1629, Or.inl rfl⟩
theorem foX2_1 : FLo "BranchNames$1" 1 2 1 := ⟨RX2, TX2, 2, tyX2, rfl, in_X2, tyX2_ok, nmX2, by decide, _, q642, Or.inl rfl⟩
theorem foX2_16 : FLo "BranchNames$1" 16 2 0 := ⟨RX2, TX2, 2, tyX2, rfl, in_X2, tyX2_ok, nmX2, by decide, _, q641, Or.inl rfl⟩
theorem fX2_26 : FL "BranchNames$1" 26 3 3 := ⟨RX3, TX3, 4, tyX3, rfl, in_X3, tyX3_ok, nmX3, by decide, _, Or.inr ⟨_, q629⟩, Or.inl rfl⟩
theorem fX2_16 : FL "BranchNames$1" 16 2 0 := ⟨RX2, TX2, 2, tyX2, rfl, in_X2, tyX2_ok, nmX2, by decide, _, Or.inl q641, Or.inl rfl⟩
theorem fX2_30 : FL "BranchNames$1" 30 3 1 := ⟨RX3, TX3, 4, tyX3, rfl, in_X3, tyX3_ok, nmX3, by decide, _, Or.inr ⟨_, q623⟩, Or.inl rfl⟩
theorem fX2_1 : FL "BranchNames$1" 1 2 1 := ⟨RX2, TX2, 2, tyX2, rfl, in_X2, tyX2_ok, nmX2, by decide, _, Or.inl q642, Or.inl rfl⟩
theorem foX3_9 : FLo "BranchNames$Way" 9 3 0 := ⟨RX3, TX3, 4, tyX3, rfl, in_X3, tyX3_ok, nmX3, by decide, _, q619, Or.inl rfl⟩
theorem fX3_15 : FL "BranchNames$Way" 15 3 1 := ⟨RX3, TX3, 4, tyX3, rfl, in_X3, tyX3_ok, nmX3, by decide, _, Or.inl q622, Or.inl rfl⟩
theorem fX3_9 : FL "BranchNames$Way" 9 3 0 := ⟨RX3, TX3, 4, tyX3, rfl, in_X3, tyX3_ok, nmX3, by decide, _, Or.inl q619, Or.inl rfl⟩
theorem fX3_19 : FL "BranchNames$Way" 19 3 2 := ⟨RX3, TX3, 4, tyX3, rfl, in_X3, tyX3_ok, nmX3, by decide, _, Or.inl q626, Or.inl rfl⟩
theorem fX3_22 : FL "BranchNames$Way" 22 3 3 := ⟨RX3, TX3, 4, tyX3, rfl, in_X3, tyX3_ok, nmX3, by decide, _, Or.inl q630, Or.inl rfl⟩
theorem foX4_10 : FLo "BranchNames$Seeker" 10 4 2 := ⟨RX4, TX4, 3, tyX4, rfl, in_X4, tyX4_ok, nmX4, by decide, _, q662, Or.inl rfl⟩
theorem foX4_16 : FLo "BranchNames$Seeker" 16 4 0 := ⟨RX4, TX4, 3, tyX4, rfl, in_X4, tyX4_ok, nmX4, by decide, _, q660, Or.inl rfl⟩
theorem foX4_20 : FLo "BranchNames$Seeker" 20 4 1 := ⟨RX4, TX4, 3, tyX4, rfl, in_X4, tyX4_ok, nmX4, by decide, _, q661, Or.inl rfl⟩
theorem fX4_10 : FL "BranchNames$Seeker" 10 4 2 := ⟨RX4, TX4, 3, tyX4, rfl, in_X4, tyX4_ok, nmX4, by decide, _, Or.inl q662, Or.inl rfl⟩
theorem fX4_42 : FL "BranchNames$Seeker" 42 3 0 := ⟨RX3, TX3, 4, tyX3, rfl, in_X3, tyX3_ok, nmX3, by decide, _, Or.inr ⟨_, q620⟩, Or.inl rfl⟩
theorem fX4_45 : FL "BranchNames$Seeker" 45 3 1 := ⟨RX3, TX3, 4, tyX3, rfl, in_X3, tyX3_ok, nmX3, by decide, _, Or.inr ⟨_, q624⟩, Or.inl rfl⟩
theorem fX4_48 : FL "BranchNames$Seeker" 48 3 2 := ⟨RX3, TX3, 4, tyX3, rfl, in_X3, tyX3_ok, nmX3, by decide, _, Or.inr ⟨_, q627⟩, Or.inl rfl⟩
theorem fX4_16 : FL "BranchNames$Seeker" 16 4 0 := ⟨RX4, TX4, 3, tyX4, rfl, in_X4, tyX4_ok, nmX4, by decide, _, Or.inl q660, Or.inl rfl⟩
theorem fX4_24 : FL "BranchNames$Seeker" 24 1 3 := ⟨RX1, TX1, 7, tyX1, rfl, in_X1, tyX1_ok, nmX1, by decide, _, Or.inr ⟨_, q221⟩, Or.inl rfl⟩
theorem fX4_30 : FL "BranchNames$Seeker" 30 1 0 := ⟨RX1, TX1, 7, tyX1, rfl, in_X1, tyX1_ok, nmX1, by decide, _, Or.inr ⟨_, q215⟩, Or.inl rfl⟩
theorem fX4_20 : FL "BranchNames$Seeker" 20 4 1 := ⟨RX4, TX4, 3, tyX4, rfl, in_X4, tyX4_ok, nmX4, by decide, _, Or.inl q661, Or.inl rfl⟩
theorem foX6_9 : FLo "BranchNames$Named" 9 6 2 := ⟨RX6, TX6, 4, tyX6, rfl, in_X6, tyX6_ok, nmX6, by decide, _, q1104, Or.inl rfl⟩
theorem foX6_15 : FLo "BranchNames$Named" 15 6 0 := ⟨RX6, TX6, 4, tyX6, rfl, in_X6, tyX6_ok, nmX6, by decide, _, q1101, Or.inl rfl⟩
theorem foX6_23 : FLo "BranchNames$Named" 23 6 1 := ⟨RX6, TX6, 4, tyX6, rfl, in_X6, tyX6_ok, nmX6, by decide, _, q1103, Or.inl rfl⟩
theorem fX6_23 : FL "BranchNames$Named" 23 6 1 := ⟨RX6, TX6, 4, tyX6, rfl, in_X6, tyX6_ok, nmX6, by decide, _, Or.inl q1103, Or.inl rfl⟩
theorem fX6_15 : FL "BranchNames$Named" 15 6 0 := ⟨RX6, TX6, 4, tyX6, rfl, in_X6, tyX6_ok, nmX6, by decide, _, Or.inl q1101, Or.inl rfl⟩
theorem fX6_9 : FL "BranchNames$Named" 9 6 2 := ⟨RX6, TX6, 4, tyX6, rfl, in_X6, tyX6_ok, nmX6, by decide, _, Or.inl q1104, Or.inl rfl⟩
theorem fX6_26 : FL "BranchNames$Named" 26 6 3 := ⟨RX6, TX6, 4, tyX6, rfl, in_X6, tyX6_ok, nmX6, by decide, _, Or.inl q1105, Or.inl rfl⟩
theorem foX7_3 : FLo "BranchNames$Reader" 3 7 2 := ⟨RX7, TX7, 3, tyX7, rfl, in_X7, tyX7_ok, nmX7, by decide, _, q1308, Or.inl rfl⟩
theorem fX7_96 : FL "BranchNames$Reader" 96 8 1 := ⟨RX8, TX8, 3, tyX8, rfl, in_X8, tyX8_ok, nmX8, by decide, _, Or.inr ⟨_, q1342⟩, Or.inl rfl⟩
theorem fX7_15 : FL "BranchNames$Reader" 15 7 0 := ⟨RX7, TX7, 3, tyX7, rfl, in_X7, tyX7_ok, nmX7, by decide, _, Or.inl q1306, Or.inl rfl⟩
theorem fX7_3 : FL "BranchNames$Reader" 3 7 2 := ⟨RX7, TX7, 3, tyX7, rfl, in_X7, tyX7_ok, nmX7, by decide, _, Or.inl q1308, Or.inl rfl⟩
theorem fX7_19 : FL "BranchNames$Reader" 19 0 27 := ⟨RX0, TX0, 34, tyX0, rfl, in_X0, tyX0_ok, nmX0, by decide, _, Or.inr ⟨_, q786⟩, Or.inl rfl⟩
theorem fX7_22 : FL "BranchNames$Reader" 22 0 26 := ⟨RX0, TX0, 34, tyX0, rfl, in_X0, tyX0_ok, nmX0, by decide, _, Or.inr ⟨_, q784⟩, Or.inl rfl⟩
theorem fX7_126 : FL "BranchNames$Reader" 126 8 0 := ⟨RX8, TX8, 3, tyX8, rfl, in_X8, tyX8_ok, nmX8, by decide, _, Or.inr ⟨_, q1340⟩, Or.inl rfl⟩
theorem fX7_52 : FL "BranchNames$Reader" 52 7 1 := ⟨RX7, TX7, 3, tyX7, rfl, in_X7, tyX7_ok, nmX7, by decide, _, Or.inl q1307, Or.inl rfl⟩
theorem fX7_114 : FL "BranchNames$Reader" 114 0 20 := ⟨RX0, TX0, 34, tyX0, rfl, in_X0, tyX0_ok, nmX0, by decide, _, Or.inr ⟨_, q777⟩, Or.inl rfl⟩
theorem fX7_123 : FL "BranchNames$Reader" 123 9 4 := ⟨RX9, TX9, 5, tyX9, rfl, in_X9, tyX9_ok, nmX9, by decide, _, Or.inr ⟨_, q1372⟩, Or.inl rfl⟩
theorem fX7_117 : FL "BranchNames$Reader" 117 9 3 := ⟨RX9, TX9, 5, tyX9, rfl, in_X9, tyX9_ok, nmX9, by decide, _, Or.inr ⟨_, q1370⟩, Or.inl rfl⟩
theorem fX7_87 : FL "BranchNames$Reader" 87 8 2 := ⟨RX8, TX8, 3, tyX8, rfl, in_X8, tyX8_ok, nmX8, by decide, _, Or.inr ⟨_, q1344⟩, Or.inl rfl⟩
theorem fX7_61 : FL "BranchNames$Reader" 61 0 19 := ⟨RX0, TX0, 34, tyX0, rfl, in_X0, tyX0_ok, nmX0, by decide, _, Or.inr ⟨_, q775⟩, Or.inl rfl⟩
theorem foX8_10 : FLo "BranchNames$Branch" 10 8 0 := ⟨RX8, TX8, 3, tyX8, rfl, in_X8, tyX8_ok, nmX8, by decide, _, q1339, Or.inl rfl⟩
theorem foX9_9 : FLo "BranchNames$Part" 9 9 1 := ⟨RX9, TX9, 5, tyX9, rfl, in_X9, tyX9_ok, nmX9, by decide, _, q1365, Or.inl rfl⟩
theorem fX9_15 : FL "BranchNames$Part" 15 9 3 := ⟨RX9, TX9, 5, tyX9, rfl, in_X9, tyX9_ok, nmX9, by decide, _, Or.inl q1369, Or.inl rfl⟩
theorem foX9_19 : FLo "BranchNames$Part" 19 9 0 := ⟨RX9, TX9, 5, tyX9, rfl, in_X9, tyX9_ok, nmX9, by decide, _, q1363, Or.inl rfl⟩
theorem fX9_9 : FL "BranchNames$Part" 9 9 1 := ⟨RX9, TX9, 5, tyX9, rfl, in_X9, tyX9_ok, nmX9, by decide, _, Or.inl q1365, Or.inl rfl⟩
theorem fX9_22 : FL "BranchNames$Part" 22 9 2 := ⟨RX9, TX9, 5, tyX9, rfl, in_X9, tyX9_ok, nmX9, by decide, _, Or.inl q1367, Or.inl rfl⟩
theorem LJ0_32 : LkV "java/lang/AbstractStringBuilder" 32 "java/lang/String" mJ2_length 0 := ⟨q382, q383, q384, q156, q385, ⟨rfl, by decide +kernel, by decide +kernel, by decide +kernel⟩, by decide⟩
theorem LJ0_100U : LkU "java/lang/AbstractStringBuilder" 100 "java/lang/StringBuilder" { cls := "java/lang/AbstractStringBuilder", name := "ensureCapacityInternal", desc := "(I)V" } mJ0_ensureCapacityInternal 1 := ⟨q316, q2419, ⟨q318, _, _, _, q319⟩, (Or.inr ⟨q317, rfl⟩), q318, q154, q319, ⟨by decide +kernel, by decide +kernel, by decide +kernel⟩, by decide⟩
theorem LJ0_208U : LkU "java/lang/AbstractStringBuilder" 208 "java/lang/StringBuilder" { cls := "java/lang/AbstractStringBuilder", name := "putStringAt", desc := "(ILjava/lang/String;)V" } mJ0_putStringAt 2 := ⟨q391, q2421, ⟨q393, _, _, _, q394⟩, (Or.inr ⟨q392, rfl⟩), q393, q154, q394, ⟨by decide +kernel, by decide +kernel, by decide +kernel⟩, by decide⟩
theorem LJ0_83U : LkU "java/lang/AbstractStringBuilder" 83 "java/lang/StringBuilder" { cls := "java/lang/AbstractStringBuilder", name := "isLatin1", desc := "()Z" } mJ0_isLatin1 0 := ⟨q351, q353, ⟨q352, _, _, _, q355⟩, (Or.inl q354), q352, q154, q355, ⟨by decide +kernel, by decide +kernel, by decide +kernel⟩, by decide⟩
theorem LJ0_226 : LkS "java/lang/AbstractStringBuilder" 226 mJ3_putCharsAt 6 := ⟨q356, q357, q157, q358, ⟨by decide +kernel, by decide +kernel, by decide +kernel⟩, by decide⟩
theorem LJ0_104U : LkU "java/lang/AbstractStringBuilder" 104 "java/lang/StringBuilder" { cls := "java/lang/AbstractStringBuilder", name := "newCapacity", desc := "(I)I" } mJ0_newCapacity 1 := ⟨q320, q2420, ⟨q322, _, _, _, q323⟩, (Or.inr ⟨q321, rfl⟩), q322, q154, q323, ⟨by decide +kernel, by decide +kernel, by decide +kernel⟩, by decide⟩
theorem LJ0_108 : LkS "java/lang/AbstractStringBuilder" 108 mJ6_copyOf 2 := ⟨q335, q336, q160, q337, ⟨by decide +kernel, by decide +kernel, by decide +kernel⟩, by decide⟩
theorem LJ0_114 : LkS "java/lang/AbstractStringBuilder" 114 mJ4_newLength 3 := ⟨q324, q325, q158, q326, ⟨by decide +kernel, by decide +kernel, by decide +kernel⟩, by decide⟩
theorem LJ0_397U : LkU "java/lang/AbstractStringBuilder" 397 "java/lang/StringBuilder" { cls := "java/lang/AbstractStringBuilder", name := "inflateIfNeededFor", desc := "(Ljava/lang/String;)V" } mJ0_inflateIfNeededFor 1 := ⟨q395, q2422, ⟨q397, _, _, _, q398⟩, (Or.inr ⟨q396, rfl⟩), q397, q154, q398, ⟨by decide +kernel, by decide +kernel, by decide +kernel⟩, by decide⟩
theorem LJ0_399 : LkV "java/lang/AbstractStringBuilder" 399 "java/lang/String" mJ2_getBytes 3 := ⟨q419, q420, q421, q156, q422, ⟨rfl, by decide +kernel, by decide +kernel, by decide +kernel⟩, by decide⟩
theorem LJ0_40 : LkV "java/lang/AbstractStringBuilder" 40 "java/lang/String" mJ2_coder 0 := ⟨q399, q387, q388, q156, q389, ⟨rfl, by decide +kernel, by decide +kernel, by decide +kernel⟩, by decide⟩
theorem LJ0_195U : LkU "java/lang/AbstractStringBuilder" 195 "java/lang/StringBuilder" { cls := "java/lang/AbstractStringBuilder", name := "inflate", desc := "()V" } mJ0_inflate 0 := ⟨q400, q2423, ⟨q402, _, _, _, q403⟩, (Or.inr ⟨q401, rfl⟩), q402, q154, q403, ⟨by decide +kernel, by decide +kernel, by decide +kernel⟩, by decide⟩
theorem LJ0_26 : LkS "java/lang/AbstractStringBuilder" 26 mJ3_newBytesFor 1 := ⟨q283, q284, q157, q285, ⟨by decide +kernel, by decide +kernel, by decide +kernel⟩, by decide⟩
theorem LJ0_125 : LkS "java/lang/AbstractStringBuilder" 125 mJ8_inflate 5 := ⟨q404, q405, q163, q406, ⟨by decide +kernel, by decide +kernel, by decide +kernel⟩, by decide⟩
theorem LJ0_197 : LkS "java/lang/AbstractStringBuilder" 197 mJ3_putCharSB 3 := ⟨q1098, q1099, q157, q1100, ⟨by decide +kernel, by decide +kernel, by decide +kernel⟩, by decide⟩
theorem LJ0_191 : LkS "java/lang/AbstractStringBuilder" 191 mJ8_canEncode 1 := ⟨q1095, q1096, q163, q1097, ⟨by decide +kernel, by decide +kernel, by decide +kernel⟩, by decide⟩
theorem LJ0_245 : LkS "java/lang/AbstractStringBuilder" 245 mJ9_stringSize 1 := ⟨q1191, q1192, q169, q1193, ⟨by decide +kernel, by decide +kernel, by decide +kernel⟩, by decide⟩
theorem LJ0_251 : LkS "java/lang/AbstractStringBuilder" 251 mJ3_getChars 4 := ⟨q1201, q1202, q157, q1203, ⟨by decide +kernel, by decide +kernel, by decide +kernel⟩, by decide⟩
theorem LJ0_248 : LkS "java/lang/AbstractStringBuilder" 248 mJ9_getChars 3 := ⟨q1194, q1195, q169, q1196, ⟨by decide +kernel, by decide +kernel, by decide +kernel⟩, by decide⟩
theorem LJ1_1 : LkI "java/lang/StringBuilder" 1 mJ0_init 1 := ⟨q279, rfl, q154, q277, q278, rfl, ⟨by decide +kernel, by decide +kernel, by decide +kernel⟩, by decide⟩
theorem LJ1_29SU : LkSU "java/lang/StringBuilder" 29 mJ0_append 1 := ⟨q309, q2417, q302, q310, q154, q311, ⟨by decide +kernel, by decide +kernel⟩, by decide⟩
theorem LJ1_137 : LkI "java/lang/StringBuilder" 137 mJ2_init 1 := ⟨q434, rfl, q156, q432, q433, rfl, ⟨by decide +kernel, by decide +kernel, by decide +kernel⟩, by decide⟩
theorem LJ1_343SU : LkSU "java/lang/StringBuilder" 343 mJ0_length 0 := ⟨q450, q446, q302, q445, q154, q451, ⟨by decide +kernel, by decide +kernel⟩, by decide⟩
theorem LJ1_50SU : LkSU "java/lang/StringBuilder" 50 mJ0_append_2 1 := ⟨q1092, q2424, q302, q1093, q154, q1094, ⟨by decide +kernel, by decide +kernel⟩, by decide⟩
theorem LJ1_53SU : LkSU "java/lang/StringBuilder" 53 mJ0_append_3 1 := ⟨q1188, q2425, q302, q1189, q154, q1190, ⟨by decide +kernel, by decide +kernel⟩, by decide⟩
theorem LJ11_1 : LkI "java/util/AbstractList" 1 mJ10_init 0 := ⟨q1011, rfl, q170, q1009, q1010, rfl, ⟨by decide +kernel, by decide +kernel, by decide +kernel⟩, by decide⟩
theorem LJ12_1 : LkI "java/util/ArrayList" 1 mJ11_init 0 := ⟨q1008, rfl, q171, q1006, q1007, rfl, ⟨by decide +kernel, by decide +kernel, by decide +kernel⟩, by decide⟩
theorem LJ12_118 : LkS "java/util/ArrayList" 118 mJ13_checkIndex 2 := ⟨q1038, q1039, q173, q1040, ⟨by decide +kernel, by decide +kernel, by decide +kernel⟩, by decide⟩
theorem LJ12_123 : LkV "java/util/ArrayList" 123 "java/util/ArrayList" mJ12_elementData 1 := ⟨q1044, q1045, q1046, q172, q1047, ⟨rfl, by decide +kernel, by decide +kernel, by decide +kernel⟩, by decide⟩
theorem LJ12_135 : LkV "java/util/ArrayList" 135 "java/util/ArrayList" mJ12_rangeCheckForAdd 1 := ⟨q1125, q1127, qs46, q172, q1128, ⟨rfl, by decide +kernel, by decide +kernel, by decide +kernel⟩, by decide⟩
theorem LJ12_129 : LkV "java/util/ArrayList" 129 "java/util/ArrayList" mJ12_grow 0 := ⟨q1129, q1131, qs47, q172, q1132, ⟨rfl, by decide +kernel, by decide +kernel, by decide +kernel⟩, by decide⟩
theorem LJ12_69 : LkV "java/util/ArrayList" 69 "java/util/ArrayList" mJ12_grow_2 1 := ⟨q1133, q1135, qs48, q172, q1136, ⟨rfl, by decide +kernel, by decide +kernel, by decide +kernel⟩, by decide⟩
theorem LJ12_73 : LkS "java/util/ArrayList" 73 mJ4_newLength 3 := ⟨q1137, q325, q158, q326, ⟨by decide +kernel, by decide +kernel, by decide +kernel⟩, by decide⟩
theorem LJ12_66 : LkS "java/util/ArrayList" 66 mJ6_copyOf_2 2 := ⟨q1138, q1139, q160, q1140, ⟨by decide +kernel, by decide +kernel, by decide +kernel⟩, by decide⟩
theorem LJ12_131 : LkV "java/util/ArrayList" 131 "java/util/ArrayList" mJ12_add_3 3 := ⟨q1499, q1501, qs69, q172, q1502, ⟨rfl, by decide +kernel, by decide +kernel, by decide +kernel⟩, by decide⟩
theorem LJ13_105 : LkS "java/util/Objects" 105 mJ7_checkIndex 3 := ⟨q1041, q1042, q162, q1043, ⟨by decide +kernel, by decide +kernel, by decide +kernel⟩, by decide⟩
theorem LJ15_16 : LkI "java/lang/Exception" 16 mJ14_init_2 4 := ⟨q1438, rfl, q178, q1436, q1437, rfl, ⟨by decide +kernel, by decide +kernel, by decide +kernel⟩, by decide⟩
theorem LJ2_1062 : LkS "java/lang/String" 1062 mJ7_checkFromToIndex 4 := ⟨q370, q371, q162, q372, ⟨by decide +kernel, by decide +kernel, by decide +kernel⟩, by decide⟩
theorem LJ2_335 : LkV "java/lang/String" 335 "java/lang/String" mJ2_coder 0 := ⟨q386, q387, q388, q156, q389, ⟨rfl, by decide +kernel, by decide +kernel, by decide +kernel⟩, by decide⟩
theorem LJ2_1065 : LkS "java/lang/String" 1065 mJ7_checkFromIndexSize 4 := ⟨q416, q417, q162, q418, ⟨by decide +kernel, by decide +kernel, by decide +kernel⟩, by decide⟩
theorem LJ2_106 : LkS "java/lang/String" 106 mJ8_inflate 5 := ⟨q424, q405, q163, q406, ⟨by decide +kernel, by decide +kernel, by decide +kernel⟩, by decide⟩
theorem LJ2_489 : LkI "java/lang/String" 489 mJ2_init_2 2 := ⟨q437, rfl, q156, q435, q436, rfl, ⟨by decide +kernel, by decide +kernel, by decide +kernel⟩, by decide⟩
theorem LJ2_552U : LkU "java/lang/String" 552 "java/lang/StringBuilder" { cls := "java/lang/AbstractStringBuilder", name := "getValue", desc := "()[B" } mJ0_getValue 0 := ⟨q439, q441, ⟨q440, _, _, _, q443⟩, (Or.inl q442), q440, q154, q443, ⟨by decide +kernel, by decide +kernel, by decide +kernel⟩, by decide⟩
theorem LJ2_549U : LkU "java/lang/String" 549 "java/lang/StringBuilder" { cls := "java/lang/AbstractStringBuilder", name := "length", desc := "()I" } mJ1_length 0 := ⟨q444, q446, ⟨q445, _, _, _, q451⟩, (Or.inl q447), q448, q155, q449, ⟨by decide +kernel, by decide +kernel, by decide +kernel⟩, by decide⟩
theorem LJ2_1047U : LkU "java/lang/String" 1047 "java/lang/StringBuilder" { cls := "java/lang/AbstractStringBuilder", name := "isLatin1", desc := "()Z" } mJ0_isLatin1 0 := ⟨q452, q353, ⟨q352, _, _, _, q355⟩, (Or.inl q354), q352, q154, q355, ⟨by decide +kernel, by decide +kernel, by decide +kernel⟩, by decide⟩
theorem LJ2_54 : LkS "java/lang/String" 54 mJ6_copyOfRange 3 := ⟨q453, q454, q160, q455, ⟨by decide +kernel, by decide +kernel, by decide +kernel⟩, by decide⟩
theorem LJ2_1051 : LkS "java/lang/String" 1051 mJ3_compress 3 := ⟨q462, q463, q157, q464, ⟨by decide +kernel, by decide +kernel, by decide +kernel⟩, by decide⟩
theorem LJ2_47 : LkS "java/lang/String" 47 mJ3_coderFromArrayLen 2 := ⟨q472, q473, q157, q474, ⟨by decide +kernel, by decide +kernel, by decide +kernel⟩, by decide⟩
theorem LJ2_492 : LkV "java/lang/String" 492 "java/lang/String" mJ2_isLatin1 0 := ⟨q1057, q1058, q1059, q156, q1060, ⟨rfl, by decide +kernel, by decide +kernel, by decide +kernel⟩, by decide⟩
theorem LJ2_498 : LkS "java/lang/String" 498 mJ3_charAt 2 := ⟨q1068, q1069, q157, q1070, ⟨by decide +kernel, by decide +kernel, by decide +kernel⟩, by decide⟩
theorem LJ2_495 : LkS "java/lang/String" 495 mJ8_charAt 2 := ⟨q1061, q1062, q163, q1063, ⟨by decide +kernel, by decide +kernel, by decide +kernel⟩, by decide⟩
theorem LJ2_1059 : LkS "java/lang/String" 1059 mJ7_checkIndex 3 := ⟨q1067, q1042, q162, q1043, ⟨by decide +kernel, by decide +kernel, by decide +kernel⟩, by decide⟩
theorem LJ3_11 : LkS "java/lang/StringUTF16" 11 mJ3_newBytesLength 1 := ⟨q286, q287, q157, q288, ⟨by decide +kernel, by decide +kernel, by decide +kernel⟩, by decide⟩
theorem LJ3_96 : LkS "java/lang/StringUTF16" 96 mJ3_checkBoundsBeginEnd 3 := ⟨q359, q360, q157, q361, ⟨by decide +kernel, by decide +kernel, by decide +kernel⟩, by decide⟩
theorem LJ3_111 : LkS "java/lang/StringUTF16" 111 mJ3_putChar 3 := ⟨q373, q374, q157, q375, ⟨by decide +kernel, by decide +kernel, by decide +kernel⟩, by decide⟩
theorem LJ3_48 : LkS "java/lang/StringUTF16" 48 mJ3_length 1 := ⟨q362, q363, q157, q364, ⟨by decide +kernel, by decide +kernel, by decide +kernel⟩, by decide⟩
theorem LJ3_241 : LkS "java/lang/StringUTF16" 241 mJ2_checkBoundsBeginEnd 3 := ⟨q365, q366, q156, q367, ⟨by decide +kernel, by decide +kernel, by decide +kernel⟩, by decide⟩
theorem LJ3_173 : LkS "java/lang/StringUTF16" 173 mJ3_checkBoundsOffCount 3 := ⟨q410, q411, q157, q412, ⟨by decide +kernel, by decide +kernel, by decide +kernel⟩, by decide⟩
theorem LJ3_419 : LkS "java/lang/StringUTF16" 419 mJ2_checkBoundsOffCount 3 := ⟨q413, q414, q156, q415, ⟨by decide +kernel, by decide +kernel, by decide +kernel⟩, by decide⟩
theorem LJ3_123 : LkS "java/lang/StringUTF16" 123 mJ3_compress_2 5 := ⟨q465, q466, q157, q467, ⟨by decide +kernel, by decide +kernel, by decide +kernel⟩, by decide⟩
theorem LJ3_126 : LkS "java/lang/StringUTF16" 126 mJ6_copyOfRange 3 := ⟨q471, q454, q160, q455, ⟨by decide +kernel, by decide +kernel, by decide +kernel⟩, by decide⟩
theorem LJ3_71 : LkS "java/lang/StringUTF16" 71 mJ3_getChar 2 := ⟨q468, q469, q157, q470, ⟨by decide +kernel, by decide +kernel, by decide +kernel⟩, by decide⟩
theorem LJ3_67 : LkS "java/lang/StringUTF16" 67 mJ3_checkIndex 2 := ⟨q1071, q1072, q157, q1073, ⟨by decide +kernel, by decide +kernel, by decide +kernel⟩, by decide⟩
theorem LJ3_414 : LkS "java/lang/StringUTF16" 414 mJ2_checkIndex 2 := ⟨q1074, q1065, q156, q1066, ⟨by decide +kernel, by decide +kernel, by decide +kernel⟩, by decide⟩
theorem LJ3_393 : LkS "java/lang/StringUTF16" 393 mJ3_getChars_2 3 := ⟨q1204, q1205, q157, q1206, ⟨by decide +kernel, by decide +kernel, by decide +kernel⟩, by decide⟩
theorem LJ4_201 : LkS "jdk/internal/util/ArraysSupport" 201 mJ4_hugeLength 2 := ⟨q331, q332, q158, q333, ⟨by decide +kernel, by decide +kernel, by decide +kernel⟩, by decide⟩
theorem LJ6_339 : LkS "java/util/Arrays" 339 mJ6_copyOfRangeByte 3 := ⟨q456, q457, q160, q458, ⟨by decide +kernel, by decide +kernel, by decide +kernel⟩, by decide⟩
theorem LJ6_343 : LkS "java/util/Arrays" 343 mJ6_checkLength 2 := ⟨q459, q460, q160, q461, ⟨by decide +kernel, by decide +kernel, by decide +kernel⟩, by decide⟩
theorem LJ8_240 : LkS "java/lang/StringLatin1" 240 mJ3_inflate 5 := ⟨q407, q408, q157, q409, ⟨by decide +kernel, by decide +kernel, by decide +kernel⟩, by decide⟩
theorem LJ8_9 : LkS "java/lang/StringLatin1" 9 mJ2_checkIndex 2 := ⟨q1064, q1065, q156, q1066, ⟨by decide +kernel, by decide +kernel, by decide +kernel⟩, by decide⟩
theorem LX0_364 : LkI "BranchNames" 364 mX1_init 0 := ⟨q198, rfl, q153, q196, q197, rfl, ⟨by decide +kernel, by decide +kernel, by decide +kernel⟩, by decide⟩
theorem LX0_692 : LkV "BranchNames" 692 "BranchNames" mX0_twos 2 := ⟨q495, q497, qs1, q152, q498, ⟨rfl, by decide +kernel, by decide +kernel, by decide +kernel⟩, by decide⟩
theorem LX0_54 : LkV "BranchNames" 54 "BranchNames" mX0_measures 1 := ⟨q499, q501, qs2, q152, q502, ⟨rfl, by decide +kernel, by decide +kernel, by decide +kernel⟩, by decide⟩
theorem LX0_40 : LkV "BranchNames" 40 "BranchNames" mX0_goes 5 := ⟨q503, q505, qs3, q152, q506, ⟨rfl, by decide +kernel, by decide +kernel, by decide +kernel⟩, by decide⟩
theorem LX0_65 : LkV "BranchNames" 65 "BranchNames" mX0_centre 2 := ⟨q515, q517, qs6, q152, q518, ⟨rfl, by decide +kernel, by decide +kernel, by decide +kernel⟩, by decide⟩
theorem LX0_58 : LkV "BranchNames" 58 "BranchNames" mX0_deep 2 := ⟨q519, q521, qs7, q152, q522, ⟨rfl, by decide +kernel, by decide +kernel, by decide +kernel⟩, by decide⟩
theorem LX0_152 : LkV "BranchNames" 152 "BranchNames" mX0_looks 1 := ⟨q528, q530, qs9, q152, q531, ⟨rfl, by decide +kernel, by decide +kernel, by decide +kernel⟩, by decide⟩
theorem LX0_155 : LkV "BranchNames" 155 "BranchNames" mX0_leastAlike 1 := ⟨q547, q549, qs12, q152, q550, ⟨rfl, by decide +kernel, by decide +kernel, by decide +kernel⟩, by decide⟩
theorem LX0_68 : LkV "BranchNames" 68 "BranchNames" mX0_seenAt 2 := ⟨q532, q534, qs10, q152, q535, ⟨rfl, by decide +kernel, by decide +kernel, by decide +kernel⟩, by decide⟩
theorem LX0_21 : LkV "BranchNames" 21 "BranchNames" mX0_codeOf 4 := ⟨q536, q538, qs11, q152, q539, ⟨rfl, by decide +kernel, by decide +kernel, by decide +kernel⟩, by decide⟩
theorem LX0_25 : LkS "BranchNames" 25 mX0_digitsOf 1 := ⟨q540, q541, q152, q542, ⟨by decide +kernel, by decide +kernel, by decide +kernel⟩, by decide⟩
theorem LX0_33 : LkS "BranchNames" 33 mX0_numberOf 1 := ⟨q544, q545, q152, q546, ⟨by decide +kernel, by decide +kernel, by decide +kernel⟩, by decide⟩
theorem LX0_165 : LkV "BranchNames" 165 "BranchNames" mX0_alike 2 := ⟨q554, q556, qs14, q152, q557, ⟨rfl, by decide +kernel, by decide +kernel, by decide +kernel⟩, by decide⟩
theorem LX0_161 : LkV "BranchNames" 161 "BranchNames" mX0_ways 4 := ⟨q558, q560, qs15, q152, q561, ⟨rfl, by decide +kernel, by decide +kernel, by decide +kernel⟩, by decide⟩
theorem LX0_118 : LkV "BranchNames" 118 "BranchNames$Tree" mX1_isFull 1 := ⟨q565, q566, q567, q153, q568, ⟨rfl, by decide +kernel, by decide +kernel, by decide +kernel⟩, by decide⟩
theorem LX0_125 : LkV "BranchNames" 125 "BranchNames$Tree" mX1_becomes 1 := ⟨q569, q570, q571, q153, q572, ⟨rfl, by decide +kernel, by decide +kernel, by decide +kernel⟩, by decide⟩
theorem LX0_81 : LkV "BranchNames" 81 "BranchNames$Tree" mX1_grows 1 := ⟨q573, q574, q575, q153, q576, ⟨rfl, by decide +kernel, by decide +kernel, by decide +kernel⟩, by decide⟩
theorem LX0_128 : LkV "BranchNames" 128 "BranchNames" mX0_keyOf 1 := ⟨q581, q583, qs17, q152, q584, ⟨rfl, by decide +kernel, by decide +kernel, by decide +kernel⟩, by decide⟩
theorem LX0_689 : LkV "BranchNames" 689 "BranchNames" mX0_greatestDeep 1 := ⟨q591, q593, qs19, q152, q594, ⟨rfl, by decide +kernel, by decide +kernel, by decide +kernel⟩, by decide⟩
theorem LX0_173 : LkI "BranchNames" 173 mX2_init 1 := ⟨q611, rfl, q164, q609, q610, rfl, ⟨by decide +kernel, by decide +kernel, by decide +kernel⟩, by decide⟩
theorem LX0_209 : LkI "BranchNames" 209 mX4_init 2 := ⟨q656, rfl, q166, q654, q655, rfl, ⟨by decide +kernel, by decide +kernel, by decide +kernel⟩, by decide⟩
theorem LX0_212 : LkV "BranchNames" 212 "BranchNames$Seeker" mX4_seeks 3 := ⟨q670, q671, q672, q166, q673, ⟨rfl, by decide +kernel, by decide +kernel, by decide +kernel⟩, by decide⟩
theorem LX0_136 : LkV "BranchNames" 136 "BranchNames" mX0_copied 0 := ⟨q723, q725, qs25, q152, q726, ⟨rfl, by decide +kernel, by decide +kernel, by decide +kernel⟩, by decide⟩
theorem LX0_115 : LkV "BranchNames" 115 "BranchNames" mX0_isBy 3 := ⟨q732, q734, qs27, q152, q735, ⟨rfl, by decide +kernel, by decide +kernel, by decide +kernel⟩, by decide⟩
theorem LX0_132 : LkV "BranchNames" 132 "BranchNames" mX0_comesIn 1 := ⟨q719, q721, qs24, q152, q722, ⟨rfl, by decide +kernel, by decide +kernel, by decide +kernel⟩, by decide⟩
theorem LX0_89 : LkV "BranchNames" 89 "BranchNames" mX0_digitsOf_2 2 := ⟨q736, q738, qs28, q152, q739, ⟨rfl, by decide +kernel, by decide +kernel, by decide +kernel⟩, by decide⟩
theorem LX0_92 : LkV "BranchNames" 92 "BranchNames$Tree" mX1_begins 0 := ⟨q740, q207, q208, q153, q209, ⟨rfl, by decide +kernel, by decide +kernel, by decide +kernel⟩, by decide⟩
theorem LX0_85 : LkV "BranchNames" 85 "BranchNames" mX0_isTwig 3 := ⟨q741, q743, qs29, q152, q744, ⟨rfl, by decide +kernel, by decide +kernel, by decide +kernel⟩, by decide⟩
theorem LX0_475 : LkV "BranchNames" 475 "BranchNames" mX0_setsOf 2 := ⟨q749, q751, qs31, q152, q752, ⟨rfl, by decide +kernel, by decide +kernel, by decide +kernel⟩, by decide⟩
theorem LX0_479 : LkS "BranchNames" 479 mX0_chosen 2 := ⟨q753, q754, q152, q755, ⟨by decide +kernel, by decide +kernel, by decide +kernel⟩, by decide⟩
theorem LX0_142 : LkS "BranchNames" 142 mX0_isIn 3 := ⟨q868, q869, q152, q870, ⟨by decide +kernel, by decide +kernel, by decide +kernel⟩, by decide⟩
theorem LX0_486 : LkV "BranchNames" 486 "BranchNames" mX0_rooted 1 := ⟨q872, q874, qs32, q152, q875, ⟨rfl, by decide +kernel, by decide +kernel, by decide +kernel⟩, by decide⟩
theorem LX0_490 : LkV "BranchNames" 490 "BranchNames" mX0_bonded 1 := ⟨q876, q878, qs33, q152, q879, ⟨rfl, by decide +kernel, by decide +kernel, by decide +kernel⟩, by decide⟩
theorem LX0_493 : LkV "BranchNames" 493 "BranchNames" mX0_halved 1 := ⟨q880, q882, qs34, q152, q883, ⟨rfl, by decide +kernel, by decide +kernel, by decide +kernel⟩, by decide⟩
theorem LX0_496 : LkV "BranchNames" 496 "BranchNames$Tree" mX1_isAtom 1 := ⟨q888, q889, q890, q153, q891, ⟨rfl, by decide +kernel, by decide +kernel, by decide +kernel⟩, by decide⟩
theorem LX0_499 : LkV "BranchNames" 499 "BranchNames$Tree" mX1_cuts 1 := ⟨q897, q898, q899, q153, q900, ⟨rfl, by decide +kernel, by decide +kernel, by decide +kernel⟩, by decide⟩
theorem LX0_502 : LkV "BranchNames" 502 "BranchNames" mX0_isListed 2 := ⟨q917, q919, qs38, q152, q920, ⟨rfl, by decide +kernel, by decide +kernel, by decide +kernel⟩, by decide⟩
theorem LX0_146 : LkV "BranchNames" 146 "BranchNames" mX0_isList 1 := ⟨q921, q923, qs39, q152, q924, ⟨rfl, by decide +kernel, by decide +kernel, by decide +kernel⟩, by decide⟩
theorem LX0_507 : LkV "BranchNames" 507 "BranchNames" mX0_placeIn 2 := ⟨q935, q937, qs40, q152, q938, ⟨rfl, by decide +kernel, by decide +kernel, by decide +kernel⟩, by decide⟩
theorem LX0_513 : LkV "BranchNames" 513 "BranchNames$Tree" mX1_bound 2 := ⟨q948, q949, q950, q153, q951, ⟨rfl, by decide +kernel, by decide +kernel, by decide +kernel⟩, by decide⟩
theorem LX0_516 : LkV "BranchNames" 516 "BranchNames$Tree" mX1_isBound 2 := ⟨q964, q953, q954, q153, q955, ⟨rfl, by decide +kernel, by decide +kernel, by decide +kernel⟩, by decide⟩
theorem LX0_308 : LkV "BranchNames" 308 "BranchNames" mX0_nameOf 3 := ⟨q965, q967, qs41, q152, q968, ⟨rfl, by decide +kernel, by decide +kernel, by decide +kernel⟩, by decide⟩
theorem LX0_251 : LkV "BranchNames" 251 "java/lang/String" mJ2_length 0 := ⟨q1052, q383, q384, q156, q385, ⟨rfl, by decide +kernel, by decide +kernel, by decide +kernel⟩, by decide⟩
theorem LX0_519 : LkS "BranchNames" 519 mX0_byteOf 2 := ⟨q1226, q1227, q152, q1228, ⟨by decide +kernel, by decide +kernel, by decide +kernel⟩, by decide⟩
theorem LX0_340 : LkV "BranchNames" 340 "BranchNames$Tree" mX1_isTold 2 := ⟨q969, q970, q971, q153, q972, ⟨rfl, by decide +kernel, by decide +kernel, by decide +kernel⟩, by decide⟩
theorem LX0_344 : LkV "BranchNames" 344 "BranchNames$Tree" mX1_straight 2 := ⟨q973, q974, q975, q153, q976, ⟨rfl, by decide +kernel, by decide +kernel, by decide +kernel⟩, by decide⟩
theorem LX0_350 : LkV "BranchNames" 350 "BranchNames$Tree" mX1_tells 3 := ⟨q1222, q1223, q1224, q153, q1225, ⟨rfl, by decide +kernel, by decide +kernel, by decide +kernel⟩, by decide⟩
theorem LX0_247 : LkV "BranchNames" 247 "BranchNames" mX0_chainOf 3 := ⟨q977, q979, qs42, q152, q980, ⟨rfl, by decide +kernel, by decide +kernel, by decide +kernel⟩, by decide⟩
theorem LX0_699 : LkS "BranchNames" 699 mX0_prefersLess 4 := ⟨q983, q984, q152, q985, ⟨by decide +kernel, by decide +kernel, by decide +kernel⟩, by decide⟩
theorem LX0_191 : LkS "BranchNames" 191 mX0_hangsAt 4 := ⟨q986, q987, q152, q988, ⟨by decide +kernel, by decide +kernel, by decide +kernel⟩, by decide⟩
theorem LX0_188 : LkV "BranchNames" 188 "BranchNames$Way" mX3_isOn 1 := ⟨q989, q683, q684, q165, q685, ⟨rfl, by decide +kernel, by decide +kernel, by decide +kernel⟩, by decide⟩
theorem LX0_695 : LkV "BranchNames" 695 "BranchNames" mX0_prefersName 4 := ⟨q993, q995, qs44, q152, q996, ⟨rfl, by decide +kernel, by decide +kernel, by decide +kernel⟩, by decide⟩
theorem LX0_199 : LkV "BranchNames" 199 "BranchNames" mX0_nameBy 3 := ⟨q997, q999, qs45, q152, q1000, ⟨rfl, by decide +kernel, by decide +kernel, by decide +kernel⟩, by decide⟩
theorem LX0_203 : LkS "BranchNames" 203 mX0_compared 2 := ⟨q1049, q1050, q152, q1051, ⟨by decide +kernel, by decide +kernel, by decide +kernel⟩, by decide⟩
theorem LX0_307 : LkI "BranchNames" 307 mJ12_init 0 := ⟨q1005, rfl, q172, q1003, q1004, rfl, ⟨by decide +kernel, by decide +kernel, by decide +kernel⟩, by decide⟩
theorem LX0_271 : LkI "BranchNames" 271 mJ1_init 0 := ⟨q276, rfl, q155, q274, q275, rfl, ⟨by decide +kernel, by decide +kernel, by decide +kernel⟩, by decide⟩
theorem LX0_312 : LkS "BranchNames" 312 mX0_partOf 2 := ⟨q1027, q1028, q152, q1029, ⟨by decide +kernel, by decide +kernel, by decide +kernel⟩, by decide⟩
theorem LX0_316 : LkV "BranchNames" 316 "BranchNames$Named" mX6_comes 1 := ⟨q1172, q1173, q1174, q174, q1175, ⟨rfl, by decide +kernel, by decide +kernel, by decide +kernel⟩, by decide⟩
theorem LX0_284 : LkV "BranchNames" 284 "java/util/ArrayList" mJ12_size 0 := ⟨q1030, q1031, q1032, q172, q1033, ⟨rfl, by decide +kernel, by decide +kernel, by decide +kernel⟩, by decide⟩
theorem LX0_333 : LkV "BranchNames" 333 "java/lang/StringBuilder" mJ1_append 1 := ⟨q305, q306, q307, q155, q308, ⟨rfl, by decide +kernel, by decide +kernel, by decide +kernel⟩, by decide⟩
theorem LX0_280 : LkV "BranchNames" 280 "java/lang/StringBuilder" mJ1_toString 0 := ⟨q426, q427, q428, q155, q429, ⟨rfl, by decide +kernel, by decide +kernel, by decide +kernel⟩, by decide⟩
theorem LX0_289 : LkV "BranchNames" 289 "java/util/ArrayList" mJ12_get 1 := ⟨q1034, q1035, q1036, q172, q1037, ⟨rfl, by decide +kernel, by decide +kernel, by decide +kernel⟩, by decide⟩
theorem LX0_326 : LkV "BranchNames" 326 "BranchNames$Named" mX6_spells 2 := ⟨q1177, q1178, q1179, q174, q1180, ⟨rfl, by decide +kernel, by decide +kernel, by decide +kernel⟩, by decide⟩
theorem LX0_276 : LkV "BranchNames" 276 "java/lang/StringBuilder" mJ1_append_2 1 := ⟨q1088, q1089, q1090, q155, q1091, ⟨rfl, by decide +kernel, by decide +kernel, by decide +kernel⟩, by decide⟩
theorem LX0_296 : LkI "BranchNames" 296 mX6_init 1 := ⟨q1078, rfl, q174, q1076, q1077, rfl, ⟨by decide +kernel, by decide +kernel, by decide +kernel⟩, by decide⟩
theorem LX0_303 : LkV "BranchNames" 303 "java/util/ArrayList" mJ12_add 2 := ⟨q1121, q1122, q1123, q172, q1124, ⟨rfl, by decide +kernel, by decide +kernel, by decide +kernel⟩, by decide⟩
theorem LX0_299 : LkV "BranchNames" 299 "BranchNames$Named" mX6_behind 1 := ⟨q1116, q1117, q1118, q174, q1119, ⟨rfl, by decide +kernel, by decide +kernel, by decide +kernel⟩, by decide⟩
theorem LX0_257 : LkV "BranchNames" 257 "java/lang/String" mJ2_charAt 1 := ⟨q1053, q1054, q1055, q156, q1056, ⟨rfl, by decide +kernel, by decide +kernel, by decide +kernel⟩, by decide⟩
theorem LX0_273 : LkS "BranchNames" 273 mX0_isLetter 1 := ⟨q1083, q1084, q152, q1085, ⟨by decide +kernel, by decide +kernel, by decide +kernel⟩, by decide⟩
theorem LX0_526 : LkV "BranchNames" 526 "BranchNames" mX0_orderOf 2 := ⟨q1249, q1251, qs50, q152, q1252, ⟨rfl, by decide +kernel, by decide +kernel, by decide +kernel⟩, by decide⟩
theorem LX0_530 : LkV "BranchNames" 530 "BranchNames" mX0_nameOf_2 1 := ⟨q1257, q1259, qs51, q152, q1260, ⟨rfl, by decide +kernel, by decide +kernel, by decide +kernel⟩, by decide⟩
theorem LX0_358 : LkV "BranchNames" 358 "BranchNames" mX0_chainOf_2 1 := ⟨q1261, q1263, qs52, q152, q1264, ⟨rfl, by decide +kernel, by decide +kernel, by decide +kernel⟩, by decide⟩
theorem LX0_533 : LkV "BranchNames" 533 "BranchNames" mX0_nameListed 2 := ⟨q1269, q1271, qs53, q152, q1272, ⟨rfl, by decide +kernel, by decide +kernel, by decide +kernel⟩, by decide⟩
theorem LX0_537 : LkV "BranchNames" 537 "BranchNames" mX0_numberAt 2 := ⟨q1277, q1279, qs54, q152, q1280, ⟨rfl, by decide +kernel, by decide +kernel, by decide +kernel⟩, by decide⟩
theorem LX0_612 : LkIN "BranchNames" 612 mX7_init 1 := ⟨q1304, rfl, q175, ⟨_, q1302⟩, q1303, rfl, ⟨by decide +kernel, by decide +kernel, by decide +kernel⟩, by decide⟩
theorem LX0_615 : LkV "BranchNames" 615 "BranchNames$Reader" mX7_whole 0 := ⟨q1316, q1317, q1318, q175, q1319, ⟨rfl, by decide +kernel, by decide +kernel, by decide +kernel⟩, by decide⟩
theorem LX0_552 : LkV "BranchNames" 552 "BranchNames" mX0_makes 3 := ⟨q1503, q1505, qs70, q152, q1506, ⟨rfl, by decide +kernel, by decide +kernel, by decide +kernel⟩, by decide⟩
theorem LX0_622 : LkV "BranchNames" 622 "BranchNames" mX0_isWord 1 := ⟨q1547, q1549, qs73, q152, q1550, ⟨rfl, by decide +kernel, by decide +kernel, by decide +kernel⟩, by decide⟩
theorem LX0_572 : LkV "BranchNames" 572 "BranchNames$Tree" mX1_becomesChain 1 := ⟨q1507, q1508, q1509, q153, q1510, ⟨rfl, by decide +kernel, by decide +kernel, by decide +kernel⟩, by decide⟩
theorem LX0_564 : LkV "BranchNames" 564 "BranchNames$Tree" mX1_takes 2 := ⟨q1543, q1544, q1545, q153, q1546, ⟨rfl, by decide +kernel, by decide +kernel, by decide +kernel⟩, by decide⟩
theorem LX0_561 : LkI "BranchNames" 561 mX12_init 3 := ⟨q1523, rfl, q182, q1521, q1522, rfl, ⟨by decide +kernel, by decide +kernel, by decide +kernel⟩, by decide⟩
theorem LX0_653 : LkS "BranchNames" 653 mX0_isRow 1 := ⟨q1582, q1583, q152, q1584, ⟨by decide +kernel, by decide +kernel, by decide +kernel⟩, by decide⟩
theorem LX0_667 : LkS "BranchNames" 667 mX0_bytes 1 := ⟨q1620, q1621, q152, q1622, ⟨by decide +kernel, by decide +kernel, by decide +kernel⟩, by decide⟩
theorem LX0_664 : LkS "BranchNames" 664 mX0_longs 1 := ⟨q1604, q1605, q152, q1606, ⟨by decide +kernel, by decide +kernel, by decide +kernel⟩, by decide⟩
theorem LX0_660 : LkS "BranchNames" 660 mX0_ints 1 := ⟨q1588, q1589, q152, q1590, ⟨by decide +kernel, by decide +kernel, by decide +kernel⟩, by decide⟩
theorem LX0_643 : LkI "BranchNames" 643 mX13_init 1 := ⟨q1595, rfl, q183, q1593, q1594, rfl, ⟨by decide +kernel, by decide +kernel, by decide +kernel⟩, by decide⟩
theorem LX0_647 : LkI "BranchNames" 647 mX14_init 1 := ⟨q1611, rfl, q184, q1609, q1610, rfl, ⟨by decide +kernel, by decide +kernel, by decide +kernel⟩, by decide⟩
theorem LX0_650 : LkI "BranchNames" 650 mX15_init 1 := ⟨q1627, rfl, q185, q1625, q1626, rfl, ⟨by decide +kernel, by decide +kernel, by decide +kernel⟩, by decide⟩
theorem LX0_682 : LkS "BranchNames" 682 mX0_isOf 3 := ⟨q1735, q1736, q152, q1737, ⟨by decide +kernel, by decide +kernel, by decide +kernel⟩, by decide⟩
theorem LX1_35 : LkV "BranchNames$Tree" 35 "BranchNames$Tree" mX1_changes 0 := ⟨q210, q211, q212, q153, q213, ⟨rfl, by decide +kernel, by decide +kernel, by decide +kernel⟩, by decide⟩
theorem LX1_49 : LkV "BranchNames$Tree" 49 "BranchNames$Tree" mX1_binds 2 := ⟨q577, q578, q579, q153, q580, ⟨rfl, by decide +kernel, by decide +kernel, by decide +kernel⟩, by decide⟩
theorem LX1_45 : LkSN "BranchNames$Tree" 45 mX0_isIn 3 := ⟨⟨_, q892⟩, q869, q152, q870, ⟨by decide +kernel, by decide +kernel, by decide +kernel⟩, by decide⟩
theorem LX1_60 : LkV "BranchNames$Tree" 60 "BranchNames$Tree" mX1_frees 2 := ⟨q901, q903, qs35, q153, q904, ⟨rfl, by decide +kernel, by decide +kernel, by decide +kernel⟩, by decide⟩
theorem LX1_53 : LkV "BranchNames$Tree" 53 "BranchNames$Tree" mX1_bondTo 2 := ⟨q909, q911, qs37, q153, q912, ⟨rfl, by decide +kernel, by decide +kernel, by decide +kernel⟩, by decide⟩
theorem LX1_57 : LkV "BranchNames$Tree" 57 "BranchNames$Tree" mX1_bondTo2 2 := ⟨q905, q907, qs36, q153, q908, ⟨rfl, by decide +kernel, by decide +kernel, by decide +kernel⟩, by decide⟩
theorem LX1_67 : LkV "BranchNames$Tree" 67 "BranchNames$Tree" mX1_isBound 2 := ⟨q952, q953, q954, q153, q955, ⟨rfl, by decide +kernel, by decide +kernel, by decide +kernel⟩, by decide⟩
theorem LX1_28 : LkV "BranchNames$Tree" 28 "BranchNames$Tree" mX1_begins 0 := ⟨q206, q207, q208, q153, q209, ⟨rfl, by decide +kernel, by decide +kernel, by decide +kernel⟩, by decide⟩
theorem LX1_63 : LkV "BranchNames$Tree" 63 "BranchNames$Tree" mX1_grows 1 := ⟨q1511, q574, q575, q153, q576, ⟨rfl, by decide +kernel, by decide +kernel, by decide +kernel⟩, by decide⟩
theorem LX10_1 : LkI "BranchNames$Wrong" 1 mJ15_init 4 := ⟨q1435, rfl, q179, q1433, q1434, rfl, ⟨by decide +kernel, by decide +kernel, by decide +kernel⟩, by decide⟩
theorem LX11_1 : LkI "BranchNames$Unread" 1 mX10_init 1 := ⟨q1432, rfl, q180, q1430, q1431, rfl, ⟨by decide +kernel, by decide +kernel, by decide +kernel⟩, by decide⟩
theorem LX12_1 : LkI "BranchNames$Trouble" 1 mX10_init 1 := ⟨q1432, rfl, q180, q1524, q1431, rfl, ⟨by decide +kernel, by decide +kernel, by decide +kernel⟩, by decide⟩
theorem LX2_15 : LkIN "BranchNames$1" 15 mX3_init 0 := ⟨q617, rfl, q165, ⟨_, q615⟩, q616, rfl, ⟨by decide +kernel, by decide +kernel, by decide +kernel⟩, by decide⟩
theorem LX2_38 : LkV "BranchNames$1" 38 "BranchNames$Way" mX3_becomes 1 := ⟨q704, q705, q706, q165, q707, ⟨rfl, by decide +kernel, by decide +kernel, by decide +kernel⟩, by decide⟩
theorem LX2_34 : LkV "BranchNames$1" 34 "BranchNames$1" mX2_isBetter 1 := ⟨q696, q698, qs23, q164, q699, ⟨rfl, by decide +kernel, by decide +kernel, by decide +kernel⟩, by decide⟩
theorem LX4_9 : LkIN "BranchNames$Seeker" 9 mX3_init 0 := ⟨q617, rfl, q165, ⟨_, q659⟩, q616, rfl, ⟨by decide +kernel, by decide +kernel, by decide +kernel⟩, by decide⟩
theorem LX4_51 : LkV "BranchNames$Seeker" 51 "BranchNames$Seeker" mX4_hanging 1 := ⟨q674, q676, qs22, q166, q677, ⟨rfl, by decide +kernel, by decide +kernel, by decide +kernel⟩, by decide⟩
theorem LX4_61 : LkV "BranchNames$Seeker" 61 "BranchNames$Seeker" mX4_seeks 3 := ⟨q708, q671, q672, q166, q673, ⟨rfl, by decide +kernel, by decide +kernel, by decide +kernel⟩, by decide⟩
theorem LX4_34 : LkV "BranchNames$Seeker" 34 "BranchNames$Seeker" mX4_isBranch 2 := ⟨q678, q679, q680, q166, q681, ⟨rfl, by decide +kernel, by decide +kernel, by decide +kernel⟩, by decide⟩
theorem LX4_38 : LkV "BranchNames$Seeker" 38 "BranchNames$Way" mX3_isOn 1 := ⟨q682, q683, q684, q165, q685, ⟨rfl, by decide +kernel, by decide +kernel, by decide +kernel⟩, by decide⟩
theorem LX6_19 : LkSN "BranchNames$Named" 19 mX0_lettersOf 1 := ⟨⟨_, q1080⟩, q1081, q152, q1082, ⟨by decide +kernel, by decide +kernel, by decide +kernel⟩, by decide⟩
theorem LX6_30 : LkSN "BranchNames$Named" 30 mX0_compared 2 := ⟨⟨_, q1120⟩, q1050, q152, q1051, ⟨by decide +kernel, by decide +kernel, by decide +kernel⟩, by decide⟩
theorem LX6_61 : LkV "BranchNames$Named" 61 "java/lang/StringBuilder" mJ1_append_2 1 := ⟨q1209, q1089, q1090, q155, q1091, ⟨rfl, by decide +kernel, by decide +kernel, by decide +kernel⟩, by decide⟩
theorem LX6_52 : LkV "BranchNames$Named" 52 "java/lang/StringBuilder" mJ1_append 1 := ⟨q1183, q306, q307, q155, q308, ⟨rfl, by decide +kernel, by decide +kernel, by decide +kernel⟩, by decide⟩
theorem LX6_64 : LkV "BranchNames$Named" 64 "BranchNames$Named" mX6_isBracketed 0 := ⟨q1210, q1212, qs49, q174, q1213, ⟨rfl, by decide +kernel, by decide +kernel, by decide +kernel⟩, by decide⟩
theorem LX6_58 : LkV "BranchNames$Named" 58 "java/lang/StringBuilder" mJ1_append_3 1 := ⟨q1184, q1185, q1186, q155, q1187, ⟨rfl, by decide +kernel, by decide +kernel, by decide +kernel⟩, by decide⟩
theorem LX6_34 : LkV "BranchNames$Named" 34 "java/lang/String" mJ2_length 0 := ⟨q1214, q383, q384, q156, q385, ⟨rfl, by decide +kernel, by decide +kernel, by decide +kernel⟩, by decide⟩
theorem LX6_40 : LkV "BranchNames$Named" 40 "java/lang/String" mJ2_charAt 1 := ⟨q1215, q1054, q1055, q156, q1056, ⟨rfl, by decide +kernel, by decide +kernel, by decide +kernel⟩, by decide⟩
theorem LX6_44 : LkSN "BranchNames$Named" 44 mX0_isDigit 1 := ⟨⟨_, q1216⟩, q1217, q152, q1218, ⟨by decide +kernel, by decide +kernel, by decide +kernel⟩, by decide⟩
theorem LX7_26 : LkV "BranchNames$Reader" 26 "BranchNames$Reader" mX7_here 0 := ⟨q1320, q1322, qs56, q175, q1323, ⟨rfl, by decide +kernel, by decide +kernel, by decide +kernel⟩, by decide⟩
theorem LX7_73 : LkSN "BranchNames$Reader" 73 mX0_isIn 3 := ⟨⟨_, q1326⟩, q869, q152, q870, ⟨by decide +kernel, by decide +kernel, by decide +kernel⟩, by decide⟩
theorem LX7_104 : LkIN "BranchNames$Reader" 104 mX8_init 0 := ⟨q1335, rfl, q176, ⟨_, q1333⟩, q1334, rfl, ⟨by decide +kernel, by decide +kernel, by decide +kernel⟩, by decide⟩
theorem LX7_93 : LkV "BranchNames$Reader" 93 "BranchNames$Reader" mX7_stemBehind 0 := ⟨q1487, q1489, qs67, q175, q1490, ⟨rfl, by decide +kernel, by decide +kernel, by decide +kernel⟩, by decide⟩
theorem LX7_80 : LkV "BranchNames$Reader" 80 "BranchNames$Reader" mX7_must 1 := ⟨q1464, q1466, qs62, q175, q1467, ⟨rfl, by decide +kernel, by decide +kernel, by decide +kernel⟩, by decide⟩
theorem LX7_36 : LkI "BranchNames$Reader" 36 mX11_init 1 := ⟨q1429, rfl, q181, q1427, q1428, rfl, ⟨by decide +kernel, by decide +kernel, by decide +kernel⟩, by decide⟩
theorem LX7_129 : LkV "BranchNames$Reader" 129 "BranchNames$Reader" mX7_part 0 := ⟨q1353, q1355, qs58, q175, q1356, ⟨rfl, by decide +kernel, by decide +kernel, by decide +kernel⟩, by decide⟩
theorem LX7_133 : LkV "BranchNames$Reader" 133 "java/util/ArrayList" mJ12_add_2 1 := ⟨q1495, q1496, q1497, q172, q1498, ⟨rfl, by decide +kernel, by decide +kernel, by decide +kernel⟩, by decide⟩
theorem LX7_30 : LkV "BranchNames$Reader" 30 "BranchNames$Reader" mX7_isSign 1 := ⟨q1460, q1462, qs61, q175, q1463, ⟨rfl, by decide +kernel, by decide +kernel, by decide +kernel⟩, by decide⟩
theorem LX7_107 : LkI "BranchNames$Reader" 107 mX9_init 1 := ⟨q1361, rfl, q177, q1359, q1360, rfl, ⟨by decide +kernel, by decide +kernel, by decide +kernel⟩, by decide⟩
theorem LX7_108 : LkV "BranchNames$Reader" 108 "BranchNames$Reader" mX7_number 0 := ⟨q1385, q1387, qs59, q175, q1388, ⟨rfl, by decide +kernel, by decide +kernel, by decide +kernel⟩, by decide⟩
theorem LX7_111 : LkV "BranchNames$Reader" 111 "BranchNames$Part" mX9_comes 1 := ⟨q1456, q1457, q1458, q177, q1459, ⟨rfl, by decide +kernel, by decide +kernel, by decide +kernel⟩, by decide⟩
theorem LX7_65 : LkV "BranchNames$Reader" 65 "BranchNames$Reader" mX7_wordOf 1 := ⟨q1468, q1470, qs63, q175, q1471, ⟨rfl, by decide +kernel, by decide +kernel, by decide +kernel⟩, by decide⟩
theorem LX7_120 : LkV "BranchNames$Reader" 120 "BranchNames$Reader" mX7_branch 0 := ⟨q1479, q1481, qs65, q175, q1482, ⟨rfl, by decide +kernel, by decide +kernel, by decide +kernel⟩, by decide⟩
theorem LX7_77 : LkSN "BranchNames$Reader" 77 mX0_isDigit 1 := ⟨⟨_, q1455⟩, q1217, q152, q1218, ⟨by decide +kernel, by decide +kernel, by decide +kernel⟩, by decide⟩
theorem LX7_48 : LkV "BranchNames$Reader" 48 "BranchNames$Reader" mX7_alongside 1 := ⟨q1472, q1474, qs64, q175, q1475, ⟨rfl, by decide +kernel, by decide +kernel, by decide +kernel⟩, by decide⟩
theorem LX7_39 : LkV "BranchNames$Reader" 39 "java/lang/String" mJ2_length 0 := ⟨q1476, q383, q384, q156, q385, ⟨rfl, by decide +kernel, by decide +kernel, by decide +kernel⟩, by decide⟩
theorem LX7_44 : LkV "BranchNames$Reader" 44 "java/lang/String" mJ2_charAt 1 := ⟨q1477, q1054, q1055, q156, q1056, ⟨rfl, by decide +kernel, by decide +kernel, by decide +kernel⟩, by decide⟩
theorem LX7_99 : LkV "BranchNames$Reader" 99 "BranchNames$Reader" mX7_stem 0 := ⟨q1491, q1493, qs68, q175, q1494, ⟨rfl, by decide +kernel, by decide +kernel, by decide +kernel⟩, by decide⟩
theorem LX7_101 : LkV "BranchNames$Reader" 101 "BranchNames$Reader" mX7_bracket 0 := ⟨q1483, q1485, qs66, q175, q1486, ⟨rfl, by decide +kernel, by decide +kernel, by decide +kernel⟩, by decide⟩
theorem LX7_83 : LkV "BranchNames$Reader" 83 "BranchNames$Reader" mX7_parts 0 := ⟨q1327, q1329, qs57, q175, q1330, ⟨rfl, by decide +kernel, by decide +kernel, by decide +kernel⟩, by decide⟩
theorem LX8_9 : LkI "BranchNames$Branch" 9 mJ12_init 0 := ⟨q1005, rfl, q172, q1338, q1004, rfl, ⟨by decide +kernel, by decide +kernel, by decide +kernel⟩, by decide⟩
