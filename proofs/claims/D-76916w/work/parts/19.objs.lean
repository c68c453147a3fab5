set_option maxRecDepth 100000
/-! calls through an interface: what such a call does, whoever answers it -/
def RunF (l : Launch) (G : GG) (x : MethodName) (np d : Nat) (As : List Value) (w : Wd) (sz : Nat) (S : Post) : Prop :=
  ∃ (r : Option Value) (w' : Wd) (sz' n' : Nat), S r w' sz' n' ∧ sz ≤ sz' ∧ ∀ (M : Mt) (av : List Value) (sz0 : Nat) (p : Program) (e : Env) (R : Room) (s : State) (m : MethodId) (below : List Frame) (meth : Method) (c : Code) (H : Heap) (locs : List Loc) (cells slots : Nat) (la : Array Slot) (idx cnt pc b : Nat) (As1 st1 : List Value) (ls : List (Nat × Value)),
    Ctx G M av sz0 p s m meth c → GoodW G w sz H → va_S (AB G) s.heap H locs → lv_has la M.2.2.1 ls → R.frames = d → R.locals = 48 * d + 3200 → cells + (sz' - sz) ≤ R.cells → slots + n' ≤ R.slots →
    decode M.2.1 pc = .ok (.invokeinterface idx cnt, 5) → Cond.methodLink M.1.cls idx x ∈ lw_all → As = .ref b :: As1 → As1.length = np → (st1.map fun v => v.category).sum ≤ 8 →
    va_Run5 p l e R s m av.toArray below meth c H locs cells slots (sz' - sz) n' (F0 m pc la (As1.reverse ++ .ref b :: st1)) st1 (QR G r w' sz' As.toArray) (AB G)
theorem RunF.mono {l : Launch} {G : GG} {x : MethodName} {np d : Nat} {As : List Value} {w : Wd} {sz : Nat} {S S' : Post} (hS : ∀ r w sz n, S r w sz n → S' r w sz n) (h : RunF l G x np d As w sz S) : RunF l G x np d As w sz S' := by
  obtain ⟨r, w', sz', n', h1, h2⟩ := h
  exact ⟨r, w', sz', n', hS _ _ _ _ h1, h2⟩
/-- an object of a class answers by the class's method -/
def FA (G : GG) (C : String) (x : MethodName) (Mc : Mt) (np : Nat) : Prop := XF9 G C x Mc.1 ∧ Cond.selects C x Mc.1 ∈ lw_all ∧ Cond.instanceMethod Mc.1 ∈ lw_all ∧ Cond.initialized Mc.1.cls ∈ lw_all ∧ Cond.code Mc.1 Mc.2.1 Mc.2.2.1 Mc.2.2.2 ∈ lw_all ∧ (x.cls ≠ "java/lang/invoke/MethodHandle" ∧ x.cls ≠ "java/lang/invoke/VarHandle" ∧ (parseMethodDescriptor x.desc).map (fun d => d.parameters.length) = some np) ∧ Mc.2.2.1 ≤ 29
theorem RunF.of {l : Launch} {G : GG} {x : MethodName} {np d d' b : Nat} {C : String} {Mc : Mt} {As : List Value} {w : Wd} {sz : Nat} {S : Post} (hF : FA G C x Mc np) (hrc : RC G w b C) (hd' : d' < d) (h : Ret l G Mc d' (.ref b :: As) w sz S) : RunF l G x np d (.ref b :: As) w sz S := by
  obtain ⟨r, w1, sz1, n1, kk, hsz1, hM⟩ := h
  obtain ⟨hY, q2, q3, q4, q5, q6, q7⟩ := hF
  refine ⟨r, w1, sz1, n1, kk, hsz1, fun M av sz0 p e R s m below meth c H locs cells slots la idx cnt pc b' As1 st1 ls X hG hS hl hf hlo hce hsl hd q1 hAs hn hsum => ?_⟩
  cases hAs
  obtain ⟨hx, hb, hml, hr, hlk9, hown, hts, hK, hsz9, hnm9⟩ := X
  have hrm := rm_ok (c' := sz1 - sz) (n1 := n1) hd' q7 hf hlo
  have hrc2 := hrc.of hG hK
  obtain ⟨o, e9, ci, fs, T, N, hw, hl9, he, hc⟩ := hrc
  obtain ⟨f1, f2, f3, f4, f5⟩ := hY s hK.2.2.2.1
  refine va_runF (C := C) (x := x) (As := As) (rest := st1) (hK.1.1 ci _ hc).2 ⟨hx, hb, hml, hown, hts⟩ hM ⟨⟨rfl, rfl, hrm.1, hrm.2, pay_in hts (lw_meth q5), List.mem_cons_self⟩, hts _ q1, va_any rfl f1, va_any rfl f2, hts _ q2, hts _ q3, va_any rfl f3, va_any rfl f4, va_any rfl f5, hts _ q4, hts _ q5, ⟨q6.1, q6.2.1⟩, fun sig h => ?_⟩ ⟨PC.blind, hrc2, pre_of (Mc := Mc) hG hK⟩ rfl hn hl.1 rfl (lv_room hsum) hd ⟨hce, hsl⟩
  have h2 := q6.2.2
  rw [h] at h2
  exact (Option.some.inj h2).symm
theorem v_callF9 {l : Launch} {G : GG} {M : Mt} {d : Nat} {av : List Value} {sz0 : Nat} {S : Post} {pc : Nat} {ls : List (Nat × Value)} {st : List Value} {w : Wd} {sz n : Nat} {idx cnt b np : Nat} {x : MethodName} {As st1 : List Value} (hd : decode M.2.1 pc = .ok (.invokeinterface idx cnt, 5)) (hlk : Cond.methodLink M.1.cls idx x ∈ lw_all) (hst : st = As.reverse ++ .ref b :: st1) (hn : As.length = np) (hsum : (st1.map fun v => v.category).sum ≤ 8)
    (kk : RunF l G x np d (.ref b :: As) w sz (fun r w1 sz1 n1 => V l G M d av sz0 S (pc + 5) ls (r.toList ++ st1) w1 sz1 (n + n1))) : V l G M d av sz0 S pc ls st w sz n := by
  obtain ⟨r, w1, sz1, n1, kk, hsz1, h⟩ := kk
  subst hst
  exact v_fin5 (Mc := M) (aC := (Value.ref b :: As).toArray) hsz1 kk (fun {p e R s m below meth c H locs cells slots la} X hG hS hl hf hlo hce hsl => h M av sz0 p e R s m below meth c H locs cells slots la idx cnt pc b As st1 ls X hG hS hl hf hlo hce hsl hd hlk rfl hn hsum)
section VX14
variable (K : KV) {M : Mt} {pc : Nat} {ls : List (Nat × Value)} {st : List Value} {w : Wd} {sz n : Nat}
def CFI (x : MethodName) (np : Nat) (K : KV) (As : List Value) (w : Wd) (sz n : Nat) (Φ : Int → WP) : Prop := RunF K.l K.G x np K.d As w sz (fun r w1 sz1 n1 => ∃ z : Int, r = some (vI z) ∧ Φ z w1 sz1 (n + n1))
theorem CFI.of {x : MethodName} {np b : Nat} {C : String} {Mc : Mt} {K : KV} {As : List Value} {w : Wd} {sz n : Nat} {Φ : Int → WP} (hF : FA K.G C x Mc np) (hrc : RC K.G w b C) (h : CI Mc K (.ref b :: As) w sz n Φ) : CFI x np K (.ref b :: As) w sz n Φ := by
  obtain ⟨d', hd', h⟩ := h
  exact RunF.of hF hrc hd' h
theorem x_callFI {idx cnt b np : Nat} {y : MethodName} {As st1 : List Value} {Φ : Int → WP} (hd : decode M.2.1 pc = .ok (.invokeinterface idx cnt, 5)) (hlk : Cond.methodLink M.1.cls idx y ∈ lw_all) (hst : st = As.reverse ++ .ref b :: st1) (hn : As.length = np) (hsum : (st1.map fun v => v.category).sum ≤ 8) (h : CFI y np K (.ref b :: As) w sz n Φ) (kk : ∀ x w1 sz1 n1, Φ x w1 sz1 n1 → VX K M (pc + 5) ls (vI x :: st1) w1 sz1 n1) : VX K M pc ls st w sz n := by
  refine v_callF9 hd hlk hst hn hsum (h.mono ?_)
  rintro r w1 sz1 n1 ⟨x, rfl, h5⟩
  exact kk x w1 sz1 _ h5
theorem x_callUI {idx b np : Nat} {C : String} {y : MethodName} {As st1 : List Value} {Mc : Mt} {Φ : Int → WP} (hY : Cond.privateMethod y ∈ lw_tbl → XT9 K.G (Cond.privateMethod y)) (hd : decode M.2.1 pc = .ok (.invokevirtual idx, 3)) (hL : LkU M.1.cls idx C y Mc np) (hst : st = As.reverse ++ .ref b :: st1) (hn : As.length = np) (hsum : (st1.map fun v => v.category).sum ≤ 8) (hrc : RC K.G w b C) (h : CI Mc K (.ref b :: As) w sz n Φ) (kk : ∀ x w1 sz1 n1, Φ x w1 sz1 n1 → VX K M (pc + 3) ls (vI x :: st1) w1 sz1 n1) : VX K M pc ls st w sz n := by
  obtain ⟨d', hd', h⟩ := h
  refine v_callU hY hd hL hst hn hsum hrc hd' (h.mono ?_)
  rintro r w1 sz1 n1 ⟨x, rfl, h5⟩
  exact kk x w1 sz1 _ h5
theorem x_callSUI {idx b np : Nat} {C : String} {As st1 : List Value} {Mc : Mt} {Φ : Int → WP} (hd : decode M.2.1 pc = .ok (.invokespecial idx, 3)) (hL : LkSU M.1.cls idx Mc np) (hst : st = As.reverse ++ .ref b :: st1) (hn : As.length = np) (hsum : (st1.map fun v => v.category).sum ≤ 8) (hrc : RC K.G w b C) (h : CI Mc K (.ref b :: As) w sz n Φ) (kk : ∀ x w1 sz1 n1, Φ x w1 sz1 n1 → VX K M (pc + 3) ls (vI x :: st1) w1 sz1 n1) : VX K M pc ls st w sz n := by
  obtain ⟨d', hd', h⟩ := h
  refine v_callSU hd hL hst hn hsum hrc hd' (h.mono ?_)
  rintro r w1 sz1 n1 ⟨x, rfl, h5⟩
  exact kk x w1 sz1 _ h5
def CFL (x : MethodName) (np : Nat) (K : KV) (As : List Value) (w : Wd) (sz n : Nat) (Φ : Int → WP) : Prop := RunF K.l K.G x np K.d As w sz (fun r w1 sz1 n1 => ∃ z : Int, r = some (vL z) ∧ Φ z w1 sz1 (n + n1))
theorem CFL.of {x : MethodName} {np b : Nat} {C : String} {Mc : Mt} {K : KV} {As : List Value} {w : Wd} {sz n : Nat} {Φ : Int → WP} (hF : FA K.G C x Mc np) (hrc : RC K.G w b C) (h : CL Mc K (.ref b :: As) w sz n Φ) : CFL x np K (.ref b :: As) w sz n Φ := by
  obtain ⟨d', hd', h⟩ := h
  exact RunF.of hF hrc hd' h
theorem x_callFL {idx cnt b np : Nat} {y : MethodName} {As st1 : List Value} {Φ : Int → WP} (hd : decode M.2.1 pc = .ok (.invokeinterface idx cnt, 5)) (hlk : Cond.methodLink M.1.cls idx y ∈ lw_all) (hst : st = As.reverse ++ .ref b :: st1) (hn : As.length = np) (hsum : (st1.map fun v => v.category).sum ≤ 8) (h : CFL y np K (.ref b :: As) w sz n Φ) (kk : ∀ x w1 sz1 n1, Φ x w1 sz1 n1 → VX K M (pc + 5) ls (vL x :: st1) w1 sz1 n1) : VX K M pc ls st w sz n := by
  refine v_callF9 hd hlk hst hn hsum (h.mono ?_)
  rintro r w1 sz1 n1 ⟨x, rfl, h5⟩
  exact kk x w1 sz1 _ h5
theorem x_callUL {idx b np : Nat} {C : String} {y : MethodName} {As st1 : List Value} {Mc : Mt} {Φ : Int → WP} (hY : Cond.privateMethod y ∈ lw_tbl → XT9 K.G (Cond.privateMethod y)) (hd : decode M.2.1 pc = .ok (.invokevirtual idx, 3)) (hL : LkU M.1.cls idx C y Mc np) (hst : st = As.reverse ++ .ref b :: st1) (hn : As.length = np) (hsum : (st1.map fun v => v.category).sum ≤ 8) (hrc : RC K.G w b C) (h : CL Mc K (.ref b :: As) w sz n Φ) (kk : ∀ x w1 sz1 n1, Φ x w1 sz1 n1 → VX K M (pc + 3) ls (vL x :: st1) w1 sz1 n1) : VX K M pc ls st w sz n := by
  obtain ⟨d', hd', h⟩ := h
  refine v_callU hY hd hL hst hn hsum hrc hd' (h.mono ?_)
  rintro r w1 sz1 n1 ⟨x, rfl, h5⟩
  exact kk x w1 sz1 _ h5
theorem x_callSUL {idx b np : Nat} {C : String} {As st1 : List Value} {Mc : Mt} {Φ : Int → WP} (hd : decode M.2.1 pc = .ok (.invokespecial idx, 3)) (hL : LkSU M.1.cls idx Mc np) (hst : st = As.reverse ++ .ref b :: st1) (hn : As.length = np) (hsum : (st1.map fun v => v.category).sum ≤ 8) (hrc : RC K.G w b C) (h : CL Mc K (.ref b :: As) w sz n Φ) (kk : ∀ x w1 sz1 n1, Φ x w1 sz1 n1 → VX K M (pc + 3) ls (vL x :: st1) w1 sz1 n1) : VX K M pc ls st w sz n := by
  obtain ⟨d', hd', h⟩ := h
  refine v_callSU hd hL hst hn hsum hrc hd' (h.mono ?_)
  rintro r w1 sz1 n1 ⟨x, rfl, h5⟩
  exact kk x w1 sz1 _ h5
def CFQ (x : MethodName) (np : Nat) (K : KV) (As : List Value) (w : Wd) (sz n : Nat) (Φ : Option Nat → WP) : Prop := RunF K.l K.G x np K.d As w sz (fun r w1 sz1 n1 => ∃ z : Option Nat, r = some (va_rf z) ∧ Φ z w1 sz1 (n + n1))
theorem CFQ.of {x : MethodName} {np b : Nat} {C : String} {Mc : Mt} {K : KV} {As : List Value} {w : Wd} {sz n : Nat} {Φ : Option Nat → WP} (hF : FA K.G C x Mc np) (hrc : RC K.G w b C) (h : CQ Mc K (.ref b :: As) w sz n Φ) : CFQ x np K (.ref b :: As) w sz n Φ := by
  obtain ⟨d', hd', h⟩ := h
  exact RunF.of hF hrc hd' h
theorem x_callFQ {idx cnt b np : Nat} {y : MethodName} {As st1 : List Value} {Φ : Option Nat → WP} (hd : decode M.2.1 pc = .ok (.invokeinterface idx cnt, 5)) (hlk : Cond.methodLink M.1.cls idx y ∈ lw_all) (hst : st = As.reverse ++ .ref b :: st1) (hn : As.length = np) (hsum : (st1.map fun v => v.category).sum ≤ 8) (h : CFQ y np K (.ref b :: As) w sz n Φ) (kk : ∀ x w1 sz1 n1, Φ x w1 sz1 n1 → VX K M (pc + 5) ls (va_rf x :: st1) w1 sz1 n1) : VX K M pc ls st w sz n := by
  refine v_callF9 hd hlk hst hn hsum (h.mono ?_)
  rintro r w1 sz1 n1 ⟨x, rfl, h5⟩
  exact kk x w1 sz1 _ h5
theorem x_callUQ {idx b np : Nat} {C : String} {y : MethodName} {As st1 : List Value} {Mc : Mt} {Φ : Option Nat → WP} (hY : Cond.privateMethod y ∈ lw_tbl → XT9 K.G (Cond.privateMethod y)) (hd : decode M.2.1 pc = .ok (.invokevirtual idx, 3)) (hL : LkU M.1.cls idx C y Mc np) (hst : st = As.reverse ++ .ref b :: st1) (hn : As.length = np) (hsum : (st1.map fun v => v.category).sum ≤ 8) (hrc : RC K.G w b C) (h : CQ Mc K (.ref b :: As) w sz n Φ) (kk : ∀ x w1 sz1 n1, Φ x w1 sz1 n1 → VX K M (pc + 3) ls (va_rf x :: st1) w1 sz1 n1) : VX K M pc ls st w sz n := by
  obtain ⟨d', hd', h⟩ := h
  refine v_callU hY hd hL hst hn hsum hrc hd' (h.mono ?_)
  rintro r w1 sz1 n1 ⟨x, rfl, h5⟩
  exact kk x w1 sz1 _ h5
theorem x_callSUQ {idx b np : Nat} {C : String} {As st1 : List Value} {Mc : Mt} {Φ : Option Nat → WP} (hd : decode M.2.1 pc = .ok (.invokespecial idx, 3)) (hL : LkSU M.1.cls idx Mc np) (hst : st = As.reverse ++ .ref b :: st1) (hn : As.length = np) (hsum : (st1.map fun v => v.category).sum ≤ 8) (hrc : RC K.G w b C) (h : CQ Mc K (.ref b :: As) w sz n Φ) (kk : ∀ x w1 sz1 n1, Φ x w1 sz1 n1 → VX K M (pc + 3) ls (va_rf x :: st1) w1 sz1 n1) : VX K M pc ls st w sz n := by
  obtain ⟨d', hd', h⟩ := h
  refine v_callSU hd hL hst hn hsum hrc hd' (h.mono ?_)
  rintro r w1 sz1 n1 ⟨x, rfl, h5⟩
  exact kk x w1 sz1 _ h5
def CFV (x : MethodName) (np : Nat) (K : KV) (As : List Value) (w : Wd) (sz n : Nat) (Φ : WP) : Prop := RunF K.l K.G x np K.d As w sz (fun r w1 sz1 n1 => r = none ∧ Φ w1 sz1 (n + n1))
theorem CFV.of {x : MethodName} {np b : Nat} {C : String} {Mc : Mt} {K : KV} {As : List Value} {w : Wd} {sz n : Nat} {Φ : WP} (hF : FA K.G C x Mc np) (hrc : RC K.G w b C) (h : CV Mc K (.ref b :: As) w sz n Φ) : CFV x np K (.ref b :: As) w sz n Φ := by
  obtain ⟨d', hd', h⟩ := h
  exact RunF.of hF hrc hd' h
theorem x_callFV {idx cnt b np : Nat} {y : MethodName} {As st1 : List Value} {Φ : WP} (hd : decode M.2.1 pc = .ok (.invokeinterface idx cnt, 5)) (hlk : Cond.methodLink M.1.cls idx y ∈ lw_all) (hst : st = As.reverse ++ .ref b :: st1) (hn : As.length = np) (hsum : (st1.map fun v => v.category).sum ≤ 8) (h : CFV y np K (.ref b :: As) w sz n Φ) (kk : ∀ w1 sz1 n1, Φ w1 sz1 n1 → VX K M (pc + 5) ls (st1) w1 sz1 n1) : VX K M pc ls st w sz n := by
  refine v_callF9 hd hlk hst hn hsum (h.mono ?_)
  rintro r w1 sz1 n1 ⟨rfl, h5⟩
  exact kk w1 sz1 _ h5
theorem x_callUV {idx b np : Nat} {C : String} {y : MethodName} {As st1 : List Value} {Mc : Mt} {Φ : WP} (hY : Cond.privateMethod y ∈ lw_tbl → XT9 K.G (Cond.privateMethod y)) (hd : decode M.2.1 pc = .ok (.invokevirtual idx, 3)) (hL : LkU M.1.cls idx C y Mc np) (hst : st = As.reverse ++ .ref b :: st1) (hn : As.length = np) (hsum : (st1.map fun v => v.category).sum ≤ 8) (hrc : RC K.G w b C) (h : CV Mc K (.ref b :: As) w sz n Φ) (kk : ∀ w1 sz1 n1, Φ w1 sz1 n1 → VX K M (pc + 3) ls (st1) w1 sz1 n1) : VX K M pc ls st w sz n := by
  obtain ⟨d', hd', h⟩ := h
  refine v_callU hY hd hL hst hn hsum hrc hd' (h.mono ?_)
  rintro r w1 sz1 n1 ⟨rfl, h5⟩
  exact kk w1 sz1 _ h5
theorem x_callSUV {idx b np : Nat} {C : String} {As st1 : List Value} {Mc : Mt} {Φ : WP} (hd : decode M.2.1 pc = .ok (.invokespecial idx, 3)) (hL : LkSU M.1.cls idx Mc np) (hst : st = As.reverse ++ .ref b :: st1) (hn : As.length = np) (hsum : (st1.map fun v => v.category).sum ≤ 8) (hrc : RC K.G w b C) (h : CV Mc K (.ref b :: As) w sz n Φ) (kk : ∀ w1 sz1 n1, Φ w1 sz1 n1 → VX K M (pc + 3) ls (st1) w1 sz1 n1) : VX K M pc ls st w sz n := by
  obtain ⟨d', hd', h⟩ := h
  refine v_callSU hd hL hst hn hsum hrc hd' (h.mono ?_)
  rintro r w1 sz1 n1 ⟨rfl, h5⟩
  exact kk w1 sz1 _ h5
end VX14
/-- what else rides along G.X: statics, private methods, faces, classes apart -/
def XY (G : GG) : Prop := XZ G "java/lang/String" "COMPACT_STRINGS" "Z" (vI 1) ∧ XZ G "java/lang/Integer" "DigitTens" "[B" (.ref (G.ad 100)) ∧ XZ G "java/lang/Integer" "DigitOnes" "[B" (.ref (G.ad 101)) ∧ XZ G "java/util/ArrayList" "DEFAULTCAPACITY_EMPTY_ELEMENTDATA" "[Ljava/lang/Object;" (.ref (G.ad 102)) ∧ (∃ r : Option Nat, XZ G "jdk/internal/util/Preconditions" "SIOOBE_FORMATTER" "Ljava/util/function/BiFunction;" (va_rf r)) ∧ (∃ r : Option Nat, XZ G "java/lang/Throwable" "UNASSIGNED_STACK" "[Ljava/lang/StackTraceElement;" (va_rf r)) ∧ (∃ r : Option Nat, XZ G "java/lang/Throwable" "SUPPRESSED_SENTINEL" "Ljava/util/List;" (va_rf r)) ∧ (∀ y : MethodName, Cond.privateMethod y ∈ lw_tbl → XT9 G (Cond.privateMethod y)) ∧ (∀ U : State, G.X U → va_Nc "BranchNames$Unread" "BranchNames$Trouble" U)
theorem XY.priv {G : GG} (h : XY G) (y : MethodName) : Cond.privateMethod y ∈ lw_tbl → XT9 G (Cond.privateMethod y) := h.2.2.2.2.2.2.2.1 y
