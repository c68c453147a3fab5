set_option maxRecDepth 100000
/-! what is known of the tables in every method -/
/-- what else holds all through a run (strings, statics, lambdas): it rides along the tables -/
def KX (G : GG) (U : State) : Prop := G.X U ∧ (∀ s U : State, s.WarmedH U.vm → G.X s → G.X U) ∧ ∀ u U : State, u.vm = U.vm → G.X u → G.X U
theorem KX.moved {G : GG} {s U : State} (hW : s.WarmedH U.vm) (h : KX G s) : KX G U := ⟨h.2.1 s U hW h.1, h.2⟩
theorem KX.same {G : GG} {u U : State} (hv : u.vm = U.vm) (h : KX G u) : KX G U := ⟨h.2.2 u U hv h.1, h.2⟩
/-- the String constants are where G says -/
def XS (G : GG) : Prop := ∀ U : State, G.X U → ∀ (i : Nat) (x : String × Nat × String), strs[i]? = some x → vk_R x.1 x.2.1 x.2.2 (G.ad i) U
def aovers : List String := ["java/lang/String", "BranchNames$Items", "BranchNames$Measure", "BranchNames$Prefers", "java/lang/Object"]
def KA (U : State) : Prop := ∀ C ∈ aovers, va_AO C U
def KK (G : GG) (U : State) : Prop := va_K G.D cls (atys G) U ∧ KN U ∧ KA U ∧ KX G U
theorem KK.moved {G : GG} {s U : State} (hW : s.WarmedH U.vm) (h : KK G s) : KK G U :=
  ⟨va_K.moved hW.alike h.1, h.2.1.moved hW, fun C hC => va_AO.moved hW.alike (h.2.2.1 C hC), h.2.2.2.moved hW⟩
theorem KK.same {G : GG} {u U : State} (hv : u.vm = U.vm) (h : KK G u) : KK G U :=
  ⟨va_K.moved (by rw [hv]; exact Vm.Alike.refl _) h.1, fun w hw hq => by
    have h1 := h.2.1 w hw hq
    cases w <;> first | (cases hq; done) | exact va_Nw.same rfl hv h1,
   fun C hC => va_AO.moved (by rw [hv]; exact Vm.Alike.refl _) (h.2.2.1 C hC), h.2.2.2.same hv⟩
/-! the judgement: a frame of a method, its locals and stack, a world; S says which ends are good -/
abbrev Mt : Type := MethodName × ByteArray × Nat × Option FieldType
def RM (d c n : Nat) : Room := { frames := d, cells := c, slots := n, locals := 48 * d + 3200 }
abbrev AB (G : GG) : Nat → Prop := fun q => G.base ≤ q
def QR (G : GG) (r : Option Value) (w : Wd) (sz : Nat) : Array Value → State → Outcome → State → Prop := fun _ st oc t => oc = .returned r ∧ GoodW G w sz t.heap ∧ va_F (AB G) st t
def PC (G : GG) (av : List Value) (w : Wd) (sz : Nat) : Array Value → State → Prop := va_Pc av (fun U => GoodW G w sz U.heap ∧ KK G U)
theorem PC.blind {G : GG} {av : List Value} {w : Wd} {sz : Nat} : FrameBlind (PC G av w sz) := fun a U g mk h => ⟨h.1, h.2.1, KK.same (u := U) (U := U.calling g mk a) rfl h.2.2⟩
def Con (l : Launch) (G : GG) (M : Mt) (d : Nat) (av : List Value) (w : Wd) (sz : Nat) (r : Option Value) (w' : Wd) (sz' n' : Nat) : Prop :=
  Met l M.1 (ws_ M.1 M.2.1 M.2.2.1 M.2.2.2) (RM d (sz' - sz) n') (PC G av w sz) (QR G r w' sz') (sz' - sz) n' (AB G)
abbrev Post : Type := Option Value → Wd → Nat → Nat → Prop
def Ret (l : Launch) (G : GG) (M : Mt) (d : Nat) (av : List Value) (w : Wd) (sz : Nat) (S : Post) : Prop := ∃ (r : Option Value) (w' : Wd) (sz' n' : Nat), S r w' sz' n' ∧ sz ≤ sz' ∧ Con l G M d av w sz r w' sz' n'
def Ctx (G : GG) (M : Mt) (av : List Value) (sz0 : Nat) (p : Program) (s : State) (m : MethodId) (meth : Method) (c : Code) : Prop :=
  p.tables.exec = Jvm.exec ∧ c.code = M.2.1 ∧ c.maxLocals = M.2.2.1 ∧ meth.sig.returnType = M.2.2.2 ∧ meth.locks = false ∧ s.vm.findClass M.1.cls = some m.cls ∧ (∀ w ∈ lw_all, w.before av.toArray s = true) ∧ KK G s ∧ s.heap.size = sz0 ∧ meth.name = M.1.name ∧ s.methodNamed? M.1 = some m
def V (l : Launch) (G : GG) (M : Mt) (d : Nat) (av : List Value) (sz0 : Nat) (S : Post) (pc : Nat) (ls : List (Nat × Value)) (st : List Value) (w : Wd) (sz n : Nat) : Prop :=
  ∃ (r : Option Value) (w' : Wd) (sz' n' : Nat), S r w' sz' n' ∧ sz ≤ sz' ∧ n ≤ n' ∧ ∀ (p : Program) (e : Env) (s : State) (m : MethodId) (below : List Frame) (meth : Method) (c : Code), Ctx G M av sz0 p s m meth c →
    ∀ (H : Heap) (locs : List Loc) (la : Array Slot), GoodW G w sz H → va_S (AB G) s.heap H locs → lv_has la M.2.2.1 ls →
      W p l e (RM d (sz' - sz0) n') s m av.toArray below meth c H locs (sz - sz0) n (MQ below (QR G r w' sz') av.toArray s (sz' - sz0) n' (AB G)) (F0 m pc la st)
section VV
variable {l : Launch} {G : GG} {M : Mt} {d : Nat} {av : List Value} {sz0 : Nat} {S : Post} {pc : Nat} {ls : List (Nat × Value)} {st : List Value} {w : Wd} {sz n : Nat}
/-- one instruction that changes the frame alone -/
theorem V.go {pc' : Nat} {st' : List Value} (k : V l G M d av sz0 S pc' ls st' w sz n)
    (h : ∀ {p : Program} {e : Env} {R : Room} {s : State} {m : MethodId} {args : Array Value} {below : List Frame} {meth : Method} {c : Code} {H : Heap} {locs : List Loc} {cells slots : Nat} {Q : State → Prop} {la : Array Slot}, p.tables.exec = Jvm.exec → c.code = M.2.1 → lv_has la M.2.2.1 ls →
      W p l e R s m args below meth c H locs cells slots Q (F0 m pc' la st') → W p l e R s m args below meth c H locs cells slots Q (F0 m pc la st)) : V l G M d av sz0 S pc ls st w sz n := by
  obtain ⟨r, w', sz', n', h1, h2, h3, k⟩ := k
  exact ⟨r, w', sz', n', h1, h2, h3, fun p e s m below meth c C H locs la hG hS hl => h C.1 C.2.1 hl (k p e s m below meth c C H locs la hG hS hl)⟩
/-- one instruction that reads tables and heap -/
theorem V.goR {pc' : Nat} {st' : List Value} (k : V l G M d av sz0 S pc' ls st' w sz n)
    (h : ∀ {p : Program} {e : Env} {R : Room} {s : State} {m : MethodId} {below : List Frame} {meth : Method} {c : Code} {H : Heap} {locs : List Loc} {cells slots : Nat} {Q : State → Prop} {la : Array Slot}, Ctx G M av sz0 p s m meth c → GoodW G w sz H → va_S (AB G) s.heap H locs → lv_has la M.2.2.1 ls →
      W p l e R s m av.toArray below meth c H locs cells slots Q (F0 m pc' la st') → W p l e R s m av.toArray below meth c H locs cells slots Q (F0 m pc la st)) : V l G M d av sz0 S pc ls st w sz n := by
  obtain ⟨r, w', sz', n', h1, h2, h3, k⟩ := k
  exact ⟨r, w', sz', n', h1, h2, h3, fun p e s m below meth c C H locs la hG hS hl => h C hG hS hl (k p e s m below meth c C H locs la hG hS hl)⟩
/-- one instruction that writes a cell -/
theorem V.goW {pc' : Nat} {st' : List Value} {w1 : Wd} (k : V l G M d av sz0 S pc' ls st' w1 sz n)
    (h : ∀ {p : Program} {e : Env} {R : Room} {s : State} {m : MethodId} {below : List Frame} {meth : Method} {c : Code} {H : Heap} {locs : List Loc} {cells slots : Nat} {Q : State → Prop} {la : Array Slot}, Ctx G M av sz0 p s m meth c → GoodW G w sz H → va_S (AB G) s.heap H locs → lv_has la M.2.2.1 ls →
      (∀ (H1 : Heap) (locs1 : List Loc), GoodW G w1 sz H1 → va_S (AB G) s.heap H1 locs1 → W p l e R s m av.toArray below meth c H1 locs1 cells slots Q (F0 m pc' la st')) → W p l e R s m av.toArray below meth c H locs cells slots Q (F0 m pc la st)) : V l G M d av sz0 S pc ls st w sz n := by
  obtain ⟨r, w', sz', n', h1, h2, h3, k⟩ := k
  exact ⟨r, w', sz', n', h1, h2, h3, fun p e s m below meth c C H locs la hG hS hl => h C hG hS hl (fun H1 locs1 hG1 hS1 => k p e s m below meth c C H1 locs1 la hG1 hS1 hl)⟩
/-- one instruction that changes a local -/
theorem V.goL {pc' : Nat} {st' : List Value} {ls' : List (Nat × Value)} (k : V l G M d av sz0 S pc' ls' st' w sz n)
    (h : ∀ {p : Program} {e : Env} {R : Room} {s : State} {m : MethodId} {args : Array Value} {below : List Frame} {meth : Method} {c : Code} {H : Heap} {locs : List Loc} {cells slots : Nat} {Q : State → Prop} {la : Array Slot}, p.tables.exec = Jvm.exec → c.code = M.2.1 → lv_has la M.2.2.1 ls →
      (∀ la' : Array Slot, lv_has la' M.2.2.1 ls' → W p l e R s m args below meth c H locs cells slots Q (F0 m pc' la' st')) → W p l e R s m args below meth c H locs cells slots Q (F0 m pc la st)) : V l G M d av sz0 S pc ls st w sz n := by
  obtain ⟨r, w', sz', n', h1, h2, h3, k⟩ := k
  exact ⟨r, w', sz', n', h1, h2, h3, fun p e s m below meth c C H locs la hG hS hl => h C.1 C.2.1 hl (fun la' hl' => k p e s m below meth c C H locs la' hG hS hl')⟩
/-- fewer locals are known, in another order -/
theorem V.sub {ls' : List (Nat × Value)} (ks : List Nat) (hk : lv_pick ls ks = ls') (k : V l G M d av sz0 S pc ls' st w sz n) : V l G M d av sz0 S pc ls st w sz n := by
  obtain ⟨r, w', sz', n', h1, h2, h3, k⟩ := k
  exact ⟨r, w', sz', n', h1, h2, h3, fun p e s m below meth c C H locs la hG hS hl => k p e s m below meth c C H locs la hG hS (lv_sub hl ks hk)⟩
/-- another picture of the same heap -/
theorem V.world {w1 : Wd} (hw : ∀ H : Heap, GoodW G w sz H → GoodW G w1 sz H) (k : V l G M d av sz0 S pc ls st w1 sz n) : V l G M d av sz0 S pc ls st w sz n := by
  obtain ⟨r, w', sz', n', h1, h2, h3, k⟩ := k
  exact ⟨r, w', sz', n', h1, h2, h3, fun p e s m below meth c C H locs la hG hS hl => k p e s m below meth c C H locs la (hw H hG) hS hl⟩
theorem V.mono {S' : Post} (hS : ∀ r w sz n, S r w sz n → S' r w sz n) (k : V l G M d av sz0 S pc ls st w sz n) : V l G M d av sz0 S' pc ls st w sz n := by
  obtain ⟨r, w', sz', n', h1, h⟩ := k
  exact ⟨r, w', sz', n', hS _ _ _ _ h1, h⟩
/-- more slots are counted than were used -/
theorem V.more {n1 : Nat} (hn : n ≤ n1) (k : V l G M d av sz0 S pc ls st w sz n1) : V l G M d av sz0 S pc ls st w sz n := by
  obtain ⟨r, w', sz', n', h1, h2, h3, k⟩ := k
  exact ⟨r, w', sz', n', h1, h2, Nat.le_trans hn h3, fun p e s m below meth c C H locs la hG hS hl => W.widen (Nat.le_refl _) hn (k p e s m below meth c C H locs la hG hS hl)⟩
theorem Ret.mono {S' : Post} (hS : ∀ r w sz n, S r w sz n → S' r w sz n) (k : Ret l G M d av w sz S) : Ret l G M d av w sz S' := by
  obtain ⟨r, w', sz', n', h1, h⟩ := k
  exact ⟨r, w', sz', n', hS _ _ _ _ h1, h⟩
/-- a method's contract by its walk -/
theorem Ret.of (hy : plainName M.1.cls = true) (hfit : (lg_sl av).length ≤ M.2.2.1) (k : V l G M d av sz S 0 (lv_args 0 av) [] w sz 0) : Ret l G M d av w sz S := by
  obtain ⟨r, w', sz', n', h1, h2, h3, k⟩ := k
  refine ⟨r, w', sz', n', h1, h2, ?_⟩
  unfold Con
  refine Met.ofW (cc := M.2.1) (maxL := M.2.2.1) (ret := M.2.2.2) hy rfl ?_
  intro p e s m args below meth c s₁ B hml hv
  obtain ⟨rfl, hG, hK⟩ := hv
  have hts := atoms_spec (ws := ws_ M.1 M.2.1 M.2.2.1 M.2.2.2) B.pre
  have hts : ∀ w ∈ lw_all, w.before av.toArray s = true := fun w h => hts w (List.mem_cons_of_mem _ h)
  have h := k p e s m below meth c ⟨B.exec, B.bytes, hml, B.returns, B.notSynchronized, findClass_of_methodNamed B.named, hts, hK, hG.1, (name_of_methodNamed B.named B.method).1, B.named⟩ s.heap [] _ hG va_S.rf (lv_entry av (n := M.2.2.1) hfit)
  rw [lg_entry_eq]
  rw [Nat.sub_self] at h
  exact h
/-! ends -/
theorem V.end {r : Option Value} (hS : S r w sz n)
    (h : ∀ {p : Program} {e : Env} {R : Room} {s : State} {m : MethodId} {below : List Frame} {meth : Method} {c : Code} {H : Heap} {locs : List Loc} {cells slots : Nat} {la : Array Slot} {Qc : Array Value → State → Outcome → State → Prop}, p.tables.exec = Jvm.exec → c.code = M.2.1 → meth.sig.returnType = M.2.2.2 → meth.locks = false →
      (∀ t : State, t.heap = H → s.WarmedH t.vm → Qc av.toArray s (.returned r) t) → (∀ q ∈ locs, AB G q.base) → W p l e R s m av.toArray below meth c H locs cells slots (MQ below Qc av.toArray s cells slots (AB G)) (F0 m pc la st)) : V l G M d av sz0 S pc ls st w sz n := by
  refine ⟨r, w, sz, n, hS, Nat.le_refl _, Nat.le_refl _, fun p e s m below meth c C H locs la hG hV hl => ?_⟩
  exact h C.1 C.2.1 C.2.2.2.1 C.2.2.2.2.1 (fun t ht hW => ⟨rfl, by rw [ht]; exact hG, va_S.F hV ht⟩) hV.2.2
theorem v_iret {x : Int} (hd : decode M.2.1 pc = .ok (.ireturn, 1)) (hr : M.2.2.2 = some .int) (hS : S (some (vI x)) w sz n) : V l G M d av sz0 S pc ls [vI x] w sz n :=
  V.end hS (fun hx hb hr' hlk hq hf => W.iret hx hb (hr'.trans hr) hq hf hd hlk)
theorem v_zret {x : Int} {ty : FieldType} (hd : decode M.2.1 pc = .ok (.ireturn, 1)) (hr : M.2.2.2 = some ty) (hn : narrow ty (vI x) = vI x) (hS : S (some (vI x)) w sz n) : V l G M d av sz0 S pc ls [vI x] w sz n :=
  V.end hS (fun hx hb hr' hlk hq hf => W.zret hx hb (hr'.trans hr) hn hq hf hd hlk)
theorem v_lret {x : Int} (hd : decode M.2.1 pc = .ok (.lreturn, 1)) (hr : M.2.2.2 = some .long) (hS : S (some (vL x)) w sz n) : V l G M d av sz0 S pc ls [vL x] w sz n :=
  V.end hS (fun hx hb hr' hlk hq hf => W.lret hx hb (hr'.trans hr) hq hf hd hlk)
theorem v_vret (hd : decode M.2.1 pc = .ok (.return_, 1)) (hr : M.2.2.2 = none) (hS : S none w sz n) : V l G M d av sz0 S pc ls [] w sz n :=
  V.end hS (fun hx hb hr' hlk hq hf => W.vret hx hb (hr'.trans hr) hq hf hd hlk)
theorem v_aret {v : Value} {rt : FieldType} (hd : decode M.2.1 pc = .ok (.areturn, 1)) (hr : M.2.2.2 = some rt) (hrt : (∃ n, rt = .object n) ∨ ∃ t, rt = .array t) (hv : v = .null ∨ ∃ a, v = .ref a) (hS : S (some v) w sz n) : V l G M d av sz0 S pc ls [v] w sz n :=
  V.end hS (fun hx hb hr' hlk hq hf => W.aret hx hb (hr'.trans hr) hrt hv hq hf hd hlk)
/-! the frame: constants, locals, the stack -/
theorem v_iconst {z : Int} (hd : decode M.2.1 pc = .ok (.iconst z, 1)) (k : V l G M d av sz0 S (pc + 1) ls (vI z :: st) w sz n) : V l G M d av sz0 S pc ls st w sz n :=
  k.go (fun hx hb hl k => lv_iconst hx hb hd rfl k)
theorem v_bipush {z : Int} (hd : decode M.2.1 pc = .ok (.bipush z, 2)) (hz : (Int8.ofInt z).toInt32 = iI z) (k : V l G M d av sz0 S (pc + 2) ls (vI z :: st) w sz n) : V l G M d av sz0 S pc ls st w sz n :=
  k.go (fun hx hb hl k => lv_bipush hx hb hd hz k)
theorem v_sipush {z : Int} (hd : decode M.2.1 pc = .ok (.sipush z, 3)) (hz : (Int16.ofInt z).toInt32 = iI z) (k : V l G M d av sz0 S (pc + 3) ls (vI z :: st) w sz n) : V l G M d av sz0 S pc ls st w sz n :=
  k.go (fun hx hb hl k => lv_sipush hx hb hd hz k)
theorem v_lconst {i : Fin 2} {z : Int} (hd : decode M.2.1 pc = .ok (.lconst i, 1)) (hz : Int64.ofNat (i : Nat) = jL z) (k : V l G M d av sz0 S (pc + 1) ls (vL z :: st) w sz n) : V l G M d av sz0 S pc ls st w sz n :=
  k.go (fun hx hb hl k => lv_lconst hx hb hd hz k)
theorem v_null (hd : decode M.2.1 pc = .ok (.aconst_null, 1)) (k : V l G M d av sz0 S (pc + 1) ls (.null :: st) w sz n) : V l G M d av sz0 S pc ls st w sz n :=
  k.go (fun hx hb hl k => lv_null hx hb hd k)
theorem v_ldc {i : Nat} {z : Int} (hd : decode M.2.1 pc = .ok (.ldc i, 2)) (hc : Cond.constant M.1.cls i (iI z) ∈ lw_all) (k : V l G M d av sz0 S (pc + 2) ls (vI z :: st) w sz n) : V l G M d av sz0 S pc ls st w sz n :=
  k.goR (fun C hG hS hl k => lv_ldc C.1 C.2.1 C.2.2.2.2.2.1 (C.2.2.2.2.2.2.1 _ hc) hd k)
theorem v_ldcw {i : Nat} {z : Int} (hd : decode M.2.1 pc = .ok (.ldc_w i, 3)) (hc : Cond.constant M.1.cls i (iI z) ∈ lw_all) (k : V l G M d av sz0 S (pc + 3) ls (vI z :: st) w sz n) : V l G M d av sz0 S pc ls st w sz n :=
  k.goR (fun C hG hS hl k => lv_ldcw C.1 C.2.1 C.2.2.2.2.2.1 (C.2.2.2.2.2.2.1 _ hc) hd k)
theorem v_ldc2 {i : Nat} {z : Int} (hd : decode M.2.1 pc = .ok (.ldc2_w i, 3)) (hc : Cond.constantLong M.1.cls i (jL z) ∈ lw_all) (k : V l G M d av sz0 S (pc + 3) ls (vL z :: st) w sz n) : V l G M d av sz0 S pc ls st w sz n :=
  k.goR (fun C hG hS hl k => lv_ldc2 C.1 C.2.1 C.2.2.2.2.2.1 (C.2.2.2.2.2.2.1 _ hc) hd k)
theorem v_iload_n {j : Fin 4} {z : Int} (i : Nat) (hd : decode M.2.1 pc = .ok (.iload_n j, 1)) (hl : ls[i]? = some ((j : Nat), vI z)) (k : V l G M d av sz0 S (pc + 1) ls (vI z :: st) w sz n) : V l G M d av sz0 S pc ls st w sz n :=
  k.go (fun hx hb h k => lv_iload_n hx hb hd rfl (lv_at h i hl) k)
theorem v_iload {j : Nat} {z : Int} (i : Nat) (hd : decode M.2.1 pc = .ok (.iload j, 2)) (hl : ls[i]? = some (j, vI z)) (k : V l G M d av sz0 S (pc + 2) ls (vI z :: st) w sz n) : V l G M d av sz0 S pc ls st w sz n :=
  k.go (fun hx hb h k => lv_iload hx hb hd (lv_at h i hl) k)
theorem v_lload_n {j : Fin 4} {z : Int} (i : Nat) (hd : decode M.2.1 pc = .ok (.lload_n j, 1)) (hl : ls[i]? = some ((j : Nat), vL z)) (k : V l G M d av sz0 S (pc + 1) ls (vL z :: st) w sz n) : V l G M d av sz0 S pc ls st w sz n :=
  k.go (fun hx hb h k => lv_lload_n hx hb hd rfl (lv_at h i hl) k)
theorem v_lload {j : Nat} {z : Int} (i : Nat) (hd : decode M.2.1 pc = .ok (.lload j, 2)) (hl : ls[i]? = some (j, vL z)) (k : V l G M d av sz0 S (pc + 2) ls (vL z :: st) w sz n) : V l G M d av sz0 S pc ls st w sz n :=
  k.go (fun hx hb h k => lv_lload hx hb hd (lv_at h i hl) k)
abbrev isR (v : Value) : Prop := v = .null ∨ ∃ a, v = .ref a
theorem isR_ref (a : Nat) : isR (.ref a) := Or.inr ⟨a, rfl⟩
theorem isR_null : isR .null := Or.inl rfl
theorem isR_rf (r : Option Nat) : isR (va_rf r) := by cases r; exact isR_null; exact isR_ref _
theorem v_aload_n {j : Fin 4} {v : Value} (i : Nat) (hd : decode M.2.1 pc = .ok (.aload_n j, 1)) (hl : ls[i]? = some ((j : Nat), v)) (hv : isR v) (k : V l G M d av sz0 S (pc + 1) ls (v :: st) w sz n) : V l G M d av sz0 S pc ls st w sz n := by
  rcases hv with rfl | ⟨a, rfl⟩
  · exact k.go (fun hx hb h k => lv_aload_nN hx hb hd rfl (lv_at h i hl) k)
  · exact k.go (fun hx hb h k => lv_aload_n hx hb hd rfl (lv_at h i hl) k)
theorem v_aload {j : Nat} {v : Value} (i : Nat) (hd : decode M.2.1 pc = .ok (.aload j, 2)) (hl : ls[i]? = some (j, v)) (hv : isR v) (k : V l G M d av sz0 S (pc + 2) ls (v :: st) w sz n) : V l G M d av sz0 S pc ls st w sz n := by
  rcases hv with rfl | ⟨a, rfl⟩
  · exact k.go (fun hx hb h k => lv_aloadN hx hb hd (lv_at h i hl) k)
  · exact k.go (fun hx hb h k => lv_aload hx hb hd (lv_at h i hl) k)
theorem v_istore_n {j : Fin 4} {z : Int} {ls' : List (Nat × Value)} (hd : decode M.2.1 pc = .ok (.istore_n j, 1)) (hn : (j : Nat) < M.2.2.1) (hl : ((j : Nat), vI z) :: ls.filter (fun q => !(q.1 == (j : Nat)) && !(q.1 + 1 == (j : Nat) && q.2.category == 2)) = ls') (k : V l G M d av sz0 S (pc + 1) ls' st w sz n) : V l G M d av sz0 S pc ls (vI z :: st) w sz n :=
  k.goL (fun hx hb h k => lv_istore_n hx hb hd rfl h hn hl k)
theorem v_istore {j : Nat} {z : Int} {ls' : List (Nat × Value)} (hd : decode M.2.1 pc = .ok (.istore j, 2)) (hn : j < M.2.2.1) (hl : (j, vI z) :: ls.filter (fun q => !(q.1 == j) && !(q.1 + 1 == j && q.2.category == 2)) = ls') (k : V l G M d av sz0 S (pc + 2) ls' st w sz n) : V l G M d av sz0 S pc ls (vI z :: st) w sz n :=
  k.goL (fun hx hb h k => lv_istore hx hb hd h hn hl k)
theorem v_lstore_n {j : Fin 4} {z : Int} {ls' : List (Nat × Value)} (hd : decode M.2.1 pc = .ok (.lstore_n j, 1)) (hn : (j : Nat) + 1 < M.2.2.1) (hl : ((j : Nat), vL z) :: ls.filter (fun q => !(q.1 == (j : Nat)) && (!(q.1 == (j : Nat) + 1) && !(q.1 + 1 == (j : Nat) && q.2.category == 2))) = ls') (k : V l G M d av sz0 S (pc + 1) ls' st w sz n) : V l G M d av sz0 S pc ls (vL z :: st) w sz n :=
  k.goL (fun hx hb h k => lv_lstore_n hx hb hd rfl h hn hl k)
theorem v_lstore {j : Nat} {z : Int} {ls' : List (Nat × Value)} (hd : decode M.2.1 pc = .ok (.lstore j, 2)) (hn : j + 1 < M.2.2.1) (hl : (j, vL z) :: ls.filter (fun q => !(q.1 == j) && (!(q.1 == j + 1) && !(q.1 + 1 == j && q.2.category == 2))) = ls') (k : V l G M d av sz0 S (pc + 2) ls' st w sz n) : V l G M d av sz0 S pc ls (vL z :: st) w sz n :=
  k.goL (fun hx hb h k => lv_lstore hx hb hd h hn hl k)
theorem v_astore_n {j : Fin 4} {v : Value} {ls' : List (Nat × Value)} (hd : decode M.2.1 pc = .ok (.astore_n j, 1)) (hn : (j : Nat) < M.2.2.1) (hv : isR v) (hl : ((j : Nat), v) :: ls.filter (fun q => !(q.1 == (j : Nat)) && !(q.1 + 1 == (j : Nat) && q.2.category == 2)) = ls') (k : V l G M d av sz0 S (pc + 1) ls' st w sz n) : V l G M d av sz0 S pc ls (v :: st) w sz n := by
  rcases hv with rfl | ⟨a, rfl⟩
  · exact k.goL (fun hx hb h k => lv_astore_nN hx hb hd rfl h hn hl k)
  · exact k.goL (fun hx hb h k => lv_astore_n hx hb hd rfl h hn hl k)
theorem v_astore {j : Nat} {v : Value} {ls' : List (Nat × Value)} (hd : decode M.2.1 pc = .ok (.astore j, 2)) (hn : j < M.2.2.1) (hv : isR v) (hl : (j, v) :: ls.filter (fun q => !(q.1 == j) && !(q.1 + 1 == j && q.2.category == 2)) = ls') (k : V l G M d av sz0 S (pc + 2) ls' st w sz n) : V l G M d av sz0 S pc ls (v :: st) w sz n := by
  rcases hv with rfl | ⟨a, rfl⟩
  · exact k.goL (fun hx hb h k => lv_astoreN hx hb hd h hn hl k)
  · exact k.goL (fun hx hb h k => lv_astore hx hb hd h hn hl k)
theorem v_iinc {j : Nat} {c z : Int} {ls' : List (Nat × Value)} (i : Nat) (hd : decode M.2.1 pc = .ok (.iinc j c, 3)) (hi : ls[i]? = some (j, vI z)) (hn : j < M.2.2.1) (hl : (j, vI (z + c)) :: ls.filter (fun q => !(q.1 == j) && !(q.1 + 1 == j && q.2.category == 2)) = ls') (k : V l G M d av sz0 S (pc + 3) ls' st w sz n) : V l G M d av sz0 S pc ls st w sz n :=
  k.goL (fun hx hb h k => lv_iinc hx hb hd h hi (by rw [← iI_add]; rfl) hn hl k)
theorem v_dup {v : Value} (hd : decode M.2.1 pc = .ok (.dup, 1)) (hv : v.category = 1) (k : V l G M d av sz0 S (pc + 1) ls (v :: v :: st) w sz n) : V l G M d av sz0 S pc ls (v :: st) w sz n :=
  k.go (fun hx hb h k => lv_dup hx hb hd hv k)
theorem v_dup2 {v u : Value} (hd : decode M.2.1 pc = .ok (.dup2, 1)) (hv : v.category = 1) (hu : u.category = 1) (k : V l G M d av sz0 S (pc + 1) ls (v :: u :: v :: u :: st) w sz n) : V l G M d av sz0 S pc ls (v :: u :: st) w sz n :=
  k.go (fun hx hb h k => lv_dup2_11 hx hb hd hv hu k)
theorem v_dup_x1 {v u : Value} (hd : decode M.2.1 pc = .ok (.dup_x1, 1)) (hv : v.category = 1) (hu : u.category = 1) (k : V l G M d av sz0 S (pc + 1) ls (v :: u :: v :: st) w sz n) : V l G M d av sz0 S pc ls (v :: u :: st) w sz n :=
  k.go (fun hx hb h k => lv_dup_x1 hx hb hd hv hu k)
theorem v_pop {v : Value} (hd : decode M.2.1 pc = .ok (.pop, 1)) (hv : v.category = 1) (k : V l G M d av sz0 S (pc + 1) ls st w sz n) : V l G M d av sz0 S pc ls (v :: st) w sz n :=
  k.go (fun hx hb h k => lv_pop hx hb hd hv k)
/-! arithmetic -/
theorem v_iadd {a b : Int} (hd : decode M.2.1 pc = .ok (.iadd, 1)) (k : V l G M d av sz0 S (pc + 1) ls (vI (a + b) :: st) w sz n) : V l G M d av sz0 S pc ls (vI b :: vI a :: st) w sz n :=
  k.go (fun hx hb h k => lv_iadd hx hb hd (by rw [iI_add]; exact k))
theorem v_isub {a b : Int} (hd : decode M.2.1 pc = .ok (.isub, 1)) (k : V l G M d av sz0 S (pc + 1) ls (vI (a - b) :: st) w sz n) : V l G M d av sz0 S pc ls (vI b :: vI a :: st) w sz n :=
  k.go (fun hx hb h k => lv_isub hx hb hd (by rw [iI_sub]; exact k))
theorem v_imul {a b : Int} (hd : decode M.2.1 pc = .ok (.imul, 1)) (k : V l G M d av sz0 S (pc + 1) ls (vI (a * b) :: st) w sz n) : V l G M d av sz0 S pc ls (vI b :: vI a :: st) w sz n :=
  k.go (fun hx hb h k => lv_imul hx hb hd (by rw [iI_mul]; exact k))
theorem v_ineg {a : Int} (hd : decode M.2.1 pc = .ok (.ineg, 1)) (k : V l G M d av sz0 S (pc + 1) ls (vI (-a) :: st) w sz n) : V l G M d av sz0 S pc ls (vI a :: st) w sz n :=
  k.go (fun hx hb h k => lv_ineg hx hb hd (by rw [iI_neg]; exact k))
theorem iI_ne0 {b : Int} (hb : rI b) (h : b ≠ 0) : ¬ iI b = 0 := fun e => h ((iI_eq hb (b := 0) ⟨by omega, by omega⟩).mp e)
theorem jL_ne0 {b : Int} (hb : rL b) (h : b ≠ 0) : ¬ jL b = 0 := fun e => h ((jL_eq hb (b := 0) ⟨by omega, by omega⟩).mp e)
theorem v_idiv {a b : Int} (hd : decode M.2.1 pc = .ok (.idiv, 1)) (ha : rI a) (hb : rI b) (h0 : b ≠ 0) (k : V l G M d av sz0 S (pc + 1) ls (vI (a.tdiv b) :: st) w sz n) : V l G M d av sz0 S pc ls (vI b :: vI a :: st) w sz n :=
  k.go (fun hx hb1 h k => lv_idiv hx hb1 hd (iI_ne0 hb h0) (by rw [iI_div ha hb]; exact k))
theorem v_irem {a b : Int} (hd : decode M.2.1 pc = .ok (.irem, 1)) (ha : rI a) (hb : rI b) (h0 : b ≠ 0) (k : V l G M d av sz0 S (pc + 1) ls (vI (a.tmod b) :: st) w sz n) : V l G M d av sz0 S pc ls (vI b :: vI a :: st) w sz n :=
  k.go (fun hx hb1 h k => lv_irem hx hb1 hd (iI_ne0 hb h0) (by rw [iI_rem ha hb]; exact k))
theorem v_iand {a b : Int} (hd : decode M.2.1 pc = .ok (.iand, 1)) (k : V l G M d av sz0 S (pc + 1) ls (vI (iand a b) :: st) w sz n) : V l G M d av sz0 S pc ls (vI b :: vI a :: st) w sz n :=
  k.go (fun hx hb h k => lv_iand hx hb hd (by rw [← iI_of (iI a &&& iI b)]; exact k))
theorem v_ior {a b : Int} (hd : decode M.2.1 pc = .ok (.ior, 1)) (k : V l G M d av sz0 S (pc + 1) ls (vI (ior a b) :: st) w sz n) : V l G M d av sz0 S pc ls (vI b :: vI a :: st) w sz n :=
  k.go (fun hx hb h k => lv_ior hx hb hd (by rw [← iI_of (iI a ||| iI b)]; exact k))
theorem v_ixor {a b : Int} (hd : decode M.2.1 pc = .ok (.ixor, 1)) (k : V l G M d av sz0 S (pc + 1) ls (vI (ixor a b) :: st) w sz n) : V l G M d av sz0 S pc ls (vI b :: vI a :: st) w sz n :=
  k.go (fun hx hb h k => lv_ixor hx hb hd (by rw [← iI_of (iI a ^^^ iI b)]; exact k))
theorem v_ishl {a b : Int} (hd : decode M.2.1 pc = .ok (.ishl, 1)) (k : V l G M d av sz0 S (pc + 1) ls (vI (ishl a b) :: st) w sz n) : V l G M d av sz0 S pc ls (vI b :: vI a :: st) w sz n :=
  k.go (fun hx hb h k => lv_ishl hx hb hd (by rw [← iI_of (iI a <<< (iI b &&& 31))]; exact k))
theorem v_ishr {a b : Int} (hd : decode M.2.1 pc = .ok (.ishr, 1)) (k : V l G M d av sz0 S (pc + 1) ls (vI (ishr a b) :: st) w sz n) : V l G M d av sz0 S pc ls (vI b :: vI a :: st) w sz n :=
  k.go (fun hx hb h k => lv_ishr hx hb hd (by rw [← iI_of (iI a >>> (iI b &&& 31))]; exact k))
theorem v_iushr {a b : Int} (hd : decode M.2.1 pc = .ok (.iushr, 1)) (k : V l G M d av sz0 S (pc + 1) ls (vI (iushr a b) :: st) w sz n) : V l G M d av sz0 S pc ls (vI b :: vI a :: st) w sz n :=
  k.go (fun hx hb h k => lv_iushr hx hb hd (iI_of _).symm k)
theorem v_i2b {a : Int} (hd : decode M.2.1 pc = .ok (.i2b, 1)) (k : V l G M d av sz0 S (pc + 1) ls (vI (i2b a) :: st) w sz n) : V l G M d av sz0 S pc ls (vI a :: st) w sz n :=
  k.go (fun hx hb h k => lv_i2b hx hb hd (iI_of _).symm k)
theorem v_i2c {a : Int} (hd : decode M.2.1 pc = .ok (.i2c, 1)) (k : V l G M d av sz0 S (pc + 1) ls (vI (i2c a) :: st) w sz n) : V l G M d av sz0 S pc ls (vI a :: st) w sz n :=
  k.go (fun hx hb h k => lv_i2c hx hb hd (iI_of _).symm k)
theorem v_i2l {a : Int} (hd : decode M.2.1 pc = .ok (.i2l, 1)) (ha : rI a) (k : V l G M d av sz0 S (pc + 1) ls (vL a :: st) w sz n) : V l G M d av sz0 S pc ls (vI a :: st) w sz n :=
  k.go (fun hx hb h k => lv_i2l hx hb hd (iI_i2l ha) k)
theorem v_l2i {a : Int} (hd : decode M.2.1 pc = .ok (.l2i, 1)) (k : V l G M d av sz0 S (pc + 1) ls (vI a :: st) w sz n) : V l G M d av sz0 S pc ls (vL a :: st) w sz n :=
  k.go (fun hx hb h k => lv_l2i hx hb hd (jL_l2i a) k)
theorem v_ladd {a b : Int} (hd : decode M.2.1 pc = .ok (.ladd, 1)) (k : V l G M d av sz0 S (pc + 1) ls (vL (a + b) :: st) w sz n) : V l G M d av sz0 S pc ls (vL b :: vL a :: st) w sz n :=
  k.go (fun hx hb h k => lv_ladd hx hb hd (by rw [jL_add]; exact k))
theorem v_lsub {a b : Int} (hd : decode M.2.1 pc = .ok (.lsub, 1)) (k : V l G M d av sz0 S (pc + 1) ls (vL (a - b) :: st) w sz n) : V l G M d av sz0 S pc ls (vL b :: vL a :: st) w sz n :=
  k.go (fun hx hb h k => lv_lsub hx hb hd (by rw [jL_sub]; exact k))
theorem v_lmul {a b : Int} (hd : decode M.2.1 pc = .ok (.lmul, 1)) (k : V l G M d av sz0 S (pc + 1) ls (vL (a * b) :: st) w sz n) : V l G M d av sz0 S pc ls (vL b :: vL a :: st) w sz n :=
  k.go (fun hx hb h k => lv_lmul hx hb hd (by rw [jL_mul]; exact k))
theorem v_ldiv {a b : Int} (hd : decode M.2.1 pc = .ok (.ldiv, 1)) (ha : rL a) (hb : rL b) (h0 : b ≠ 0) (k : V l G M d av sz0 S (pc + 1) ls (vL (a.tdiv b) :: st) w sz n) : V l G M d av sz0 S pc ls (vL b :: vL a :: st) w sz n :=
  k.go (fun hx hb1 h k => lv_ldiv hx hb1 hd (jL_ne0 hb h0) (by rw [jL_div ha hb]; exact k))
theorem v_lrem {a b : Int} (hd : decode M.2.1 pc = .ok (.lrem, 1)) (ha : rL a) (hb : rL b) (h0 : b ≠ 0) (k : V l G M d av sz0 S (pc + 1) ls (vL (a.tmod b) :: st) w sz n) : V l G M d av sz0 S pc ls (vL b :: vL a :: st) w sz n :=
  k.go (fun hx hb1 h k => lv_lrem hx hb1 hd (jL_ne0 hb h0) (by rw [jL_rem ha hb]; exact k))
theorem v_lcmp {a b : Int} (hd : decode M.2.1 pc = .ok (.lcmp, 1)) (ha : rL a) (hb : rL b) (k : V l G M d av sz0 S (pc + 1) ls (vI (cmpI a b) :: st) w sz n) : V l G M d av sz0 S pc ls (vL b :: vL a :: st) w sz n :=
  k.go (fun hx hb1 h k => W.lcmp hx hb1 hd (by rw [cmpI_cmp ha hb]; exact k))
theorem v_icmp_eq {a b : Int} {off : Int} (tgt : Nat) (hd : decode M.2.1 pc = .ok (.if_icmp .eq off, 3)) (ht : (pc : Int) + off = (tgt : Int)) (ha : rI a) (hb : rI b) (kt : a = b → V l G M d av sz0 S tgt ls st w sz n) (kf : ¬ a = b → V l G M d av sz0 S (pc + 3) ls st w sz n) : V l G M d av sz0 S pc ls (vI b :: vI a :: st) w sz n := by
  by_cases h : a = b
  · exact (kt h).go (fun hx hb1 hl k => lv_icmp_eq hx hb1 hd ht (fun _ => k) (fun h2 => absurd ((iI_eq ha hb).mpr h) h2))
  · exact (kf h).go (fun hx hb1 hl k => lv_icmp_eq hx hb1 hd ht (fun h2 => absurd ((iI_eq ha hb).mp h2) h) (fun _ => k))
theorem v_if_eq {a : Int} {off : Int} (tgt : Nat) (hd : decode M.2.1 pc = .ok (.ifCond .eq off, 3)) (ht : (pc : Int) + off = (tgt : Int)) (ha : rI a) (kt : a = 0 → V l G M d av sz0 S tgt ls st w sz n) (kf : ¬ a = 0 → V l G M d av sz0 S (pc + 3) ls st w sz n) : V l G M d av sz0 S pc ls (vI a :: st) w sz n := by
  have hb : rI 0 := ⟨by omega, by omega⟩
  by_cases h : a = 0
  · exact (kt h).go (fun hx hb1 hl k => lv_if_eq hx hb1 hd ht (fun _ => k) (fun h2 => absurd ((iI_eq ha hb).mpr h) h2))
  · exact (kf h).go (fun hx hb1 hl k => lv_if_eq hx hb1 hd ht (fun h2 => absurd ((iI_eq ha hb).mp h2) h) (fun _ => k))
theorem v_icmp_ne {a b : Int} {off : Int} (tgt : Nat) (hd : decode M.2.1 pc = .ok (.if_icmp .ne off, 3)) (ht : (pc : Int) + off = (tgt : Int)) (ha : rI a) (hb : rI b) (kt : ¬ a = b → V l G M d av sz0 S tgt ls st w sz n) (kf : a = b → V l G M d av sz0 S (pc + 3) ls st w sz n) : V l G M d av sz0 S pc ls (vI b :: vI a :: st) w sz n := by
  by_cases h : a = b
  · exact (kf h).go (fun hx hb1 hl k => lv_icmp_ne hx hb1 hd ht (fun h2 => absurd ((iI_eq ha hb).mpr h) h2) (fun _ => k))
  · exact (kt h).go (fun hx hb1 hl k => lv_icmp_ne hx hb1 hd ht (fun _ => k) (fun h2 => absurd ((iI_eq ha hb).mp h2) h))
theorem v_if_ne {a : Int} {off : Int} (tgt : Nat) (hd : decode M.2.1 pc = .ok (.ifCond .ne off, 3)) (ht : (pc : Int) + off = (tgt : Int)) (ha : rI a) (kt : ¬ a = 0 → V l G M d av sz0 S tgt ls st w sz n) (kf : a = 0 → V l G M d av sz0 S (pc + 3) ls st w sz n) : V l G M d av sz0 S pc ls (vI a :: st) w sz n := by
  have hb : rI 0 := ⟨by omega, by omega⟩
  by_cases h : a = 0
  · exact (kf h).go (fun hx hb1 hl k => lv_if_ne hx hb1 hd ht (fun h2 => absurd ((iI_eq ha hb).mpr h) h2) (fun _ => k))
  · exact (kt h).go (fun hx hb1 hl k => lv_if_ne hx hb1 hd ht (fun _ => k) (fun h2 => absurd ((iI_eq ha hb).mp h2) h))
theorem v_icmp_lt {a b : Int} {off : Int} (tgt : Nat) (hd : decode M.2.1 pc = .ok (.if_icmp .lt off, 3)) (ht : (pc : Int) + off = (tgt : Int)) (ha : rI a) (hb : rI b) (kt : a < b → V l G M d av sz0 S tgt ls st w sz n) (kf : ¬ a < b → V l G M d av sz0 S (pc + 3) ls st w sz n) : V l G M d av sz0 S pc ls (vI b :: vI a :: st) w sz n := by
  by_cases h : a < b
  · exact (kt h).go (fun hx hb1 hl k => lv_icmp_lt hx hb1 hd ht (fun _ => k) (fun h2 => absurd ((iI_lt ha hb).mpr h) h2))
  · exact (kf h).go (fun hx hb1 hl k => lv_icmp_lt hx hb1 hd ht (fun h2 => absurd ((iI_lt ha hb).mp h2) h) (fun _ => k))
theorem v_if_lt {a : Int} {off : Int} (tgt : Nat) (hd : decode M.2.1 pc = .ok (.ifCond .lt off, 3)) (ht : (pc : Int) + off = (tgt : Int)) (ha : rI a) (kt : a < 0 → V l G M d av sz0 S tgt ls st w sz n) (kf : ¬ a < 0 → V l G M d av sz0 S (pc + 3) ls st w sz n) : V l G M d av sz0 S pc ls (vI a :: st) w sz n := by
  have hb : rI 0 := ⟨by omega, by omega⟩
  by_cases h : a < 0
  · exact (kt h).go (fun hx hb1 hl k => lv_if_lt hx hb1 hd ht (fun _ => k) (fun h2 => absurd ((iI_lt ha hb).mpr h) h2))
  · exact (kf h).go (fun hx hb1 hl k => lv_if_lt hx hb1 hd ht (fun h2 => absurd ((iI_lt ha hb).mp h2) h) (fun _ => k))
theorem v_icmp_ge {a b : Int} {off : Int} (tgt : Nat) (hd : decode M.2.1 pc = .ok (.if_icmp .ge off, 3)) (ht : (pc : Int) + off = (tgt : Int)) (ha : rI a) (hb : rI b) (kt : b ≤ a → V l G M d av sz0 S tgt ls st w sz n) (kf : ¬ b ≤ a → V l G M d av sz0 S (pc + 3) ls st w sz n) : V l G M d av sz0 S pc ls (vI b :: vI a :: st) w sz n := by
  by_cases h : b ≤ a
  · exact (kt h).go (fun hx hb1 hl k => lv_icmp_ge hx hb1 hd ht (fun _ => k) (fun h2 => absurd ((iI_le hb ha).mpr h) h2))
  · exact (kf h).go (fun hx hb1 hl k => lv_icmp_ge hx hb1 hd ht (fun h2 => absurd ((iI_le hb ha).mp h2) h) (fun _ => k))
theorem v_if_ge {a : Int} {off : Int} (tgt : Nat) (hd : decode M.2.1 pc = .ok (.ifCond .ge off, 3)) (ht : (pc : Int) + off = (tgt : Int)) (ha : rI a) (kt : 0 ≤ a → V l G M d av sz0 S tgt ls st w sz n) (kf : ¬ 0 ≤ a → V l G M d av sz0 S (pc + 3) ls st w sz n) : V l G M d av sz0 S pc ls (vI a :: st) w sz n := by
  have hb : rI 0 := ⟨by omega, by omega⟩
  by_cases h : 0 ≤ a
  · exact (kt h).go (fun hx hb1 hl k => lv_if_ge hx hb1 hd ht (fun _ => k) (fun h2 => absurd ((iI_le hb ha).mpr h) h2))
  · exact (kf h).go (fun hx hb1 hl k => lv_if_ge hx hb1 hd ht (fun h2 => absurd ((iI_le hb ha).mp h2) h) (fun _ => k))
theorem v_icmp_gt {a b : Int} {off : Int} (tgt : Nat) (hd : decode M.2.1 pc = .ok (.if_icmp .gt off, 3)) (ht : (pc : Int) + off = (tgt : Int)) (ha : rI a) (hb : rI b) (kt : b < a → V l G M d av sz0 S tgt ls st w sz n) (kf : ¬ b < a → V l G M d av sz0 S (pc + 3) ls st w sz n) : V l G M d av sz0 S pc ls (vI b :: vI a :: st) w sz n := by
  by_cases h : b < a
  · exact (kt h).go (fun hx hb1 hl k => lv_icmp_gt hx hb1 hd ht (fun _ => k) (fun h2 => absurd ((iI_lt hb ha).mpr h) h2))
  · exact (kf h).go (fun hx hb1 hl k => lv_icmp_gt hx hb1 hd ht (fun h2 => absurd ((iI_lt hb ha).mp h2) h) (fun _ => k))
theorem v_if_gt {a : Int} {off : Int} (tgt : Nat) (hd : decode M.2.1 pc = .ok (.ifCond .gt off, 3)) (ht : (pc : Int) + off = (tgt : Int)) (ha : rI a) (kt : 0 < a → V l G M d av sz0 S tgt ls st w sz n) (kf : ¬ 0 < a → V l G M d av sz0 S (pc + 3) ls st w sz n) : V l G M d av sz0 S pc ls (vI a :: st) w sz n := by
  have hb : rI 0 := ⟨by omega, by omega⟩
  by_cases h : 0 < a
  · exact (kt h).go (fun hx hb1 hl k => lv_if_gt hx hb1 hd ht (fun _ => k) (fun h2 => absurd ((iI_lt hb ha).mpr h) h2))
  · exact (kf h).go (fun hx hb1 hl k => lv_if_gt hx hb1 hd ht (fun h2 => absurd ((iI_lt hb ha).mp h2) h) (fun _ => k))
theorem v_icmp_le {a b : Int} {off : Int} (tgt : Nat) (hd : decode M.2.1 pc = .ok (.if_icmp .le off, 3)) (ht : (pc : Int) + off = (tgt : Int)) (ha : rI a) (hb : rI b) (kt : a ≤ b → V l G M d av sz0 S tgt ls st w sz n) (kf : ¬ a ≤ b → V l G M d av sz0 S (pc + 3) ls st w sz n) : V l G M d av sz0 S pc ls (vI b :: vI a :: st) w sz n := by
  by_cases h : a ≤ b
  · exact (kt h).go (fun hx hb1 hl k => lv_icmp_le hx hb1 hd ht (fun _ => k) (fun h2 => absurd ((iI_le ha hb).mpr h) h2))
  · exact (kf h).go (fun hx hb1 hl k => lv_icmp_le hx hb1 hd ht (fun h2 => absurd ((iI_le ha hb).mp h2) h) (fun _ => k))
theorem v_if_le {a : Int} {off : Int} (tgt : Nat) (hd : decode M.2.1 pc = .ok (.ifCond .le off, 3)) (ht : (pc : Int) + off = (tgt : Int)) (ha : rI a) (kt : a ≤ 0 → V l G M d av sz0 S tgt ls st w sz n) (kf : ¬ a ≤ 0 → V l G M d av sz0 S (pc + 3) ls st w sz n) : V l G M d av sz0 S pc ls (vI a :: st) w sz n := by
  have hb : rI 0 := ⟨by omega, by omega⟩
  by_cases h : a ≤ 0
  · exact (kt h).go (fun hx hb1 hl k => lv_if_le hx hb1 hd ht (fun _ => k) (fun h2 => absurd ((iI_le ha hb).mpr h) h2))
  · exact (kf h).go (fun hx hb1 hl k => lv_if_le hx hb1 hd ht (fun h2 => absurd ((iI_le ha hb).mp h2) h) (fun _ => k))
theorem v_goto {off : Int} (tgt : Nat) (hd : decode M.2.1 pc = .ok (.goto off, 3)) (ht : (pc : Int) + off = (tgt : Int)) (k : V l G M d av sz0 S tgt ls st w sz n) : V l G M d av sz0 S pc ls st w sz n :=
  k.go (fun hx hb hl k => lv_goto hx hb hd ht k)
theorem v_ifnull {r : Option Nat} {off : Int} (tgt : Nat) (hd : decode M.2.1 pc = .ok (.ifnull off, 3)) (ht : (pc : Int) + off = (tgt : Int)) (kt : r = none → V l G M d av sz0 S tgt ls st w sz n) (kf : ∀ a, r = some a → V l G M d av sz0 S (pc + 3) ls st w sz n) : V l G M d av sz0 S pc ls (va_rf r :: st) w sz n := by
  cases r with
  | none => exact (kt rfl).go (fun hx hb hl k => lv_ifnullN hx hb hd ht k)
  | some a => exact (kf a rfl).go (fun hx hb hl k => lv_ifnull hx hb hd k)
theorem v_ifnonnull {r : Option Nat} {off : Int} (tgt : Nat) (hd : decode M.2.1 pc = .ok (.ifnonnull off, 3)) (ht : (pc : Int) + off = (tgt : Int)) (kt : ∀ a, r = some a → V l G M d av sz0 S tgt ls st w sz n) (kf : r = none → V l G M d av sz0 S (pc + 3) ls st w sz n) : V l G M d av sz0 S pc ls (va_rf r :: st) w sz n := by
  cases r with
  | none => exact (kf rfl).go (fun hx hb hl k => lv_ifnonnullN hx hb hd k)
  | some a => exact (kt a rfl).go (fun hx hb hl k => lv_ifnonnull hx hb hd ht k)
theorem v_tableIn {dflt lo hi : Int} {offs : Array Int} {len9 : Nat} {x : Int} {off : Int} (tgt : Nat) (hd : decode M.2.1 pc = .ok (.tableswitch dflt lo hi offs, len9)) (c : Int) (hx9 : x = c) (hc : rI c) (h1 : ¬ c < lo) (h2 : ¬ hi < c) (ho : offs[(c - lo).toNat]? = some off) (ht : (pc : Int) + off = (tgt : Int)) (k : V l G M d av sz0 S tgt ls st w sz n) : V l G M d av sz0 S pc ls (vI x :: st) w sz n := by
  subst hx9
  exact k.go (fun hx hb hl k => lv_tableIn hx hb hd (by rw [iI_toInt hc]; exact h1) (by rw [iI_toInt hc]; exact h2) (by rw [iI_toInt hc]; exact ho) ht k)
theorem v_tableOut {dflt lo hi : Int} {offs : Array Int} {len9 : Nat} {x : Int} (tgt : Nat) (hd : decode M.2.1 pc = .ok (.tableswitch dflt lo hi offs, len9)) (hc : rI x) (h : x < lo ∨ hi < x) (ht : (pc : Int) + dflt = (tgt : Int)) (k : V l G M d av sz0 S tgt ls st w sz n) : V l G M d av sz0 S pc ls (vI x :: st) w sz n :=
  k.go (fun hx hb hl k => lv_tableOut hx hb hd (by rw [iI_toInt hc]; exact h) ht k)
/-! fields: a link of a class's pool to the k-th field of class ci -/
def FL (own : String) (idx ci k : Nat) : Prop := ∃ (C : String) (T : u_T) (N : Nat) (ty : Nat → FieldType), cls[ci]? = some (C, T, N) ∧ (∀ w ∈ u_ws C T N, w ∈ lw_all) ∧ (∀ k, k < N → parseFieldDescriptor (T k).2.2.1 = some (ty k)) ∧ (∀ a, a < N → ∀ b, b < N → a ≠ b → (T a).2.1 ≠ (T b).2.1) ∧ k < N ∧
  ∃ ref : String, (Cond.fieldLink own idx ref (T k).2.1 (T k).2.2.1 ∈ lw_all ∨ ∃ host : String, Cond.fieldLinkNest own idx ref (T k).2.1 (T k).2.2.1 host ∈ lw_tbl) ∧ (ref = (T k).1 ∨ (Cond.sameField ref (T k).1 (T k).2.1 (T k).2.2.1 ∈ lw_all))
def FLo (own : String) (idx ci k : Nat) : Prop := ∃ (C : String) (T : u_T) (N : Nat) (ty : Nat → FieldType), cls[ci]? = some (C, T, N) ∧ (∀ w ∈ u_ws C T N, w ∈ lw_all) ∧ (∀ k, k < N → parseFieldDescriptor (T k).2.2.1 = some (ty k)) ∧ (∀ a, a < N → ∀ b, b < N → a ≠ b → (T a).2.1 ≠ (T b).2.1) ∧ k < N ∧
  ∃ ref : String, Cond.fieldLink own idx ref (T k).2.1 (T k).2.2.1 ∈ lw_all ∧ (ref = (T k).1 ∨ (Cond.sameField ref (T k).1 (T k).2.1 (T k).2.2.1 ∈ lw_all))
theorem fl_same {s : State} {args : Array Value} (hts : ∀ w ∈ lw_all, w.before args s = true) {ref C n d : String} (h : ref = C ∨ (Cond.sameField ref C n d ∈ lw_all)) : ∀ x, s.fieldFound? C n d = some x → s.fieldFound? ref n d = some x := by
  rcases h with rfl | h
  · exact fun _ h => h
  · exact fun x hx => u_same (hts _ h) x hx
theorem cAt_obj {G : GG} {a ci : Nat} {fs : List Value} {H : Heap} (h : cAt G a (cO ci fs) H) : va_P G.D cls [(a, .inr (ci, fs))] H := by
  intro k q hq
  have hk : k = 0 := by have := (List.getElem?_eq_some_iff.mp hq).1; simp at this; exact this
  subst hk
  cases hq
  exact h
theorem v_get {idx ci k q j a : Nat} {fs : List Value} {v : Value} {o : Ob} (hd : decode M.2.1 pc = .ok (.getfield idx, 3)) (hf : FL M.1.cls idx ci k) (hw : w q = some o) (ha : a = q + j) (hl : lay q o j = some (cO ci fs)) (hv : fs[k]? = some v) (kk : V l G M d av sz0 S (pc + 3) ls (v :: st) w sz n) : V l G M d av sz0 S pc ls (.ref a :: st) w sz n := by
  subst ha
  obtain ⟨C, T, N, ty, hc, hin, hty, hnm, hk, ref, hlk, hsm⟩ := hf
  refine kk.goR (fun {p e R s m below meth c H locs cells slots Q la} X hG hS hl1 kk => ?_)
  have hP := cAt_obj (hG.cell hw hl)
  obtain ⟨hx, hb, hml, hr, hlk9, hown, hts, hK, hsz9, hnm9⟩ := X
  rcases hlk with hlk | ⟨host, hlk⟩
  · exact va_get (D := G.D) (cl := cls) (tys := atys G) (ws := [(q + j, .inr (ci, fs))]) hx hb hts hin hown hK.1 hP 0 rfl hc k hk (hts _ hlk) (fl_same hts hsm) hv hd kk
  · exact va_getN (D := G.D) (cl := cls) (tys := atys G) (ws := [(q + j, .inr (ci, fs))]) hx hb hts hin hown hK.1 hP 0 rfl hc k hk (va_Nw.use rfl (hK.2.1 _ hlk rfl)) (fl_same hts hsm) hv hd kk
/-- one cell of an object's layout is another -/
def Chg (q : Nat) (o o' : Ob) (j : Nat) (e : CE) : Prop := len o' = len o ∧ ∀ (i : Nat) (e2 : CE), lay q o' i = some e2 → (i = j ∧ e2 = e) ∨ (i ≠ j ∧ lay q o i = some e2)
theorem goodw_apart {G : GG} {s : State} {args : Array Value} (hts : ∀ w ∈ lw_all, w.before args s = true) (hK : KK G s) {ci : Nat} {C : String} {T : u_T} {N : Nat} {ty : Nat → FieldType} (hc : cls[ci]? = some (C, T, N)) (hin : ∀ w ∈ u_ws C T N, w ∈ lw_all) (hty : ∀ k, k < N → parseFieldDescriptor (T k).2.2.1 = some (ty k)) (hnm : ∀ a, a < N → ∀ b, b < N → a ≠ b → (T a).2.1 ≠ (T b).2.1) : ∀ x y, x < N → y < N → x ≠ y → (G.D.2 ci) x ≠ (G.D.2 ci) y :=
  va_apart (own := C) (cl := cls) (tys := atys G) hts hin ty hty hnm hK.1 hc
/-- a field that isn't final is stored -/
theorem v_put {idx ci k q j a : Nat} {fs : List Value} {v : Value} {o : Ob} (o' : Ob) {ty : FieldType} (hd : decode M.2.1 pc = .ok (.putfield idx, 3)) (hf : FL M.1.cls idx ci k) (hfin : ∀ C T N, cls[ci]? = some (C, T, N) → (T k).2.2.2 = false ∧ parseFieldDescriptor (T k).2.2.1 = some ty) (hw : w q = some o) (ha : a = q + j) (hl : lay q o j = some (cO ci fs)) (hkf : k < fs.length) (hn : narrow ty v = v) (hft : fits ty v = true) (hch : Chg q o o' j (cO ci (fs.set k v))) (hbq : G.base ≤ q)
    (kk : V l G M d av sz0 S (pc + 3) ls st (wset w q (some o')) sz n) : V l G M d av sz0 S pc ls (v :: .ref a :: st) w sz n := by
  subst ha
  obtain ⟨C, T, N, ty0, hc, hin, hty, hnm, hk, ref, hlk, hsm⟩ := hf
  obtain ⟨hfin, hdd⟩ := hfin C T N hc
  refine kk.goW (fun {p e R s m below meth c H locs cells slots Q la} X hG hS hl1 kk => ?_)
  obtain ⟨hx, hb, hml, hr, hlk9, hown, hts, hK, hsz9, hnm9⟩ := X
  have hap := goodw_apart hts hK hc hin hty hnm
  obtain ⟨r9, h1, cell, q1, q2, q3, q4⟩ := hG.cell hw hl
  have hr9 : r9 = (C, T, N) := Option.some.inj (h1.symm.trans hc)
  subst hr9
  obtain ⟨hSl, hfc, kC, hkC, hkind⟩ := hK.1.1 ci _ hc
  obtain ⟨cf, kf, fi, f, hi, hsl⟩ := hSl k hk
  have hlay := hts _ (hin _ (u_in_lay hk))
  unfold u_lay at hlay
  rw [if_neg (by rw [hfin]; decide)] at hlay
  have hst := (u_facts hfc hkC (u_lays hts hin hk) hi).1
  have h6 := u_store hfc hkC hkind hlay hi hdd hn hft
  have fin : ∀ H' : Heap, H'[q + j]? = some (cell.setSlot f.slot v) → H'.size = H.size → (∀ x, x ≠ q + j → H'[x]? = H[x]?) → W p l e R s m av.toArray below meth c H' (locs ++ [⟨q + j, f.slot⟩]) cells slots Q (F0 m (pc + 3) la st) := by
    intro H' e1 e2 e3
    rw [hsl] at e1 ⊢
    refine kk H' _ (hG.put (e' := cO ci (fs.set k v)) hw (lay_lt hl) hch.1 ⟨_, hc, t_OB.to (V := updV (vp_V fs) k v) ⟨_, e1, q2, q3, t_set q4 hap hk v⟩ (fun j _ => vp_updV_set hkf v j)⟩ e2 e3 hbq hch.2) (hS.put e2 e3 ?_)
    show G.base ≤ q + j
    omega
  rcases hlk with hlk | ⟨host, hlk⟩
  · exact W.putK hx hb (f := f) ⟨hown, hts _ hlk, ⟨_, _, _, fl_same hts hsm _ hi⟩, hst⟩ (by rw [q2]; exact h6) q1 q3 (by rw [hsl]; exact k2_hasslot (q4 k hk)) rfl rfl hd fin
  · exact va_WputK hx hb (f := f) hown (va_Nw.use rfl (hK.2.1 _ hlk rfl)) (fl_same hts hsm _ hi) hst (by rw [q2]; exact h6) q1 q3 (by rw [hsl]; exact k2_hasslot (q4 k hk)) rfl rfl hd fin
/-- a final field is stored in the class's constructor -/
theorem v_putF {idx ci k q j a : Nat} {fs : List Value} {v : Value} {o : Ob} (o' : Ob) {ty : FieldType} (hd : decode M.2.1 pc = .ok (.putfield idx, 3)) (hf : FLo M.1.cls idx ci k) (hfin : ∀ C T N, cls[ci]? = some (C, T, N) → (T k).2.2.2 = true ∧ parseFieldDescriptor (T k).2.2.1 = some ty ∧ (T k).1 = M.1.cls) (hin9 : M.1.name = "<init>") (hw : w q = some o) (ha : a = q + j) (hl : lay q o j = some (cO ci fs)) (hkf : k < fs.length) (hn : narrow ty v = v) (hft : fits ty v = true) (hch : Chg q o o' j (cO ci (fs.set k v))) (hbq : G.base ≤ q)
    (kk : V l G M d av sz0 S (pc + 3) ls st (wset w q (some o')) sz n) : V l G M d av sz0 S pc ls (v :: .ref a :: st) w sz n := by
  subst ha
  obtain ⟨C, T, N, ty0, hc, hin, hty, hnm, hk, ref, hlk, hsm⟩ := hf
  obtain ⟨hfin, hdd, hdecl⟩ := hfin C T N hc
  refine kk.goW (fun {p e R s m below meth c H locs cells slots Q la} X hG hS hl1 kk => ?_)
  obtain ⟨hx, hb, hml, hr, hlk9, hown, hts, hK, hsz9, hnm9⟩ := X
  have hap := goodw_apart hts hK hc hin hty hnm
  obtain ⟨r9, h1, cell, q1, q2, q3, q4⟩ := hG.cell hw hl
  have hr9 : r9 = (C, T, N) := Option.some.inj (h1.symm.trans hc)
  subst hr9
  obtain ⟨hSl, hfc, kC, hkC, hkind⟩ := hK.1.1 ci _ hc
  obtain ⟨cf, kf, fi, f, hi, hsl⟩ := hSl k hk
  have hlay := hts _ (hin _ (u_in_lay hk))
  unfold u_lay at hlay
  rw [if_pos hfin] at hlay
  have hst := (u_facts hfc hkC (u_lays hts hin hk) hi).1
  have hcf : m.cls = cf := by
    obtain ⟨_, _, c', _, _, _, -, -, hf', -, -, -, hown2, -⟩ := Cond.laysFinal_spec hlay
    have e1 : c' = cf := by have := hi.symm.trans hf'; simp at this; exact this.1.symm
    rw [hdecl] at hown2
    rw [← e1]; exact Option.some.inj (hown.symm.trans hown2)
  have h6 := u_fits hfc hkC hkind (Or.inr hlay) hi hdd hn hft
  have fin : ∀ H' : Heap, H'[q + j]? = some (cell.setSlot f.slot v) → H'.size = H.size → (∀ x, x ≠ q + j → H'[x]? = H[x]?) → W p l e R s m av.toArray below meth c H' (locs ++ [⟨q + j, f.slot⟩]) cells slots Q (F0 m (pc + 3) la st) := by
    intro H' e1 e2 e3
    rw [hsl] at e1 ⊢
    refine kk H' _ (hG.put (e' := cO ci (fs.set k v)) hw (lay_lt hl) hch.1 ⟨_, hc, t_OB.to (V := updV (vp_V fs) k v) ⟨_, e1, q2, q3, t_set q4 hap hk v⟩ (fun j _ => vp_updV_set hkf v j)⟩ e2 e3 hbq hch.2) (hS.put e2 e3 ?_)
    show G.base ≤ q + j
    omega
  exact W.putFinK hx hb hown (hts _ hlk) (fl_same hts hsm _ hi) hst hcf (hnm9.1.trans hin9) (by rw [q2]; exact h6) q1 q3 (by rw [hsl]; exact k2_hasslot (q4 k hk)) rfl rfl hd fin
/-! arrays -/
theorem vin_of {i : Int} {n : Nat} (h : 0 ≤ i ∧ i < (n : Int)) (hn : n < 2147483648) : vp_in (iI i) n ∧ (iI i).toNatClampNeg = i.toNat ∧ ((i.toNat : Nat) : Int) = i ∧ i.toNat < n := by
  have h1 := iI_clamp h.1 (by omega)
  refine ⟨?_, h1, by omega, by omega⟩
  rintro (h2 | h2)
  · exact iI_neg0 h.1 (by omega) h2
  · rw [h1] at h2; omega
theorem v_alen {q j a t n9 : Nat} {f : Nat → Value} {o : Ob} (hd : decode M.2.1 pc = .ok (.arraylength, 1)) (hw : w q = some o) (ha : a = q + j) (hl : lay q o j = some (cA t n9 f)) (ht : t < 11) (kk : V l G M d av sz0 S (pc + 1) ls (vI (n9 : Int) :: st) w sz n) : V l G M d av sz0 S pc ls (.ref a :: st) w sz n := by
  subst ha
  refine kk.goR (fun {p e R s m below meth c H locs cells slots Q la} X hG hS hl1 kk => ?_)
  have hc := hG.cell hw hl
  have hty : ∃ ty, (atys G)[t]? = some (G.tA t, ty) := by
    match t, ht with
    | 0, _ => exact ⟨_, rfl⟩
    | 1, _ => exact ⟨_, rfl⟩
    | 2, _ => exact ⟨_, rfl⟩
    | 3, _ => exact ⟨_, rfl⟩
    | 4, _ => exact ⟨_, rfl⟩
    | 5, _ => exact ⟨_, rfl⟩
    | 6, _ => exact ⟨_, rfl⟩
    | 7, _ => exact ⟨_, rfl⟩
    | 8, _ => exact ⟨_, rfl⟩
    | 9, _ => exact ⟨_, rfl⟩
    | 10, _ => exact ⟨_, rfl⟩
    | t + 11, h => omega
  obtain ⟨ty, hty⟩ := hty
  exact W.alen (n := iI (n9 : Int)) X.1 X.2.1 hc ((X.2.2.2.2.2.2.2.1.1.2 t _ hty).1 n9 f) (by rw [arrV_size]; rfl) rfl rfl hd kk
theorem v_iald {q j a n9 : Nat} {i : Int} {f : Int → Int} {o : Ob} (hd : decode M.2.1 pc = .ok (.iaload, 1)) (hw : w q = some o) (ha : a = q + j) (hl : lay q o j = some (cA 0 n9 (fI f))) (hi : 0 ≤ i ∧ i < (n9 : Int)) (hn : n9 < 2147483648) (kk : V l G M d av sz0 S (pc + 1) ls (vI (f i) :: st) w sz n) : V l G M d av sz0 S pc ls (vI i :: .ref a :: st) w sz n := by
  subst ha
  obtain ⟨h1, h2, h3, h4⟩ := vin_of hi hn
  refine kk.goR (fun {p e R s m below meth c H locs cells slots Q la} X hG hS hl1 kk => ?_)
  have hc := hG.cell hw hl
  exact W.iald (v := vI (f i)) X.1 X.2.1 hc ((X.2.2.2.2.2.2.2.1.1.2 0 _ rfl).1 n9 (fI f)) (fun h => by cases h) (by rw [arrV_size]; exact h1) (by rw [arrV_read _ _ (by rw [h2]; exact h4), h2]; show some (vI (f ((i.toNat : Nat) : Int))) = _; rw [h3]) rfl rfl hd kk
theorem v_bald {q j a n9 : Nat} {i : Int} {f : Int → Int} {o : Ob} (hd : decode M.2.1 pc = .ok (.baload, 1)) (hw : w q = some o) (ha : a = q + j) (hl : lay q o j = some (cA 2 n9 (fI f))) (hi : 0 ≤ i ∧ i < (n9 : Int)) (hn : n9 < 2147483648) (kk : V l G M d av sz0 S (pc + 1) ls (vI (f i) :: st) w sz n) : V l G M d av sz0 S pc ls (vI i :: .ref a :: st) w sz n := by
  subst ha
  obtain ⟨h1, h2, h3, h4⟩ := vin_of hi hn
  refine kk.goR (fun {p e R s m below meth c H locs cells slots Q la} X hG hS hl1 kk => ?_)
  have hc := hG.cell hw hl
  exact W.bald (v := vI (f i)) X.1 X.2.1 hc ((X.2.2.2.2.2.2.2.1.1.2 2 _ rfl).1 n9 (fI f)) (fun h => by cases h) (by rw [arrV_size]; exact h1) (by rw [arrV_read _ _ (by rw [h2]; exact h4), h2]; show some (vI (f ((i.toNat : Nat) : Int))) = _; rw [h3]) rfl rfl hd kk
theorem v_lald {q j a n9 : Nat} {i : Int} {f : Int → Int} {o : Ob} (hd : decode M.2.1 pc = .ok (.laload, 1)) (hw : w q = some o) (ha : a = q + j) (hl : lay q o j = some (cA 1 n9 (fL f))) (hi : 0 ≤ i ∧ i < (n9 : Int)) (hn : n9 < 2147483648) (kk : V l G M d av sz0 S (pc + 1) ls (vL (f i) :: st) w sz n) : V l G M d av sz0 S pc ls (vI i :: .ref a :: st) w sz n := by
  subst ha
  obtain ⟨h1, h2, h3, h4⟩ := vin_of hi hn
  refine kk.goR (fun {p e R s m below meth c H locs cells slots Q la} X hG hS hl1 kk => ?_)
  have hc := hG.cell hw hl
  exact W.lald (v := vL (f i)) X.1 X.2.1 hc ((X.2.2.2.2.2.2.2.1.1.2 1 _ rfl).1 n9 (fL f)) (fun h => by cases h) (by rw [arrV_size]; exact h1) (by rw [arrV_read _ _ (by rw [h2]; exact h4), h2]; show some (vL (f ((i.toNat : Nat) : Int))) = _; rw [h3]) rfl rfl hd kk
theorem v_iast {q j a n9 : Nat} {i x : Int} {f : Int → Int} {o : Ob} (o' : Ob) (hd : decode M.2.1 pc = .ok (.iastore, 1)) (hw : w q = some o) (ha : a = q + j) (hl : lay q o j = some (cA 0 n9 (fI f))) (hi : 0 ≤ i ∧ i < (n9 : Int)) (hn : n9 < 2147483648) (hch : Chg q o o' j (cA 0 n9 (fI (upZ f i x)))) (hbq : G.base ≤ q) (kk : V l G M d av sz0 S (pc + 1) ls st (wset w q (some o')) sz n) : V l G M d av sz0 S pc ls (vI x :: vI i :: .ref a :: st) w sz n := by
  subst ha
  obtain ⟨h1, h2, h3, h4⟩ := vin_of hi hn
  refine kk.goW (fun {p e R s m below meth c H locs cells slots Q la} X hG hS hl1 kk => ?_)
  have hc := hG.cell hw hl
  refine W.iast X.1 X.2.1 hc ((X.2.2.2.2.2.2.2.1.1.2 0 _ rfl).1 n9 (fI f)) (fun h => by cases h) (by rw [arrV_size]; exact h1) rfl rfl hd (fun H1 e1 e2 e3 => ?_)
  refine kk H1 _ (hG.put hw (lay_lt hl) hch.1 ?_ e2 e3 hbq hch.2) (hS.put e2 e3 (by show G.base ≤ q + j; omega))
  show H1[q + j]? = some _
  rw [e1, arrV_store, h2]
  congr 2
  funext z
  unfold updV upZ
  by_cases hz : z = i.toNat
  · subst hz
    rw [if_pos rfl]
    show _ = vI (if ((i.toNat : Nat) : Int) = i then x else f ((i.toNat : Nat) : Int))
    rw [if_pos h3]
  · rw [if_neg hz]
    show vI (f z) = vI (if ((z : Nat) : Int) = i then x else f z)
    rw [if_neg (by omega)]
theorem byte_nar {x : Int} (h : -128 ≤ x ∧ x ≤ 127) : narrow .byte (vI x) = vI x := by
  show Value.int (iI x).toInt8.toInt32 = .int (iI x)
  congr 1
  rw [← Int32.toInt_inj, Int8.toInt_toInt32, Int32.toInt_toInt8, iI_toInt ⟨by omega, by omega⟩, Int.bmod_def]
  omega
theorem v_bast {q j a n9 : Nat} {i x : Int} {f : Int → Int} {o : Ob} (o' : Ob) (hd : decode M.2.1 pc = .ok (.bastore, 1)) (hw : w q = some o) (ha : a = q + j) (hl : lay q o j = some (cA 2 n9 (fI f))) (hi : 0 ≤ i ∧ i < (n9 : Int)) (hn : n9 < 2147483648) (hx9 : -128 ≤ x ∧ x ≤ 127) (hch : Chg q o o' j (cA 2 n9 (fI (upZ f i x)))) (hbq : G.base ≤ q) (kk : V l G M d av sz0 S (pc + 1) ls st (wset w q (some o')) sz n) : V l G M d av sz0 S pc ls (vI x :: vI i :: .ref a :: st) w sz n := by
  subst ha
  obtain ⟨h1, h2, h3, h4⟩ := vin_of hi hn
  refine kk.goW (fun {p e R s m below meth c H locs cells slots Q la} X hG hS hl1 kk => ?_)
  have hc := hG.cell hw hl
  refine W.bast X.1 X.2.1 hc ((X.2.2.2.2.2.2.2.1.1.2 2 _ rfl).1 n9 (fI f)) (fun h => by cases h) (by rw [arrV_size]; exact h1) rfl rfl hd (fun H1 e1 e2 e3 => ?_)
  have e1 : H1[q + j]? = some ((arrV (G.tA 2) n9 (fI f)).setSlot (iI i).toNatClampNeg (vI x)) := by
    rw [e1]; congr 2; exact byte_nar hx9
  refine kk H1 _ (hG.put hw (lay_lt hl) hch.1 ?_ e2 e3 hbq hch.2) (hS.put e2 e3 (by show G.base ≤ q + j; omega))
  show H1[q + j]? = some _
  rw [e1, arrV_store, h2]
  congr 2
  funext z
  unfold updV upZ
  by_cases hz : z = i.toNat
  · subst hz
    rw [if_pos rfl]
    show _ = vI (if ((i.toNat : Nat) : Int) = i then x else f ((i.toNat : Nat) : Int))
    rw [if_pos h3]
  · rw [if_neg hz]
    show vI (f z) = vI (if ((z : Nat) : Int) = i then x else f z)
    rw [if_neg (by omega)]
theorem v_last {q j a n9 : Nat} {i x : Int} {f : Int → Int} {o : Ob} (o' : Ob) (hd : decode M.2.1 pc = .ok (.lastore, 1)) (hw : w q = some o) (ha : a = q + j) (hl : lay q o j = some (cA 1 n9 (fL f))) (hi : 0 ≤ i ∧ i < (n9 : Int)) (hn : n9 < 2147483648) (hch : Chg q o o' j (cA 1 n9 (fL (upZ f i x)))) (hbq : G.base ≤ q) (kk : V l G M d av sz0 S (pc + 1) ls st (wset w q (some o')) sz n) : V l G M d av sz0 S pc ls (vL x :: vI i :: .ref a :: st) w sz n := by
  subst ha
  obtain ⟨h1, h2, h3, h4⟩ := vin_of hi hn
  refine kk.goW (fun {p e R s m below meth c H locs cells slots Q la} X hG hS hl1 kk => ?_)
  have hc := hG.cell hw hl
  refine W.last X.1 X.2.1 hc ((X.2.2.2.2.2.2.2.1.1.2 1 _ rfl).1 n9 (fL f)) (fun h => by cases h) (by rw [arrV_size]; exact h1) rfl rfl hd (fun H1 e1 e2 e3 => ?_)
  refine kk H1 _ (hG.put hw (lay_lt hl) hch.1 ?_ e2 e3 hbq hch.2) (hS.put e2 e3 (by show G.base ≤ q + j; omega))
  show H1[q + j]? = some _
  rw [e1, arrV_store, h2]
  congr 2
  funext z
  unfold updV upZ
  by_cases hz : z = i.toNat
  · subst hz
    rw [if_pos rfl]
    show _ = vL (if ((i.toNat : Nat) : Int) = i then x else f ((i.toNat : Nat) : Int))
    rw [if_pos h3]
  · rw [if_neg hz]
    show vL (f z) = vL (if ((z : Nat) : Int) = i then x else f z)
    rw [if_neg (by omega)]
theorem v_aaldR {q j a n9 t q0 : Nat} {i : Int} {o : Ob} (ht : t = 8 ∨ t = 9 ∨ t = 10) (hd : decode M.2.1 pc = .ok (.aaload, 1)) (hw : w q = some o) (ha : a = q + j) (hl : lay q o j = some (cA t n9 (fR q0))) (hi : 0 ≤ i ∧ i < (n9 : Int)) (hn : n9 < 2147483648) (kk : V l G M d av sz0 S (pc + 1) ls (.ref (q0 + i.toNat) :: st) w sz n) : V l G M d av sz0 S pc ls (vI i :: .ref a :: st) w sz n := by
  subst ha
  obtain ⟨h1, h2, h3, h4⟩ := vin_of hi hn
  refine kk.goR (fun {p e R s m below meth c H locs cells slots Q la} X hG hS hl1 kk => ?_)
  have hc := hG.cell hw hl
  rcases ht with rfl | rfl | rfl
  · exact W.aald (v := .ref (q0 + i.toNat)) X.1 X.2.1 hc ((X.2.2.2.2.2.2.2.1.1.2 8 _ rfl).1 n9 (fR q0)) rfl (fun h => by cases h) (by rw [arrV_size]; exact h1) (by rw [arrV_read _ _ (by rw [h2]; exact h4), h2]) rfl rfl hd kk
  · exact W.aald (v := .ref (q0 + i.toNat)) X.1 X.2.1 hc ((X.2.2.2.2.2.2.2.1.1.2 9 _ rfl).1 n9 (fR q0)) rfl (fun h => by cases h) (by rw [arrV_size]; exact h1) (by rw [arrV_read _ _ (by rw [h2]; exact h4), h2]) rfl rfl hd kk
  · exact W.aald (v := .ref (q0 + i.toNat)) X.1 X.2.1 hc ((X.2.2.2.2.2.2.2.1.1.2 10 _ rfl).1 n9 (fR q0)) rfl (fun h => by cases h) (by rw [arrV_size]; exact h1) (by rw [arrV_read _ _ (by rw [h2]; exact h4), h2]) rfl rfl hd kk
theorem v_aaldQ {q j a n9 t : Nat} {i : Int} {f : Int → Option Nat} {o : Ob} (ht : 3 ≤ t ∧ t < 11) (hd : decode M.2.1 pc = .ok (.aaload, 1)) (hw : w q = some o) (ha : a = q + j) (hl : lay q o j = some (cA t n9 (fQ f))) (hi : 0 ≤ i ∧ i < (n9 : Int)) (hn : n9 < 2147483648) (kk : V l G M d av sz0 S (pc + 1) ls (va_rf (f i) :: st) w sz n) : V l G M d av sz0 S pc ls (vI i :: .ref a :: st) w sz n := by
  subst ha
  obtain ⟨h1, h2, h3, h4⟩ := vin_of hi hn
  refine kk.goR (fun {p e R s m below meth c H locs cells slots Q la} X hG hS hl1 kk => ?_)
  have hc := hG.cell hw hl
  obtain ⟨g1, g2⟩ := ht
  match t, g1, g2 with
  | 3, _, _ => exact W.aald (v := va_rf (f i)) X.1 X.2.1 hc ((X.2.2.2.2.2.2.2.1.1.2 3 _ rfl).1 n9 (fQ f)) rfl (fun h => by cases h) (by rw [arrV_size]; exact h1) (by rw [arrV_read _ _ (by rw [h2]; exact h4), h2]; show some (va_rf (f ((i.toNat : Nat) : Int))) = _; rw [h3]) rfl rfl hd kk
  | 4, _, _ => exact W.aald (v := va_rf (f i)) X.1 X.2.1 hc ((X.2.2.2.2.2.2.2.1.1.2 4 _ rfl).1 n9 (fQ f)) rfl (fun h => by cases h) (by rw [arrV_size]; exact h1) (by rw [arrV_read _ _ (by rw [h2]; exact h4), h2]; show some (va_rf (f ((i.toNat : Nat) : Int))) = _; rw [h3]) rfl rfl hd kk
  | 5, _, _ => exact W.aald (v := va_rf (f i)) X.1 X.2.1 hc ((X.2.2.2.2.2.2.2.1.1.2 5 _ rfl).1 n9 (fQ f)) rfl (fun h => by cases h) (by rw [arrV_size]; exact h1) (by rw [arrV_read _ _ (by rw [h2]; exact h4), h2]; show some (va_rf (f ((i.toNat : Nat) : Int))) = _; rw [h3]) rfl rfl hd kk
  | 6, _, _ => exact W.aald (v := va_rf (f i)) X.1 X.2.1 hc ((X.2.2.2.2.2.2.2.1.1.2 6 _ rfl).1 n9 (fQ f)) rfl (fun h => by cases h) (by rw [arrV_size]; exact h1) (by rw [arrV_read _ _ (by rw [h2]; exact h4), h2]; show some (va_rf (f ((i.toNat : Nat) : Int))) = _; rw [h3]) rfl rfl hd kk
  | 7, _, _ => exact W.aald (v := va_rf (f i)) X.1 X.2.1 hc ((X.2.2.2.2.2.2.2.1.1.2 7 _ rfl).1 n9 (fQ f)) rfl (fun h => by cases h) (by rw [arrV_size]; exact h1) (by rw [arrV_read _ _ (by rw [h2]; exact h4), h2]; show some (va_rf (f ((i.toNat : Nat) : Int))) = _; rw [h3]) rfl rfl hd kk
  | 8, _, _ => exact W.aald (v := va_rf (f i)) X.1 X.2.1 hc ((X.2.2.2.2.2.2.2.1.1.2 8 _ rfl).1 n9 (fQ f)) rfl (fun h => by cases h) (by rw [arrV_size]; exact h1) (by rw [arrV_read _ _ (by rw [h2]; exact h4), h2]; show some (va_rf (f ((i.toNat : Nat) : Int))) = _; rw [h3]) rfl rfl hd kk
  | 9, _, _ => exact W.aald (v := va_rf (f i)) X.1 X.2.1 hc ((X.2.2.2.2.2.2.2.1.1.2 9 _ rfl).1 n9 (fQ f)) rfl (fun h => by cases h) (by rw [arrV_size]; exact h1) (by rw [arrV_read _ _ (by rw [h2]; exact h4), h2]; show some (va_rf (f ((i.toNat : Nat) : Int))) = _; rw [h3]) rfl rfl hd kk
  | 10, _, _ => exact W.aald (v := va_rf (f i)) X.1 X.2.1 hc ((X.2.2.2.2.2.2.2.1.1.2 10 _ rfl).1 n9 (fQ f)) rfl (fun h => by cases h) (by rw [arrV_size]; exact h1) (by rw [arrV_read _ _ (by rw [h2]; exact h4), h2]; show some (va_rf (f ((i.toNat : Nat) : Int))) = _; rw [h3]) rfl rfl hd kk
  | t + 11, _, h => omega
/-! calls -/
/-- what came back: va_Run with a contract's end -/
theorem v_fin {st1 : List Value} {Mc : Mt} {r : Option Value} {w1 : Wd} {sz1 n1 : Nat} {aC : Array Value} (hsz1 : sz ≤ sz1) (kk : V l G M d av sz0 S (pc + 3) ls (r.toList ++ st1) w1 sz1 (n + n1))
    (h : ∀ {p : Program} {e : Env} {R : Room} {s : State} {m : MethodId} {below : List Frame} {meth : Method} {c : Code} {H : Heap} {locs : List Loc} {cells slots : Nat} {la : Array Slot}, Ctx G M av sz0 p s m meth c → GoodW G w sz H → va_S (AB G) s.heap H locs → lv_has la M.2.2.1 ls → R.frames = d → R.locals = 48 * d + 3200 → cells + (sz1 - sz) ≤ R.cells → slots + n1 ≤ R.slots →
      va_Run p l e R s m av.toArray below meth c H locs cells slots (sz1 - sz) n1 (F0 m pc la st) st1 (QR G r w1 sz1 aC) (AB G)) : V l G M d av sz0 S pc ls st w sz n := by
  obtain ⟨r9, w9, sz9, n9, h1, h2, h3, k⟩ := kk
  refine ⟨r9, w9, sz9, n9, h1, by omega, by omega, fun p e s m below meth c C H locs la hG hS hl => ?_⟩
  have hsz0 : sz0 ≤ sz := by have := hS.1; rw [C.2.2.2.2.2.2.2.2.1, hG.1] at this; exact this
  have hr := h (R := RM d (sz9 - sz0) n9) (e := e) (below := below) (cells := sz - sz0) (slots := n) C hG hS hl rfl rfl (by show sz - sz0 + (sz1 - sz) ≤ sz9 - sz0; omega) (by show n + n1 ≤ n9; omega)
  intro T hT X
  obtain ⟨v, st₀, t, T', L, h0, X', hL, e1, e2, ⟨hv, hg1, hf1⟩, hgo⟩ := hr T hT X
  cases hv
  have hcs : sz - sz0 + (sz1 - sz) = sz1 - sz0 := by omega
  rw [hcs] at X'
  have hg2 : GoodW G w1 sz1 T'.heap := by rw [e1]; exact hg1
  obtain ⟨t2, a1, b1⟩ := k p e s m below meth c C T'.heap (locs ++ L) la hg2
    ⟨Nat.le_trans hS.1 (by rw [e1, ← h0]; exact hf1.1), fun q q1 q2 => by rw [e1, hf1.2 q (by rw [h0]; exact Nat.lt_of_lt_of_le q1 hS.1) q2, h0]; exact hS.2.1 q q1 q2, fun q hq => by
      rcases List.mem_append.mp hq with h | h
      · exact hS.2.2 q h
      · exact hL q h⟩ hl T' rfl X'
  exact ⟨t2, hgo t2 a1, b1⟩
def RC (G : GG) (w : Wd) (b : Nat) (C : String) : Prop := ∃ (o : Ob) (e : CE) (ci : Nat) (fs : List Value) (T : u_T) (N : Nat), w b = some o ∧ lay b o 0 = some e ∧ (e = cO ci fs ∨ e = cW ci fs) ∧ cls[ci]? = some (C, T, N)
theorem RC.of {G : GG} {w : Wd} {b : Nat} {C : String} (h : RC G w b C) {sz : Nat} {H : Heap} {s : State} (hG : GoodW G w sz H) (hK : KK G s) : ∃ cell : Cell, H[b]? = some cell ∧ cell.vm.isStatics = false ∧ s.vm.findClass C = some cell.cls := by
  obtain ⟨o, e, ci, fs, T, N, hw, hl, he, hc⟩ := h
  have h1 := hG.cell hw hl
  have hk := (hK.1.1 ci _ hc).2.1
  rcases he with rfl | rfl
  · obtain ⟨r, h2, cell, q1, q2, q3, -⟩ := h1
    exact ⟨cell, q1, by rw [q3]; rfl, by rw [q2]; exact hk⟩
  · obtain ⟨r, cell, h2, q1, q2, q3, -⟩ := h1
    exact ⟨cell, q1, q3, by rw [q2]; exact hk⟩
theorem pre_of {Mc : Mt} {avc : List Value} {H : Heap} {s : State} (hG : GoodW G w sz H) (hK : KK G s) : ∀ U : State, U.heap = H → s.WarmedH U.vm → PC G avc w sz avc.toArray U := fun U hU hW => ⟨rfl, by rw [hU]; exact hG, hK.moved hW⟩
/-- a method's link: own's pool entry, the receiver's class, the method, its parameters' number -/
def LkV (own : String) (idx : Nat) (C : String) (Mc : Mt) (np : Nat) : Prop := Cond.methodLink own idx Mc.1 ∈ lw_all ∧ Cond.instanceMethod Mc.1 ∈ lw_all ∧ Cond.selects C Mc.1 Mc.1 ∈ lw_all ∧ Cond.initialized C ∈ lw_all ∧ Cond.code Mc.1 Mc.2.1 Mc.2.2.1 Mc.2.2.2 ∈ lw_all ∧ (Mc.1.cls = C ∧ Mc.1.cls ≠ "java/lang/invoke/MethodHandle" ∧ Mc.1.cls ≠ "java/lang/invoke/VarHandle" ∧ (parseMethodDescriptor Mc.1.desc).map (fun d => d.parameters.length) = some np) ∧ Mc.2.2.1 ≤ 29
def LkS (own : String) (idx : Nat) (Mc : Mt) (np : Nat) : Prop := Cond.methodLink own idx Mc.1 ∈ lw_all ∧ Cond.static Mc.1 ∈ lw_all ∧ Cond.initialized Mc.1.cls ∈ lw_all ∧ Cond.code Mc.1 Mc.2.1 Mc.2.2.1 Mc.2.2.2 ∈ lw_all ∧ (Mc.1.cls ≠ "java/lang/invoke/MethodHandle" ∧ Mc.1.cls ≠ "java/lang/invoke/VarHandle" ∧ (parseMethodDescriptor Mc.1.desc).map (fun d => d.parameters.length) = some np) ∧ Mc.2.2.1 ≤ 29
def LkI (own : String) (idx : Nat) (Mc : Mt) (np : Nat) : Prop := Cond.code Mc.1 Mc.2.1 Mc.2.2.1 none ∈ lw_all ∧ Mc.2.2.2 = none ∧ Cond.initialized Mc.1.cls ∈ lw_all ∧ Cond.methodLink own idx Mc.1 ∈ lw_all ∧ Cond.instanceMethod Mc.1 ∈ lw_all ∧ Mc.1.name = "<init>" ∧ (Mc.1.cls ≠ "java/lang/invoke/MethodHandle" ∧ Mc.1.cls ≠ "java/lang/invoke/VarHandle" ∧ (parseMethodDescriptor Mc.1.desc).map (fun d => d.parameters.length) = some np) ∧ Mc.2.2.1 ≤ 29
theorem rm_ok {d d' c' n1 L : Nat} {R : Room} (h : d' < d) (hL : L ≤ 29) (h1 : R.frames = d) (h2 : R.locals = 48 * d + 3200) : (RM d' c' n1).frames + 1 ≤ R.frames ∧ 8 + (L + 11) + (RM d' c' n1).locals ≤ R.locals := by
  constructor
  · show d' + 1 ≤ _; omega
  · show 8 + (L + 11) + (48 * d' + 3200) ≤ _; omega
theorem v_callV {idx b np d' : Nat} {C : String} {As st1 : List Value} {Mc : Mt} (hd : decode M.2.1 pc = .ok (.invokevirtual idx, 3)) (hL : LkV M.1.cls idx C Mc np) (hst : st = As.reverse ++ .ref b :: st1) (hn : As.length = np) (hsum : (st1.map fun v => v.category).sum ≤ 8) (hrc : RC G w b C) (hd' : d' < d)
    (kk : Ret l G Mc d' (.ref b :: As) w sz (fun r w1 sz1 n1 => V l G M d av sz0 S (pc + 3) ls (r.toList ++ st1) w1 sz1 (n + n1))) : V l G M d av sz0 S pc ls st w sz n := by
  obtain ⟨r, w1, sz1, n1, kk, hsz1, hM⟩ := kk
  obtain ⟨q1, q2, q3, q4, q5, q6, q7⟩ := hL
  refine v_fin (Mc := Mc) (aC := (Value.ref b :: As).toArray) hsz1 kk (fun {p e R s m below meth c H locs cells slots la} X hG hS hl hf hlo hce hsl => ?_)
  obtain ⟨hx, hb, hml, hr, hlk9, hown, hts, hK, hsz9, hnm9⟩ := X
  exact va_runV (As := As) (rest := st1) ⟨hx, hb, hml, hown, hts⟩ hM (cwV np hts (lw_V q1 q2 q3 q4 q5) rfl rfl rfl q6 (rm_ok hd' q7 hf hlo)) ⟨PC.blind, hrc.of hG hK, pre_of (Mc := Mc) hG hK⟩ rfl hn hl.1 hst (lv_room hsum) hd ⟨hce, hsl⟩
theorem v_callS {idx np d' : Nat} {As st1 : List Value} {Mc : Mt} (hd : decode M.2.1 pc = .ok (.invokestatic idx, 3)) (hL : LkS M.1.cls idx Mc np) (hst : st = As.reverse ++ st1) (hn : As.length = np) (hsum : (st1.map fun v => v.category).sum ≤ 8) (hd' : d' < d)
    (kk : Ret l G Mc d' As w sz (fun r w1 sz1 n1 => V l G M d av sz0 S (pc + 3) ls (r.toList ++ st1) w1 sz1 (n + n1))) : V l G M d av sz0 S pc ls st w sz n := by
  obtain ⟨r, w1, sz1, n1, kk, hsz1, hM⟩ := kk
  obtain ⟨q1, q2, q3, q4, q5, q6⟩ := hL
  refine v_fin (Mc := Mc) (aC := As.toArray) hsz1 kk (fun {p e R s m below meth c H locs cells slots la} X hG hS hl hf hlo hce hsl => ?_)
  obtain ⟨hx, hb, hml, hr, hlk9, hown, hts, hK, hsz9, hnm9⟩ := X
  exact va_runS (As := As) (rest := st1) ⟨hx, hb, hml, hown, hts⟩ hM (va_cwS np hts (lw_S q1 q2 q3 q4) rfl rfl rfl q5 (rm_ok hd' q6 hf hlo)) ⟨PC.blind, pre_of (Mc := Mc) hG hK⟩ rfl hn hl.1 hst (lv_room hsum) hd ⟨hce, hsl⟩
theorem v_callI {idx b np d' : Nat} {As st1 : List Value} {Mc : Mt} (hd : decode M.2.1 pc = .ok (.invokespecial idx, 3)) (hL : LkI M.1.cls idx Mc np) (hst : st = As.reverse ++ .ref b :: st1) (hn : As.length = np) (hsum : (st1.map fun v => v.category).sum ≤ 8) (hd' : d' < d)
    (kk : Ret l G Mc d' (.ref b :: As) w sz (fun r w1 sz1 n1 => V l G M d av sz0 S (pc + 3) ls (r.toList ++ st1) w1 sz1 (n + n1))) : V l G M d av sz0 S pc ls st w sz n := by
  obtain ⟨r, w1, sz1, n1, kk, hsz1, hM⟩ := kk
  obtain ⟨q1, q0, q2, q3, q4, q5, q6, q7⟩ := hL
  obtain ⟨y9, cc9, nL9, ret9⟩ := Mc
  cases q0
  refine v_fin (Mc := (y9, cc9, nL9, none)) (aC := (Value.ref b :: As).toArray) hsz1 kk (fun {p e R s m below meth c H locs cells slots la} X hG hS hl hf hlo hce hsl => ?_)
  obtain ⟨hx, hb, hml, hr, hlk9, hown, hts, hK, hsz9, hnm9⟩ := X
  exact va_runI (As := As) (rest := st1) ⟨hx, hb, hml, hown, hts⟩ hM (cwI np hts (lw_meth q1) rfl rfl rfl (hts _ q2) (hts _ q3) (hts _ q4) q5 q6 (rm_ok hd' q7 hf hlo)) ⟨PC.blind, pre_of (Mc := (y9, cc9, nL9, none)) hG hK⟩ rfl hn hl.1 hst (lv_room hsum) hd ⟨hce, hsl⟩
end VV
