set_option maxRecDepth 100000
/-! statics; inherited, private, super and interface calls; casts -/
def XZ (G : GG) (C n d : String) (v : Value) : Prop := ∀ U : State, G.X U → va_Z C n d v (AB G) U G.s0.heap
def LkU (own : String) (idx : Nat) (C : String) (x : MethodName) (Mc : Mt) (np : Nat) : Prop := Cond.methodLink own idx x ∈ lw_all ∧ Cond.sameMethod x.cls x.cls x.name x.desc ∈ lw_all ∧ (Cond.instanceMethod x ∈ lw_all ∧ ∃ (b : ByteArray) (L : Nat) (r : Option FieldType), Cond.code x b L r ∈ lw_all) ∧ (Cond.selects C x Mc.1 ∈ lw_all ∨ (Cond.privateMethod x ∈ lw_tbl ∧ Mc.1 = x)) ∧ Cond.instanceMethod Mc.1 ∈ lw_all ∧ Cond.initialized Mc.1.cls ∈ lw_all ∧ Cond.code Mc.1 Mc.2.1 Mc.2.2.1 Mc.2.2.2 ∈ lw_all ∧ (x.cls ≠ "java/lang/invoke/MethodHandle" ∧ x.cls ≠ "java/lang/invoke/VarHandle" ∧ (parseMethodDescriptor x.desc).map (fun d => d.parameters.length) = some np) ∧ Mc.2.2.1 ≤ 29
def LkSU (own : String) (idx : Nat) (Mc : Mt) (np : Nat) : Prop := Cond.methodLink own idx Mc.1 ∈ lw_all ∧ Cond.sameMethod Mc.1.cls Mc.1.cls Mc.1.name Mc.1.desc ∈ lw_all ∧ Cond.superclass own Mc.1.cls ∈ lw_all ∧ Cond.instanceMethod Mc.1 ∈ lw_all ∧ Cond.initialized Mc.1.cls ∈ lw_all ∧ Cond.code Mc.1 Mc.2.1 Mc.2.2.1 Mc.2.2.2 ∈ lw_all ∧ (Mc.1.name ≠ "<init>" ∧ (parseMethodDescriptor Mc.1.desc).map (fun d => d.parameters.length) = some np) ∧ Mc.2.2.1 ≤ 29
def LkF (own : String) (idx : Nat) (C : String) (x : MethodName) (Mc : Mt) (np : Nat) : Prop := Cond.methodLink own idx x ∈ lw_all ∧ Cond.selects C x Mc.1 ∈ lw_all ∧ Cond.instanceMethod Mc.1 ∈ lw_all ∧ Cond.initialized Mc.1.cls ∈ lw_all ∧ Cond.code Mc.1 Mc.2.1 Mc.2.2.1 Mc.2.2.2 ∈ lw_all ∧ (x.cls ≠ "java/lang/invoke/MethodHandle" ∧ x.cls ≠ "java/lang/invoke/VarHandle" ∧ (parseMethodDescriptor x.desc).map (fun d => d.parameters.length) = some np) ∧ Mc.2.2.1 ≤ 29
/-- the words of the tables that ride along G.X -/
def XT9 (G : GG) (c : Cond) : Prop := ∀ U : State, G.X U → c.before #[] U = true
def XF9 (G : GG) (C : String) (x y : MethodName) : Prop := ∀ U : State, G.X U → va_Fw C x y U
theorem selects_of_private {s : State} {args args' : Array Value} {y : MethodName} {C : String} {c : ClassId} (hC : s.vm.findClass C = some c) (hsame : (Cond.sameMethod y.cls y.cls y.name y.desc).before args s = true) (hp : (Cond.privateMethod y).before args' s = true) (hinst : (Cond.instanceMethod y).before args s = true) : (Cond.selects C y y).before args s = true := by
  obtain ⟨mk, methM, hnamed, hmethM, -, -⟩ := Cond.instanceMethod_spec hinst
  obtain ⟨cn, ck, r1, hcn, hck, hni, hf, hn1⟩ := Cond.sameMethod_found hsame
  cases hnamed.symm.trans hn1
  have hcls : mk.cls = cn := Option.some.inj ((findClass_of_methodNamed hnamed).symm.trans hcn)
  have hpa : s.PrivateAt y := Cond.privateMethod_at hp
  have hsel : selectMethod {} s.vm c mk = .method mk := selectMethod_private hmethM (hpa mk methM hnamed hmethM)
  simp only [Cond.before, Cond.holds, Cond.value, hC, hf, hnamed, hsel, hcls, hck]
  simp; exact hni
section VUF
variable {l : Launch} {G : GG} {M : Mt} {d : Nat} {av : List Value} {sz0 : Nat} {S : Post} {pc : Nat} {ls : List (Nat × Value)} {st : List Value} {w : Wd} {sz n : Nat}
theorem v_gets {idx : Nat} {C nm ds ref : String} {v : Value} (hZ : XZ G C nm ds v) (hd : decode M.2.1 pc = .ok (.getstatic idx, 3)) (hlk : Cond.fieldLink M.1.cls idx ref nm ds ∈ lw_all) (hsm : ref = C ∨ Cond.sameField ref C nm ds ∈ lw_all) (kk : V l G M d av sz0 S (pc + 3) ls (v :: st) w sz n) : V l G M d av sz0 S pc ls st w sz n := by
  refine kk.goR (fun {p e R s m below meth c H locs cells slots Q la} X hG hS hl1 kk => ?_)
  obtain ⟨hx, hb, hml, hr, hlk9, hown, hts, hK, hsz9, hnm9⟩ := X
  obtain ⟨cf, kf, fi, f, a, cell, h1, h2, h3, h4, h5, h6, h7, h8⟩ := hZ s hK.2.2.2.1
  have ha : a < G.base := Nat.not_le.mp h8
  exact W.gets hx hb hown (hts _ hlk) (fl_same hts hsm _ h1) h2 h3 h4 (by rw [hG.2.2.1 a ha]; exact h5) (fun e => by rw [e] at h6; cases h6) h7 rfl hd kk
theorem v_callU {idx b np d' : Nat} {C : String} {x : MethodName} {As st1 : List Value} {Mc : Mt} (hY : Cond.privateMethod x ∈ lw_tbl → XT9 G (Cond.privateMethod x)) (hd : decode M.2.1 pc = .ok (.invokevirtual idx, 3)) (hL : LkU M.1.cls idx C x Mc np) (hst : st = As.reverse ++ .ref b :: st1) (hn : As.length = np) (hsum : (st1.map fun v => v.category).sum ≤ 8) (hrc : RC G w b C) (hd' : d' < d)
    (kk : Ret l G Mc d' (.ref b :: As) w sz (fun r w1 sz1 n1 => V l G M d av sz0 S (pc + 3) ls (r.toList ++ st1) w1 sz1 (n + n1))) : V l G M d av sz0 S pc ls st w sz n := by
  obtain ⟨r, w1, sz1, n1, kk, hsz1, hM⟩ := kk
  obtain ⟨q1, q2, ⟨q3, b9, L9, r9, q3'⟩, q4, q5, q6, q7, q8, q9⟩ := hL
  refine v_fin (Mc := Mc) (aC := (Value.ref b :: As).toArray) hsz1 kk (fun {p e R s m below meth c H locs cells slots la} X hG hS hl hf hlo hce hsl => ?_)
  obtain ⟨hx, hb, hml, hr, hlk9, hown, hts, hK, hsz9, hnm9⟩ := X
  have hrm := rm_ok (c' := sz1 - sz) (n1 := n1) hd' q9 hf hlo
  obtain ⟨cellB, hcB, hoB, hclB⟩ := hrc.of hG hK
  have hse : (Cond.selects C x Mc.1).before av.toArray s = true := by
    rcases q4 with h | ⟨h, h'⟩
    · exact hts _ h
    · rw [h']
      exact selects_of_private hclB (hts _ q2) (hY h s hK.2.2.2.1) (hts _ q3)
  refine va_runU (C := C) (owner := x.cls) (x := x) (As := As) (rest := st1) ⟨hx, hb, hml, hown, hts⟩ hM ⟨⟨rfl, rfl, hrm.1, hrm.2, pay_in hts (lw_meth q7), List.mem_cons_self⟩, hts _ q7, hts _ q6, ⟨q8.1, q8.2.1⟩, fun sig h => ?_, hts _ q1, hts _ q2, va_Decl.of (hts _ q3) (hts _ q3'), hse, hts _ q5⟩ ⟨PC.blind, ⟨cellB, hcB, hoB, hclB⟩, pre_of (Mc := Mc) hG hK⟩ rfl hn hl.1 hst (lv_room hsum) hd ⟨hce, hsl⟩
  have h2 := q8.2.2
  rw [h] at h2
  exact (Option.some.inj h2).symm
theorem v_callSU {idx b np d' : Nat} {C : String} {As st1 : List Value} {Mc : Mt} (hd : decode M.2.1 pc = .ok (.invokespecial idx, 3)) (hL : LkSU M.1.cls idx Mc np) (hst : st = As.reverse ++ .ref b :: st1) (hn : As.length = np) (hsum : (st1.map fun v => v.category).sum ≤ 8) (hrc : RC G w b C) (hd' : d' < d)
    (kk : Ret l G Mc d' (.ref b :: As) w sz (fun r w1 sz1 n1 => V l G M d av sz0 S (pc + 3) ls (r.toList ++ st1) w1 sz1 (n + n1))) : V l G M d av sz0 S pc ls st w sz n := by
  obtain ⟨r, w1, sz1, n1, kk, hsz1, hM⟩ := kk
  obtain ⟨q1, q2, q3, q4, q5, q6, q7, q8⟩ := hL
  refine v_fin (Mc := Mc) (aC := (Value.ref b :: As).toArray) hsz1 kk (fun {p e R s m below meth c H locs cells slots la} X hG hS hl hf hlo hce hsl => ?_)
  obtain ⟨hx, hb, hml, hr, hlk9, hown, hts, hK, hsz9, hnm9⟩ := X
  have hrm := rm_ok (c' := sz1 - sz) (n1 := n1) hd' q8 hf hlo
  have hrc2 := hrc.of hG hK
  obtain ⟨o, e9, ci, fs, T, N, hw, hl9, he, hc⟩ := hrc
  refine va_runSU (C := C) (As := As) (rest := st1) (hK.1.1 ci _ hc).2 ⟨hx, hb, hml, hown, hts⟩ hM ⟨⟨rfl, rfl, hrm.1, hrm.2, pay_in hts (lw_meth q6), List.mem_cons_self⟩, hts _ q1, hts _ q2, hts _ q3, hts _ q4, hts _ q5, hts _ q6, q7.1, fun sig h => ?_⟩ ⟨PC.blind, hrc2, pre_of (Mc := Mc) hG hK⟩ rfl hn hl.1 hst (lv_room hsum) hd ⟨hce, hsl⟩
  have h2 := q7.2
  rw [h] at h2
  exact (Option.some.inj h2).symm
/-- a call through an interface: five bytes -/
theorem v_fin5 {st1 : List Value} {Mc : Mt} {r : Option Value} {w1 : Wd} {sz1 n1 : Nat} {aC : Array Value} (hsz1 : sz ≤ sz1) (kk : V l G M d av sz0 S (pc + 5) ls (r.toList ++ st1) w1 sz1 (n + n1))
    (h : ∀ {p : Program} {e : Env} {R : Room} {s : State} {m : MethodId} {below : List Frame} {meth : Method} {c : Code} {H : Heap} {locs : List Loc} {cells slots : Nat} {la : Array Slot}, Ctx G M av sz0 p s m meth c → GoodW G w sz H → va_S (AB G) s.heap H locs → lv_has la M.2.2.1 ls → R.frames = d → R.locals = 48 * d + 3200 → cells + (sz1 - sz) ≤ R.cells → slots + n1 ≤ R.slots →
      va_Run5 p l e R s m av.toArray below meth c H locs cells slots (sz1 - sz) n1 (F0 m pc la st) st1 (QR G r w1 sz1 aC) (AB G)) : V l G M d av sz0 S pc ls st w sz n := by
  obtain ⟨r9, w9, sz9, n9, h1, h2, h3, k⟩ := kk
  refine ⟨r9, w9, sz9, n9, h1, by omega, by omega, fun p e s m below meth c C H locs la hG hS hl => ?_⟩
  have hsz0 : sz0 ≤ sz := by have := hS.1; rw [C.2.2.2.2.2.2.2.2.1, hG.1] at this; exact this
  have hr := h (R := RM d (sz9 - sz0) n9) (e := e) (below := below) (cells := sz - sz0) (slots := n) C hG hS hl rfl rfl (by show sz - sz0 + (sz1 - sz) ≤ sz9 - sz0; omega) (by show n + n1 ≤ n9; omega)
  intro T hT X
  obtain ⟨v, st₀, t, T', L, h0, X', hL, e1, e2, ⟨hv, hg1, hf1⟩, hgo⟩ := hr T hT X
  cases hv
  have hcs : sz - sz0 + (sz1 - sz) = sz1 - sz0 := by omega
  rw [hcs] at X'
  have hg2 : GoodW G w1 sz1 T'.heap := by rw [e1]; exact hg1
  obtain ⟨t2, a1, b1⟩ := k p e s m below meth c C T'.heap (locs ++ L) la hg2
    ⟨Nat.le_trans hS.1 (by rw [e1, ← h0]; exact hf1.1), fun q q1 q2 => by rw [e1, hf1.2 q (by rw [h0]; exact Nat.lt_of_lt_of_le q1 hS.1) q2, h0]; exact hS.2.1 q q1 q2, fun q hq => by
      rcases List.mem_append.mp hq with h | h
      · exact hS.2.2 q h
      · exact hL q h⟩ hl T' rfl X'
  exact ⟨t2, hgo t2 a1, b1⟩
theorem v_callF {idx cnt b np d' : Nat} {C : String} {x : MethodName} {As st1 : List Value} {Mc : Mt} (hY : XF9 G C x Mc.1) (hd : decode M.2.1 pc = .ok (.invokeinterface idx cnt, 5)) (hL : LkF M.1.cls idx C x Mc np) (hst : st = As.reverse ++ .ref b :: st1) (hn : As.length = np) (hsum : (st1.map fun v => v.category).sum ≤ 8) (hrc : RC G w b C) (hd' : d' < d)
    (kk : Ret l G Mc d' (.ref b :: As) w sz (fun r w1 sz1 n1 => V l G M d av sz0 S (pc + 5) ls (r.toList ++ st1) w1 sz1 (n + n1))) : V l G M d av sz0 S pc ls st w sz n := by
  obtain ⟨r, w1, sz1, n1, kk, hsz1, hM⟩ := kk
  obtain ⟨q1, q2, q3, q4, q5, q6, q7⟩ := hL
  refine v_fin5 (Mc := Mc) (aC := (Value.ref b :: As).toArray) hsz1 kk (fun {p e R s m below meth c H locs cells slots la} X hG hS hl hf hlo hce hsl => ?_)
  obtain ⟨hx, hb, hml, hr, hlk9, hown, hts, hK, hsz9, hnm9⟩ := X
  have hrm := rm_ok (c' := sz1 - sz) (n1 := n1) hd' q7 hf hlo
  have hrc2 := hrc.of hG hK
  obtain ⟨o, e9, ci, fs, T, N, hw, hl9, he, hc⟩ := hrc
  obtain ⟨f1, f2, f3, f4, f5⟩ := hY s hK.2.2.2.1
  refine va_runF (C := C) (x := x) (As := As) (rest := st1) (hK.1.1 ci _ hc).2 ⟨hx, hb, hml, hown, hts⟩ hM ⟨⟨rfl, rfl, hrm.1, hrm.2, pay_in hts (lw_meth q5), List.mem_cons_self⟩, hts _ q1, va_any rfl f1, va_any rfl f2, hts _ q2, hts _ q3, va_any rfl f3, va_any rfl f4, va_any rfl f5, hts _ q4, hts _ q5, ⟨q6.1, q6.2.1⟩, fun sig h => ?_⟩ ⟨PC.blind, hrc2, pre_of (Mc := Mc) hG hK⟩ rfl hn hl.1 hst (lv_room hsum) hd ⟨hce, hsl⟩
  have h2 := q6.2.2
  rw [h] at h2
  exact (Option.some.inj h2).symm
theorem v_castS {idx b : Nat} {C : String} (hd : decode M.2.1 pc = .ok (.checkcast idx, 3)) (hlk : Cond.classLink M.1.cls idx C ∈ lw_all) (hrc : RC G w b C) (kk : V l G M d av sz0 S (pc + 3) ls (.ref b :: st) w sz n) : V l G M d av sz0 S pc ls (.ref b :: st) w sz n := by
  refine kk.goR (fun {p e R s m below meth c H locs cells slots Q la} X hG hS hl1 kk => ?_)
  obtain ⟨hx, hb, hml, hr, hlk9, hown, hts, hK, hsz9, hnm9⟩ := X
  have hrc2 := hrc.of hG hK
  obtain ⟨o, e9, ci, fs, T, N, hw, hl9, he, hc⟩ := hrc
  exact va_castS hx hb hown (hts _ hlk) (hK.1.1 ci _ hc).2 hrc2 hd kk
theorem v_instS {idx b : Nat} {C : String} (hd : decode M.2.1 pc = .ok (.instanceof idx, 3)) (hlk : Cond.classLink M.1.cls idx C ∈ lw_all) (hrc : RC G w b C) (kk : V l G M d av sz0 S (pc + 3) ls (vI 1 :: st) w sz n) : V l G M d av sz0 S pc ls (.ref b :: st) w sz n := by
  refine kk.goR (fun {p e R s m below meth c H locs cells slots Q la} X hG hS hl1 kk => ?_)
  obtain ⟨hx, hb, hml, hr, hlk9, hown, hts, hK, hsz9, hnm9⟩ := X
  have hrc2 := hrc.of hG hK
  obtain ⟨o, e9, ci, fs, T, N, hw, hl9, he, hc⟩ := hrc
  exact va_instS hx hb hown (hts _ hlk) (hK.1.1 ci _ hc).2 hrc2 hd kk
theorem v_instN {idx : Nat} (hd : decode M.2.1 pc = .ok (.instanceof idx, 3)) (kk : V l G M d av sz0 S (pc + 3) ls (vI 0 :: st) w sz n) : V l G M d av sz0 S pc ls (.null :: st) w sz n :=
  kk.go (fun hx hb hl k => lv_instN hx hb hd k)
theorem v_castN {idx : Nat} (hd : decode M.2.1 pc = .ok (.checkcast idx, 3)) (kk : V l G M d av sz0 S (pc + 3) ls (.null :: st) w sz n) : V l G M d av sz0 S pc ls (.null :: st) w sz n :=
  kk.go (fun hx hb hl k => lv_castN hx hb hd k)
theorem v_instNo {idx b : Nat} {C T9 : String} (hY : ∀ U : State, G.X U → va_Nc C T9 U) (hd : decode M.2.1 pc = .ok (.instanceof idx, 3)) (hlk : Cond.classLink M.1.cls idx T9 ∈ lw_all) (hrc : RC G w b C) (kk : V l G M d av sz0 S (pc + 3) ls (vI 0 :: st) w sz n) : V l G M d av sz0 S pc ls (.ref b :: st) w sz n := by
  refine kk.goR (fun {p e R s m below meth c H locs cells slots Q la} X hG hS hl1 kk => ?_)
  obtain ⟨hx, hb, hml, hr, hlk9, hown, hts, hK, hsz9, hnm9⟩ := X
  exact va_instNo hx hb hown (hts _ hlk) (hY s hK.2.2.2.1) (hrc.of hG hK) hd kk
end VUF
