set_option maxRecDepth 100000
/-! calls of a nest mate's private members; receivers; arrays made; Object's constructor -/
def LkSN (own : String) (idx : Nat) (Mc : Mt) (np : Nat) : Prop := (∃ host : String, Cond.methodLinkNest own idx Mc.1 host ∈ lw_tbl) ∧ Cond.static Mc.1 ∈ lw_all ∧ Cond.initialized Mc.1.cls ∈ lw_all ∧ Cond.code Mc.1 Mc.2.1 Mc.2.2.1 Mc.2.2.2 ∈ lw_all ∧ (Mc.1.cls ≠ "java/lang/invoke/MethodHandle" ∧ Mc.1.cls ≠ "java/lang/invoke/VarHandle" ∧ (parseMethodDescriptor Mc.1.desc).map (fun d => d.parameters.length) = some np) ∧ Mc.2.2.1 ≤ 29
def LkIN (own : String) (idx : Nat) (Mc : Mt) (np : Nat) : Prop := Cond.code Mc.1 Mc.2.1 Mc.2.2.1 none ∈ lw_all ∧ Mc.2.2.2 = none ∧ Cond.initialized Mc.1.cls ∈ lw_all ∧ (∃ host : String, Cond.methodLinkNest own idx Mc.1 host ∈ lw_tbl) ∧ Cond.instanceMethod Mc.1 ∈ lw_all ∧ Mc.1.name = "<init>" ∧ (Mc.1.cls ≠ "java/lang/invoke/MethodHandle" ∧ Mc.1.cls ≠ "java/lang/invoke/VarHandle" ∧ (parseMethodDescriptor Mc.1.desc).map (fun d => d.parameters.length) = some np) ∧ Mc.2.2.1 ≤ 29
section VN
variable {l : Launch} {G : GG} {M : Mt} {d : Nat} {av : List Value} {sz0 : Nat} {S : Post} {pc : Nat} {ls : List (Nat × Value)} {st : List Value} {w : Wd} {sz n : Nat}
theorem v_callSN {idx np d' : Nat} {As st1 : List Value} {Mc : Mt} (hd : decode M.2.1 pc = .ok (.invokestatic idx, 3)) (hL : LkSN M.1.cls idx Mc np) (hst : st = As.reverse ++ st1) (hn : As.length = np) (hsum : (st1.map fun v => v.category).sum ≤ 8) (hd' : d' < d)
    (kk : Ret l G Mc d' As w sz (fun r w1 sz1 n1 => V l G M d av sz0 S (pc + 3) ls (r.toList ++ st1) w1 sz1 (n + n1))) : V l G M d av sz0 S pc ls st w sz n := by
  obtain ⟨r, w1, sz1, n1, kk, hsz1, hM⟩ := kk
  obtain ⟨⟨host, q1⟩, q2, q3, q4, q5, q6⟩ := hL
  refine v_fin (Mc := Mc) (aC := As.toArray) hsz1 kk (fun {p e R s m below meth c H locs cells slots la} X hG hS hl hf hlo hce hsl => ?_)
  obtain ⟨hx, hb, hml, hr, hlk9, hown, hts, hK, hsz9, hnm9⟩ := X
  exact va_runSN (As := As) (rest := st1) ⟨hx, hb, hml, hown, hts⟩ hM ⟨va_cnB np hts (lw_meth q4) rfl rfl rfl (hK.2.1 _ q1 rfl) (hts _ q3) q5 (rm_ok hd' q6 hf hlo), hts _ q2, trivial⟩ ⟨PC.blind, pre_of (Mc := Mc) hG hK⟩ rfl hn hl.1 hst (lv_room hsum) hd ⟨hce, hsl⟩
theorem v_callIN {idx b np d' : Nat} {As st1 : List Value} {Mc : Mt} (hd : decode M.2.1 pc = .ok (.invokespecial idx, 3)) (hL : LkIN M.1.cls idx Mc np) (hst : st = As.reverse ++ .ref b :: st1) (hn : As.length = np) (hsum : (st1.map fun v => v.category).sum ≤ 8) (hd' : d' < d)
    (kk : Ret l G Mc d' (.ref b :: As) w sz (fun r w1 sz1 n1 => V l G M d av sz0 S (pc + 3) ls (r.toList ++ st1) w1 sz1 (n + n1))) : V l G M d av sz0 S pc ls st w sz n := by
  obtain ⟨r, w1, sz1, n1, kk, hsz1, hM⟩ := kk
  obtain ⟨q1, q0, q2, ⟨host, q3⟩, q4, q5, q6, q7⟩ := hL
  obtain ⟨y9, cc9, nL9, ret9⟩ := Mc
  cases q0
  refine v_fin (Mc := (y9, cc9, nL9, none)) (aC := (Value.ref b :: As).toArray) hsz1 kk (fun {p e R s m below meth c H locs cells slots la} X hG hS hl hf hlo hce hsl => ?_)
  obtain ⟨hx, hb, hml, hr, hlk9, hown, hts, hK, hsz9, hnm9⟩ := X
  exact va_runIN (As := As) (rest := st1) ⟨hx, hb, hml, hown, hts⟩ hM ⟨va_cnB np hts (lw_meth q1) rfl rfl rfl (hK.2.1 _ q3 rfl) (hts _ q2) q6 (rm_ok hd' q7 hf hlo), q5, hts _ q4⟩ ⟨PC.blind, pre_of (Mc := (y9, cc9, nL9, none)) hG hK⟩ rfl hn hl.1 hst (lv_room hsum) hd ⟨hce, hsl⟩
theorem v_objInit {idx a : Nat} (hd : decode M.2.1 pc = .ok (.invokespecial idx, 3)) (hlk : Cond.methodLink M.1.cls idx Lib.objectInit ∈ lw_all) (hinst : Cond.instanceMethod Lib.objectInit ∈ lw_all) (hcode : Cond.code Lib.objectInit ⟨#[0xb1]⟩ 1 none ∈ lw_all) (hdd : 1 ≤ d) (hsum : (st.map fun v => v.category).sum ≤ 8) (k : V l G M d av sz0 S (pc + 3) ls st w sz n) : V l G M d av sz0 S pc ls (.ref a :: st) w sz n := by
  obtain ⟨r, w', sz', n', h1, h2, h3, k⟩ := k
  refine ⟨r, w', sz', n', h1, h2, h3, fun p e s m below meth c C H locs la hG hS hl => ?_⟩
  obtain ⟨hx, hb, hml, hr, hlk9, hown, hts, hK, hsz9, hnm9⟩ := id C
  exact W.objInit hx hb hown (hts _ hlk) (hts _ hinst) (hts _ hcode) rfl (by rw [hml]; exact hl.1) rfl hd (by show 1 ≤ d; exact hdd) (by show 2 * 0 + _ + 12 ≤ 48 * d + 3200; omega) (k p e s m below meth c C H locs la hG hS hl)
theorem rc_of {b : Nat} {o : Ob} {ci : Nat} {fs : List Value} {C : String} {T : u_T} {N : Nat} (h : w b = some o) (hl : lay b o 0 = some (cO ci fs)) (hc : cls[ci]? = some (C, T, N)) : RC G w b C := ⟨o, _, ci, fs, T, N, h, hl, Or.inl rfl, hc⟩
theorem rc_S {b c : Nat} (h : w b = some (obS c)) : RC G w b "java/lang/String" := ⟨_, _, 16, [va_rf (some c), vI 0], TJ2, 4, h, rfl, Or.inr rfl, rfl⟩
/-- a new array of numbers -/
theorem v_newarr {t : Nat} {i : Int} {atype : ArrayType} {ty : FieldType} (hd : decode M.2.1 pc = .ok (.newarray atype, 2)) (hty : newarray.typeOf atype = ty) (ht : t < 3) (hgt : ∀ G : GG, (atys G)[t]? = some (G.tA t, ty)) (hra : ∀ (U : State) (c : ClassId), va_RA U c ty = (U.vm.findClass ("[" ++ ty.toString) = some c)) (harr : Cond.arrayClass ty ∈ lw_all) (hdef : lay sz (obA t i.toNat (fun _ => 0)) 0 = some (cA t i.toNat (fun _ => defaultValue ty))) (hi : 0 ≤ i ∧ i ≤ 20000) (hcb : componentBytes ty ≤ 8) (hw : w sz = none)
    (kk : V l G M d av sz0 S (pc + 2) ls (.ref sz :: st) (wset w sz (some (obA t i.toNat (fun _ => 0)))) (sz + 1) (n + i.toNat)) : V l G M d av sz0 S pc ls (vI i :: st) w sz n := by
  subst hty
  obtain ⟨r, w', sz', n', h1, h2, h3, k⟩ := kk
  refine ⟨r, w', sz', n', h1, by omega, by omega, fun p e s m below meth c C9 H locs la hG hS hl => ?_⟩
  obtain ⟨hx, hb, hml, hr, hlk9, hown, hts, hK, hsz9, hnm9⟩ := id C9
  have hszH := hG.1
  have hsz0 : sz0 ≤ sz := by have := hS.1; rw [hsz9, hszH] at this; exact this
  have hmul : i.toNat * componentBytes (newarray.typeOf atype) ≤ 20000 * 8 := Nat.mul_le_mul (by omega) hcb
  refine va_newaK hx hb (hts _ harr) rfl hd rfl (iI_neg0 hi.1 (by omega)) (iI_clamp hi.1 (by omega)) (by omega) (by show sz - sz0 + 1 ≤ sz' - sz0; omega) (by show n + i.toNat ≤ n'; omega) hszH fun H1 cA9 e1 z1 o1 hAr hNm => ?_
  have hcA : cA9 = G.tA t := by
    have h9 := (hK.1.2 t _ (hgt G)).2
    rw [hra] at h9
    exact Option.some.inj (hNm.symm.trans h9)
  subst hcA
  have hl1 : len (obA t i.toNat (fun _ => 0)) = 1 := if_pos (show 60 + t < 80 by omega)
  have hG1 := hG.push (H1 := H1) (o := obA t i.toNat (fun _ => 0)) (by rw [hl1]; exact z1) o1 (fun j e9 hj => by
    have := lay_raw0 hj hl1
    subst this
    rw [hdef] at hj
    cases hj
    exact e1)
  rw [hl1] at hG1
  have h9 := k p e s m below meth c C9 H1 locs la hG1 ⟨by rw [z1]; have := hS.1; omega, fun q h1 h2 => (o1 q (by have := hS.1; omega)).trans (hS.2.1 q h1 h2), hS.2.2⟩ hl
  rw [show sz + 1 - sz0 = sz - sz0 + 1 by omega] at h9
  exact h9
end VN
section VXN
variable (K : KV) {M : Mt} {pc : Nat} {ls : List (Nat × Value)} {st : List Value} {w : Wd} {sz n : Nat}
theorem x_callSNI {idx np : Nat} {As st1 : List Value} {Mc : Mt} {Φ : Int → WP} (hd : decode M.2.1 pc = .ok (.invokestatic idx, 3)) (hL : LkSN M.1.cls idx Mc np) (hst : st = As.reverse ++ st1) (hn : As.length = np) (hsum : (st1.map fun v => v.category).sum ≤ 8) (h : CI Mc K As w sz n Φ) (kk : ∀ x w1 sz1 n1, Φ x w1 sz1 n1 → VX K M (pc + 3) ls (vI x :: st1) w1 sz1 n1) : VX K M pc ls st w sz n := by
  obtain ⟨d', hd', h⟩ := h
  refine v_callSN hd hL hst hn hsum hd' (h.mono ?_)
  rintro r w1 sz1 n1 ⟨x, rfl, h5⟩
  exact kk x w1 sz1 _ h5
theorem x_callSNQ {idx np : Nat} {As st1 : List Value} {Mc : Mt} {Φ : Option Nat → WP} (hd : decode M.2.1 pc = .ok (.invokestatic idx, 3)) (hL : LkSN M.1.cls idx Mc np) (hst : st = As.reverse ++ st1) (hn : As.length = np) (hsum : (st1.map fun v => v.category).sum ≤ 8) (h : CQ Mc K As w sz n Φ) (kk : ∀ x w1 sz1 n1, Φ x w1 sz1 n1 → VX K M (pc + 3) ls (va_rf x :: st1) w1 sz1 n1) : VX K M pc ls st w sz n := by
  obtain ⟨d', hd', h⟩ := h
  refine v_callSN hd hL hst hn hsum hd' (h.mono ?_)
  rintro r w1 sz1 n1 ⟨x, rfl, h5⟩
  exact kk x w1 sz1 _ h5
theorem x_callINV {idx b np : Nat} {As st1 : List Value} {Mc : Mt} {Φ : WP} (hd : decode M.2.1 pc = .ok (.invokespecial idx, 3)) (hL : LkIN M.1.cls idx Mc np) (hst : st = As.reverse ++ .ref b :: st1) (hn : As.length = np) (hsum : (st1.map fun v => v.category).sum ≤ 8) (h : CV Mc K (.ref b :: As) w sz n Φ) (kk : ∀ w1 sz1 n1, Φ w1 sz1 n1 → VX K M (pc + 3) ls st1 w1 sz1 n1) : VX K M pc ls st w sz n := by
  obtain ⟨d', hd', h⟩ := h
  refine v_callIN hd hL hst hn hsum hd' (h.mono ?_)
  rintro r w1 sz1 n1 ⟨rfl, h5⟩
  exact kk w1 sz1 _ h5
theorem x_newI {i : Int} (hd : decode M.2.1 pc = .ok (.newarray .int, 2)) (hi : 0 ≤ i ∧ i ≤ 20000) (hw : w sz = none) (kk : VX K M (pc + 2) ls (.ref sz :: st) (wset w sz (some (obA 0 i.toNat (fun _ => 0)))) (sz + 1) (n + i.toNat)) : VX K M pc ls (vI i :: st) w sz n :=
  v_newarr (t := 0) hd rfl (by decide) (fun _ => rfl) (fun _ _ => rfl) q243 rfl hi (by decide) hw kk
theorem x_newL {i : Int} (hd : decode M.2.1 pc = .ok (.newarray .long, 2)) (hi : 0 ≤ i ∧ i ≤ 20000) (hw : w sz = none) (kk : VX K M (pc + 2) ls (.ref sz :: st) (wset w sz (some (obA 1 i.toNat (fun _ => 0)))) (sz + 1) (n + i.toNat)) : VX K M pc ls (vI i :: st) w sz n :=
  v_newarr (t := 1) hd rfl (by decide) (fun _ => rfl) (fun _ _ => rfl) q303 rfl hi (by decide) hw kk
theorem x_newB {i : Int} (hd : decode M.2.1 pc = .ok (.newarray .byte, 2)) (hi : 0 ≤ i ∧ i ≤ 20000) (hw : w sz = none) (kk : VX K M (pc + 2) ls (.ref sz :: st) (wset w sz (some (obA 2 i.toNat (fun _ => 0)))) (sz + 1) (n + i.toNat)) : VX K M pc ls (vI i :: st) w sz n :=
  v_newarr (t := 2) hd rfl (by decide) (fun _ => rfl) (fun _ _ => rfl) q304 rfl hi (by decide) hw kk
end VXN
