set_option maxRecDepth 100000
/-! references compared; a byte array's clone; a String that was made -/
theorem byte_fit {x : Int} (h : -128 ≤ x ∧ x ≤ 127) : fits .byte (vI x) = true := by
  have h1 := byte_nar h
  have h2 : (Value.int (iI x).toInt8.toInt32) = vI x := h1
  rw [← h2]
  exact pk_fb _
section V15
variable {l : Launch} {G : GG} {M : Mt} {d : Nat} {av : List Value} {sz0 : Nat} {S : Post} {pc : Nat} {ls : List (Nat × Value)} {st : List Value} {w : Wd} {sz n : Nat}
theorem v_acmp_eq {rx ry : Option Nat} {off : Int} (tgt : Nat) (hd : decode M.2.1 pc = .ok (.if_acmp .eq off, 3)) (ht : (pc : Int) + off = (tgt : Int)) (kt : rx = ry → V l G M d av sz0 S tgt ls st w sz n) (kf : ¬ rx = ry → V l G M d av sz0 S (pc + 3) ls st w sz n) : V l G M d av sz0 S pc ls (va_rf ry :: va_rf rx :: st) w sz n := by
  by_cases h : rx = ry
  · exact (kt h).go (fun hx hb hl k => lv_acmp_eq hx hb hd ht (fun _ => k) (fun h2 => absurd h h2))
  · exact (kf h).go (fun hx hb hl k => lv_acmp_eq hx hb hd ht (fun h2 => absurd h2 h) (fun _ => k))
theorem v_acmp_ne {rx ry : Option Nat} {off : Int} (tgt : Nat) (hd : decode M.2.1 pc = .ok (.if_acmp .ne off, 3)) (ht : (pc : Int) + off = (tgt : Int)) (kt : ¬ rx = ry → V l G M d av sz0 S tgt ls st w sz n) (kf : rx = ry → V l G M d av sz0 S (pc + 3) ls st w sz n) : V l G M d av sz0 S pc ls (va_rf ry :: va_rf rx :: st) w sz n := by
  by_cases h : rx = ry
  · exact (kf h).go (fun hx hb hl k => lv_acmp_ne hx hb hd ht (fun h2 => absurd h h2) (fun _ => k))
  · exact (kt h).go (fun hx hb hl k => lv_acmp_ne hx hb hd ht (fun _ => k) (fun h2 => absurd h2 h))
/-- the clone of an array of bytes -/
theorem v_cloneB {idx q j a n9 : Nat} {f : Int → Int} {o : Ob} (hd : decode M.2.1 pc = .ok (.invokevirtual idx, 3)) (hlk : Cond.methodLink M.1.cls idx ⟨"[B", "clone", "()Ljava/lang/Object;"⟩ ∈ lw_all) (hsame : Cond.sameMethod "[B" "java/lang/Object" "clone" "()Ljava/lang/Object;" ∈ lw_all) (hnat : Cond.native ⟨"java/lang/Object", "clone", "()Ljava/lang/Object;"⟩ ∈ lw_all) (hinst : Cond.instanceMethod ⟨"java/lang/Object", "clone", "()Ljava/lang/Object;"⟩ ∈ lw_all)
    (hsel : Cond.selects "[B" ⟨"[B", "clone", "()Ljava/lang/Object;"⟩ ⟨"java/lang/Object", "clone", "()Ljava/lang/Object;"⟩ ∈ lw_all) (hcl : Cond.castable "[B" "java/lang/Cloneable" ∈ lw_tbl) (hw0 : w q = some o) (ha : a = q + j) (hl : lay q o j = some (cA 2 n9 (fI f))) (hn : n9 ≤ 20000) (hf : ∀ i : Int, 0 ≤ i → i < (n9 : Int) → -128 ≤ f i ∧ f i ≤ 127) (hw : w sz = none) (hdd : 1 ≤ d) (hsum : (st.map fun v => v.category).sum ≤ 8)
    (kk : V l G M d av sz0 S (pc + 3) ls (.ref sz :: st) (wset w sz (some (obA 2 n9 f))) (sz + 1) (n + n9)) : V l G M d av sz0 S pc ls (.ref a :: st) w sz n := by
  subst ha
  obtain ⟨r, w', sz', n', h1, h2, h3, k⟩ := kk
  refine ⟨r, w', sz', n', h1, by omega, by omega, fun p e s m below meth c C9 H locs la hG hS hl9 => ?_⟩
  obtain ⟨hx, hb, hml, hr, hlk9, hown, hts, hK, hsz9, hnm9⟩ := id C9
  have hszH := hG.1
  have hsz0 : sz0 ≤ sz := by have := hS.1; rw [hsz9, hszH] at this; exact this
  have c0 := hG.cell hw0 hl
  obtain ⟨c1, t1, f1, f2, f3⟩ := Cond.castable_spec (va_Nw.use (A := av.toArray) rfl (hK.2.1 _ hcl rfl))
  have hnm := va_nm_byte (hK.1.2 2 _ rfl).2
  cases hnm.symm.trans f1
  have hsz : (arrV (G.tA 2) n9 (fI f)).slots.size = n9 := arrV_size _ _ _
  intro T hT X
  have hcellT : T.heap[q + j]? = some (arrV (G.tA 2) n9 (fI f)) := by rw [hT]; exact c0
  obtain ⟨-, kA, hkA, comp, hkind⟩ := State.isArrayOf_alike X.warmed.alike ((hK.1.2 2 _ rfl).1 0 (fun _ => .null))
  obtain ⟨-, kS, hkS, compS, hkindS⟩ := (hK.1.2 2 _ rfl).1 0 (fun _ => .null)
  obtain ⟨vm', X', st9⟩ := X.cloneArray hx hown (hts _ hlk) (hts _ hsame) (hts _ hnat) (hts _ hinst) (hts _ hsel) (a := q + j) (cell := arrV (G.tA 2) n9 (fI f)) hcellT (fun k h => by cases h) (fun h => by cases h) hnm f2 f3
    (fun i v hv => by
      have hk' : T.vm.classes[G.tA 2]? = some kA := hkA
      have hi : i < n9 := by
        have := (Array.getElem?_eq_some_iff.mp hv).1
        rw [hsz] at this
        exact this
      rw [arrV_read _ _ hi] at hv
      cases hv
      have := byte_fit (hf i (by omega) (by omega))
      show State.fitsSlot T (G.tA 2) .none i (vI (f i)) = true
      simpa [State.fitsSlot, State.slotType?, hk', hkind] using this)
    (g := F0 m pc la (.ref (q + j) :: st)) rfl (by rw [hml]; exact hl9.1) rfl (by rw [hb]; exact hd) (by show 1 ≤ d; exact hdd) (by show 2 * 0 + _ + 14 ≤ 48 * d + 3200; omega) (by show sz - sz0 + 1 ≤ sz' - sz0; omega) (by rw [hsz]; show n + n9 ≤ n'; omega) (hloader := Vm.clonesLoader_of_array hkS hkindS)
  have hcellE : ({ cls := (arrV (G.tA 2) n9 (fI f)).cls, slots := (arrV (G.tA 2) n9 (fI f)).slots } : Cell) = arrV (G.tA 2) n9 (fI f) := rfl
  rw [hcellE, hsz] at X'
  generalize hH1 : H.push (arrV (G.tA 2) n9 (fI f)) = H1
  have z1 : H1.size = H.size + 1 := by rw [← hH1, Array.size_push]
  have e1 : H1[H.size]? = some (arrV (G.tA 2) n9 (fI f)) := by rw [← hH1, Array.getElem?_push_size]
  have o1 : ∀ q : Nat, q < H.size → H1[q]? = H[q]? := fun q hq => by rw [← hH1, Array.getElem?_push, if_neg (Nat.ne_of_lt hq)]
  have hl1 : len (obA 2 n9 f) = 1 := rfl
  have hG1 := hG.push (H1 := H1) (o := obA 2 n9 f) (by rw [hl1, z1, hszH]) (fun x hx => o1 x (by omega)) (fun j e9 hj => by
    have := lay_raw0 hj hl1
    subst this
    rw [lay_AB] at hj
    cases hj
    rw [← hszH]
    exact e1)
  rw [hl1] at hG1
  have h9 := k p e s m below meth c C9 H1 locs la hG1 ⟨by rw [z1]; have := hS.1; omega, fun q h1 h2 => (o1 q (by have := hS.1; omega)).trans (hS.2.1 q h1 h2), hS.2.2⟩ hl9
  rw [show sz + 1 - sz0 = sz - sz0 + 1 by omega] at h9
  obtain ⟨t, b1, b2⟩ := h9 ((T.setVm vm').pushCell (arrV (G.tA 2) n9 (fI f))) (by rw [← hH1, ← hT]; rfl) X'
  refine ⟨t, st9 t ?_, b2⟩
  have hsT : T.heap.size = sz := by rw [hT]; exact hszH
  rw [hcellE, hsT]
  exact b1
theorem v_castA2 {idx q n9 : Nat} {f : Int → Int} (hd : decode M.2.1 pc = .ok (.checkcast idx, 3)) (hlk : Cond.classLink M.1.cls idx "[B" ∈ lw_all) (hw : w q = some (obA 2 n9 f)) (kk : V l G M d av sz0 S (pc + 3) ls (.ref q :: st) w sz n) : V l G M d av sz0 S pc ls (.ref q :: st) w sz n := by
  refine kk.goR (fun {p e R s m below meth c H locs cells slots Q la} X hG hS hl1 kk => ?_)
  obtain ⟨hx, hb, hml, hr, hlk9, hown, hts, hK, hsz9, hnm9⟩ := X
  have c0 : H[q]? = some (arrV (G.tA 2) n9 (fI f)) := hG.cell (k := 0) hw (lay_AB _ _ _)
  have hnm := va_nm_byte (hK.1.2 2 _ rfl).2
  intro T hT X
  obtain ⟨vm', X', st9⟩ := X.checkcastYes hx hown (hts _ hlk) (by rw [hT]; exact c0) rfl hnm (va_asg _ _) (g := F0 m pc la (.ref q :: st)) rfl rfl (by rw [hb]; exact hd)
  obtain ⟨t, a1, b1⟩ := kk (T.setVm vm') hT X'
  exact ⟨t, st9 t a1, b1⟩
end V15
/-- a String's object is known by its bytes and its coder -/
theorem toS {G : GG} {w : Wd} {sz q b : Nat} {F : Nat → Int} {P : Nat → Option Nat} (hq : w q = some (obR 16 F P)) (hP : P 0 = some b) (hF : F 1 = 0) : ∀ H : Heap, GoodW G w sz H → GoodW G (wset w q (some (obS b))) sz H := by
  intro H hG
  have c0 := hG.cell (k := 0) hq (lay_R0 _ _ _ (by decide))
  refine hG.fuse (q := q) (o := obS b) _ (fun a ha => ?_) (wset_eq _ _ _) (fun a h1 h2 => ?_) (fun a x ha hx => hG.2.2.2.2.2 a q x _ hx hq ha) ?_ (fun j e hj => ?_)
  · refine wset_ne _ _ ?_
    rcases ha with h | h
    · omega
    · have : len (obS b) = 1 := rfl
      omega
  · have : len (obS b) = 1 := rfl
    omega
  · have := hG.le hq
    exact this
  · have := lay_raw0 hj rfl
    subst this
    cases hj
    obtain ⟨r, h1, cell, q1, q2, q3, q4⟩ := c0
    refine ⟨r, cell, h1, q1, q2, by rw [q3]; rfl, by rw [q3]; exact (fun h => nomatch h), fun k v hv => ?_⟩
    have hr : r = (RJ2, TJ2, 4) := Option.some.inj (h1.symm.trans rfl)
    subst hr
    have hk : k < 2 := (List.getElem?_eq_some_iff.mp hv).1
    have := q4 k (show k < 4 by omega)
    rw [this]
    rcases (show k = 0 ∨ k = 1 by omega) with rfl | rfl
    · cases hv
      show some (va_rf (P 0)) = _
      rw [hP]
    · cases hv
      show some (vI (F 1)) = _
      rw [hF]
