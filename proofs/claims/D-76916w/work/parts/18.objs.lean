set_option maxRecDepth 100000
/-! references copied; new arrays of references; clones -/
def cpQ (f g : Int → Option Nat) (sp dp n : Int) : Int → Option Nat := fun z => if dp ≤ z ∧ z < dp + n then f (sp + (z - dp)) else g z
section VCQ
variable {l : Launch} {G : GG} {M : Mt} {d : Nat} {av : List Value} {sz0 : Nat} {S : Post} {pc : Nat} {ls : List (Nat × Value)} {st : List Value} {w : Wd} {sz n : Nat}
theorem v_copyQ {q0 j0 a0 n0 q1 j1 a1 n1 idx : Nat} {f g : Int → Option Nat} {o0 o1 : Ob} {sp dp nn : Int} (o' : Ob) (hd : decode M.2.1 pc = .ok (.invokestatic idx, 3)) (hlk : Cond.methodLink M.1.cls idx arraycopyName ∈ lw_all) (hnat : Cond.native arraycopyName ∈ lw_all) (hstt : Cond.static arraycopyName ∈ lw_all) (hini : Cond.initialized "java/lang/System" ∈ lw_all)
    (hw0 : w q0 = some o0) (ha0 : a0 = q0 + j0) (hl0 : lay q0 o0 j0 = some (cA 7 n0 (fQ f))) (hw1 : w q1 = some o1) (ha1 : a1 = q1 + j1) (hl1 : lay q1 o1 j1 = some (cA 7 n1 (fQ g)))
    (hs : 0 ≤ sp ∧ sp + nn ≤ (n0 : Int)) (hdp : 0 ≤ dp ∧ dp + nn ≤ (n1 : Int)) (hnn : 0 ≤ nn) (hn0 : n0 < 2147483648) (hn1 : n1 < 2147483648) (hel : ∀ i : Int, 0 ≤ i → i < nn → ∀ y, f (sp + i) = some y → StoA G w 7 y)
    (hch : Chg q1 o1 o' j1 (cA 7 n1 (fQ (cpQ f g sp dp nn)))) (hbq : G.base ≤ q1) (hdd : 1 ≤ d) (hsum : (st.map fun v => v.category).sum ≤ 8)
    (kk : V l G M d av sz0 S (pc + 3) ls st (wset w q1 (some o')) sz n) : V l G M d av sz0 S pc ls (vI nn :: vI dp :: .ref a1 :: vI sp :: .ref a0 :: st) w sz n := by
  subst ha0
  subst ha1
  obtain ⟨r, w', sz', n', h1, h2, h3, k⟩ := kk
  refine ⟨r, w', sz', n', h1, h2, h3, fun p e s m below meth c C H locs la hG hS hl => ?_⟩
  obtain ⟨hx, hb, hml, hr, hlk9, hown, hts, hK, hsz9, hnm9⟩ := id C
  have c0 := hG.cell hw0 hl0
  have c1 := hG.cell hw1 hl1
  have rsp : rI sp := ⟨by omega, by omega⟩
  have rdp : rI dp := ⟨by omega, by omega⟩
  have rnn : rI nn := ⟨by omega, by omega⟩
  intro T hT X
  obtain ⟨-, k0, hk0, cm0, hkk0⟩ := (hK.1.2 7 _ rfl).1 n0 (fQ f)
  obtain ⟨-, k1, hk1, cm1, hkk1⟩ := (hK.1.2 7 _ rfl).1 n1 (fQ g)
  have e9 : nativeFrameWords "java/lang/System" "arraycopy" 5 + 11 ≤ 3000 := by decide +kernel
  have e3 : (iI sp).toNatClampNeg = sp.toNat := iI_clamp hs.1 (by omega)
  have e4 : (iI dp).toNatClampNeg = dp.toNat := iI_clamp hdp.1 (by omega)
  have e5 : (iI nn).toNatClampNeg = nn.toNat := iI_clamp hnn (by omega)
  obtain ⟨vm', X', step⟩ := X.arraycopy hx hown (hts _ hlk) (hts _ hnat) (hts _ hstt) (hts _ hini) (src := q0 + j0) (dst := q1 + j1) (cs := arrV (G.tA 7) n0 (fQ f)) (cd := arrV (G.tA 7) n1 (fQ g)) (srcPos := iI sp) (destPos := iI dp) (n := iI nn) (by rw [hT]; exact c0) (by rw [hT]; exact c1)
    (fun _ h => by cases h) (fun _ h => by cases h) (fun h => by cases h) (fun h => by cases h) hk0 hk1 hkk0 hkk1 rfl (iI_neg0 hs.1 (by omega)) (iI_neg0 hdp.1 (by omega)) (iI_neg0 hnn (by omega))
    (by rw [iI_toInt rsp, iI_toInt rnn, arrV_size]; omega)
    (by rw [iI_toInt rdp, iI_toInt rnn, arrV_size]; omega)
    (fun vm₁ hal i hi => by
      rw [e5] at hi
      rw [e3]
      have e : (arrV (G.tA 7) n0 (fQ f)).slots.getD (sp.toNat + i) .null = va_rf (f (sp + (i : Int))) := by
        rw [Array.getD_eq_getD_getElem?, arrV_read _ _ (by omega)]
        show va_rf (f ((sp.toNat + i : Nat) : Int)) = _
        congr 2
        omega
      rw [e]
      cases hy : f (sp + (i : Int)) with
      | none => exact ⟨rfl, trivial⟩
      | some y =>
        obtain ⟨cellV, g1, g2, ⟨kC, hkC⟩, hasg⟩ := hel i (by omega) (by omega) y hy H s sz hG hK
        obtain ⟨⟨kE, hkE⟩, hasg⟩ := hasg k1 cm1 _ hk1 hkk1
        obtain ⟨kC', hkC', -⟩ := hal.2.2 _ _ hkC
        obtain ⟨kE', hkE', -⟩ := hal.2.2 _ _ hkE
        refine ⟨rfl, cellV, (show T.heap[y]? = some cellV by rw [hT]; exact g1), g2, ⟨kC', hkC'⟩, ⟨kE', hkE'⟩, ?_⟩
        show vm₁.assignable _ _ = true
        rw [hal.assignable]
        exact hasg)
    (g := F0 m pc la (vI nn :: vI dp :: .ref (q1 + j1) :: vI sp :: .ref (q0 + j0) :: st)) rfl (by rw [hml]; exact hl.1) (rest := st) rfl (by rw [hb]; exact hd) (by show 1 ≤ d; exact hdd) (by show 2 * 0 + _ + _ ≤ 48 * d + 3200; omega)
  have e1 : copied (arrV (G.tA 7) n0 (fQ f)) (arrV (G.tA 7) n1 (fQ g)) (iI sp) (iI dp) (iI nn) = arrV (G.tA 7) n1 (fQ (cpQ f g sp dp nn)) := by
    have q := va_copied (fun z => va_rf z) (G.tA 7) (G.tA 7) (n0 := n0) (n1 := n1) (sp := sp.toNat) (dp := dp.toNat) (n := nn.toNat) (fun j : Nat => f j) (fun j : Nat => g j) (by omega)
    unfold copied
    rw [e3, e4, e5]
    refine q.trans ?_
    congr 1
    funext z
    show va_rf _ = va_rf _
    congr 1
    unfold va_cpy cpQ
    by_cases hz : dp.toNat ≤ z ∧ z < dp.toNat + nn.toNat
    · rw [if_pos hz, if_pos (by omega)]
      show f ((sp.toNat + (z - dp.toNat) : Nat) : Int) = f (sp + ((z : Int) - dp))
      congr 1
      omega
    · rw [if_neg hz, if_neg (by omega)]
  rw [e1] at X' step
  have hl9 : q1 + j1 < H.size := cAt.lt c1
  have hheap : ((T.setVm vm').setCell (q1 + j1) (arrV (G.tA 7) n1 (fQ (cpQ f g sp dp nn)))).heap = H.setIfInBounds (q1 + j1) (arrV (G.tA 7) n1 (fQ (cpQ f g sp dp nn))) := by rw [← hT]; rfl
  have oq : ∀ q : Nat, q ≠ q1 + j1 → (H.setIfInBounds (q1 + j1) (arrV (G.tA 7) n1 (fQ (cpQ f g sp dp nn))))[q]? = H[q]? := fun q hq => by simp [Array.getElem?_setIfInBounds, Ne.symm hq]
  obtain ⟨t9, a1, b1⟩ := k p e s m below meth c C _ _ la
    (hG.put (H1 := H.setIfInBounds (q1 + j1) (arrV (G.tA 7) n1 (fQ (cpQ f g sp dp nn)))) (e' := cA 7 n1 (fQ (cpQ f g sp dp nn))) hw1 (lay_lt hl1) hch.1 (show (H.setIfInBounds (q1 + j1) (arrV (G.tA 7) n1 (fQ (cpQ f g sp dp nn))))[q1 + j1]? = some _ by simp [Array.getElem?_setIfInBounds, hl9]) (by simp) oq hbq hch.2)
    ⟨by simp; exact hS.1, fun q g1 g2 => by
      rw [oq q (fun e => g2 (by rw [e]; show G.base ≤ q1 + j1; omega))]
      exact hS.2.1 q g1 g2, fun q hq => by
      rcases List.mem_append.mp hq with h | h
      · exact hS.2.2 q h
      · obtain ⟨z, -, hz⟩ := List.mem_map.mp h
        rw [← hz]
        show G.base ≤ q1 + j1
        omega⟩ hl _ hheap X'
  exact ⟨t9, step t9 a1, b1⟩
/-- a new array of references of type t over the class C -/
theorem v_newQ {idx t : Nat} {C : String} {i : Int} (ht : 3 ≤ t ∧ t < 8) (hgt : ∀ G : GG, (atys G)[t]? = some (G.tA t, .object C)) (hov : C ∈ aovers) (hd : decode M.2.1 pc = .ok (.anewarray idx, 3)) (hlk : Cond.classLink M.1.cls idx C ∈ lw_all) (hi : 0 ≤ i ∧ i ≤ 20000) (hw : w sz = none)
    (kk : V l G M d av sz0 S (pc + 3) ls (.ref sz :: st) (wset w sz (some (obQ t i.toNat (fun _ => none)))) (sz + 1) (n + i.toNat)) : V l G M d av sz0 S pc ls (vI i :: st) w sz n := by
  obtain ⟨r, w', sz', n', h1, h2, h3, k⟩ := kk
  refine ⟨r, w', sz', n', h1, by omega, by omega, fun p e s m below meth c C9 H locs la hG hS hl => ?_⟩
  obtain ⟨hx, hb, hml, hr, hlk9, hown, hts, hK, hsz9, hnm9⟩ := id C9
  have hszH := hG.1
  have hsz0 : sz0 ≤ sz := by have := hS.1; rw [hsz9, hszH] at this; exact this
  have e5 : (iI i).toNatClampNeg = i.toNat := iI_clamp hi.1 (by omega)
  refine W.anew hx hb hown (hts _ hlk) (va_AO.use (hK.2.2.1 C hov)) rfl hd rfl (iI_neg0 hi.1 (by omega)) (by rw [e5]; omega) (by show sz - sz0 + 1 ≤ sz' - sz0; omega) (by rw [e5]; show n + i.toNat ≤ n'; omega) fun cA9 kA comp f1 f2 f3 f4 => ?_
  have hcA : cA9 = G.tA t := by
    obtain ⟨kA', comp', g2, g3, g4, g1⟩ := (hK.1.2 t _ (hgt G)).2
    exact Option.some.inj (f1.symm.trans g1)
  subst hcA
  rw [e5]
  generalize hH1 : H.push ({ cls := G.tA t, slots := Array.replicate i.toNat .null, vm := .none } : Cell) = H1
  have z1 : H1.size = H.size + 1 := by rw [← hH1, Array.size_push]
  have e1 : H1[H.size]? = some (arrV (G.tA t) i.toNat (fun _ => .null)) := by rw [← hH1, Array.getElem?_push_size, ← arrV_new]
  have o1 : ∀ q : Nat, q < H.size → H1[q]? = H[q]? := fun q hq => by rw [← hH1, Array.getElem?_push, if_neg (Nat.ne_of_lt hq)]
  have hl1 : len (obQ t i.toNat (fun _ => none)) = 1 := if_pos (show 60 + t < 80 by omega)
  have hlay : ∀ q9, lay q9 (obQ t i.toNat (fun _ => none)) 0 = some (cA t i.toNat (fun _ => .null)) := by
    intro q9
    match t, ht with
    | 3, _ => rfl
    | 4, _ => rfl
    | 5, _ => rfl
    | 6, _ => rfl
    | 7, _ => rfl
    | t + 8, h => omega
  have hG1 := hG.push (H1 := H1) (o := obQ t i.toNat (fun _ => none)) (by rw [hl1, z1, hszH]) (fun x hx => o1 x (by omega)) (fun j e9 hj => by
    have := lay_raw0 hj hl1
    subst this
    rw [hlay] at hj
    cases hj
    rw [← hszH]
    exact e1)
  rw [hl1] at hG1
  have h9 := k p e s m below meth c C9 H1 locs la hG1 ⟨by rw [z1]; have := hS.1; omega, fun q h1 h2 => (o1 q (by have := hS.1; omega)).trans (hS.2.1 q h1 h2), hS.2.2⟩ hl
  rw [show sz + 1 - sz0 = sz - sz0 + 1 by omega] at h9
  rw [hszH]
  exact h9
end VCQ
