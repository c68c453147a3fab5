set_option maxRecDepth 100000
def cpZ (f g : Int → Int) (sp dp n : Int) : Int → Int := fun z => if dp ≤ z ∧ z < dp + n then f (sp + (z - dp)) else g z
def cpA (A : Nat → Int → Int) (j1 j2 : Nat) (sp dp n : Int) : Nat → Int → Int := fun j => if j = j2 then cpZ (A j1) (A j2) sp dp n else A j
section VC
variable {l : Launch} {G : GG} {M : Mt} {d : Nat} {av : List Value} {sz0 : Nat} {S : Post} {pc : Nat} {ls : List (Nat × Value)} {st : List Value} {w : Wd} {sz n : Nat}
/-- System.arraycopy between arrays of numbers of one type -/
theorem v_copy {mk : Int → Value} {t q0 j0 a0 n0 q1 j1 a1 n1 idx : Nat} {f g : Int → Int} {o0 o1 : Ob} {sp dp nn : Int} {ty : FieldType} (o' : Ob) (hd : decode M.2.1 pc = .ok (.invokestatic idx, 3)) (hlk : Cond.methodLink M.1.cls idx arraycopyName ∈ lw_all) (hnat : Cond.native arraycopyName ∈ lw_all) (hstt : Cond.static arraycopyName ∈ lw_all) (hini : Cond.initialized "java/lang/System" ∈ lw_all)
    (hty : ∀ G, (atys G)[t]? = some (G.tA t, ty)) (hprim : refKind ty = false) (hw0 : w q0 = some o0) (ha0 : a0 = q0 + j0) (hl0 : lay q0 o0 j0 = some (cA t n0 (fun j => mk (f j)))) (hw1 : w q1 = some o1) (ha1 : a1 = q1 + j1) (hl1 : lay q1 o1 j1 = some (cA t n1 (fun j => mk (g j))))
    (hs : 0 ≤ sp ∧ sp + nn ≤ (n0 : Int)) (hdp : 0 ≤ dp ∧ dp + nn ≤ (n1 : Int)) (hnn : 0 ≤ nn) (hn0 : n0 < 2147483648) (hn1 : n1 < 2147483648) (hfit : ∀ i : Int, 0 ≤ i → i < nn → fits ty (mk (f (sp + i))) = true) (hnoref : ∀ i : Int, ∀ a, mk i ≠ .ref a)
    (hch : Chg q1 o1 o' j1 (cA t n1 (fun j => mk (cpZ f g sp dp nn j)))) (hbq : G.base ≤ q1) (hdd : 1 ≤ d) (hsum : (st.map fun v => v.category).sum ≤ 8)
    (kk : V l G M d av sz0 S (pc + 3) ls st (wset w q1 (some o')) sz n) : V l G M d av sz0 S pc ls (vI nn :: vI dp :: .ref a1 :: vI sp :: .ref a0 :: st) w sz n := by
  subst ha0
  subst ha1
  obtain ⟨r, w', sz', n', h1, h2, h3, k⟩ := kk
  refine ⟨r, w', sz', n', h1, h2, h3, fun p e s m below meth c C H locs la hG hS hl => ?_⟩
  obtain ⟨hx, hb, hml, hr, hlk9, hown, hts, hK, hsz9, hnm9⟩ := id C
  have c0 := hG.cell hw0 hl0
  have c1 := hG.cell hw1 hl1
  have rsp : rI sp := ⟨by omega, by omega⟩
  have rdp : rI dp := ⟨by omega, by omega⟩
  have rnn : rI nn := ⟨by omega, by omega⟩
  intro T hT X
  obtain ⟨-, k0, hk0, cm0, hkk0⟩ := (hK.1.2 t _ (hty G)).1 n0 (fun j => mk (f j))
  obtain ⟨-, k1, hk1, cm1, hkk1⟩ := (hK.1.2 t _ (hty G)).1 n1 (fun j => mk (g j))
  have e9 : nativeFrameWords "java/lang/System" "arraycopy" 5 + 11 ≤ 3000 := by decide +kernel
  have e3 : (iI sp).toNatClampNeg = sp.toNat := iI_clamp hs.1 (by omega)
  have e4 : (iI dp).toNatClampNeg = dp.toNat := iI_clamp hdp.1 (by omega)
  have e5 : (iI nn).toNatClampNeg = nn.toNat := iI_clamp hnn (by omega)
  obtain ⟨vm', X', step⟩ := X.arraycopy hx hown (hts _ hlk) (hts _ hnat) (hts _ hstt) (hts _ hini) (src := q0 + j0) (dst := q1 + j1) (cs := arrV (G.tA t) n0 (fun j => mk (f j))) (cd := arrV (G.tA t) n1 (fun j => mk (g j))) (srcPos := iI sp) (destPos := iI dp) (n := iI nn) (by rw [hT]; exact c0) (by rw [hT]; exact c1)
    (fun _ h => by cases h) (fun _ h => by cases h) (fun h => by cases h) (fun h => by cases h) hk0 hk1 hkk0 hkk1 (by simp [hprim]) (iI_neg0 hs.1 (by omega)) (iI_neg0 hdp.1 (by omega)) (iI_neg0 hnn (by omega))
    (by rw [iI_toInt rsp, iI_toInt rnn, arrV_size]; omega)
    (by rw [iI_toInt rdp, iI_toInt rnn, arrV_size]; omega)
    (fun vm₁ _ i hi => by
      rw [e5] at hi
      rw [e3]
      have e : (arrV (G.tA t) n0 (fun j => mk (f j))).slots.getD (sp.toNat + i) .null = mk (f (sp + (i : Int))) := by
        rw [Array.getD_eq_getD_getElem?, arrV_read _ _ (by omega)]
        show mk (f ((sp.toNat + i : Nat) : Int)) = _
        congr 2
        omega
      refine ⟨?_, ?_⟩
      · rw [e]
        exact hfit i (by omega) (by omega)
      · rw [e]
        have := hnoref (f (sp + (i : Int)))
        revert this
        cases mk (f (sp + (i : Int))) <;> intro this <;> first | trivial | exact absurd rfl (this _))
    (g := F0 m pc la (vI nn :: vI dp :: .ref (q1 + j1) :: vI sp :: .ref (q0 + j0) :: st)) rfl (by rw [hml]; exact hl.1) (rest := st) rfl (by rw [hb]; exact hd) (by show 1 ≤ d; exact hdd) (by show 2 * 0 + _ + _ ≤ 48 * d + 3200; omega)
  have e1 : copied (arrV (G.tA t) n0 (fun j => mk (f j))) (arrV (G.tA t) n1 (fun j => mk (g j))) (iI sp) (iI dp) (iI nn) = arrV (G.tA t) n1 (fun j => mk (cpZ f g sp dp nn j)) := by
    have q := va_copied (fun z => mk z) (G.tA t) (G.tA t) (n0 := n0) (n1 := n1) (sp := sp.toNat) (dp := dp.toNat) (n := nn.toNat) (fun j : Nat => f j) (fun j : Nat => g j) (by omega)
    unfold copied
    rw [e3, e4, e5]
    refine q.trans ?_
    congr 1
    funext z
    congr 1
    unfold va_cpy cpZ
    by_cases hz : dp.toNat ≤ z ∧ z < dp.toNat + nn.toNat
    · rw [if_pos hz, if_pos (by omega)]
      show f ((sp.toNat + (z - dp.toNat) : Nat) : Int) = f (sp + ((z : Int) - dp))
      congr 1
      omega
    · rw [if_neg hz, if_neg (by omega)]
  rw [e1] at X' step
  have hl9 : q1 + j1 < H.size := cAt.lt c1
  have hheap : ((T.setVm vm').setCell (q1 + j1) (arrV (G.tA t) n1 (fun j => mk (cpZ f g sp dp nn j)))).heap = H.setIfInBounds (q1 + j1) (arrV (G.tA t) n1 (fun j => mk (cpZ f g sp dp nn j))) := by rw [← hT]; rfl
  have oq : ∀ q : Nat, q ≠ q1 + j1 → (H.setIfInBounds (q1 + j1) (arrV (G.tA t) n1 (fun j => mk (cpZ f g sp dp nn j))))[q]? = H[q]? := fun q hq => by simp [Array.getElem?_setIfInBounds, Ne.symm hq]
  obtain ⟨t9, a1, b1⟩ := k p e s m below meth c C _ _ la
    (hG.put (H1 := H.setIfInBounds (q1 + j1) (arrV (G.tA t) n1 (fun j => mk (cpZ f g sp dp nn j)))) (e' := cA t n1 (fun j => mk (cpZ f g sp dp nn j))) hw1 (lay_lt hl1) hch.1 (show (H.setIfInBounds (q1 + j1) (arrV (G.tA t) n1 (fun j => mk (cpZ f g sp dp nn j))))[q1 + j1]? = some _ by simp [Array.getElem?_setIfInBounds, hl9]) (by simp) oq hbq hch.2)
    ⟨by simp; exact hS.1, fun q g1 g2 => by
      rw [oq q (fun e => g2 (by rw [e]; show G.base ≤ q1 + j1; omega))]
      exact hS.2.1 q g1 g2, fun q hq => by
      rcases List.mem_append.mp hq with h | h
      · exact hS.2.2 q h
      · obtain ⟨z, -, hz⟩ := List.mem_map.mp h
        rw [← hz]
        show G.base ≤ q1 + j1
        omega⟩ hl _ hheap X'
  exact ⟨t9, step t9 a1, b1⟩
theorem v_ldcS {idx : Nat} {tx : String} (i : Nat) (hX : XS G) (hd : decode M.2.1 pc = .ok (.ldc idx, 2)) (hi : strs[i]? = some (M.1.cls, idx, tx)) (k : V l G M d av sz0 S (pc + 2) ls (.ref (G.ad i) :: st) w sz n) : V l G M d av sz0 S pc ls st w sz n := by
  refine k.goR (fun {p e R s m below meth c H locs cells slots Q la} C hG hS hl k => ?_)
  obtain ⟨hx, hb, hml, hr, hlk9, hown, hts, hK, hsz9, hnm9⟩ := C
  have h1 : vk_R M.1.cls idx tx (G.ad i) s := hX s hK.2.2.2.1 i (M.1.cls, idx, tx) hi
  exact va_ldcS hx hb hown h1 hd k
theorem v_ldcSw {idx : Nat} {tx : String} (i : Nat) (hX : XS G) (hd : decode M.2.1 pc = .ok (.ldc_w idx, 3)) (hi : strs[i]? = some (M.1.cls, idx, tx)) (k : V l G M d av sz0 S (pc + 3) ls (.ref (G.ad i) :: st) w sz n) : V l G M d av sz0 S pc ls st w sz n := by
  refine k.goR (fun {p e R s m below meth c H locs cells slots Q la} C hG hS hl k => ?_)
  obtain ⟨hx, hb, hml, hr, hlk9, hown, hts, hK, hsz9, hnm9⟩ := C
  have h1 : vk_R M.1.cls idx tx (G.ad i) s := hX s hK.2.2.2.1 i (M.1.cls, idx, tx) hi
  intro T hT X
  obtain ⟨t, a1, b1⟩ := k T hT X
  refine ⟨t, ?_, b1⟩
  obtain ⟨kk, cf, j, a', hk, hcf, hcp, -, hr9, hev'⟩ := Cond.stringRef_spec hown h1.1
  cases h1.2.symm.trans hev'
  obtain ⟨k', hk', he⟩ := X.warmed.alike.2.2 _ _ hk
  have hr' : k'.resolved[idx]? = some (some (.string (G.ad i))) := by
    rcases X.warmed.entry hk hk' idx with h | ⟨h, -⟩
    · rw [h]; exact hr9
    · rw [hr9] at h; cases h
  jvm_step X.here [X.here.top, hx, hb, hd, ldc_w.wp_string (e := e) (s := T) (f := F0 m pc la st) X.here.top hk' (by rw [he]; exact hcf) hcp hr']
  exact a1
end VC
/-! the reference: its object and arrays are one object of the world; its methods make nothing -/
def nA : Nat → Int → Int := fun _ _ => 0
def nB : Nat → Int → Option Nat := fun _ _ => none
def nM : Nat → Int → Int → Int := fun _ _ _ => 0
def nN : Nat → Int → Int → Option Nat := fun _ _ _ => none
def nP : Nat → Option Nat := fun _ => none
def nF : Nat → Int := fun _ => 0
abbrev obM (F : Nat → Int) (P : Nat → Option Nat) (A : Nat → Int → Int) : Ob := (80, F, P, A, nB, nM, nN)
/-- l, G, d, arguments, ends, the reference's address, the world beside, its texts, the heap's size -/
abbrev KM : Type := Launch × GG × Nat × List Value × Post × Nat × Wd × (Nat → Option Nat) × Nat
abbrev KM.l (K : KM) : Launch := K.1
abbrev KM.G (K : KM) : GG := K.2.1
abbrev KM.d (K : KM) : Nat := K.2.2.1
abbrev KM.av (K : KM) : List Value := K.2.2.2.1
abbrev KM.S (K : KM) : Post := K.2.2.2.2.1
abbrev KM.m (K : KM) : Nat := K.2.2.2.2.2.1
abbrev KM.w (K : KM) : Wd := K.2.2.2.2.2.2.1
abbrev KM.P (K : KM) : Nat → Option Nat := K.2.2.2.2.2.2.2.1
abbrev KM.sz (K : KM) : Nat := K.2.2.2.2.2.2.2.2
abbrev KM.wd (K : KM) (F : Nat → Int) (A : Nat → Int → Int) : Wd := wset K.w K.m (some (obM F K.P A))
abbrev VM (K : KM) (M : Mt) (pc : Nat) (ls : List (Nat × Value)) (st : List Value) (F : Nat → Int) (A : Nat → Int → Int) : Prop := V K.l K.G M K.d K.av K.sz K.S pc ls st (K.wd F A) K.sz 0
def SI (K : KM) (x : Int) (F : Nat → Int) (A : Nat → Int → Int) : Prop := K.S (some (vI x)) (K.wd F A) K.sz 0
def SL (K : KM) (x : Int) (F : Nat → Int) (A : Nat → Int → Int) : Prop := K.S (some (vL x)) (K.wd F A) K.sz 0
def SV (K : KM) (F : Nat → Int) (A : Nat → Int → Int) : Prop := K.S none (K.wd F A) K.sz 0
/-- a call of a method that answers an int (a long, nothing), and leaves the reference otherwise -/
def pI (K : KM) (Φ : Int → (Nat → Int) → (Nat → Int → Int) → Prop) : Post := fun r w1 sz1 n1 => ∃ (x : Int) (F : Nat → Int) (A : Nat → Int → Int), r = some (vI x) ∧ w1 = K.wd F A ∧ sz1 = K.sz ∧ n1 = 0 ∧ Φ x F A
def pL (K : KM) (Φ : Int → (Nat → Int) → (Nat → Int → Int) → Prop) : Post := fun r w1 sz1 n1 => ∃ (x : Int) (F : Nat → Int) (A : Nat → Int → Int), r = some (vL x) ∧ w1 = K.wd F A ∧ sz1 = K.sz ∧ n1 = 0 ∧ Φ x F A
def pV (K : KM) (Φ : (Nat → Int) → (Nat → Int → Int) → Prop) : Post := fun r w1 sz1 n1 => ∃ (F : Nat → Int) (A : Nat → Int → Int), r = none ∧ w1 = K.wd F A ∧ sz1 = K.sz ∧ n1 = 0 ∧ Φ F A
def RI (Mc : Mt) (K : KM) (As : List Value) (F : Nat → Int) (A : Nat → Int → Int) (Φ : Int → (Nat → Int) → (Nat → Int → Int) → Prop) : Prop := ∃ d', d' < K.d ∧ Ret K.l K.G Mc d' As (K.wd F A) K.sz (pI K Φ)
def RL (Mc : Mt) (K : KM) (As : List Value) (F : Nat → Int) (A : Nat → Int → Int) (Φ : Int → (Nat → Int) → (Nat → Int → Int) → Prop) : Prop := ∃ d', d' < K.d ∧ Ret K.l K.G Mc d' As (K.wd F A) K.sz (pL K Φ)
def RV (Mc : Mt) (K : KM) (As : List Value) (F : Nat → Int) (A : Nat → Int → Int) (Φ : (Nat → Int) → (Nat → Int → Int) → Prop) : Prop := ∃ d', d' < K.d ∧ Ret K.l K.G Mc d' As (K.wd F A) K.sz (pV K Φ)
/-- the callee's own context -/
abbrev KM.to (K : KM) (d : Nat) (av : List Value) (S : Post) : KM := (K.l, K.G, d, av, S, K.m, K.w, K.P, K.sz)
theorem RI.of {Mc : Mt} {K : KM} {As : List Value} {F : Nat → Int} {A : Nat → Int → Int} {Φ : Int → (Nat → Int) → (Nat → Int → Int) → Prop} (d : Nat) (hd : d < K.d) (hy : plainName Mc.1.cls = true) (hfit : (lg_sl As).length ≤ Mc.2.2.1)
    (k : ∀ K1 : KM, K1.l = K.l → K1.G = K.G → K1.d = d → K1.m = K.m → K1.w = K.w → K1.P = K.P → K1.sz = K.sz → (∀ x F A, Φ x F A → SI K1 x F A) → VM K1 Mc 0 (lv_args 0 As) [] F A) : RI Mc K As F A Φ :=
  ⟨d, hd, Ret.of hy hfit (k (K.to d As (pI K Φ)) rfl rfl rfl rfl rfl rfl rfl (fun x F A h => ⟨x, F, A, rfl, rfl, rfl, rfl, h⟩))⟩
theorem RL.of {Mc : Mt} {K : KM} {As : List Value} {F : Nat → Int} {A : Nat → Int → Int} {Φ : Int → (Nat → Int) → (Nat → Int → Int) → Prop} (d : Nat) (hd : d < K.d) (hy : plainName Mc.1.cls = true) (hfit : (lg_sl As).length ≤ Mc.2.2.1)
    (k : ∀ K1 : KM, K1.l = K.l → K1.G = K.G → K1.d = d → K1.m = K.m → K1.w = K.w → K1.P = K.P → K1.sz = K.sz → (∀ x F A, Φ x F A → SL K1 x F A) → VM K1 Mc 0 (lv_args 0 As) [] F A) : RL Mc K As F A Φ :=
  ⟨d, hd, Ret.of hy hfit (k (K.to d As (pL K Φ)) rfl rfl rfl rfl rfl rfl rfl (fun x F A h => ⟨x, F, A, rfl, rfl, rfl, rfl, h⟩))⟩
theorem RV.of {Mc : Mt} {K : KM} {As : List Value} {F : Nat → Int} {A : Nat → Int → Int} {Φ : (Nat → Int) → (Nat → Int → Int) → Prop} (d : Nat) (hd : d < K.d) (hy : plainName Mc.1.cls = true) (hfit : (lg_sl As).length ≤ Mc.2.2.1)
    (k : ∀ K1 : KM, K1.l = K.l → K1.G = K.G → K1.d = d → K1.m = K.m → K1.w = K.w → K1.P = K.P → K1.sz = K.sz → (∀ F A, Φ F A → SV K1 F A) → VM K1 Mc 0 (lv_args 0 As) [] F A) : RV Mc K As F A Φ :=
  ⟨d, hd, Ret.of hy hfit (k (K.to d As (pV K Φ)) rfl rfl rfl rfl rfl rfl rfl (fun F A h => ⟨F, A, rfl, rfl, rfl, rfl, h⟩))⟩
theorem RI.mono {Mc : Mt} {K : KM} {As : List Value} {F : Nat → Int} {A : Nat → Int → Int} {Φ Ψ : Int → (Nat → Int) → (Nat → Int → Int) → Prop} (h : RI Mc K As F A Φ) (hi : ∀ x F A, Φ x F A → Ψ x F A) : RI Mc K As F A Ψ := by
  obtain ⟨d, hd, h⟩ := h
  exact ⟨d, hd, h.mono (fun r w1 sz1 n1 ⟨x, F, A, h1, h2, h3, h4, h5⟩ => ⟨x, F, A, h1, h2, h3, h4, hi x F A h5⟩)⟩
theorem RL.mono {Mc : Mt} {K : KM} {As : List Value} {F : Nat → Int} {A : Nat → Int → Int} {Φ Ψ : Int → (Nat → Int) → (Nat → Int → Int) → Prop} (h : RL Mc K As F A Φ) (hi : ∀ x F A, Φ x F A → Ψ x F A) : RL Mc K As F A Ψ := by
  obtain ⟨d, hd, h⟩ := h
  exact ⟨d, hd, h.mono (fun r w1 sz1 n1 ⟨x, F, A, h1, h2, h3, h4, h5⟩ => ⟨x, F, A, h1, h2, h3, h4, hi x F A h5⟩)⟩
theorem RV.mono {Mc : Mt} {K : KM} {As : List Value} {F : Nat → Int} {A : Nat → Int → Int} {Φ Ψ : (Nat → Int) → (Nat → Int → Int) → Prop} (h : RV Mc K As F A Φ) (hi : ∀ F A, Φ F A → Ψ F A) : RV Mc K As F A Ψ := by
  obtain ⟨d, hd, h⟩ := h
  exact ⟨d, hd, h.mono (fun r w1 sz1 n1 ⟨F, A, h1, h2, h3, h4, h5⟩ => ⟨F, A, h1, h2, h3, h4, hi F A h5⟩)⟩
section VMM
variable (K : KM) {M : Mt} {pc : Nat} {ls : List (Nat × Value)} {st : List Value} {F : Nat → Int} {A : Nat → Int → Int}
abbrev mfs (m : Nat) (F : Nat → Int) (P : Nat → Option Nat) : List Value := [.ref (m + 1), vI (F 1), .ref (m + 2), vI (F 3), .ref (m + 3), vI (F 5), vI (F 6), vI (F 7), vI (F 8), vI (F 9), .ref (m + 4), .ref (m + 5), .ref (m + 6), .ref (m + 7), .ref (m + 8), .ref (m + 9), vI (F 16), .ref (m + 10), .ref (m + 11), vI (F 19), va_rf (P 20), va_rf (P 21), .ref (m + 12), .ref (m + 13), .ref (m + 14), .ref (m + 15), vI (F 26), .ref (m + 16), .ref (m + 17), .ref (m + 18), .ref (m + 19), vI (F 31), vI (F 32), vI (F 33), vI (F 34), vI (F 35), vI (F 36), .ref (m + 20), .ref (m + 21), .ref (m + 22), .ref (m + 23), .ref (m + 24), .ref (m + 25), .ref (m + 26), .ref (m + 27), vI (F 45), vI (F 46), .ref (m + 28), .ref (m + 29), .ref (m + 30), .ref (m + 31), .ref (m + 32), .ref (m + 33), .ref (m + 34), .ref (m + 35), vI (F 55), vI (F 56), .ref (m + 36), .ref (m + 37), .ref (m + 38), .ref (m + 39)]
theorem lay_M0 (m : Nat) (F : Nat → Int) (P : Nat → Option Nat) (A : Nat → Int → Int) : lay m (obM F P A) 0 = some (cO 5 (mfs m F P)) := rfl
theorem lay_MA {m : Nat} {F : Nat → Int} {P : Nat → Option Nat} {A : Nat → Int → Int} (j : Nat) {n : Nat} (h : MT[j]? = some (0, n)) : lay m (obM F P A) (j + 1) = some (cA 0 n (fI (A j))) := by
  show layM m F P A (j + 1) = _
  unfold layM
  rw [if_neg (Nat.succ_ne_zero j), Nat.add_sub_cancel, h]
  rfl
theorem lay_ML {m : Nat} {F : Nat → Int} {P : Nat → Option Nat} {A : Nat → Int → Int} (j : Nat) {n : Nat} (h : MT[j]? = some (1, n)) : lay m (obM F P A) (j + 1) = some (cA 1 n (fL (A j))) := by
  show layM m F P A (j + 1) = _
  unfold layM
  rw [if_neg (Nat.succ_ne_zero j), Nat.add_sub_cancel, h]
  rfl
theorem chg_M0 {m : Nat} {F F' : Nat → Int} {P : Nat → Option Nat} {A : Nat → Int → Int} {fs : List Value} (h : mfs m F' P = fs) : Chg m (obM F P A) (obM F' P A) 0 (cO 5 fs) := by
  subst h
  refine ⟨rfl, fun i e2 he => ?_⟩
  by_cases hi : i = 0
  · subst hi
    exact Or.inl ⟨rfl, (Option.some.inj he).symm⟩
  · refine Or.inr ⟨hi, ?_⟩
    have h1 : layM m F' P A i = some e2 := he
    show layM m F P A i = some e2
    unfold layM at h1 ⊢
    rw [if_neg hi] at h1 ⊢
    exact h1
theorem chg_MA {m : Nat} {F : Nat → Int} {P : Nat → Option Nat} {A : Nat → Int → Int} (j : Nat) {n : Nat} (i : Int) (x : Int) (h : MT[j]? = some (0, n)) : Chg m (obM F P A) (obM F P (upA A j i x)) (j + 1) (cA 0 n (fI (upZ (A j) i x))) := by
  refine ⟨rfl, fun c e2 he => ?_⟩
  by_cases hi : c = j + 1
  · subst hi
    rw [lay_MA j h] at he
    refine Or.inl ⟨rfl, ?_⟩
    have h1 := Option.some.inj he
    rw [← h1, upA_eq]
  · refine Or.inr ⟨hi, ?_⟩
    have h1 : layM m F P (upA A j i x) c = some e2 := he
    show layM m F P A c = some e2
    unfold layM at h1 ⊢
    by_cases h0 : c = 0
    · rw [if_pos h0] at h1 ⊢
      exact h1
    · rw [if_neg h0] at h1 ⊢
      rw [upA_ne _ _ _ (show c - 1 ≠ j by omega)] at h1
      exact h1
theorem chg_ML {m : Nat} {F : Nat → Int} {P : Nat → Option Nat} {A : Nat → Int → Int} (j : Nat) {n : Nat} (i : Int) (x : Int) (h : MT[j]? = some (1, n)) : Chg m (obM F P A) (obM F P (upA A j i x)) (j + 1) (cA 1 n (fL (upZ (A j) i x))) := by
  refine ⟨rfl, fun c e2 he => ?_⟩
  by_cases hi : c = j + 1
  · subst hi
    rw [lay_ML j h] at he
    refine Or.inl ⟨rfl, ?_⟩
    have h1 := Option.some.inj he
    rw [← h1, upA_eq]
  · refine Or.inr ⟨hi, ?_⟩
    have h1 : layM m F P (upA A j i x) c = some e2 := he
    show layM m F P A c = some e2
    unfold layM at h1 ⊢
    by_cases h0 : c = 0
    · rw [if_pos h0] at h1 ⊢
      exact h1
    · rw [if_neg h0] at h1 ⊢
      rw [upA_ne _ _ _ (show c - 1 ≠ j by omega)] at h1
      exact h1
theorem m_get {idx k : Nat} {v : Value} (hd : decode M.2.1 pc = .ok (.getfield idx, 3)) (hf : FL M.1.cls idx 5 k) (hv : (mfs K.m F K.P)[k]? = some v) (kk : VM K M (pc + 3) ls (v :: st) F A) : VM K M pc ls (.ref K.m :: st) F A :=
  v_get (j := 0) hd hf (wset_eq _ _ _) rfl (lay_M0 _ _ _ _) hv kk
theorem m_put {idx k : Nat} {x : Int} {F' : Nat → Int} (hbq : K.G.base ≤ K.m) (hd : decode M.2.1 pc = .ok (.putfield idx, 3)) (hf : FL M.1.cls idx 5 k) (hk : (TX5 k).2.2.2 = false ∧ parseFieldDescriptor (TX5 k).2.2.1 = some .int) (hkl : k < 61) (hF : mfs K.m F' K.P = (mfs K.m F K.P).set k (vI x)) (kk : VM K M (pc + 3) ls st F' A) : VM K M pc ls (vI x :: .ref K.m :: st) F A := by
  refine v_put (j := 0) (ty := .int) (obM F' K.P A) hd hf (fun C T N h => by cases h; exact hk) (wset_eq _ _ _) rfl (lay_M0 _ _ _ _) hkl rfl rfl (chg_M0 hF) hbq ?_
  rw [wset_wset]
  exact kk
theorem m_putZ {idx k : Nat} {x : Int} {F' : Nat → Int} (hbq : K.G.base ≤ K.m) (hd : decode M.2.1 pc = .ok (.putfield idx, 3)) (hf : FL M.1.cls idx 5 k) (hk : (TX5 k).2.2.2 = false ∧ parseFieldDescriptor (TX5 k).2.2.1 = some .boolean) (hkl : k < 61) (hn : narrow .boolean (vI x) = vI x) (hft : fits .boolean (vI x) = true) (hF : mfs K.m F' K.P = (mfs K.m F K.P).set k (vI x)) (kk : VM K M (pc + 3) ls st F' A) : VM K M pc ls (vI x :: .ref K.m :: st) F A := by
  refine v_put (j := 0) (ty := .boolean) (obM F' K.P A) hd hf (fun C T N h => by cases h; exact hk) (wset_eq _ _ _) rfl (lay_M0 _ _ _ _) hkl hn hft (chg_M0 hF) hbq ?_
  rw [wset_wset]
  exact kk
theorem m_iald {i : Int} (j : Nat) {n : Nat} (hd : decode M.2.1 pc = .ok (.iaload, 1)) (h : MT[j]? = some (0, n)) (hi : 0 ≤ i ∧ i < (n : Int)) (hn : n < 2147483648) (kk : VM K M (pc + 1) ls (vI (A j i) :: st) F A) : VM K M pc ls (vI i :: .ref (K.m + (j + 1)) :: st) F A :=
  v_iald (j := j + 1) hd (wset_eq _ _ _) rfl (lay_MA j h) hi hn kk
theorem m_lald {i : Int} (j : Nat) {n : Nat} (hd : decode M.2.1 pc = .ok (.laload, 1)) (h : MT[j]? = some (1, n)) (hi : 0 ≤ i ∧ i < (n : Int)) (hn : n < 2147483648) (kk : VM K M (pc + 1) ls (vL (A j i) :: st) F A) : VM K M pc ls (vI i :: .ref (K.m + (j + 1)) :: st) F A :=
  v_lald (j := j + 1) hd (wset_eq _ _ _) rfl (lay_ML j h) hi hn kk
theorem m_iast {i x : Int} (j : Nat) {n : Nat} (hbq : K.G.base ≤ K.m) (hd : decode M.2.1 pc = .ok (.iastore, 1)) (h : MT[j]? = some (0, n)) (hi : 0 ≤ i ∧ i < (n : Int)) (hn : n < 2147483648) (kk : VM K M (pc + 1) ls st F (upA A j i x)) : VM K M pc ls (vI x :: vI i :: .ref (K.m + (j + 1)) :: st) F A := by
  refine v_iast (j := j + 1) (obM F K.P (upA A j i x)) hd (wset_eq _ _ _) rfl (lay_MA j h) hi hn (chg_MA j i x h) hbq ?_
  rw [wset_wset]
  exact kk
theorem m_last {i x : Int} (j : Nat) {n : Nat} (hbq : K.G.base ≤ K.m) (hd : decode M.2.1 pc = .ok (.lastore, 1)) (h : MT[j]? = some (1, n)) (hi : 0 ≤ i ∧ i < (n : Int)) (hn : n < 2147483648) (kk : VM K M (pc + 1) ls st F (upA A j i x)) : VM K M pc ls (vL x :: vI i :: .ref (K.m + (j + 1)) :: st) F A := by
  refine v_last (j := j + 1) (obM F K.P (upA A j i x)) hd (wset_eq _ _ _) rfl (lay_ML j h) hi hn (chg_ML j i x h) hbq ?_
  rw [wset_wset]
  exact kk
theorem m_rc : RC K.G (K.wd F A) K.m "BranchNamesModel" := ⟨_, _, 5, mfs K.m F K.P, TX5, 61, wset_eq _ _ _, lay_M0 _ _ _ _, Or.inl rfl, rfl⟩
theorem m_callI {idx np : Nat} {As st1 : List Value} {Mc : Mt} {Φ : Int → (Nat → Int) → (Nat → Int → Int) → Prop} (hd : decode M.2.1 pc = .ok (.invokevirtual idx, 3)) (hL : LkV M.1.cls idx "BranchNamesModel" Mc np) (hst : st = As.reverse ++ .ref K.m :: st1) (hn : As.length = np) (hsum : (st1.map fun v => v.category).sum ≤ 8) (h : RI Mc K (.ref K.m :: As) F A Φ)
    (kk : ∀ x F1 A1, Φ x F1 A1 → VM K M (pc + 3) ls (vI x :: st1) F1 A1) : VM K M pc ls st F A := by
  obtain ⟨d', hd', h⟩ := h
  refine v_callV hd hL hst hn hsum (m_rc K) hd' (h.mono ?_)
  rintro r w1 sz1 n1 ⟨x, F1, A1, rfl, rfl, rfl, rfl, h5⟩
  exact kk x F1 A1 h5
theorem m_callL {idx np : Nat} {As st1 : List Value} {Mc : Mt} {Φ : Int → (Nat → Int) → (Nat → Int → Int) → Prop} (hd : decode M.2.1 pc = .ok (.invokevirtual idx, 3)) (hL : LkV M.1.cls idx "BranchNamesModel" Mc np) (hst : st = As.reverse ++ .ref K.m :: st1) (hn : As.length = np) (hsum : (st1.map fun v => v.category).sum ≤ 8) (h : RL Mc K (.ref K.m :: As) F A Φ)
    (kk : ∀ x F1 A1, Φ x F1 A1 → VM K M (pc + 3) ls (vL x :: st1) F1 A1) : VM K M pc ls st F A := by
  obtain ⟨d', hd', h⟩ := h
  refine v_callV hd hL hst hn hsum (m_rc K) hd' (h.mono ?_)
  rintro r w1 sz1 n1 ⟨x, F1, A1, rfl, rfl, rfl, rfl, h5⟩
  exact kk x F1 A1 h5
theorem m_callV {idx np : Nat} {As st1 : List Value} {Mc : Mt} {Φ : (Nat → Int) → (Nat → Int → Int) → Prop} (hd : decode M.2.1 pc = .ok (.invokevirtual idx, 3)) (hL : LkV M.1.cls idx "BranchNamesModel" Mc np) (hst : st = As.reverse ++ .ref K.m :: st1) (hn : As.length = np) (hsum : (st1.map fun v => v.category).sum ≤ 8) (h : RV Mc K (.ref K.m :: As) F A Φ)
    (kk : ∀ F1 A1, Φ F1 A1 → VM K M (pc + 3) ls st1 F1 A1) : VM K M pc ls st F A := by
  obtain ⟨d', hd', h⟩ := h
  refine v_callV hd hL hst hn hsum (m_rc K) hd' (h.mono ?_)
  rintro r w1 sz1 n1 ⟨F1, A1, rfl, rfl, rfl, rfl, h5⟩
  exact kk F1 A1 h5
theorem m_callSI {idx np : Nat} {As st1 : List Value} {Mc : Mt} {Φ : Int → (Nat → Int) → (Nat → Int → Int) → Prop} (hd : decode M.2.1 pc = .ok (.invokestatic idx, 3)) (hL : LkS M.1.cls idx Mc np) (hst : st = As.reverse ++ st1) (hn : As.length = np) (hsum : (st1.map fun v => v.category).sum ≤ 8) (h : RI Mc K As F A Φ)
    (kk : ∀ x F1 A1, Φ x F1 A1 → VM K M (pc + 3) ls (vI x :: st1) F1 A1) : VM K M pc ls st F A := by
  obtain ⟨d', hd', h⟩ := h
  refine v_callS hd hL hst hn hsum hd' (h.mono ?_)
  rintro r w1 sz1 n1 ⟨x, F1, A1, rfl, rfl, rfl, rfl, h5⟩
  exact kk x F1 A1 h5
theorem m_callSL {idx np : Nat} {As st1 : List Value} {Mc : Mt} {Φ : Int → (Nat → Int) → (Nat → Int → Int) → Prop} (hd : decode M.2.1 pc = .ok (.invokestatic idx, 3)) (hL : LkS M.1.cls idx Mc np) (hst : st = As.reverse ++ st1) (hn : As.length = np) (hsum : (st1.map fun v => v.category).sum ≤ 8) (h : RL Mc K As F A Φ)
    (kk : ∀ x F1 A1, Φ x F1 A1 → VM K M (pc + 3) ls (vL x :: st1) F1 A1) : VM K M pc ls st F A := by
  obtain ⟨d', hd', h⟩ := h
  refine v_callS hd hL hst hn hsum hd' (h.mono ?_)
  rintro r w1 sz1 n1 ⟨x, F1, A1, rfl, rfl, rfl, rfl, h5⟩
  exact kk x F1 A1 h5
/-- a call through another object: a String -/
theorem m_callO {idx np b : Nat} {C : String} {As st1 : List Value} {Mc : Mt} {Φ : Int → (Nat → Int) → (Nat → Int → Int) → Prop} (hd : decode M.2.1 pc = .ok (.invokevirtual idx, 3)) (hL : LkV M.1.cls idx C Mc np) (hst : st = As.reverse ++ .ref b :: st1) (hn : As.length = np) (hsum : (st1.map fun v => v.category).sum ≤ 8) (h : RC K.G (K.wd F A) b C ∧ RI Mc K (.ref b :: As) F A Φ)
    (kk : ∀ x F1 A1, Φ x F1 A1 → VM K M (pc + 3) ls (vI x :: st1) F1 A1) : VM K M pc ls st F A := by
  obtain ⟨hrc, d', hd', h⟩ := h
  refine v_callV hd hL hst hn hsum hrc hd' (h.mono ?_)
  rintro r w1 sz1 n1 ⟨x, F1, A1, rfl, rfl, rfl, rfl, h5⟩
  exact kk x F1 A1 h5
theorem m_iret {x : Int} (hd : decode M.2.1 pc = .ok (.ireturn, 1)) (hr : M.2.2.2 = some .int) (hS : SI K x F A) : VM K M pc ls [vI x] F A := v_iret hd hr hS
theorem m_zret {x : Int} (hd : decode M.2.1 pc = .ok (.ireturn, 1)) (hr : M.2.2.2 = some .boolean) (hx : x = 0 ∨ x = 1) (hS : SI K x F A) : VM K M pc ls [vI x] F A :=
  v_zret hd hr (by rcases hx with rfl | rfl <;> rfl) hS
theorem m_lret {x : Int} (hd : decode M.2.1 pc = .ok (.lreturn, 1)) (hr : M.2.2.2 = some .long) (hS : SL K x F A) : VM K M pc ls [vL x] F A := v_lret hd hr hS
theorem m_vret (hd : decode M.2.1 pc = .ok (.return_, 1)) (hr : M.2.2.2 = none) (hS : SV K F A) : VM K M pc ls [] F A := v_vret hd hr hS
end VMM
section VMC
variable (K : KM) {M : Mt} {pc : Nat} {ls : List (Nat × Value)} {st : List Value} {F : Nat → Int} {A : Nat → Int → Int}
theorem chg_cpI {m : Nat} {F : Nat → Int} {P : Nat → Option Nat} {A : Nat → Int → Int} (j1 j2 : Nat) {n1 : Nat} (sp dp n : Int) (h : MT[j2]? = some (0, n1)) : Chg m (obM F P A) (obM F P (cpA A j1 j2 sp dp n)) (j2 + 1) (cA 0 n1 (fun j => vI (cpZ (A j1) (A j2) sp dp n j))) := by
  refine ⟨rfl, fun c e2 he => ?_⟩
  by_cases hi : c = j2 + 1
  · subst hi
    rw [lay_MA j2 h] at he
    refine Or.inl ⟨rfl, ?_⟩
    have h1 := Option.some.inj he
    rw [← h1]
    unfold cpA
    rw [if_pos rfl]
  · refine Or.inr ⟨hi, ?_⟩
    have h1 : layM m F P (cpA A j1 j2 sp dp n) c = some e2 := he
    show layM m F P A c = some e2
    unfold layM at h1 ⊢
    by_cases h0 : c = 0
    · rw [if_pos h0] at h1 ⊢
      exact h1
    · rw [if_neg h0] at h1 ⊢
      rw [show cpA A j1 j2 sp dp n (c - 1) = A (c - 1) from if_neg (show c - 1 ≠ j2 by omega)] at h1
      exact h1
theorem chg_cpL {m : Nat} {F : Nat → Int} {P : Nat → Option Nat} {A : Nat → Int → Int} (j1 j2 : Nat) {n1 : Nat} (sp dp n : Int) (h : MT[j2]? = some (1, n1)) : Chg m (obM F P A) (obM F P (cpA A j1 j2 sp dp n)) (j2 + 1) (cA 1 n1 (fun j => vL (cpZ (A j1) (A j2) sp dp n j))) := by
  refine ⟨rfl, fun c e2 he => ?_⟩
  by_cases hi : c = j2 + 1
  · subst hi
    rw [lay_ML j2 h] at he
    refine Or.inl ⟨rfl, ?_⟩
    have h1 := Option.some.inj he
    rw [← h1]
    unfold cpA
    rw [if_pos rfl]
  · refine Or.inr ⟨hi, ?_⟩
    have h1 : layM m F P (cpA A j1 j2 sp dp n) c = some e2 := he
    show layM m F P A c = some e2
    unfold layM at h1 ⊢
    by_cases h0 : c = 0
    · rw [if_pos h0] at h1 ⊢
      exact h1
    · rw [if_neg h0] at h1 ⊢
      rw [show cpA A j1 j2 sp dp n (c - 1) = A (c - 1) from if_neg (show c - 1 ≠ j2 by omega)] at h1
      exact h1
theorem m_copyI {idx n0 n1 : Nat} {sp dp nn : Int} (j1 j2 : Nat) (hbq : K.G.base ≤ K.m) (hd : decode M.2.1 pc = .ok (.invokestatic idx, 3)) (hlk : Cond.methodLink M.1.cls idx arraycopyName ∈ lw_all) (h0 : MT[j1]? = some (0, n0)) (h1 : MT[j2]? = some (0, n1)) (hs : 0 ≤ sp ∧ sp + nn ≤ (n0 : Int)) (hdp : 0 ≤ dp ∧ dp + nn ≤ (n1 : Int)) (hnn : 0 ≤ nn) (hn0 : n0 < 2147483648) (hn1 : n1 < 2147483648) (hdd : 1 ≤ K.d) (hsum : (st.map fun v => v.category).sum ≤ 8)
    (kk : VM K M (pc + 3) ls st F (cpA A j1 j2 sp dp nn)) : VM K M pc ls (vI nn :: vI dp :: .ref (K.m + (j2 + 1)) :: vI sp :: .ref (K.m + (j1 + 1)) :: st) F A := by
  refine v_copy (mk := fun z => vI z) (t := 0) (ty := .int) (j0 := j1 + 1) (j1 := j2 + 1) (f := A j1) (g := A j2) (obM F K.P (cpA A j1 j2 sp dp nn)) hd hlk q350 q349 q161 (fun _ => rfl) rfl (wset_eq _ _ _) rfl (lay_MA j1 h0) (wset_eq _ _ _) rfl (lay_MA j2 h1) hs hdp hnn hn0 hn1 (fun _ _ _ => rfl) (fun _ _ h => by cases h) (chg_cpI j1 j2 sp dp nn h1) hbq hdd hsum ?_
  rw [wset_wset]
  exact kk
theorem m_copyL {idx n0 n1 : Nat} {sp dp nn : Int} (j1 j2 : Nat) (hbq : K.G.base ≤ K.m) (hd : decode M.2.1 pc = .ok (.invokestatic idx, 3)) (hlk : Cond.methodLink M.1.cls idx arraycopyName ∈ lw_all) (h0 : MT[j1]? = some (1, n0)) (h1 : MT[j2]? = some (1, n1)) (hs : 0 ≤ sp ∧ sp + nn ≤ (n0 : Int)) (hdp : 0 ≤ dp ∧ dp + nn ≤ (n1 : Int)) (hnn : 0 ≤ nn) (hn0 : n0 < 2147483648) (hn1 : n1 < 2147483648) (hdd : 1 ≤ K.d) (hsum : (st.map fun v => v.category).sum ≤ 8)
    (kk : VM K M (pc + 3) ls st F (cpA A j1 j2 sp dp nn)) : VM K M pc ls (vI nn :: vI dp :: .ref (K.m + (j2 + 1)) :: vI sp :: .ref (K.m + (j1 + 1)) :: st) F A := by
  refine v_copy (mk := fun z => vL z) (t := 1) (ty := .long) (j0 := j1 + 1) (j1 := j2 + 1) (f := A j1) (g := A j2) (obM F K.P (cpA A j1 j2 sp dp nn)) hd hlk q350 q349 q161 (fun _ => rfl) rfl (wset_eq _ _ _) rfl (lay_ML j1 h0) (wset_eq _ _ _) rfl (lay_ML j2 h1) hs hdp hnn hn0 hn1 (fun _ _ _ => rfl) (fun _ _ h => by cases h) (chg_cpL j1 j2 sp dp nn h1) hbq hdd hsum ?_
  rw [wset_wset]
  exact kk
end VMC
