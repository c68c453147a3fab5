set_option maxRecDepth 100000
/-! lambdas: sites, what they make -/
def LamAt (x : MethodName) (pc index : Nat) (σ : Lambda.Shape) (c : ClassId) (lk : Linked) (U : State) : Prop := ∃ (m : MethodId) (k : Class) (cf : ClassFile) (i0 p0 : Nat), U.methodNamed? x = some m ∧ U.vm.classes[m.cls]? = some k ∧ k.cf = some cf ∧ Lambda.shapeOf? cf index = some σ ∧ (k.callSites.find? fun y => y.1 == m.idx && y.2.1 == pc) = some (i0, p0, lk) ∧ Lambda.isMade { classPath := fun _ => none } U.vm m.cls σ c = true ∧ U.lambdaCallable σ c = true
theorem LamAt.moved {x : MethodName} {pc index : Nat} {σ : Lambda.Shape} {c : ClassId} {lk : Linked} {s U : State} (hW : s.WarmedH U.vm) (h : LamAt x pc index σ c lk s) : LamAt x pc index σ c lk U := by
  obtain ⟨m, k, cf, i0, p0, hm, hk, hcf, hsh, hfind, hmade, hcall⟩ := h
  obtain ⟨k', hk', he⟩ := hW.alike.2.2 _ _ hk
  refine ⟨m, k', cf, i0, p0, ?_, hk', by rw [he]; exact hcf, hsh, by rw [he]; exact hfind, Lambda.isMade_warmer hW hmade, ?_⟩
  · have := State.methodNamed?_setVm (s := s) hW.alike x
    rw [hm] at this
    exact this
  · have hA := hW.alike
    simp only [State.lambdaCallable, hA.findClass, hA.assignable, hA.superclasses, hA.declaredIn] at hcall ⊢
    exact hcall
theorem lam15 {α : Type} {x : Array Nat} {f : Nat → Nat → Nat → Option α} {r : α} (h : Lambda.shapeOf?.match_15 (fun _ => Option α) x f (fun _ => none) = some r) : ∃ a0 a1 a2, f a0 a1 a2 = some r := by
  obtain ⟨L⟩ := x
  match L, h with
  | [], h => cases h
  | [_], h => cases h
  | [_, _], h => cases h
  | [a, b, c], h => exact ⟨a, b, c, h⟩
  | _ :: _ :: _ :: _ :: _, h => cases h
theorem shape_site {cf : ClassFile} {index : Nat} {σ : Lambda.Shape} (h : Lambda.shapeOf? cf index = some σ) : ∃ (b nt : Nat) (desc : String) (site : MethodDescriptor), cf.constantPool[index]? = some (.invokeDynamic b nt) ∧ cf.constantPool.nameAndType? nt = some (σ.name, desc) ∧ parseMethodDescriptor desc = some site ∧ site.parameters = σ.captured := by
  unfold Lambda.shapeOf? at h
  split at h
  · rename_i b nt hc
    obtain ⟨e1, -, h⟩ := Option.bind_eq_some_iff.mp h
    obtain ⟨e2, -, h⟩ := Option.bind_eq_some_iff.mp h
    split at h
    · obtain ⟨e3, -, h⟩ := Option.bind_eq_some_iff.mp h
      obtain ⟨a0, a1, a2, h⟩ := lam15 h
      split at h
      · split at h
        · split at h
          · obtain ⟨⟨nm, desc⟩, hnt, h⟩ := Option.bind_eq_some_iff.mp h
            obtain ⟨site, hsite, h⟩ := Option.bind_eq_some_iff.mp h
            dsimp only at h
            split at h
            · obtain ⟨⟨i1, i2, i3, i4⟩, -, h⟩ := Option.bind_eq_some_iff.mp h
              obtain ⟨x1, -, h⟩ := Option.bind_eq_some_iff.mp h
              obtain ⟨x2, -, h⟩ := Option.bind_eq_some_iff.mp h
              obtain ⟨x3, -, h⟩ := Option.bind_eq_some_iff.mp h
              obtain ⟨x4, -, h⟩ := Option.bind_eq_some_iff.mp h
              obtain ⟨x5, -, h⟩ := Option.bind_eq_some_iff.mp h
              cases h
              exact ⟨b, nt, desc, site, hc, hnt, hsite, rfl⟩
            · cases h
          · cases h
        · cases h
      · cases h
    · cases h
  · cases h
section V16
variable {l : Launch} {G : GG} {M : Mt} {d : Nat} {av : List Value} {sz0 : Nat} {S : Post} {pc : Nat} {ls : List (Nat × Value)} {st : List Value} {w : Wd} {sz n : Nat}
/-- nothing is captured: the site's one object -/
theorem v_indyC {index : Nat} {σ : Lambda.Shape} {c : ClassId} {a : Nat} (hY : ∀ U : State, G.X U → LamAt M.1 pc index σ c (.constant a) U) (hd : decode M.2.1 pc = .ok (.invokedynamic index, 5)) (hsum : (st.map fun v => v.category).sum ≤ 8) (kk : V l G M d av sz0 S (pc + 5) ls (.ref a :: st) w sz n) : V l G M d av sz0 S pc ls st w sz n := by
  obtain ⟨r, w', sz', n', h1, h2, h3, k⟩ := kk
  refine ⟨r, w', sz', n', h1, h2, h3, fun p e s m below meth c C H locs la hG hS hl => ?_⟩
  obtain ⟨hx, hb, hml, hr, hlk9, hown, hts, hK, hsz9, hnm9⟩ := id C
  obtain ⟨m', kc, cf, i0, p0, hm, hkc, hcf, hsh, hfind, hmade, hcall⟩ := hY s hK.2.2.2.1
  cases hnm9.2.symm.trans hm
  intro T hT X
  obtain ⟨t, a1, b1⟩ := k p e s m below meth c C H locs la hG hS hl T hT X
  refine ⟨t, ?_, b1⟩
  exact X.lambdaConstant hx (g := F0 m pc la st) rfl (by rw [hml]; exact hl.1) (by rw [hb]; exact hd) hkc hfind (by rw [X.admits.platform]; show 2 * 0 + (st.map fun v => v.category).sum + 3072 ≤ 48 * d + 3200; omega) a1
end V16
abbrev obL (c : Nat) (k : Int) (p1 p2 : Option Nat) (z : Int) : Ob := (90, fun j => if j = 0 then k else z, fun j => if j = 0 then some c else if j = 1 then p1 else p2, nA, nB, nM, nN)
section V16M
variable {l : Launch} {G : GG} {M : Mt} {d : Nat} {av : List Value} {sz0 : Nat} {S : Post} {pc : Nat} {ls : List (Nat × Value)} {st : List Value} {w : Wd} {sz n : Nat}
/-- the types of what a site's class holds -/
def LamTy (c : ClassId) (T : Array FieldType) (U : State) : Prop := ∃ kc : Class, U.vm.classes[c]? = some kc ∧ kc.instanceTypes = T ∧ kc.kind = .ordinary
theorem v_indyM {index : Nat} {σ : Lambda.Shape} {c : ClassId} {T : Array FieldType} {vs st1 : List Value} (o : Ob) (hY : ∀ U : State, G.X U → LamAt M.1 pc index σ c (.makes c) U) (hT : ∀ U : State, G.X U → LamTy c T U) (hd : decode M.2.1 pc = .ok (.invokedynamic index, 5)) (hlen : vs.length = σ.captured.length) (hst : st = vs.reverse ++ st1) (hlo : len o = 1) (hlay : ∀ q, lay q o 0 = some (cX c vs)) (hnar : (T.toList.zip vs).map (fun q => narrow q.1 q.2) = vs) (hfit : ∀ (i : Nat) (v : Value), vs[i]? = some v → ∃ t : FieldType, T[i]? = some t ∧ fits t v = true) (hsum : (st.map fun v => v.category).sum ≤ 8) (hw : w sz = none)
    (kk : V l G M d av sz0 S (pc + 5) ls (.ref sz :: st1) (wset w sz (some o)) (sz + 1) (n + vs.length)) : V l G M d av sz0 S pc ls st w sz n := by
  obtain ⟨r, w', sz', n', h1, h2, h3, k⟩ := kk
  refine ⟨r, w', sz', n', h1, by omega, by omega, fun p e s m below meth c9 C9 H locs la hG hS hl => ?_⟩
  obtain ⟨hx, hb, hml, hr, hlk9, hown, hts, hK, hsz9, hnm9⟩ := id C9
  obtain ⟨m', kc, cf, i0, p0, hm, hkc, hcf, hsh, hfind, hmade, hcall⟩ := hY s hK.2.2.2.1
  obtain ⟨kL, hkL, hty, hkind⟩ := hT s hK.2.2.2.1
  cases hnm9.2.symm.trans hm
  obtain ⟨bsm, nt, desc, site, hc, hnt, hsite, hpar⟩ := shape_site hsh
  have hszH := hG.1
  have hsz0 : sz0 ≤ sz := by have := hS.1; rw [hsz9, hszH] at this; exact this
  intro T9 hT9 X
  have hslotsE : ((kL.instanceTypes.toList.zip vs).map fun (t, v) => narrow t v) = vs := by rw [hty]; exact hnar
  obtain ⟨X', st9⟩ := X.lambdaMakes hx (g := F0 m pc la st) rfl (by rw [hml]; exact hl.1) (by rw [hb]; exact hd) (vals := vs) (rest := st1) hkc hfind hcf hc hnt (parseLong_of_parse hsite) (by rw [hpar]; exact hlen) hst hkL
    (by rw [X.admits.platform]; show 2 * 0 + (st.map fun v => v.category).sum + 3072 ≤ 48 * d + 3200; omega) (by show sz - sz0 + 1 ≤ sz' - sz0; omega) (by rw [hslotsE]; show n + vs.length ≤ n'; omega)
    (fun i v hv => by
      rw [hslotsE] at hv
      have hv : vs[i]? = some v := by simpa using hv
      obtain ⟨t, ht, hf⟩ := hfit i v hv
      simp [State.fitsSlot, State.slotType?, hkL, hkind, hty, ht, hf])
  rw [hslotsE] at X' st9
  have hsT : T9.heap.size = sz := by rw [hT9]; exact hszH
  generalize hH1 : H.push ({ cls := c, slots := vs.toArray, vm := .none } : Cell) = H1
  have z1 : H1.size = H.size + 1 := by rw [← hH1, Array.size_push]
  have e1 : H1[H.size]? = some ({ cls := c, slots := vs.toArray, vm := .none } : Cell) := by rw [← hH1, Array.getElem?_push_size]
  have o1 : ∀ q : Nat, q < H.size → H1[q]? = H[q]? := fun q hq => by rw [← hH1, Array.getElem?_push, if_neg (Nat.ne_of_lt hq)]
  have hG1 := hG.push (H1 := H1) (o := o) (by rw [hlo, z1, hszH]) (fun x hx => o1 x (by omega)) (fun j e9 hj => by
    have := lay_raw0 hj hlo
    subst this
    rw [hlay] at hj
    cases hj
    rw [← hszH]
    exact e1)
  rw [hlo] at hG1
  have h9 := k p e s m below meth c9 C9 H1 locs la hG1 ⟨by rw [z1]; have := hS.1; omega, fun q h1 h2 => (o1 q (by have := hS.1; omega)).trans (hS.2.1 q h1 h2), hS.2.2⟩ hl
  rw [show sz + 1 - sz0 = sz - sz0 + 1 by omega] at h9
  have e3 : vs.toArray.size = vs.length := by simp
  rw [e3] at X'
  obtain ⟨t, b1, b2⟩ := h9 (T9.pushCell { cls := c, slots := vs.toArray, vm := .none }) (by rw [← hH1, ← hT9]; rfl) X'
  refine ⟨t, st9 t ?_, b2⟩
  rw [hsT]
  exact b1
end V16M
