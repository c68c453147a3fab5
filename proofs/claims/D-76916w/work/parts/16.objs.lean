set_option maxRecDepth 100000
/-! references into arrays; a String's fields -/
theorem cat_rf (r : Option Nat) : (va_rf r).category = 1 := by cases r <;> rfl
/-- what may be stored in an array of type t -/
def StoA (G : GG) (w : Wd) (t a : Nat) : Prop := ∀ (H : Heap) (s : State) (sz : Nat), GoodW G w sz H → KK G s → ∃ cell : Cell, H[a]? = some cell ∧ (∀ q, cell.vm ≠ .statics q) ∧ (∃ kC : Class, s.vm.classes[cell.cls]? = some kC) ∧
  ∀ (kA : Class) (comp : ClassId) (ty : FieldType), s.vm.classes[G.tA t]? = some kA → kA.kind = .array comp ty → (∃ kc : Class, s.vm.classes[comp]? = some kc) ∧ s.vm.assignable cell.cls comp = true
def Sto (G : GG) (w : Wd) (t : Nat) (r : Option Nat) : Prop := ∃ a : Nat, r = some a ∧ StoA G w t a
section VQ
variable {l : Launch} {G : GG} {M : Mt} {d : Nat} {av : List Value} {sz0 : Nat} {S : Post} {pc : Nat} {ls : List (Nat × Value)} {st : List Value} {w : Wd} {sz n : Nat}
theorem v_aast {q j a n9 t : Nat} {i : Int} {r : Option Nat} {f : Int → Option Nat} {o : Ob} (ht : 3 ≤ t ∧ t < 11) (o' : Ob) (hd : decode M.2.1 pc = .ok (.aastore, 1)) (hw : w q = some o) (ha : a = q + j) (hl : lay q o j = some (cA t n9 (fQ f))) (hi : 0 ≤ i ∧ i < (n9 : Int)) (hn : n9 < 2147483648) (hs : Sto G w t r) (hch : Chg q o o' j (cA t n9 (fQ (upZ f i r)))) (hbq : G.base ≤ q) (kk : V l G M d av sz0 S (pc + 1) ls st (wset w q (some o')) sz n) : V l G M d av sz0 S pc ls (va_rf r :: vI i :: .ref a :: st) w sz n := by
  subst ha
  obtain ⟨v, rfl, hs⟩ := hs
  obtain ⟨h1, h2, h3, h4⟩ := vin_of hi hn
  refine kk.goW (fun {p e R s m below meth c H locs cells slots Q la} X hG hS hl1 kk => ?_)
  have hc := hG.cell hw hl
  have hK := X.2.2.2.2.2.2.2.1
  have harr : ∃ ty : FieldType, ty.isReference = true ∧ s.isArrayOf (arrV (G.tA t) n9 (fQ f)) ty := by
    obtain ⟨g1, g2⟩ := ht
    match t, g1, g2 with
    | 3, _, _ => exact ⟨_, rfl, (hK.1.2 3 _ rfl).1 n9 (fQ f)⟩
    | 4, _, _ => exact ⟨_, rfl, (hK.1.2 4 _ rfl).1 n9 (fQ f)⟩
    | 5, _, _ => exact ⟨_, rfl, (hK.1.2 5 _ rfl).1 n9 (fQ f)⟩
    | 6, _, _ => exact ⟨_, rfl, (hK.1.2 6 _ rfl).1 n9 (fQ f)⟩
    | 7, _, _ => exact ⟨_, rfl, (hK.1.2 7 _ rfl).1 n9 (fQ f)⟩
    | 8, _, _ => exact ⟨_, rfl, (hK.1.2 8 _ rfl).1 n9 (fQ f)⟩
    | 9, _, _ => exact ⟨_, rfl, (hK.1.2 9 _ rfl).1 n9 (fQ f)⟩
    | 10, _, _ => exact ⟨_, rfl, (hK.1.2 10 _ rfl).1 n9 (fQ f)⟩
    | t + 11, _, h => omega
  obtain ⟨ty, hty, -, kA, hkA, comp, hkind⟩ := harr
  obtain ⟨cell, g1, g2, ⟨kC, g3⟩, g4⟩ := hs H s sz hG hK
  obtain ⟨⟨kc, g5⟩, g6⟩ := g4 kA comp ty hkA hkind
  refine W.aast X.1 X.2.1 hc (fun q h => by cases h) (fun h => by cases h) hkA hkind hty g5 ⟨iI_neg0 hi.1 (by omega), by show _ < (arrV _ _ _).slots.size; rw [arrV_size, h2]; exact h4⟩ g1 g2 g3 g6 rfl rfl hd (fun H1 e1 e2 e3 => ?_)
  refine kk H1 _ (hG.put hw (lay_lt hl) hch.1 ?_ e2 e3 hbq hch.2) (hS.put e2 e3 (by show G.base ≤ q + j; omega))
  show H1[q + j]? = some _
  rw [e1, arrV_store, h2]
  congr 2
  funext z
  unfold updV upZ
  by_cases hz : z = i.toNat
  · subst hz
    rw [if_pos rfl]
    show _ = va_rf (if ((i.toNat : Nat) : Int) = i then some v else f ((i.toNat : Nat) : Int))
    rw [if_pos h3]
    rfl
  · rw [if_neg hz]
    show va_rf (f z) = va_rf (if ((z : Nat) : Int) = i then some v else f z)
    rw [if_neg (by omega)]
theorem v_aastN {q j a n9 t : Nat} {i : Int} {f : Int → Option Nat} {o : Ob} (ht : t = 4) (o' : Ob) (hd : decode M.2.1 pc = .ok (.aastore, 1)) (hw : w q = some o) (ha : a = q + j) (hl : lay q o j = some (cA t n9 (fQ f))) (hi : 0 ≤ i ∧ i < (n9 : Int)) (hn : n9 < 2147483648) (hch : Chg q o o' j (cA t n9 (fQ (upZ f i none)))) (hbq : G.base ≤ q) (kk : V l G M d av sz0 S (pc + 1) ls st (wset w q (some o')) sz n) : V l G M d av sz0 S pc ls (.null :: vI i :: .ref a :: st) w sz n := by
  subst ha
  subst ht
  obtain ⟨h1, h2, h3, h4⟩ := vin_of hi hn
  refine kk.goW (fun {p e R s m below meth c H locs cells slots Q la} X hG hS hl1 kk => ?_)
  have hc := hG.cell hw hl
  have hK := X.2.2.2.2.2.2.2.1
  refine va_WaastN X.1 X.2.1 hc ((hK.1.2 4 _ rfl).1 n9 (fQ f)) (fun h => by cases h) (by rw [arrV_size]; exact h1) rfl rfl hd (fun H1 e1 e2 e3 => ?_)
  refine kk H1 _ (hG.put hw (lay_lt hl) hch.1 ?_ e2 e3 hbq hch.2) (hS.put e2 e3 (by show G.base ≤ q + j; omega))
  show H1[q + j]? = some _
  rw [e1, arrV_store, h2]
  congr 2
  funext z
  unfold updV upZ
  by_cases hz : z = i.toNat
  · subst hz
    rw [if_pos rfl]
    show _ = va_rf (if ((i.toNat : Nat) : Int) = i then none else f ((i.toNat : Nat) : Int))
    rw [if_pos h3]
    rfl
  · rw [if_neg hz]
    show va_rf (f z) = va_rf (if ((z : Nat) : Int) = i then none else f z)
    rw [if_neg (by omega)]
/-- a String's bytes, its coder -/
theorem v_getS {idx k q b : Nat} {v : Value} (hd : decode M.2.1 pc = .ok (.getfield idx, 3)) (hf : FL M.1.cls idx 16 k) (hw : w q = some (obS b)) (hv : ([.ref b, vI 0] : List Value)[k]? = some v) (kk : V l G M d av sz0 S (pc + 3) ls (v :: st) w sz n) : V l G M d av sz0 S pc ls (.ref q :: st) w sz n := by
  obtain ⟨C, T, N, ty, hc, hin, hty, hnm, hk, ref, hlk, hsm⟩ := hf
  refine kk.goR (fun {p e R s m below meth c H locs cells slots Q la} X hG hS hl1 kk => ?_)
  obtain ⟨r9, cell, h1, q1, q2, q3, q4, q5⟩ := hG.cell (k := 0) hw (rfl : lay q (obS b) 0 = some (cW 16 [.ref b, vI 0]))
  have hr9 : r9 = (C, T, N) := Option.some.inj (h1.symm.trans hc)
  subst hr9
  obtain ⟨hx, hb, hml, hr, hlk9, hown, hts, hK, hsz9, hnm9⟩ := X
  obtain ⟨hSl, hfc, kC, hkC, hkind⟩ := hK.1.1 16 _ hc
  obtain ⟨cf, kf, fi, f, hi, hsl⟩ := hSl k hk
  have hst := (u_facts hfc hkC (u_lays hts hin hk) hi).1
  have hval : cell.slots[f.slot]? = some v := by rw [hsl]; exact q5 k v hv
  rcases hlk with hlk | ⟨host, hlk⟩
  · exact W.getf hx hb hown (hts _ hlk) (fl_same hts hsm _ hi) hst q1 q4 hval rfl rfl hd kk
  · exact va_Wgetf hx hb hown (va_Nw.use rfl (hK.2.1 _ hlk rfl)) (fl_same hts hsm _ hi) hst q1 q4 hval rfl rfl hd kk
theorem v_getS0 {idx q b : Nat} (hd : decode M.2.1 pc = .ok (.getfield idx, 3)) (hf : FL M.1.cls idx 16 0) (hw : w q = some (obS b)) (kk : V l G M d av sz0 S (pc + 3) ls (.ref b :: st) w sz n) : V l G M d av sz0 S pc ls (.ref q :: st) w sz n := v_getS hd hf hw rfl kk
theorem v_getS1 {idx q b : Nat} (hd : decode M.2.1 pc = .ok (.getfield idx, 3)) (hf : FL M.1.cls idx 16 1) (hw : w q = some (obS b)) (kk : V l G M d av sz0 S (pc + 3) ls (vI 0 :: st) w sz n) : V l G M d av sz0 S pc ls (.ref q :: st) w sz n := v_getS hd hf hw rfl kk
end VQ
/-- an object and the array behind it become one -/
theorem fuse2 {G : GG} {w : Wd} {sz q : Nat} {o1 o2 o : Ob} (hq : w q = some o1) (hq1 : w (q + 1) = some o2) (l1 : len o1 = 1) (l2 : len o2 = 1) (hlen : len o = 2) (h0 : ∀ e, lay q o 0 = some e → lay q o1 0 = some e) (h1 : ∀ e, lay q o 1 = some e → lay (q + 1) o2 0 = some e) : ∀ H : Heap, GoodW G w sz H → GoodW G (wset (wset w q (some o)) (q + 1) none) sz H := by
  intro H hG
  refine hG.fuse (q := q) (o := o) _ (fun a ha => ?_) ?_ (fun a h1 h2 => ?_) (fun a x ha hx => hG.2.2.2.2.2 a q x o1 hx hq ha) ?_ (fun j e hj => ?_)
  · rw [hlen] at ha
    rw [wset_ne _ _ (by omega), wset_ne _ _ (by omega)]
  · rw [wset_ne _ _ (by omega), wset_eq]
  · rw [hlen] at h2
    have : a = q + 1 := by omega
    subst this
    exact wset_eq _ _ _
  · have := hG.le hq1
    rw [hlen]
    omega
  · have hj2 := lay_lt hj
    rw [hlen] at hj2
    rcases (show j = 0 ∨ j = 1 by omega) with rfl | rfl
    · exact hG.cell hq (h0 e hj)
    · exact hG.cell (k := 0) hq1 (h1 e hj)
