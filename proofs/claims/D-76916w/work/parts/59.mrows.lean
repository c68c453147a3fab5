set_option maxRecDepth 100000
/-! tape, image, rows: calls of the reference -/
theorem getD_append {l r : List Int} {i : Nat} : (l ++ r).getD i 0 = if i < l.length then l.getD i 0 else r.getD (i - l.length) 0 := by
  by_cases h : i < l.length
  · rw [if_pos h, List.getD_eq_getElem?_getD, List.getElem?_append_left h, ← List.getD_eq_getElem?_getD]
  · rw [if_neg h, List.getD_eq_getElem?_getD, List.getElem?_append_right (by omega), ← List.getD_eq_getElem?_getD]
theorem o_feed {K : KM} (hk : MK K 2) {s : Sg} {F : Nat → Int} {A : Nat → Int → Int} (hV : SgOk s) (hM : MS s F A) {c : Int} (hc : rI c) {Φ : PI} (h : ∀ F' A', MS (opFeed s c).2 F' A' → Φ (opFeed s c).1 F' A') : RI mX5_feed K [.ref K.m, vI c] F A Φ := by
  obtain ⟨h1, h2, h3, h4, h5, h6, h7⟩ := hM.1
  have hlen := hV.2.2.2.1
  unfold opFeed at h
  refine RI.w (n := 1) hk (fun K1 hk1 hS => wX5_feed_0 K1 hk1.1 ⟨hc, c_isInM hk1 (by omega) (by decide) (by decide) (brz' (fun e => ?_) (fun e => hS _ _ _ ?_))⟩)
  · have he := of_decide_eq_true e
    rw [if_pos he] at h
    refine ⟨by omega, fun c2 => ⟨by omega, hS _ _ _ ?_⟩, fun c2 => hS _ _ _ ?_⟩
    · rw [if_neg (by omega)] at h
      have := h (upN F 31 (F 31 + 1)) (upA A 18 (F 31) c) ⟨⟨⟨by rw [upN_ne _ _ (by decide)]; exact h1.1, by rw [upA_ne _ _ _ (by decide)]; exact h1.2⟩, h2.fr (upN_ne _ _ (by decide)) (upA_ne _ _ _ (by decide)), ⟨?_, fun i hi => ?_⟩, ⟨by rw [upN_ne _ _ (by decide)]; exact h4.1, by rw [upA_ne _ _ _ (by decide)]; exact h4.2.1, by rw [upA_ne _ _ _ (by decide)]; exact h4.2.2⟩, by rw [upN_ne _ _ (by decide)]; exact h5, by rw [upN_ne _ _ (by decide)]; exact h6, fun r r1 r2 => by rw [upA_ne _ _ _ (by decide), upA_ne _ _ _ (by decide), upA_ne _ _ _ (by decide)]; exact h7 r r1 r2⟩, hM.2.fr (upN_ne _ _ (by decide)) (upA_ne _ _ _ (by decide)) (upA_ne _ _ _ (by decide))⟩
      · rw [h3.1] at this ⊢; exact this
      · rw [upN_eq, h3.1]
        show _ = ((s.tp ++ [c]).length : Int)
        rw [List.length_append, List.length_singleton]; omega
      · have hi : i < (s.tp ++ [c]).length := hi
        rw [List.length_append, List.length_singleton] at hi
        show _ = (s.tp ++ [c]).getD i 0
        rw [getD_append, h3.1]
        by_cases hi2 : i < s.tp.length
        · rw [if_pos hi2, upA_off _ _ _ (by omega)]; exact h3.2 i hi2
        · rw [if_neg hi2, show i = s.tp.length by omega, Int.zero_add, upA_at, Nat.sub_self]; rfl
    · rw [if_pos (by omega)] at h
      exact h F A hM
  · rw [if_neg (of_decide_eq_false e)] at h
    exact h F A hM
theorem o_clear {K : KM} (hk : MK K 1) {s : Sg} {F : Nat → Int} {A : Nat → Int → Int} (hM : MS s F A) {Φ : PI} (h : ∀ F' A', MS (opClear s).2 F' A' → Φ (opClear s).1 F' A') : RI mX5_clear K [.ref K.m] F A Φ := by
  obtain ⟨h1, h2, h3, h4, h5, h6, h7⟩ := hM.1
  refine RI.w (n := 0) hk (fun K1 hk1 hS => wX5_clear_0 K1 hk1.1 (hS _ _ _ ?_))
  rw [h3.1]
  exact h _ _ ⟨⟨⟨by rw [upN_ne _ _ (by decide)]; exact h1.1, h1.2⟩, h2.fr (upN_ne _ _ (by decide)) rfl, ⟨upN_eq _ _ _, fun i hi => by cases hi⟩, ⟨by rw [upN_ne _ _ (by decide)]; exact h4.1, h4.2⟩, by rw [upN_ne _ _ (by decide)]; exact h5, by rw [upN_ne _ _ (by decide)]; exact h6, h7⟩, hM.2.fr (upN_ne _ _ (by decide)) rfl rfl⟩
theorem getD_map {l : List (Int × Int)} {f : Int × Int → Int} {i : Nat} (h : i < l.length) : (l.map f).getD i 0 = f (l.getD i (0, 0)) := by
  rw [List.getD_eq_getElem?_getD, List.getD_eq_getElem?_getD, List.getElem?_map, List.getElem?_eq_getElem h]; rfl
theorem o_why {K : KM} (hk : MK K 2) {s : Sg} {F : Nat → Int} {A : Nat → Int → Int} (hV : SgOk s) (hM : MS s F A) {i w : Int} (hi : rI i) (hw : rI w) {Φ : PI} (h : Φ (opWhy s i w) F A) : RI mX5_why K [.ref K.m, vI i, vI w] F A Φ := by
  obtain ⟨h1, h2, h3, h4, h5, h6, h7⟩ := hM.1
  have hlen := hV.2.2.2.2.2.1.1
  unfold opWhy at h
  refine RI.w (n := 1) hk (fun K1 hk1 hS => wX5_why_0 K1 hk1.1 ?_)
  rw [h4.1]
  refine ⟨hi, by omega, c_isInM hk1 (by omega) (by decide) (by omega) (brz (fun e => hS _ _ _ ?_) (fun e => ⟨hw, c_isInM hk1 (by omega) (by decide) (by decide) (brz' (fun e2 => ?_) (fun e2 => hS _ _ _ ?_))⟩))⟩
  · rwa [if_neg (fun hh => of_decide_eq_false e hh.1)] at h
  · have he := of_decide_eq_true e
    have he2 := of_decide_eq_true e2
    rw [if_pos ⟨he, he2⟩] at h
    have q1 := h4.2.1 i.toNat (by rw [List.length_map]; omega)
    have q2 := h4.2.2 i.toNat (by rw [List.length_map]; omega)
    rw [getD_map (by omega), show (0 : Int) + ((i.toNat : Nat) : Int) = i by omega] at q1 q2
    refine ⟨fun c => ⟨by omega, hS _ _ _ ?_⟩, fun c => ⟨by omega, hS _ _ _ ?_⟩⟩
    · rw [if_neg c] at h; rw [q2]; exact h
    · rw [if_pos c] at h; rw [q1]; exact h
  · rwa [if_neg (fun hh => of_decide_eq_false e2 hh.2)] at h
theorem o_told {K : KM} (hk : MK K 1) {s : Sg} {F : Nat → Int} {A : Nat → Int → Int} (hM : MS s F A) {w : Int} (hw : rI w) {Φ : PI} (h : Φ (opTold s w) F A) : RI mX5_told K [.ref K.m, vI w] F A Φ := by
  obtain ⟨h1, h2, h3, h4, h5, h6, h7⟩ := hM.1
  unfold opTold at h
  refine RI.w (n := 0) hk (fun K1 hk1 hS => wX5_told_0 K1 hk1.1 ⟨hw, fun c => hS _ _ _ ?_, fun c => hS _ _ _ ?_, fun c => hS _ _ _ ?_, fun c => hS _ _ _ ?_, fun c => hS _ _ _ ?_⟩)
  · rw [if_pos c] at h; rw [h3.1]; exact h
  · rw [if_neg (by omega), if_pos c] at h; rw [h4.1]; exact h
  · rw [if_neg (by omega), if_neg (by omega), if_pos c] at h; rw [h6]; exact h
  · rw [if_neg (by omega), if_neg (by omega), if_neg (by omega), if_pos c] at h; rw [h5]; exact h
  · rwa [if_neg (by omega), if_neg (by omega), if_neg (by omega), if_neg (by omega)] at h
theorem cpA_at (A : Nat → Int → Int) (j1 j2 : Nat) (sp dp n : Int) {z : Int} (h : dp ≤ z ∧ z < dp + n) : cpA A j1 j2 sp dp n j2 z = A j1 (sp + (z - dp)) := by
  unfold cpA cpZ; rw [if_pos rfl, if_pos h]
theorem cpA_off (A : Nat → Int → Int) (j1 j2 : Nat) (sp dp n : Int) {z : Int} (h : ¬ (dp ≤ z ∧ z < dp + n)) : cpA A j1 j2 sp dp n j2 z = A j2 z := by
  unfold cpA cpZ; rw [if_pos rfl, if_neg h]
theorem cpA_ne (A : Nat → Int → Int) {j1 j2 j : Nat} (sp dp n : Int) (h : j ≠ j2) : cpA A j1 j2 sp dp n j = A j := by
  unfold cpA; rw [if_neg h]
theorem o_image {K : KM} (hk : MK K 2) {s : Sg} {F : Nat → Int} {A : Nat → Int → Int} (hM : MS s F A) {Φ : PI} (h : ∀ F' A', MS (opImage s).2 F' A' → Φ (opImage s).1 F' A') : RI mX5_image K [.ref K.m] F A Φ := by
  obtain ⟨h1, h2, h3, h4, h5, h6, h7⟩ := hM.1
  refine RI.w (n := 1) hk (fun K1 hk1 hS => wX5_image_0 K1 hk1.1 ⟨by have := hk1.2.2; omega, hS _ _ _ ?_⟩)
  rw [h1.1]
  have e := fun (j : Nat) (hj : j ≠ 2) => cpA_ne A (j1 := 1) (j2 := 2) (j := j) 0 0 13 hj
  refine h _ _ ⟨⟨⟨by rw [upN_ne _ _ (by decide)]; exact h1.1, by rw [e 1 (by decide)]; exact h1.2⟩, ⟨upN_eq _ _ _, h1.2.of fun a a1 a2 => ?_⟩, ⟨by rw [upN_ne _ _ (by decide)]; exact h3.1, by rw [e 18 (by decide)]; exact h3.2⟩, ⟨by rw [upN_ne _ _ (by decide)]; exact h4.1, by rw [e 33 (by decide)]; exact h4.2.1, by rw [e 34 (by decide)]; exact h4.2.2⟩, by rw [upN_ne _ _ (by decide)]; exact h5, by rw [upN_ne _ _ (by decide)]; exact h6, fun r r1 r2 => ?_⟩, hM.2.fr (upN_ne _ _ (by decide)) (e 3 (by decide)) (e 4 (by decide))⟩
  · rw [cpA_at _ _ _ _ _ _ (by omega)]; congr 1; omega
  · rw [e 35 (by decide), e 36 (by decide), e 37 (by decide)]; exact h7 r r1 r2
theorem o_undo {K : KM} (hk : MK K 2) {s : Sg} {F : Nat → Int} {A : Nat → Int → Int} (hV : SgOk s) (hM : MS s F A) {Φ : PI} (h : ∀ F' A', MS (opUndo s).2 F' A' → Φ (opUndo s).1 F' A') : RI mX5_undo K [.ref K.m] F A Φ := by
  obtain ⟨h1, h2, h3, h4, h5, h6, h7⟩ := hM.1
  refine RI.w (n := 1) hk (fun K1 hk1 hS => wX5_undo_0 K1 hk1.1 ?_)
  unfold opUndo at h
  cases ek : s.Kp with
  | none =>
    rw [ek] at h h2
    have h2 : F 5 = 0 := h2
    exact ⟨by omega, fun c => absurd h2 c, fun _ => hS _ _ _ (h F A hM)⟩
  | some T =>
    have hk2 := h2
    rw [ek] at h h2
    have h2 : F 5 = (T.1 : Int) ∧ BB T (A 2) := h2
    obtain ⟨⟨d, hT⟩, hT12⟩ := hV.2.2.1 T ek
    have hn1 := hT.n1
    refine ⟨by omega, fun _ => ⟨by have := hk1.2.2; omega, hS _ _ _ ?_⟩, fun c => by omega⟩
    rw [h2.1]
    have e := fun (j : Nat) (hj : j ≠ 1) => cpA_ne A (j1 := 2) (j2 := 1) (j := j) 0 0 13 hj
    refine h _ _ ⟨⟨⟨upN_eq _ _ _, h2.2.of fun a a1 a2 => ?_⟩, hk2.fr (upN_ne _ _ (by decide)) (e 2 (by decide)), ⟨by rw [upN_ne _ _ (by decide)]; exact h3.1, by rw [e 18 (by decide)]; exact h3.2⟩, ⟨by rw [upN_ne _ _ (by decide)]; exact h4.1, by rw [e 33 (by decide)]; exact h4.2.1, by rw [e 34 (by decide)]; exact h4.2.2⟩, by rw [upN_ne _ _ (by decide)]; exact h5, by rw [upN_ne _ _ (by decide)]; exact h6, fun r r1 r2 => ?_⟩, hM.2.fr (upN_ne _ _ (by decide)) (e 3 (by decide)) (e 4 (by decide))⟩
    · rw [cpA_at _ _ _ _ _ _ (by omega)]; congr 1; omega
    · rw [e 35 (by decide), e 36 (by decide), e 37 (by decide)]; exact h7 r r1 r2
/-! rows -/
theorem c_isRowM {K : KM} (hk : MK K 2) {r : Int} (hr : rI r) {F : Nat → Int} {A : Nat → Int → Int} {Φ : PI} (h : Φ (bz (isRw r)) F A) : RI mX5_isRow K [vI r] F A Φ :=
  RI.ws (n := 1) hk (fun K1 hk1 hS => wX5_isRow_0 K1 hk1.1 ⟨hr, c_isInM hk1 (by omega) (by decide) (by decide) ⟨bz01 _, hS _ _ _ h⟩⟩)
/-- one row is changed -/
theorem MSc.row {s : Sg} {F F' : Nat → Int} {A A' : Nat → Int → Int} (h : MSc s F A) (hF : agF Sf F F') (hA : agA (35 :: 36 :: 37 :: Sa) A A') {r : Int} (hr : 0 ≤ r ∧ r < 4) {p : Int × List Int} (hlen : p.2.length ≤ 40) (h35 : ∀ q, 0 ≤ q → q < 4 → A' 35 q = if q = r then p.1 else A 35 q) (h36 : ∀ q, 0 ≤ q → q < 4 → A' 36 q = if q = r then (p.2.length : Int) else A 36 q) (h37 : arr (A' 37) (40 * r) p.2) (hz : ∀ z, (z < 40 * r ∨ 40 * r + 40 ≤ z) → A' 37 z = A 37 z) (hV : ∀ q, 0 ≤ q → q < 4 → (s.rw q).2.length ≤ 40) : MSc (s.setR r p) F' A' := by
  obtain ⟨h1, h2, h3, h4, h5, h6, h7⟩ := h
  refine ⟨⟨by rw [hF 3 (by decide)]; exact h1.1, by rw [hA 1 (by decide)]; exact h1.2⟩, h2.fr (hF 5 (by decide)) (hA 2 (by decide)), ⟨by rw [hF 31 (by decide)]; exact h3.1, by rw [hA 18 (by decide)]; exact h3.2⟩, ⟨by rw [hF 56 (by decide)]; exact h4.1, by rw [hA 33 (by decide)]; exact h4.2.1, by rw [hA 34 (by decide)]; exact h4.2.2⟩, by rw [hF 32 (by decide)]; exact h5, by rw [hF 33 (by decide)]; exact h6, fun q q1 q2 => ?_⟩
  show A' 35 q = (if q = r then p else s.rw q).1 ∧ A' 36 q = ((if q = r then p else s.rw q).2.length : Int) ∧ arr (A' 37) (40 * q) (if q = r then p else s.rw q).2
  rw [h35 q q1 q2, h36 q q1 q2]
  by_cases e : q = r
  · subst e
    rw [if_pos rfl, if_pos rfl, if_pos rfl]; exact ⟨rfl, rfl, h37⟩
  · rw [if_neg e, if_neg e, if_neg e]
    have := h7 q q1 q2
    have hl := hV q q1 q2
    exact ⟨this.1, this.2.1, this.2.2.ext fun z z1 z2 => hz z (by omega)⟩
theorem rw_len {s : Sg} (hV : SgOk s) {q : Int} (h1 : 0 ≤ q) (h2 : q < 4) : (s.rw q).2.length ≤ 40 := (hV.2.2.2.2.2.2 q h1 h2).2.1
theorem o_put {K : KM} (hk : MK K 3) {s : Sg} {F : Nat → Int} {A : Nat → Int → Int} (hV : SgOk s) (hM : MS s F A) {r i v : Int} (hr : rI r) (hi : rI i) {Φ : PI} (h : ∀ F' A', MS (opPut s r i v).2 F' A' → Φ (opPut s r i v).1 F' A') : RI mX5_put K [.ref K.m, vI r, vI i, vL v] F A Φ := by
  unfold opPut at h
  refine RI.w (n := 2) hk (fun K1 hk1 hS => wX5_put_0 K1 hk1.1 (c_isRowM hk1 hr (brz' (fun e => ?_) (fun e => hS _ _ _ ?_))))
  rotate_left
  · have := h F A
    rw [if_neg (by rw [e]; decide)] at this
    exact this hM
  have he := of_decide_eq_true e
  rw [if_pos e] at h
  obtain ⟨h35, h36, h37⟩ := hM.1.2.2.2.2.2.2 r he.1 (by omega)
  have hl := rw_len hV he.1 (by omega : r < 4)
  have hso := (hV.2.2.2.2.2.2 r he.1 (by omega)).1
  rw [h35, h36]
  refine ⟨by omega, by omega, fun c => ⟨hi, by omega, c_isInM (hk1.le (by decide)) (by omega) (by decide) (by omega) (brz' (fun e2 => ?_) (fun e2 => hS _ _ _ ?_))⟩, fun c => hS _ _ _ ?_⟩
  · have he2 := of_decide_eq_true e2
    rw [if_neg c, if_pos he2] at h
    have hheld : RL mX5_held K1 [vI (s.rw r).1, vL v] F A fun r8 F8 A8 => (0 ≤ 40 * r + i ∧ 40 * r + i < 160) ∧ SI K1 1 F8 (upA A8 37 (40 * r + i) r8) := by
      have main : (0 ≤ 40 * r + i ∧ 40 * r + i < 160) ∧ SI K1 1 F (upA A 37 (40 * r + i) (heldI (s.rw r).1 v)) := by
        refine ⟨by omega, hS _ _ _ (h F _ ⟨hM.1.row (agF.rf _ _) ((agA.rf _ _).up (by decide)) ⟨he.1, by omega⟩ (by rw [tab_len]; exact hl) (fun q q1 q2 => ?_) (fun q q1 q2 => ?_) (arr_tab fun j hj => ?_) (fun z hz => upA_off _ _ _ (by omega)) (fun q q1 q2 => rw_len hV q1 q2), hM.2.fr rfl (upA_ne _ _ _ (by decide)) (upA_ne _ _ _ (by decide))⟩)⟩
        · rw [upA_ne _ _ _ (by decide)]
          by_cases e5 : q = r
          · rw [if_pos e5, e5]; exact h35
          · rw [if_neg e5]
        · rw [upA_ne _ _ _ (by decide)]
          by_cases e5 : q = r
          · rw [if_pos e5, e5, tab_len]; exact h36
          · rw [if_neg e5]
        · by_cases e5 : (j : Int) = i
          · rw [if_pos e5, e5, upA_at]
          · rw [if_neg e5, upA_off _ _ _ (by omega)]; exact h37 j hj
      refine RL.ws (n := 1) hk1 (fun K2 hk2 hS2 => wX5_held_0 K2 hk2.1 ⟨by omega, fun c3 => ⟨fun c4 => ⟨?_, hS2 _ _ _ ?_⟩, fun c4 => hS2 _ _ _ ?_⟩, fun c3 => hS2 _ _ _ ?_⟩)
      · exact iI_rng _
      · unfold heldI at main; rwa [if_neg c3, if_neg c4] at main
      · unfold heldI at main; rwa [if_neg c3, if_pos c4] at main
      · unfold heldI at main; rwa [if_pos c3] at main
    rw [h35]
    exact hheld
  · rw [if_neg c, if_neg (of_decide_eq_false e2)] at h
    exact h F A hM
  · rw [if_pos c] at h
    exact h F A hM
theorem o_get {K : KM} (hk : MK K 3) {s : Sg} {F : Nat → Int} {A : Nat → Int → Int} (hV : SgOk s) (hM : MS s F A) {r i : Int} (hr : rI r) (hi : rI i) {Φ : PI} (h : Φ (opGet s r i) F A) : RL mX5_get K [.ref K.m, vI r, vI i] F A Φ := by
  unfold opGet at h
  refine RL.w (n := 2) hk (fun K1 hk1 hS => wX5_get_0 K1 hk1.1 (c_isRowM hk1 hr (brz (fun e => hS _ _ _ ?_) (fun e => ?_))))
  · rwa [if_neg (fun hh => by rw [e] at hh; exact absurd hh.1 (by decide))] at h
  have he := of_decide_eq_true e
  obtain ⟨h35, h36, h37⟩ := hM.1.2.2.2.2.2.2 r he.1 (by omega)
  have hl := rw_len hV he.1 (by omega : r < 4)
  have hso := (hV.2.2.2.2.2.2 r he.1 (by omega)).1
  rw [h35, h36]
  refine ⟨by omega, by omega, fun c => hS _ _ _ ?_, fun c => ⟨hi, by omega, c_isInM (hk1.le (by decide)) (by omega) (by decide) (by omega) (brz (fun e2 => hS _ _ _ ?_) (fun e2 => ?_))⟩⟩
  · rwa [if_neg (fun hh => hh.2.1 c)] at h
  · rwa [if_neg (fun hh => of_decide_eq_false e2 hh.2.2)] at h
  · have he2 := of_decide_eq_true e2
    rw [if_pos ⟨e, c, he2⟩] at h
    have := h37 i.toNat (by omega)
    rw [show 40 * r + ((i.toNat : Nat) : Int) = 40 * r + i by omega] at this
    exact ⟨by omega, hS _ _ _ (by rw [this]; exact h)⟩
