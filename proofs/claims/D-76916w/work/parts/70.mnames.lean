set_option maxRecDepth 100000
/-! the branches of a level, named: the reference -/
/-- what lies below a level and below a text stays -/
def FRN (lv lq β : Int) (A A' : Nat → Int → Int) : Prop := agA [8, 9, 10, 11, 12, 13, 14, 15, 16, 17] A A' ∧ (∀ z, z < β → A' 10 z = A 10 z) ∧ (∀ z, z < 12 * lv → A' 11 z = A 11 z ∧ A' 12 z = A 12 z ∧ A' 13 z = A 13 z) ∧ (∀ z, z < 13 * lv → A' 14 z = A 14 z) ∧ (∀ z, z < 13 * lq → A' 17 z = A 17 z) ∧ (∀ z, z < lq → A' 15 z = A 15 z ∧ A' 16 z = A 16 z)
theorem FRN.rf (lv lq β : Int) (A : Nat → Int → Int) : FRN lv lq β A A := ⟨agA.rf _ _, fun _ _ => rfl, fun _ _ => ⟨rfl, rfl, rfl⟩, fun _ _ => rfl, fun _ _ => rfl, fun _ _ => ⟨rfl, rfl⟩⟩
theorem FRN.tr {lv lq β : Int} {A A1 A2 : Nat → Int → Int} (h : FRN lv lq β A A1) (k : FRN lv lq β A1 A2) : FRN lv lq β A A2 :=
  ⟨h.1.tr k.1, fun z hz => (k.2.1 z hz).trans (h.2.1 z hz), fun z hz => ⟨(k.2.2.1 z hz).1.trans (h.2.2.1 z hz).1, (k.2.2.1 z hz).2.1.trans (h.2.2.1 z hz).2.1, (k.2.2.1 z hz).2.2.trans (h.2.2.1 z hz).2.2⟩, fun z hz => (k.2.2.2.1 z hz).trans (h.2.2.2.1 z hz), fun z hz => (k.2.2.2.2.1 z hz).trans (h.2.2.2.2.1 z hz), fun z hz => ⟨(k.2.2.2.2.2 z hz).1.trans (h.2.2.2.2.2 z hz).1, (k.2.2.2.2.2 z hz).2.trans (h.2.2.2.2.2 z hz).2⟩⟩
theorem FRN.le {lv lq β lv' lq' β' : Int} {A A1 : Nat → Int → Int} (h : FRN lv' lq' β' A A1) (h1 : lv ≤ lv') (h2 : lq ≤ lq') (h3 : β ≤ β') : FRN lv lq β A A1 :=
  ⟨h.1, fun z hz => h.2.1 z (by omega), fun z hz => h.2.2.1 z (by omega), fun z hz => h.2.2.2.1 z (by omega), fun z hz => h.2.2.2.2.1 z (by omega), fun z hz => h.2.2.2.2.2 z (by omega)⟩
def NMC (T : Tr) (d : Int → Int → Int) (f : Nat) : Prop := ∀ (K : KM) (b from1 : Int) (F : Nat → Int) (A : Nat → Int → Int) (Φ : PI), MK K (3 * f + 20) → Tw T d 13 b from1 → szT T b from1 ≤ f → LM T F A → (0 ≤ F 26 ∧ F 26 + (szT T b from1 : Int) ≤ 12) → (0 ≤ F 19 ∧ F 19 + 1000 * (szT T b from1 : Int) ≤ 16384) →
  (∀ F' A', agF [16, 19] F F' → FRN (F 26) (F 26) (F 19) A A' → TX (F 19) (nm T f b from1) F' A' → Φ ((nm T f b from1).length : Int) F' A') → RI mX5_names K [.ref K.m, vI b, vI from1] F A Φ
abbrev brN (T : Tr) (f : Nat) (q : Int × Int × Int) : Int × List Int := (q.1, nm T f q.2.2 q.2.1)
/-- what is named so far -/
def NMD (T : Tr) (f : Nat) (D : List (Int × Int × Int)) (own top : Int) (A : Nat → Int → Int) : Prop := ∀ k : Nat, k < D.length → A 11 (own + (k : Int)) = (D.getD k (0, 0, 0)).1 ∧ NMat (own + (k : Int)) (brN T f (D.getD k (0, 0, 0))).2 A ∧ A 12 (own + (k : Int)) + ((brN T f (D.getD k (0, 0, 0))).2.length : Int) ≤ top
theorem NMD.snoc {T : Tr} {f : Nat} {D : List (Int × Int × Int)} {own top top' : Int} {A A' : Nat → Int → Int} (h : NMD T f D own top A) {q : Int × Int × Int} (htop : top ≤ top') (h11 : ∀ z, z < own + (D.length : Int) → A' 11 z = A 11 z ∧ A' 12 z = A 12 z ∧ A' 13 z = A 13 z) (h10 : ∀ z, z < top → A' 10 z = A 10 z) (hq : A' 11 (own + (D.length : Int)) = q.1 ∧ NMat (own + (D.length : Int)) (brN T f q).2 A' ∧ A' 12 (own + (D.length : Int)) + ((brN T f q).2.length : Int) ≤ top') : NMD T f (D ++ [q]) own top' A' := by
  intro k hk9
  rw [List.length_append, List.length_singleton] at hk9
  by_cases c : k < D.length
  · have e : (D ++ [q]).getD k (0, 0, 0) = D.getD k (0, 0, 0) := by
      rw [List.getD_eq_getElem?_getD, List.getElem?_append_left c, List.getD_eq_getElem?_getD]
    rw [e]
    obtain ⟨h1, h2, h3⟩ := h k c
    obtain ⟨e1, e2, e3⟩ := h11 (own + (k : Int)) (by omega)
    refine ⟨e1.trans h1, ⟨e3.trans h2.1, ?_⟩, by rw [e2]; omega⟩
    rw [e2]
    exact ⟨h2.2.1, h2.2.2.1, h2.2.2.2.ext fun z z1 z2 => h10 z (by omega)⟩
  · have e : (D ++ [q]).getD k (0, 0, 0) = q := by
      rw [show k = D.length by omega, List.getD_eq_getElem?_getD, List.getElem?_append_right (Nat.le_refl _), Nat.sub_self]; rfl
    rw [e, show k = D.length by omega]
    exact hq
theorem cpN_at {A : Nat → Int → Int} {j1 j2 : Nat} {sp dp n z : Int} (h : dp ≤ z ∧ z < dp + n) : cpA A j1 j2 sp dp n j2 z = A j1 (sp + (z - dp)) := by
  unfold cpA; rw [if_pos rfl]; unfold cpZ; rw [if_pos h]
theorem cpN_off {A : Nat → Int → Int} {j1 j2 : Nat} {sp dp n z : Int} (h : z < dp) : cpA A j1 j2 sp dp n j2 z = A j2 z := by
  unfold cpA; rw [if_pos rfl]; unfold cpZ; rw [if_neg (by omega)]
theorem cpN_ne {A : Nat → Int → Int} {j1 j2 j : Nat} {sp dp n : Int} (h : j ≠ j2) : cpA A j1 j2 sp dp n j = A j := if_neg h
theorem sum_part {D R B : List (Int × Int × Int)} {g : Int × Int × Int → Nat} {q : Int × Int × Int} (h : D ++ q :: R = B) : (D.map g).sum + g q ≤ (B.map g).sum ∧ D.length + 1 ≤ B.length ∧ q ∈ B := by
  subst h
  rw [List.map_append, List.sum_append, List.map_cons, List.sum_cons, List.length_append, List.length_cons]
  exact ⟨by omega, by omega, List.mem_append_right _ List.mem_cons_self⟩
theorem c_namesBranches {T : Tr} {d : Int → Int → Int} (h : TrOk T d) (h12 : T.1 ≤ 12) {f : Nat} (ih : NMC T d f) {K : KM} (hk : MK K (3 * f + 21)) {w : List Int} {a from1 e : Int} (g : GW2 T d a from1 e w) (t : Tw T d 13 a from1) (hsz : szT T a from1 ≤ f + 1) {F : Nat → Int} {A : Nat → Int → Int} {Φ : PI} (hL : LM T F A) (hC : CHN w F A) (hlv : 0 ≤ F 26 ∧ F 26 + (szT T a from1 : Int) ≤ 12) (hβ : 0 ≤ F 19 ∧ F 19 + 981 * (szT T a from1 : Int) ≤ 16384)
    (hΦ : ∀ F' A', agF [19] F F' → FRN (F 26) (F 26 + 1) (F 19) A A' → F 19 ≤ F' 19 → F' 19 ≤ F 19 + 19 * ((((brs T w from1).map fun t => szT T t.2.2 t.2.1).sum : Nat) : Int) → NMD T f (brs T w from1) (12 * F 26) (F' 19) A' → Φ ((brs T w from1).length : Int) F' A') : RI mX5_namesBranches K [.ref K.m, vI from1] F A Φ := by
  have hn := h.n1
  have hF := hL.1
  have gG : GCh T d w := ⟨a, g.1, g.2.2.1, g.2.2.2.1, g.2.2.2.2.1⟩
  have hlen := gG.len h from1
  have hin := gG.inT
  have h8 := brs_8 h h12 gG from1
  have hsum := br_sizes h g t
  have hszT : szT T a from1 ≤ 12 := by
    have := (pl_spec h 13 a from1 t).1.length_le_of_subset (l₂ := rg T.1) (fun x hx => by
      have := (((pl_spec h 13 a from1 t).2 x).mp hx).1
      exact mem_rgf.mpr ⟨this.1, by have := this.2; omega⟩)
    rw [len_rgf] at this
    show (pl T 13 a from1).length ≤ 12
    omega
  have hfr := t.rIa h
  refine RI.w (n := 3 * f + 20) hk (fun K1 hk1 hS => wX5_namesBranches_0 K1 hk1.1 ⟨by omega, by have := hk1.2.2; omega, ?_⟩)
  let Inv (D : List (Int × Int × Int)) (F' : Nat → Int) (A' : Nat → Int → Int) : Prop := agF [16, 19] F F' ∧ FRN (F 26) (F 26 + 1) (F 19) A A' ∧ arr (A' 14) (13 * F 26) w ∧ F 19 ≤ F' 19 ∧ F' 19 ≤ F 19 + 19 * (((D.map fun t => szT T t.2.2 t.2.1).sum : Nat) : Int) ∧ NMD T f D (12 * F 26) (F' 19) A'
  have key : ∀ (m k : Nat) (D : List (Int × Int × Int)) (F' : Nat → Int) (A' : Nat → Int → Int), k + m = w.length → Inv D F' A' → D ++ brsF T w from1 (k : Int) (w.drop k) = brs T w from1 → VM K1 mX5_namesBranches 44 [(0, .ref K1.m), (1, vI from1), (2, vI (12 * F 26)), (3, vI (D.length : Int)), (4, vI (F 16)), (5, vI (13 * F 26)), (6, vI (k : Int))] [] F' A' := by
    intro m
    induction m with
    | zero =>
      intro k D F' A' hkm hI hD
      obtain ⟨g1, g2, g3, g4, g5, g6⟩ := hI
      rw [List.drop_eq_nil_of_le (by omega)] at hD
      have hD : D ++ [] = brs T w from1 := hD
      rw [List.append_nil] at hD
      subst hD
      have e16 := hC.1
      refine wX5_namesBranches_44 K1 hk1.1 ⟨by omega, by omega, fun _ => hS _ _ _ ?_, fun c => by omega⟩
      have e19 : upN F' 16 (F 16) 19 = F' 19 := upN_ne _ _ (by decide)
      refine hΦ _ A' (fun j hj => ?_) g2 (by rw [e19]; exact g4) (by rw [e19]; exact g5) (by rw [e19]; exact g6)
      by_cases c : j = 16
      · subst c; exact upN_eq _ _ _
      · rw [upN_ne _ _ c]
        exact g1 j (by simp at hj ⊢; exact ⟨c, hj⟩)
    | succ m ihm =>
      intro k D F' A' hkm hI hD
      have hkw : k < w.length := by omega
      have hdrop : w.drop k = w.getD k 0 :: w.drop (k + 1) := by
        rw [List.drop_eq_getElem_cons hkw, List.getD_eq_getElem?_getD, List.getElem?_eq_getElem hkw]; rfl
      rw [hdrop] at hD
      have hD : D ++ ((brB T w from1 (w.getD k 0)).map (fun b => ((k : Int) + 1, w.getD k 0, b)) ++ brsF T w from1 ((k : Int) + 1) (w.drop (k + 1))) = brs T w from1 := hD
      rw [brB_eq T h] at hD
      have e16 := hC.1
      refine wX5_namesBranches_44 K1 hk1.1 ⟨by omega, by omega, fun c => by omega, fun _ => ?_⟩
      have inner : ∀ (j : Nat) (b : Int) (D : List (Int × Int × Int)) (F' : Nat → Int) (A' : Nat → Int → Int), 0 ≤ b → b + (j : Int) = (T.1 : Int) → Inv D F' A' → D ++ (((rgf b j).filter (fun b => (brB T w from1 (w.getD k 0)).contains b)).map (fun b => ((k : Int) + 1, w.getD k 0, b)) ++ brsF T w from1 ((k : Int) + 1) (w.drop (k + 1))) = brs T w from1 → VM K1 mX5_namesBranches 54 [(0, .ref K1.m), (1, vI from1), (2, vI (12 * F 26)), (3, vI (D.length : Int)), (4, vI (F 16)), (5, vI (13 * F 26)), (6, vI (k : Int)), (7, vI b)] [] F' A' := by
        intro j
        induction j with
        | zero =>
          intro b D F' A' q1 q2 hI hD
          rw [rgf, List.filter_nil, List.map_nil, List.nil_append] at hD
          have e1 : F' 1 = (T.1 : Int) := by rw [hI.1 1 (by decide)]; exact hF
          have := ihm (k + 1) D F' A' (by omega) hI hD
          exact wX5_namesBranches_54 K1 hk1.1 ⟨by omega, by omega, fun _ => this, fun c => by omega⟩
        | succ j ihj =>
          intro b D F' A' q1 q2 hI hD
          have hI' := hI
          obtain ⟨g1, g2, g3, g4, g5, g6⟩ := hI
          have e1 : F' 1 = (T.1 : Int) := by rw [g1 1 (by decide)]; exact hF
          have hb : inT T b := ⟨q1, by omega⟩
          rw [filt_step] at hD
          have ha0 : A' 0 = A 0 := g2.1 0 (by decide)
          refine wX5_namesBranches_54 K1 hk1.1 ⟨by omega, by omega, fun c => by omega, fun _ => ⟨by omega, by have := hk1.2.2; omega, ?_⟩⟩
          have hL2 : LM T (upN F' 16 (F 16)) (cpA A' 14 8 (13 * F 26) 0 13) := ⟨by rw [upN_ne _ _ (by decide)]; exact e1, by rw [cpN_ne (by decide), ha0]; exact hL.2⟩
          have hC2 : CHN w (upN F' 16 (F 16)) (cpA A' 14 8 (13 * F 26) 0 13) := ⟨by rw [upN_eq]; exact e16, fun i hi => by
            rw [cpN_at (by omega), show 13 * F 26 + (0 + (i : Int) - 0) = 13 * F 26 + (i : Int) by omega]; exact g3 i hi⟩
          have gcp : FRN (F 26) (F 26 + 1) (F 19) A (cpA A' 14 8 (13 * F 26) 0 13) := by
            refine g2.tr ⟨fun j hj => cpN_ne (fun hh => hj (by rw [hh]; decide)), fun z _ => by rw [cpN_ne (by decide)], fun z _ => ⟨by rw [cpN_ne (by decide)], by rw [cpN_ne (by decide)], by rw [cpN_ne (by decide)]⟩, fun z _ => by rw [cpN_ne (by decide)], fun z _ => by rw [cpN_ne (by decide)], fun z _ => ⟨by rw [cpN_ne (by decide)], by rw [cpN_ne (by decide)]⟩⟩
          have gF2 : agF [16, 19] F (upN F' 16 (F 16)) := g1.up (by decide)
          have e19 : upN F' 16 (F 16) 19 = F' 19 := upN_ne _ _ (by decide)
          have e26 : upN F' 16 (F 16) 26 = F 26 := by rw [upN_ne _ _ (by decide)]; exact g1 26 (by decide)
          have gD : NMD T f D (12 * F 26) (F' 19) (cpA A' 14 8 (13 * F 26) 0 13) := g6
          have hwk : rI (w.getD k 0) := by
            have := hin _ (getD_mem hkw); exact ⟨by have := this.1; omega, by have := this.2; omega⟩
          refine c_isBranch h (hk1.le (by omega)) hin (by omega) hkw hb hfr hL2 hC2 ⟨rI_bz _, ?_⟩
          by_cases cb : (brB T w from1 (w.getD k 0)).contains b = true
          · rw [cb]
            rw [if_pos cb, List.map_cons, List.cons_append] at hD
            refine ⟨fun c => absurd c (by decide), fun _ => ?_⟩
            obtain ⟨s1, s2, s3⟩ := sum_part (g := fun t => szT T t.2.2 t.2.1) hD
            obtain ⟨p1, p2, p3, p4, p5, -⟩ := br_facts h g s3
            have p4 : T.2 (w.getD k 0) b = true := p4
            have s1 : (D.map fun t => szT T t.2.2 t.2.1).sum + szT T b (w.getD k 0) ≤ ((brs T w from1).map fun t => szT T t.2.2 t.2.1).sum := s1
            have hTw : Tw T d 13 b (w.getD k 0) := Tw.edge h p4 (by omega)
            refine ⟨by omega, by omega, ?_⟩
            rw [e26, e19]
            have ek : (upA (upA (cpA A' 14 8 (13 * F 26) 0 13) 11 (12 * F 26 + (D.length : Int)) ((k : Int) + 1)) 12 (12 * F 26 + (D.length : Int)) (F' 19)) 14 (13 * F 26 + (k : Int)) = w.getD k 0 := by
              rw [upA_ne _ _ _ (by decide), upA_ne _ _ _ (by decide), cpN_ne (by decide)]; exact g3 k hkw
            rw [ek]
            generalize hA5 : upA (upA (cpA A' 14 8 (13 * F 26) 0 13) 11 (12 * F 26 + (D.length : Int)) ((k : Int) + 1)) 12 (12 * F 26 + (D.length : Int)) (F' 19) = A5
            generalize hF5 : upN (upN F' 16 (F 16)) 26 (F 26 + 1) = F5
            have f26 : F5 26 = F 26 + 1 := by rw [← hF5, upN_eq]
            have f19 : F5 19 = F' 19 := by rw [← hF5, upN_ne _ _ (by decide)]; exact e19
            have a11 : A5 11 (12 * F 26 + (D.length : Int)) = (k : Int) + 1 := by rw [← hA5, upA_ne _ _ _ (by decide), upA_at]
            have a12 : A5 12 (12 * F 26 + (D.length : Int)) = F' 19 := by rw [← hA5, upA_at]
            have aoff : ∀ j, j ≠ 11 → j ≠ 12 → A5 j = cpA A' 14 8 (13 * F 26) 0 13 j := fun j c1 c2 => by rw [← hA5, upA_ne _ _ _ c2, upA_ne _ _ _ c1]
            have a1x : ∀ z, z < 12 * F 26 + (D.length : Int) → A5 11 z = A' 11 z ∧ A5 12 z = A' 12 z ∧ A5 13 z = A' 13 z := fun z hz => by
              rw [← hA5]
              refine ⟨?_, ?_, ?_⟩
              · rw [upA_ne _ _ _ (by decide), upA_off _ _ _ (by omega), cpN_ne (by decide)]
              · rw [upA_off _ _ _ (by omega), upA_ne _ _ _ (by decide), cpN_ne (by decide)]
              · rw [upA_ne _ _ _ (by decide), upA_ne _ _ _ (by decide), cpN_ne (by decide)]
            have g7 : FRN (F 26) (F 26 + 1) (F 19) A A5 := by
              rw [← hA5]
              exact gcp.tr ⟨((agA.rf _ _).up (by decide)).up (by decide), fun z _ => by rw [upA_ne _ _ _ (by decide), upA_ne _ _ _ (by decide)], fun z hz => ⟨by rw [upA_ne _ _ _ (by decide), upA_off _ _ _ (by omega)], by rw [upA_off _ _ _ (by omega), upA_ne _ _ _ (by decide)], by rw [upA_ne _ _ _ (by decide), upA_ne _ _ _ (by decide)]⟩, fun z _ => by rw [upA_ne _ _ _ (by decide), upA_ne _ _ _ (by decide)], fun z _ => by rw [upA_ne _ _ _ (by decide), upA_ne _ _ _ (by decide)], fun z _ => ⟨by rw [upA_ne _ _ _ (by decide), upA_ne _ _ _ (by decide)], by rw [upA_ne _ _ _ (by decide), upA_ne _ _ _ (by decide)]⟩⟩
            have gF5 : ∀ j, j ≠ 26 → j ≠ 16 → j ≠ 19 → F5 j = F j := fun j c1 c2 c3 => by
              rw [← hF5, upN_ne _ _ c1, upN_ne _ _ c2]; exact g1 j (by simp; exact ⟨c2, c3⟩)
            have hL5 : LM T F5 A5 := ⟨by rw [gF5 1 (by decide) (by decide) (by decide)]; exact hF, by rw [g7.1 0 (by decide)]; exact hL.2⟩
            clear hA5 hF5
            refine ih K1 b (w.getD k 0) F5 A5 _ hk1 hTw (by omega) hL5 (by rw [f26]; omega) (by rw [f19]; omega) fun F8 A8 r1 r2 r3 => ?_
            rw [f26, f19] at r2
            rw [f19] at r3
            have hnl := nm_len h f b (w.getD k 0) hTw (by omega)
            have hby := nm_byt h f b (w.getD k 0) hTw
            have f26' : F8 26 = F 26 + 1 := by rw [r1 26 (by decide)]; exact f26
            rw [f26']
            have := ihj (b + 1) (D ++ [((k : Int) + 1, w.getD k 0, b)]) (upN F8 26 (F 26 + 1 - 1)) (upA A8 13 (12 * F 26 + (D.length : Int)) ((nm T f b (w.getD k 0)).length : Int)) (by omega) (by omega) ⟨?_, ?_, ?_, ?_, ?_, ?_⟩ (by rw [List.append_assoc]; exact hD)
            · rw [List.length_append, List.length_singleton] at this
              exact this
            · intro j hj
              by_cases c : j = 26
              · rw [c, upN_eq]; omega
              · rw [upN_ne _ _ c, r1 j hj]
                have hj2 : j ≠ 16 ∧ j ≠ 19 := by simpa using hj
                exact gF5 j c hj2.1 hj2.2
            · refine (g7.tr (r2.le (by omega) (by omega) (by omega))).tr ⟨(agA.rf _ _).up (by decide), fun z _ => by rw [upA_ne _ _ _ (by decide)], fun z hz => ⟨by rw [upA_ne _ _ _ (by decide)], by rw [upA_ne _ _ _ (by decide)], by rw [upA_off _ _ _ (by omega)]⟩, fun z _ => by rw [upA_ne _ _ _ (by decide)], fun z _ => by rw [upA_ne _ _ _ (by decide)], fun z _ => ⟨by rw [upA_ne _ _ _ (by decide)], by rw [upA_ne _ _ _ (by decide)]⟩⟩
            · refine g3.ext fun z z1 z2 => ?_
              rw [upA_ne _ _ _ (by decide), r2.2.2.2.1 z (by omega), aoff 14 (by decide) (by decide), cpN_ne (by decide)]
            · rw [upN_ne _ _ (by decide), r3.1]; omega
            · rw [upN_ne _ _ (by decide), r3.1, List.map_append, List.sum_append]
              show _ ≤ F 19 + 19 * (((D.map fun t => szT T t.2.2 t.2.1).sum + (szT T b (w.getD k 0) + 0) : Nat) : Int)
              omega
            · refine NMD.snoc g6 (by rw [upN_ne _ _ (by decide), r3.1]; omega) (fun z hz => ?_) (fun z hz => ?_) ⟨?_, ⟨upA_at _ _ _ _, ?_⟩, ?_⟩
              · obtain ⟨b1, b2, b3⟩ := r2.2.2.1 z (by omega)
                obtain ⟨c1, c2, c3⟩ := a1x z hz
                exact ⟨by rw [upA_ne _ _ _ (by decide), b1, c1], by rw [upA_ne _ _ _ (by decide), b2, c2], by rw [upA_off _ _ _ (by omega), b3, c3]⟩
              · rw [upA_ne _ _ _ (by decide), r2.2.1 z (by omega), aoff 10 (by decide) (by decide), cpN_ne (by decide)]
              · rw [upA_ne _ _ _ (by decide), (r2.2.2.1 _ (by omega)).1, a11]
              · rw [upA_ne A8 (k := 13) _ _ (show (12 : Nat) ≠ 13 by decide), (r2.2.2.1 _ (by omega)).2.1, a12]
                have hbl : (brN T f ((k : Int) + 1, w.getD k 0, b)).2.length = (nm T f b (w.getD k 0)).length := rfl
                refine ⟨⟨by omega, by omega⟩, hby, ?_⟩
                rw [upA_ne _ _ _ (by decide)]; exact r3.2
              · rw [upA_ne _ _ _ (by decide), (r2.2.2.1 _ (by omega)).2.1, a12, upN_ne _ _ (by decide), r3.1]
                exact Int.le_refl _
          · rw [Bool.not_eq_true] at cb
            rw [cb]
            rw [if_neg (by rw [cb]; decide)] at hD
            refine ⟨fun _ => ?_, fun c => absurd rfl c⟩
            refine ihj (b + 1) D _ _ (by omega) (by omega) ⟨gF2, gcp, ?_, by rw [e19]; exact g4, by rw [e19]; exact g5, by rw [e19]; exact gD⟩ hD
            rw [cpN_ne (by decide)]; exact g3
      exact inner T.1 0 D F' A' (by decide) (by omega) hI hD
  refine key w.length 0 [] F _ (by omega) ⟨agF.rf _ _, ⟨fun j hj => cpN_ne (fun hh => hj (by rw [hh]; decide)), fun z _ => by rw [cpN_ne (by decide)], fun z _ => ⟨by rw [cpN_ne (by decide)], by rw [cpN_ne (by decide)], by rw [cpN_ne (by decide)]⟩, fun z hz => cpN_off hz, fun z _ => by rw [cpN_ne (by decide)], fun z _ => ⟨by rw [cpN_ne (by decide)], by rw [cpN_ne (by decide)]⟩⟩, fun i hi => ?_, Int.le_refl _, by show _ ≤ F 19 + 19 * ((0 : Nat) : Int); omega, fun k hk9 => absurd hk9 (Nat.not_lt_zero _)⟩ (by rw [List.nil_append, List.drop_zero]; rfl)
  rw [cpN_at (by omega), show 0 + (13 * F 26 + (i : Int) - 13 * F 26) = (i : Int) by omega]
  have := hC.2 i hi
  rwa [Int.zero_add] at this
