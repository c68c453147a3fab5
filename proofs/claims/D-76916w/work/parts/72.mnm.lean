set_option maxRecDepth 100000
/-! the name of a twig: the reference -/
theorem cmpT_rI {s t : List Int} (hs : byt s) (ht : byt t) (h1 : (s.length : Int) ≤ 16384) (h2 : (t.length : Int) ≤ 16384) : rI (cmpT s t) := by
  have key : ∀ s t : List Int, byt s → byt t → -((t.length : Int) + 256) ≤ cmpT s t ∧ cmpT s t ≤ (s.length : Int) + 256 := by
    intro s
    induction s with
    | nil => intro t _ _; rw [cmpT_nil_l, List.length_nil]; omega
    | cons x s ih =>
      intro t h1 h2
      cases t with
      | nil => rw [cmpT_nil_r, List.length_cons, List.length_nil]; omega
      | cons y t =>
        have a1 := h1 x List.mem_cons_self
        have a2 := h2 y List.mem_cons_self
        have := ih t (fun c hc => h1 c (List.mem_cons_of_mem _ hc)) (fun c hc => h2 c (List.mem_cons_of_mem _ hc))
        rw [cmpT_cons, List.length_cons, List.length_cons]
        split <;> omega
  have := key s t hs ht
  omega
def mnO (o : Option (List Int)) (s : List Int) : Option (List Int) := match o with
  | none => some s
  | some b => some (if cmpT s b < 0 then s else b)
theorem foldO_some : ∀ (l : List (List Int)) (b : List Int), l.foldl mnO (some b) = some (l.foldl (fun best w => if cmpT w best < 0 then w else best) b)
  | [], _ => rfl
  | x :: l, b => by rw [List.foldl_cons, List.foldl_cons]; exact foldO_some l _
theorem foldO : ∀ {l : List (List Int)}, l ≠ [] → l.foldl mnO none = some (minT l)
  | [], h => absurd rfl h
  | x :: l, _ => by rw [List.foldl_cons]; exact foldO_some l x
theorem nameW_len {T : Tr} {d : Int → Int → Int} (h : TrOk T d) {f : Nat} {a from1 e : Int} {w : List Int} (g : GW2 T d a from1 e w) (t : Tw T d 13 a from1) (hsz : szT T a from1 ≤ f + 1) : (nameW T (fun b a => nm T f b a) w from1).length + 11 ≤ 19 * szT T a from1 := by
  have hn := h.n1
  have hsum := br_sizes h g t
  have gl := g.2.2.2.2.1
  have h1 := wholeT_len ((brs T w from1).map fun q => (q.1, nm T f q.2.2 q.2.1)) (w.length : Int) (decide (from1 = -1))
  rw [List.map_map] at h1
  have h2 : (((brs T w from1).map ((fun q : Int × List Int => q.2.length + 11) ∘ fun q => (q.1, nm T f q.2.2 q.2.1))).sum) ≤ 19 * ((brs T w from1).map fun t => szT T t.2.2 t.2.1).sum := by
    refine sum_le19 fun q hq => ?_
    obtain ⟨p1, p2, p3, p4, p5, -⟩ := br_facts h g hq
    have := sum_mem (g := fun t : Int × Int × Int => szT T t.2.2 t.2.1) hq
    exact nm_len h f q.2.2 q.2.1 (Tw.edge h p4 (by omega)) (by omega)
  show (wholeT ((brs T w from1).map fun q => (q.1, nm T f q.2.2 q.2.1)) (w.length : Int) (decide (from1 = -1))).length + 11 ≤ _
  omega
theorem nameW_byt {T : Tr} {d : Int → Int → Int} (h : TrOk T d) {f : Nat} {a from1 e : Int} {w : List Int} (g : GW2 T d a from1 e w) : byt (nameW T (fun b a => nm T f b a) w from1) := by
  have hn := h.n1
  have gG : GCh T d w := ⟨a, g.1, g.2.2.1, g.2.2.2.1, g.2.2.2.2.1⟩
  have hlen := gG.len h from1
  refine byt_whole fun q hq => ?_
  obtain ⟨p, hp, rfl⟩ := List.mem_map.mp hq
  obtain ⟨p1, p2, p3, p4, p5, -⟩ := br_facts h g hp
  exact ⟨by show 0 ≤ p.1 ∧ p.1 ≤ 99; omega, nm_byt h f _ _ (Tw.edge h p4 (by omega))⟩
theorem FRN.t89 {lv lq β : Int} {A A' : Nat → Int → Int} (h : agA [8, 9] A A') : FRN lv lq β A A' :=
  ⟨h.sb (by decide), fun z _ => by rw [h 10 (by decide)], fun z _ => ⟨by rw [h 11 (by decide)], by rw [h 12 (by decide)], by rw [h 13 (by decide)]⟩, fun z _ => by rw [h 14 (by decide)], fun z _ => by rw [h 17 (by decide)], fun z _ => ⟨by rw [h 15 (by decide)], by rw [h 16 (by decide)]⟩⟩
/-- a better name is brought to its place -/
theorem names_copy {K1 : KM} {n : Nat} (hk1 : MK K1 n) {x1 x2 x5 x6 t0 t1 : Int} {l : List Int} (h0 : 0 ≤ t0 ∧ t0 ≤ t1 ∧ t1 + (l.length : Int) ≤ 16384) {F' : Nat → Int} {A' : Nat → Int → Int} (hA : arr (A' 10) t1 l) (hS : ∀ A2, agA [10] A' A2 → (∀ z, z < t0 → A2 10 z = A' 10 z) → arr (A2 10) t0 l → VM K1 mX5_names 29 [(0, .ref K1.m), (1, vI x1), (2, vI x2), (3, vI t0), (4, vI (l.length : Int)), (5, vI x5), (6, vI (x6 + 1))] [] F' A2) : VM K1 mX5_names 131 [(0, .ref K1.m), (1, vI x1), (2, vI x2), (3, vI t0), (5, vI x5), (6, vI x6), (7, vI (l.length : Int)), (8, vI t1), (9, vI 0)] [] F' A' := by
  have key : ∀ (m k : Nat) (A2 : Nat → Int → Int), k + m = l.length → agA [10] A' A2 → (∀ z, z < t0 → A2 10 z = A' 10 z) → (∀ i : Nat, i < k → A2 10 (t0 + (i : Int)) = l.getD i 0) → (∀ i : Nat, k ≤ i → i < l.length → A2 10 (t1 + (i : Int)) = l.getD i 0) → VM K1 mX5_names 131 [(0, .ref K1.m), (1, vI x1), (2, vI x2), (3, vI t0), (5, vI x5), (6, vI x6), (7, vI (l.length : Int)), (8, vI t1), (9, vI (k : Int))] [] F' A2 := by
    intro m
    induction m with
    | zero =>
      intro k A2 hkm g1 g2 g3 g4
      exact wX5_names_131 K1 hk1.1 ⟨by omega, by omega, fun _ => hS A2 g1 g2 fun i hi => g3 i (by omega), fun c => by omega⟩
    | succ m ih =>
      intro k A2 hkm g1 g2 g3 g4
      refine wX5_names_131 K1 hk1.1 ⟨by omega, by omega, fun c => by omega, fun _ => ⟨by omega, by omega, ?_⟩⟩
      have := ih (k + 1) (upA A2 10 (t0 + (k : Int)) (A2 10 (t1 + (k : Int)))) (by omega) (g1.up (by decide)) (fun z hz => by rw [upA_off _ _ _ (by omega)]; exact g2 z hz) (fun i hi => ?_) (fun i hi hi2 => ?_)
      · exact this
      · by_cases c : i = k
        · rw [c, upA_at]; exact g4 k (by omega) (by omega)
        · rw [upA_off _ _ _ (by omega)]; exact g3 i (by omega)
      · rw [upA_off _ _ _ (by omega)]; exact g4 i (by omega) hi2
  exact key l.length 0 A' (by omega) (agA.rf _ _) (fun _ _ => rfl) (fun i hi => absurd hi (Nat.not_lt_zero _)) (fun i _ hi => hA i hi)
/-- the best name so far -/
def OB (t0 : Int) (S : Nat) (o : Option (List Int)) (x4 : Int) (A : Nat → Int → Int) : Prop := (o = none ∧ x4 = -1) ∨ ∃ s, o = some s ∧ x4 = (s.length : Int) ∧ PC10 t0 s A ∧ s.length + 11 ≤ 19 * S
theorem OB.rng {t0 : Int} {S : Nat} {o : Option (List Int)} {x4 : Int} {A : Nat → Int → Int} (h : OB t0 S o x4 A) : -1 ≤ x4 ∧ max 0 x4 ≤ 19 * (S : Int) ∧ 0 ≤ max 0 x4 := by
  rcases h with ⟨-, h⟩ | ⟨s, -, h1, -, h2⟩
  · rw [h]; exact ⟨by decide, by have : max (0 : Int) (-1) = 0 := rfl; omega, by decide⟩
  · rw [h1]; refine ⟨by omega, by omega, by omega⟩
theorem OB.fr {t0 : Int} {S : Nat} {o : Option (List Int)} {x4 : Int} {A A' : Nat → Int → Int} (h : OB t0 S o x4 A) (hz : ∀ z, t0 ≤ z → z < t0 + max 0 x4 → A' 10 z = A 10 z) : OB t0 S o x4 A' := by
  rcases h with h | ⟨s, e, h1, h2, h3⟩
  · exact Or.inl h
  · exact Or.inr ⟨s, e, h1, ⟨h2.1, h2.2.1, h2.2.2.ext fun z z1 z2 => hz z z1 (by omega)⟩, h3⟩
theorem nmc_all {T : Tr} {d : Int → Int → Int} (h : TrOk T d) (h12 : T.1 ≤ 12) : ∀ f : Nat, NMC T d f := by
  have hn := h.n1
  intro f
  induction f with
  | zero =>
    intro K b from1 F A Φ hk t hsz
    exfalso
    have : b ∈ pl T 13 b from1 := ((pl_spec h 13 b from1 t).2 b).mpr ⟨t.1, inTw.self h t⟩
    have := List.length_pos_of_mem this
    have e : szT T b from1 = (pl T 13 b from1).length := rfl
    omega
  | succ f ih =>
    intro K b from1 F A Φ hk t hsz hL hlv hβ hΦ
    have hF := hL.1
    have hb := t.1
    have hfr := t.rIa h
    have hS1 : 1 ≤ szT T b from1 := List.length_pos_of_mem (((pl_spec h 13 b from1 t).2 b).mpr ⟨t.1, inTw.self h t⟩)
    have hlv13 : 0 ≤ F 26 ∧ F 26 < 13 := by omega
    have hS12 : szT T b from1 ≤ 12 := by omega
    refine RI.w (n := 3 * f + 22) (hk.le (by omega)) (fun K1 hk1 hS => wX5_names_0 K1 hk1.1 (c_findsBest h (hk1.le (by omega)) t hL hlv13 fun F0 A0 k1 k2 k3 k4 k5 => ?_))
    let NW : List Int → List Int := fun w => nameW T (fun b a => nm T f b a) w from1
    let ib : List Int → Bool := fun w => decide (lexI (keyW T w from1) (bstK T b from1) = 0)
    let Inv (o : Option (List Int)) (x4 : Int) (F' : Nat → Int) (A' : Nat → Int → Int) : Prop := agF [16, 19] F F' ∧ FRN (F 26) (F 26) (F 19) A A' ∧ BK (F 26) (bstK T b from1) A' ∧ OB (F 19) (szT T b from1) o x4 A'
    have outer : ∀ (m : Nat) (a : Int) (o : Option (List Int)) (x4 : Int) (F' : Nat → Int) (A' : Nat → Int → Int), 0 ≤ a → a + (m : Int) = (T.1 : Int) → ((((rgf a m).flatMap (fun a => if stA b from1 a then waysA T from1 a else [])).filter ib).map NW).foldl mnO o = some (nm T (f + 1) b from1) → Inv o x4 F' A' → VM K1 mX5_names 17 [(0, .ref K1.m), (1, vI b), (2, vI from1), (3, vI (F 19)), (4, vI x4), (5, vI a)] [] F' A' := by
      intro m
      induction m with
      | zero =>
        intro a o x4 F' A' h1 h2 h3 hI
        obtain ⟨g1, g2, g3, g4⟩ := hI
        have h3 : o = some (nm T (f + 1) b from1) := h3
        have e1 : F' 1 = (T.1 : Int) := by rw [g1 1 (by decide)]; exact hF
        refine wX5_names_17 K1 hk1.1 ⟨by omega, by omega, fun _ => hS _ _ _ ?_, fun c => by omega⟩
        rcases g4 with ⟨h4, -⟩ | ⟨s, h4, h5, h6, -⟩
        · rw [h3] at h4; cases h4
        · rw [h3] at h4
          have e := Option.some.inj h4
          subst e
          rw [h5]
          exact hΦ _ _ (g1.up (by decide)) g2 ⟨upN_eq _ _ _, h6.2.2⟩
      | succ m ihm =>
        intro a o x4 F' A' h1 h2 h3 hI
        have ha : inT T a := ⟨h1, by omega⟩
        have e1 : F' 1 = (T.1 : Int) := by rw [hI.1 1 (by decide)]; exact hF
        rw [rgf, List.flatMap_cons, List.filter_append, List.map_append, List.foldl_append] at h3
        refine wX5_names_17 K1 hk1.1 ⟨by omega, by omega, fun c => by omega, fun _ => ?_⟩
        have inner : ∀ (j : Nat) (e : Int) (o : Option (List Int)) (x4 : Int) (F' : Nat → Int) (A' : Nat → Int → Int), 0 ≤ e → e + (j : Int) = (T.1 : Int) → ((((rgf (a + 1) m).flatMap (fun a => if stA b from1 a then waysA T from1 a else [])).filter ib).map NW).foldl mnO ((((if stA b from1 a then ((rgf e j).filter fun e => decide (0 ≤ fo T 13 a e from1)).map (fun e => pth T 13 a e from1) else []).filter ib).map NW).foldl mnO o) = some (nm T (f + 1) b from1) → Inv o x4 F' A' → VM K1 mX5_names 29 [(0, .ref K1.m), (1, vI b), (2, vI from1), (3, vI (F 19)), (4, vI x4), (5, vI a), (6, vI e)] [] F' A' := by
          intro j
          induction j with
          | zero =>
            intro e o x4 F' A' q1 q2 q3 hI
            have e1 : F' 1 = (T.1 : Int) := by rw [hI.1 1 (by decide)]; exact hF
            refine wX5_names_29 K1 hk1.1 ⟨by omega, by omega, fun _ => ihm (a + 1) o x4 F' A' (by omega) (by omega) ?_ hI, fun c => by omega⟩
            rw [rgf, List.filter_nil, List.map_nil, ite_self, List.filter_nil, List.map_nil, List.foldl_nil] at q3
            exact q3
          | succ j ihj =>
            intro e o x4 F' A' q1 q2 q3 hI
            have e1 : F' 1 = (T.1 : Int) := by rw [hI.1 1 (by decide)]; exact hF
            have he : inT T e := ⟨q1, by omega⟩
            refine wX5_names_29 K1 hk1.1 ⟨by omega, by omega, fun c => by omega, fun _ => c_isStart (hk1.le (by omega)) (by omega) (by omega) hfr (brz (fun hst => ?_) (fun hst => ?_))⟩
            · refine ihm (a + 1) o x4 F' A' (by omega) (by omega) ?_ hI
              rw [if_neg (by rw [show stA b from1 a = false from hst]; decide), List.filter_nil, List.map_nil, List.foldl_nil] at q3
              exact q3
            · have hta := t.of h ha hst
              have hwsz := way_size h t hta hst
              rw [if_pos hst] at q3
              obtain ⟨g1, g2, g3, g4⟩ := id hI
              have hL' : LM T F' A' := ⟨e1, by rw [g2.1 0 (by decide)]; exact hL.2⟩
              rw [filt_step] at q3
              have hrg := g4.rng
              refine c_lays h (hk1.le (by omega)) he hta hL' (fun hfo A2 p1 p2 => ?_) (fun hfo A2 p1 => ?_)
              · have hgw := pth_good2 h hta he hfo
                have hgood : GCh T d (pth T 13 a e from1) := ⟨a, hgw.1, hgw.2.2.1, hgw.2.2.2.1, hgw.2.2.2.2.1⟩
                rw [if_pos (decide_eq_true hfo), List.map_cons, List.filter_cons] at q3
                have e26 : F' 26 = F 26 := g1 26 (by decide)
                have e26' : upN F' 16 ((pth T 13 a e from1).length : Int) 26 = F 26 := by rw [upN_ne _ _ (by decide)]; exact e26
                have hL2 : LM T (upN F' 16 ((pth T 13 a e from1).length : Int)) A2 := ⟨by rw [upN_ne _ _ (by decide)]; exact e1, by rw [p1 0 (by decide)]; exact hL'.2⟩
                have hB2 : BK (F 26) (bstK T b from1) A2 := g3.fr (by rw [p1 15 (by decide)]) (by rw [p1 16 (by decide)]) (fun z _ _ => by rw [p1 17 (by decide)])
                refine ⟨by decide, fun c => absurd c (by decide), fun _ => c_isBetter h (hk1.le (by omega)) hgood hfr hL2 p2 (by rw [e26']; exact hlv13) (by rw [e26']; exact hB2) fun A3 p3 p4 => ⟨p4, fun c => ?_, fun c => ?_⟩⟩
                · have ei : ib (pth T 13 a e from1) = false := decide_eq_false c
                  rw [if_neg (by rw [ei]; decide)] at q3
                  refine ihj (e + 1) o x4 _ A3 (by omega) (by omega) (by rw [if_pos hst]; exact q3) ⟨g1.up (by decide), g2.tr (FRN.t89 ((p1.sb (by decide)).tr (p3.sb (by decide)))), ?_, ?_⟩
                  · exact hB2.fr (by rw [p3 15 (by decide)]) (by rw [p3 16 (by decide)]) (fun z _ _ => by rw [p3 17 (by decide)])
                  · exact g4.fr fun z _ _ => by rw [p3 10 (by decide), p1 10 (by decide)]
                · have ei : ib (pth T 13 a e from1) = true := decide_eq_true c
                  rw [if_pos ei, List.map_cons, List.foldl_cons] at q3
                  refine ⟨by omega, by have := hk1.2.2; omega, hfr, ?_⟩
                  have hL3 : LM T (upN (upN F' 16 ((pth T 13 a e from1).length : Int)) 19 (F 19 + max 0 x4)) A3 := ⟨by rw [upN_ne _ _ (by decide)]; exact hL2.1, by rw [p3 0 (by decide)]; exact hL2.2⟩
                  have hC3 : CHN (pth T 13 a e from1) (upN (upN F' 16 ((pth T 13 a e from1).length : Int)) 19 (F 19 + max 0 x4)) A3 := ⟨by rw [upN_ne _ _ (by decide)]; exact p2.1, by rw [p3 8 (by decide)]; exact p2.2⟩
                  have f26 : upN (upN F' 16 ((pth T 13 a e from1).length : Int)) 19 (F 19 + max 0 x4) 26 = F 26 := by rw [upN_ne _ _ (by decide)]; exact e26'
                  have hF6 : agF [16, 19] F (upN (upN F' 16 ((pth T 13 a e from1).length : Int)) 19 (F 19 + max 0 x4)) := (g1.up (by decide)).up (by decide)
                  have g2' : FRN (F 26) (F 26) (F 19) A A3 := g2.tr (FRN.t89 ((p1.sb (by decide)).tr (p3.sb (by decide))))
                  have hB3 : BK (F 26) (bstK T b from1) A3 := hB2.fr (by rw [p3 15 (by decide)]) (by rw [p3 16 (by decide)]) (fun z _ _ => by rw [p3 17 (by decide)])
                  have g4' : OB (F 19) (szT T b from1) o x4 A3 := g4.fr fun z _ _ => by rw [p3 10 (by decide), p1 10 (by decide)]
                  have hlW := nameW_len h (f := f) hgw hta (by omega)
                  have hbW := nameW_byt h (f := f) (from1 := from1) hgw
                  rw [hwsz] at hlW
                  have nb : RI mX5_namesBy K1 [.ref K1.m, vI from1, vI (bz (decide (from1 = -1)))] (upN (upN F' 16 ((pth T 13 a e from1).length : Int)) 19 (F 19 + max 0 x4)) A3 (fun r11 F11 A11 => (x4 = ((-1)) → (VM K1 mX5_names 131 [(0, .ref K1.m), (1, vI b), (2, vI from1), (3, vI (F 19)), (5, vI a), (6, vI e), (7, vI r11), (8, vI (F 19 + (max 0 x4))), (9, vI 0)] [] F11 A11)) ∧ (¬ x4 = ((-1)) → (RI mX5_compares K1 [.ref K1.m, vI (F 19 + (max 0 x4)), vI r11, vI (F 19), vI x4] F11 A11 fun r12 F12 A12 => (rI r12) ∧ ((0 ≤ r12 → (VM K1 mX5_names 29 [(0, .ref K1.m), (1, vI b), (2, vI from1), (3, vI (F 19)), (4, vI x4), (5, vI a), (6, vI (e + 1))] [] F12 A12)) ∧ (¬ 0 ≤ r12 → (VM K1 mX5_names 131 [(0, .ref K1.m), (1, vI b), (2, vI from1), (3, vI (F 19)), (5, vI a), (6, vI e), (7, vI r11), (8, vI (F 19 + (max 0 x4))), (9, vI 0)] [] F12 A12)))))) := by
                    refine c_namesBy h h12 ih hk1 hgw hta (by omega) hL3 hC3 (by rw [f26, hwsz]; exact hlv) (by rw [upN_eq, hwsz]; omega) fun F8 A8 r1 r2 r3 => ?_
                    rw [f26, upN_eq] at r2
                    rw [upN_eq] at r3
                    have hF8 : agF [16, 19] F F8 := hF6.tr (r1.sb (by decide))
                    have hA8 : FRN (F 26) (F 26) (F 19) A A8 := g2'.tr (r2.le (by omega) (by omega) (by omega))
                    have hB8 : BK (F 26) (bstK T b from1) A8 := hB3.fr (r2.2.2.2.2.2 _ (by omega)).1 (r2.2.2.2.2.2 _ (by omega)).2 (fun z _ z2 => r2.2.2.2.2.1 z (by omega))
                    have g8 : OB (F 19) (szT T b from1) o x4 A8 := g4'.fr fun z z1 z2 => r2.2.1 z z2
                    have cp : mnO o (NW (pth T 13 a e from1)) = some (NW (pth T 13 a e from1)) → VM K1 mX5_names 131 [(0, .ref K1.m), (1, vI b), (2, vI from1), (3, vI (F 19)), (5, vI a), (6, vI e), (7, vI ((nameW T (fun b a => nm T f b a) (pth T 13 a e from1) from1).length : Int)), (8, vI (F 19 + (max 0 x4))), (9, vI 0)] [] F8 A8 := fun eo => by
                      rw [eo] at q3
                      refine names_copy hk1 ⟨hβ.1, by omega, by omega⟩ r3.2 fun A9 u1 u2 u3 => ihj (e + 1) _ _ F8 A9 (by omega) (by omega) (by rw [if_pos hst]; exact q3) ⟨hF8, hA8.tr (FRN.t10 u1 u2), ?_, Or.inr ⟨_, rfl, rfl, ⟨⟨hβ.1, by omega⟩, hbW, u3⟩, hlW⟩⟩
                      exact hB8.fr (by rw [u1 15 (by decide)]) (by rw [u1 16 (by decide)]) (fun z _ _ => by rw [u1 17 (by decide)])
                    refine ⟨fun c4 => cp ?_, fun c4 => ?_⟩
                    · rcases g8 with ⟨ho, -⟩ | ⟨s, -, hx, -⟩
                      · rw [ho]; rfl
                      · omega
                    · rcases id g8 with ⟨-, hx⟩ | ⟨s, ho, hx, hp, hl⟩
                      · exact absurd hx c4
                      · have hcr := cmpT_rI hbW hp.2.1 (by omega) (by omega)
                        have cc := c_compares (K := K1) (hk1.le (by omega)) (a := F 19 + max 0 x4) (b := F 19) (s := nameW T (fun b a => nm T f b a) (pth T 13 a e from1) from1) (t := s) (F := F8) (A := A8) (Φ := fun r12 F12 A12 => (rI r12) ∧ ((0 ≤ r12 → (VM K1 mX5_names 29 [(0, .ref K1.m), (1, vI b), (2, vI from1), (3, vI (F 19)), (4, vI x4), (5, vI a), (6, vI (e + 1))] [] F12 A12)) ∧ (¬ 0 ≤ r12 → (VM K1 mX5_names 131 [(0, .ref K1.m), (1, vI b), (2, vI from1), (3, vI (F 19)), (5, vI a), (6, vI e), (7, vI ((nameW T (fun b a => nm T f b a) (pth T 13 a e from1) from1).length : Int)), (8, vI (F 19 + (max 0 x4))), (9, vI 0)] [] F12 A12)))) ⟨⟨by omega, by omega⟩, hbW, r3.2⟩ hp ⟨hcr, fun c5 => ?_, fun c5 => cp ?_⟩
                        · rw [← hx] at cc; exact cc
                        · have eo : mnO o (NW (pth T 13 a e from1)) = o := by
                            rw [ho]; show some (if _ then _ else _) = _
                            rw [if_neg (by show ¬ cmpT (nameW T (fun b a => nm T f b a) (pth T 13 a e from1) from1) s < 0; omega)]
                          rw [eo] at q3
                          exact ihj (e + 1) o x4 F8 A8 (by omega) (by omega) (by rw [if_pos hst]; exact q3) ⟨hF8, hA8, hB8, g8⟩
                        · rw [ho]; show some (if _ then _ else _) = _
                          rw [if_pos (by show cmpT (nameW T (fun b a => nm T f b a) (pth T 13 a e from1) from1) s < 0; omega)]
                  exact ⟨fun c4 => by rw [decide_eq_false c4] at nb; exact nb, fun c4 => by rw [decide_eq_true c4] at nb; exact nb⟩
              · rw [if_neg (by rw [decide_eq_false (by omega)]; decide)] at q3
                refine ⟨by decide, fun _ => ?_, fun c => absurd rfl c⟩
                refine ihj (e + 1) o x4 F' A2 (by omega) (by omega) (by rw [if_pos hst]; exact q3) ⟨g1, g2.tr (FRN.t89 (p1.sb (by decide))), ?_, ?_⟩
                · exact g3.fr (by rw [p1 15 (by decide)]) (by rw [p1 16 (by decide)]) (fun z _ _ => by rw [p1 17 (by decide)])
                · exact g4.fr fun z _ _ => by rw [p1 10 (by decide)]
        refine inner T.1 0 o x4 F' A' (by decide) (by omega) ?_ hI
        rw [← h3]; rfl
    refine outer T.1 0 none (-1) F0 A0 (by decide) (by omega) ?_ ⟨k1.sb (by decide), ?_, k5, Or.inl ⟨rfl, rfl⟩⟩
    · rw [show (rgf 0 T.1) = rg T.1 from rfl, ← waysT_eq hb]
      exact foldO (fun hh => bestW_some h t (List.map_eq_nil_iff.mp hh))
    · refine ⟨k2.sb (by decide), fun z _ => by rw [k2 10 (by decide)], fun z _ => ⟨by rw [k2 11 (by decide)], by rw [k2 12 (by decide)], by rw [k2 13 (by decide)]⟩, fun z _ => by rw [k2 14 (by decide)], fun z hz => k4 z (Or.inl (by omega)), fun z hz => k3 z (by omega)⟩
