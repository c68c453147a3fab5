set_option maxRecDepth 100000
/-! the name by a chain: the reference -/
theorem FRN.t10 {lv lq β : Int} {A A' : Nat → Int → Int} (h : agA [10] A A') (hz : ∀ z, z < β → A' 10 z = A 10 z) : FRN lv lq β A A' :=
  ⟨h.sb (by decide), hz, fun z _ => ⟨by rw [h 11 (by decide)], by rw [h 12 (by decide)], by rw [h 13 (by decide)]⟩, fun z _ => by rw [h 14 (by decide)], fun z _ => by rw [h 17 (by decide)], fun z _ => ⟨by rw [h 15 (by decide)], by rw [h 16 (by decide)]⟩⟩
theorem parts_len (bl : List (Int × List Int)) : (((srtN (bl.map fun q => q.2)).map fun t => (partT bl t).length + 1).sum) ≤ (bl.map fun q => q.2.length + 11).sum := by
  have nd : (srtN (bl.map fun q => q.2)).Nodup := (srtN_asc _).imp fun {s t} h he => by rw [he, cmpN_self] at h; omega
  have h2 := sum_groups (g := fun t => t.length + 11) nd bl (fun q hq => mem_srtN.mpr (List.mem_map.mpr ⟨q, hq, rfl⟩))
  have key : ∀ U : List (List Int), (∀ t ∈ U, 1 ≤ (numsT bl t).length) → (U.map fun t => (partT bl t).length + 1).sum ≤ (U.map fun t => (numsT bl t).length * (t.length + 11)).sum := by
    intro U
    induction U with
    | nil => intro _; exact Nat.le_refl _
    | cons t U ih =>
      intro hU
      rw [List.map_cons, List.sum_cons, List.map_cons, List.sum_cons]
      have := partT_len (hU t List.mem_cons_self)
      have := ih (fun x hx => hU x (List.mem_cons_of_mem _ hx))
      omega
  refine Nat.le_trans (key _ fun t ht => ?_) (Nat.le_of_eq h2)
  obtain ⟨q, hq, e⟩ := List.mem_map.mp (mem_srtN.mp ht)
  have e : q.2 = t := e
  unfold numsT
  rw [List.length_map]
  exact List.length_pos_of_mem (List.mem_filter.mpr ⟨hq, by rw [e]; exact beq_self_eq_true t⟩)
theorem sum_le19 {α : Type} {g s : α → Nat} : ∀ {l : List α}, (∀ q ∈ l, g q ≤ 19 * s q) → (l.map g).sum ≤ 19 * (l.map s).sum
  | [], _ => Nat.le_refl _
  | q :: l, h => by
    have h1 := h q List.mem_cons_self
    have h2 := sum_le19 (l := l) fun x hx => h x (List.mem_cons_of_mem _ hx)
    rw [List.map_cons, List.sum_cons, List.map_cons, List.sum_cons]; omega
theorem sum_mem {α : Type} {g : α → Nat} {q : α} : ∀ {l : List α}, q ∈ l → g q ≤ (l.map g).sum
  | x :: l, h => by
    rw [List.map_cons, List.sum_cons]
    rcases List.mem_cons.mp h with rfl | h
    · omega
    · have := sum_mem (g := g) h; omega
/-- what is written is brought to its place -/
theorem namesBy_end {K1 : KM} {n : Nat} (hk1 : MK K1 n) {t0 t1 : Int} {l : List Int} {β : Int} (h0 : 0 ≤ t0 ∧ t0 ≤ t1 ∧ t1 + (l.length : Int) ≤ 16384) {F' : Nat → Int} {A' : Nat → Int → Int} (hA : arr (A' 10) t1 l) (hS : ∀ A2, agA [10] A' A2 → (∀ z, z < t0 → A2 10 z = A' 10 z) → arr (A2 10) t0 l → SI K1 (l.length : Int) (upN F' 19 (t0 + (l.length : Int))) A2) : VM K1 mX5_namesBy 146 [(0, .ref K1.m), (3, vI t0), (7, vI t1), (9, vI (l.length : Int)), (10, vI 0)] [] F' A' := by
  have key : ∀ (m k : Nat) (A2 : Nat → Int → Int), k + m = l.length → agA [10] A' A2 → (∀ z, z < t0 → A2 10 z = A' 10 z) → (∀ i : Nat, i < k → A2 10 (t0 + (i : Int)) = l.getD i 0) → (∀ i : Nat, k ≤ i → i < l.length → A2 10 (t1 + (i : Int)) = l.getD i 0) → VM K1 mX5_namesBy 146 [(0, .ref K1.m), (3, vI t0), (7, vI t1), (9, vI (l.length : Int)), (10, vI (k : Int))] [] F' A2 := by
    intro m
    induction m with
    | zero =>
      intro k A2 hkm g1 g2 g3 g4
      exact wX5_namesBy_146 K1 hk1.1 ⟨by omega, by omega, fun _ => hS A2 g1 g2 fun i hi => g3 i (by omega), fun c => by omega⟩
    | succ m ih =>
      intro k A2 hkm g1 g2 g3 g4
      refine wX5_namesBy_146 K1 hk1.1 ⟨by omega, by omega, fun c => by omega, fun _ => ⟨by omega, by omega, ?_⟩⟩
      have := ih (k + 1) (upA A2 10 (t0 + (k : Int)) (A2 10 (t1 + (k : Int)))) (by omega) (g1.up (by decide)) (fun z hz => by rw [upA_off _ _ _ (by omega)]; exact g2 z hz) (fun i hi => ?_) (fun i hi hi2 => ?_)
      · exact this
      · by_cases c : i = k
        · rw [c, upA_at]; exact g4 k (by omega) (by omega)
        · rw [upA_off _ _ _ (by omega)]; exact g3 i (by omega)
      · rw [upA_off _ _ _ (by omega)]; exact g4 i (by omega) hi2
  exact key l.length 0 A' (by omega) (agA.rf _ _) (fun _ _ => rfl) (fun i hi => absurd hi (Nat.not_lt_zero _)) (fun i _ hi => hA i hi)
theorem NMD.nls {T : Tr} {f : Nat} {D : List (Int × Int × Int)} {own top : Int} {A : Nat → Int → Int} (h : NMD T f D own top A) : NLS own (D.map (brN T f)) A ∧ ∀ k : Nat, k < (D.map (brN T f)).length → A 12 (own + (k : Int)) + ((nmk (D.map (brN T f)) k).length : Int) ≤ top := by
  have e : ∀ k : Nat, k < D.length → (D.map (brN T f)).getD k (0, []) = brN T f (D.getD k (0, 0, 0)) := fun k hk9 => by
    rw [List.getD_eq_getElem?_getD, List.getElem?_map, List.getD_eq_getElem?_getD, List.getElem?_eq_getElem hk9]; rfl
  refine ⟨fun k hk9 => ?_, fun k hk9 => ?_⟩
  · rw [List.length_map] at hk9
    obtain ⟨h1, h2, h3⟩ := h k hk9
    rw [e k hk9]; exact ⟨h1, h2⟩
  · rw [List.length_map] at hk9
    obtain ⟨h1, h2, h3⟩ := h k hk9
    show A 12 (own + (k : Int)) + (((D.map (brN T f)).getD k (0, [])).2.length : Int) ≤ top
    rw [e k hk9]; exact h3
/-- the parts, one after another -/
theorem namesBy_loop {K1 : KM} {n : Nat} (hk1 : MK K1 n) (hn11 : 11 ≤ n) {own : Int} {bl : List (Int × List Int)} (hown : 0 ≤ own ∧ own + (bl.length : Int) ≤ 156) (h8 : bl.length ≤ 8) (hn99 : ∀ q ∈ bl, 0 ≤ q.1 ∧ q.1 ≤ 99) {t0 t1 : Int} (h0 : 0 ≤ t0 ∧ t0 ≤ t1) (hsum : t1 + ((bl.map fun q => q.2.length + 11).sum : Nat) + ((bl.map fun q => q.2.length + 11).sum : Nat) + 60 ≤ 16384) {L : Int} (hL : 1 ≤ L ∧ L ≤ 12) {tree : Bool} {F : Nat → Int} {A : Nat → Int → Int} (hB : NLS own bl A) (hbel : ∀ k : Nat, k < bl.length → A 12 (own + (k : Int)) + ((nmk bl k).length : Int) ≤ t1)
    (hS : ∀ F' A', agF [19] F F' → agA [10] A A' → (∀ z, z < t0 → A' 10 z = A 10 z) → TX t0 (wholeT bl L tree) F' A' → SI K1 ((wholeT bl L tree).length : Int) F' A') :
    ∀ (post pre : List (List Int)) (x8 : Int) (F' : Nat → Int) (A' : Nat → Int → Int), srtN (bl.map fun q => q.2) = pre ++ post → agF [19] F F' → agA [10] A A' → (∀ z, z < t1 → A' 10 z = A 10 z) → TX t1 (jn 45 (pre.map (partT bl)) ++ (if pre = [] ∨ post = [] then [] else [45])) F' A' → ((post = [] ∧ x8 = -1) ∨ ∃ (j : Nat) (post' : List (List Int)), x8 = (j : Int) ∧ j < bl.length ∧ post = nmk bl j :: post') → VM K1 mX5_namesBy 44 [(0, .ref K1.m), (2, vI (bz tree)), (3, vI t0), (4, vI L), (5, vI (bl.length : Int)), (6, vI own), (7, vI t1), (8, vI x8)] [] F' A' := by
  have hpl := parts_len bl
  have hU := srtN_asc (bl.map fun q => q.2)
  have hpre : ∀ pre post : List (List Int), srtN (bl.map fun q => q.2) = pre ++ post → (jn 45 (pre.map (partT bl))).length ≤ (bl.map fun q => q.2.length + 11).sum := fun pre post e => by
    have h1 := jn_sum (sep := 45) (pre.map (partT bl))
    rw [List.map_map] at h1
    rw [e, List.map_append, List.sum_append] at hpl
    have h2 : ((pre.map ((fun x => x.length + 1) ∘ partT bl)).sum) = (pre.map fun t => (partT bl t).length + 1).sum := rfl
    omega
  have hnk : ∀ k : Nat, k < bl.length → (nmk bl k).length + 11 ≤ (bl.map fun q => q.2.length + 11).sum := fun k hk9 => sum_mem (g := fun q => q.2.length + 11) (getD_mem2 hk9)
  intro post
  induction post with
  | nil =>
    intro pre x8 F' A' e g1 g2 g3 g4 g5
    have hx8 : x8 = -1 := by
      rcases g5 with ⟨-, h1⟩ | ⟨j, p, -, -, h2⟩
      · exact h1
      · cases h2
    rw [if_pos (Or.inr rfl), List.append_nil] at g4
    rw [List.append_nil] at e
    have hl := hpre pre [] (by rw [e, List.append_nil])
    have hst := stm_len' (L - 1)
    subst hx8
    have fin : ∀ (F5 : Nat → Int) (A5 : Nat → Int → Int), agF [19] F F5 → agA [10] A A5 → (∀ z, z < t1 → A5 10 z = A 10 z) → TX t1 (wholeT bl L tree) F5 A5 → VM K1 mX5_namesBy 146 [(0, .ref K1.m), (3, vI t0), (7, vI t1), (9, vI (F5 19 - t1)), (10, vI 0)] [] F5 A5 := by
      intro F5 A5 k1 k2 k3 k4
      have hwl := wholeT_len bl L tree
      rw [k4.1, show t1 + ((wholeT bl L tree).length : Int) - t1 = ((wholeT bl L tree).length : Int) by omega]
      refine namesBy_end (β := 0) hk1 ⟨h0.1, h0.2, by omega⟩ k4.2 fun A2 j1 j2 j3 => hS _ A2 (k1.up (by decide)) (k2.tr j1) (fun z hz => by rw [j2 z hz, k3 z (by omega)]) ⟨upN_eq _ _ _, j3⟩
    have ew : wholeT bl L tree = jn 45 (pre.map (partT bl)) ++ (stm (L - 1) ++ endT tree) := by
      unfold wholeT; rw [e]
    refine wX5_namesBy_44 K1 hk1.1 hk1.2.1.1 ⟨by decide, fun _ => ?_, fun c => absurd rfl c⟩
    refine c_putsStem (hk1.le (by omega)) (k := L - 1) (by omega) (by omega) g4 (by omega) fun F1 A1 k1 k2 k3 k4 => ⟨rI_bz _, fun c => ?_, fun c => ?_⟩
    · have ht : tree = false := by cases tree <;> simp_all [bz]
      subst ht
      refine c_puts (hk1.le (by omega)) (by omega) k4 (by rw [List.length_append]; omega) fun F2 A2 p1 p2 p3 p4 => c_puts (hk1.le (by omega)) (by omega) p4 (by rw [List.length_append, List.length_append, List.length_singleton]; omega) fun F3 A3 q1 q2 q3 q4 => fin F3 A3 (((g1.tr k1).tr p1).tr q1) (((g2.tr k2).tr p2).tr q2) (fun z hz => by rw [q3 z (by omega), p3 z (by omega), k3 z (by omega), g3 z hz]) ?_
      rw [ew]
      rw [List.append_assoc, List.append_assoc] at q4
      exact q4
    · have ht : tree = true := by cases tree <;> simp_all [bz]
      subst ht
      refine c_puts (hk1.le (by omega)) (by omega) k4 (by rw [List.length_append]; omega) fun F2 A2 p1 p2 p3 p4 => c_puts (hk1.le (by omega)) (by omega) p4 (by rw [List.length_append, List.length_append, List.length_singleton]; omega) fun F3 A3 q1 q2 q3 q4 => c_puts (hk1.le (by omega)) (by omega) q4 (by rw [List.length_append, List.length_append, List.length_append, List.length_singleton, List.length_singleton]; omega) fun F4 A4 r1 r2 r3 r4 => fin F4 A4 ((((g1.tr k1).tr p1).tr q1).tr r1) ((((g2.tr k2).tr p2).tr q2).tr r2) (fun z hz => by rw [r3 z (by omega), q3 z (by omega), p3 z (by omega), k3 z (by omega), g3 z hz]) ?_
      rw [ew]
      rw [List.append_assoc, List.append_assoc, List.append_assoc] at r4
      exact r4
  | cons u post ih =>
    intro pre x8 F' A' e g1 g2 g3 g4 g5
    obtain ⟨j, rfl, hj, rfl⟩ : ∃ j : Nat, x8 = (j : Int) ∧ j < bl.length ∧ u = nmk bl j := by
      rcases g5 with ⟨h1, -⟩ | ⟨j, p, h1, h2, h3⟩
      · cases h1
      · exact ⟨j, h1, h2, (List.cons.inj h3).1⟩
    have hB' : NLS own bl A' := hB.fr g2 (top := t1) g3 hbel
    have hbel' : ∀ k : Nat, k < bl.length → A' 12 (own + (k : Int)) + ((nmk bl k).length : Int) ≤ t1 := fun k hk9 => by rw [g2 12 (by decide)]; exact hbel k hk9
    have hl := hpre pre _ e
    have hl2 : (jn 45 (pre.map (partT bl)) ++ (if pre = [] ∨ nmk bl j :: post = [] then [] else [45])).length ≤ (bl.map fun q => q.2.length + 11).sum + 1 := by
      rw [List.length_append]; split <;> simp <;> omega
    have hnj := hnk j hj
    have e2 : srtN (bl.map fun q => q.2) = (pre ++ [nmk bl j]) ++ post := by rw [e, List.append_assoc]; rfl
    have hl3 := hpre (pre ++ [nmk bl j]) post e2
    refine wX5_namesBy_44 K1 hk1.1 hk1.2.1.1 ⟨by omega, fun c => by omega, fun _ => ?_⟩
    refine c_putsPart (hk1.le hn11) hown h8 hn99 hj hB' (by omega) g4 hbel' (by omega) fun F1 A1 k1 k2 k3' k4' => ?_
    have k4 : TX t1 (jn 45 ((pre ++ [nmk bl j]).map (partT bl))) F1 A1 := by
      rw [List.map_append, List.map_cons, List.map_nil, jn_snoc]
      by_cases c : pre = []
      · subst c
        rw [if_pos (Or.inl rfl)] at k4'
        rw [if_pos (show List.map (partT bl) [] = [] from rfl)]; exact k4'
      · rw [if_neg (by simpa using c)] at k4'
        rw [if_neg (by simpa using c)]
        rw [List.append_assoc] at k4'; exact k4'
    have k3 : ∀ z, z < t1 → A1 10 z = A 10 z := fun z hz => by rw [k3' z (by omega), g3 z hz]
    clear k3' k4'
    have hB1 : NLS own bl A1 := hB.fr (g2.tr k2) (top := t1) k3 hbel
    have haf := asc_after hU e
    refine c_nextPart (hk1.le (by omega)) hown (Or.inr ⟨by omega, by omega⟩) hB1 (fun hno => ?_) (fun k hk9 hmay hmin => ?_)
    · -- there is none
      have hp : post = [] := by
        rcases post with _ | ⟨v, post⟩
        · rfl
        · exfalso
          obtain ⟨hv1, hv2⟩ := (haf v).mp List.mem_cons_self
          obtain ⟨q, hq, rfl⟩ := List.mem_map.mp (mem_srtN.mp hv1)
          obtain ⟨k, hk9, ek⟩ := mem_getD2 hq
          refine hno k hk9 (Or.inr ?_)
          rw [show ((j : Nat) : Int).toNat = j by omega]
          show 0 < cmpN (bl.getD k (0, [])).2 _
          rw [ek]; exact hv2
      subst hp
      refine ⟨by decide, fun _ => ih (pre ++ [nmk bl j]) (-1) F1 A1 e2 (g1.tr k1) (g2.tr k2) k3 ?_ (Or.inl ⟨rfl, rfl⟩), fun c => absurd rfl c⟩
      rw [if_pos (Or.inr rfl), List.append_nil]; exact k4
    · -- the next
      have hgt : 0 < cmpN (nmk bl k) (nmk bl j) := by
        rcases hmay with c | c
        · omega
        · rwa [show ((j : Nat) : Int).toNat = j by omega] at c
      have hkU : nmk bl k ∈ srtN (bl.map fun q => q.2) := mem_srtN.mpr (List.mem_map.mpr ⟨_, getD_mem2 hk9, rfl⟩)
      have hkp : nmk bl k ∈ post := (haf _).mpr ⟨hkU, hgt⟩
      have hpa : AscN post := by
        rw [e] at hU
        exact (List.pairwise_cons.mp (List.pairwise_append.mp hU).2.1).2
      rcases post with _ | ⟨v, post⟩
      · cases hkp
      have hkv : nmk bl k = v := asc_head hpa hkp fun v' hv' => by
        obtain ⟨hv1, hv2⟩ := (haf v').mp hv'
        obtain ⟨q, hq, rfl⟩ := List.mem_map.mp (mem_srtN.mp hv1)
        obtain ⟨k', hk', ek⟩ := mem_getD2 hq
        have := hmin k' hk' (Or.inr (by
          rw [show ((j : Nat) : Int).toNat = j by omega]
          show 0 < cmpN (bl.getD k' (0, [])).2 _
          rw [ek]; exact hv2))
        have e5 : nmk bl k' = q.2 := by show (bl.getD k' (0, [])).2 = q.2; rw [ek]
        rwa [e5] at this
      refine ⟨by omega, fun c => by omega, fun _ => c_puts (hk1.le (by omega)) (by omega) k4 (by omega) fun F2 A2 p1 p2 p3 p4 => ih (pre ++ [nmk bl j]) (k : Int) F2 A2 e2 ((g1.tr k1).tr p1) ((g2.tr k2).tr p2) (fun z hz => by rw [p3 z (by omega), k3 z hz]) ?_ (Or.inr ⟨k, post, rfl, hk9, by rw [hkv]⟩)⟩
      rw [if_neg (by simp)]; exact p4
theorem c_namesBy {T : Tr} {d : Int → Int → Int} (h : TrOk T d) (h12 : T.1 ≤ 12) {f : Nat} (ih : NMC T d f) {K : KM} (hk : MK K (3 * f + 22)) {w : List Int} {a from1 e : Int} (g : GW2 T d a from1 e w) (t : Tw T d 13 a from1) (hsz : szT T a from1 ≤ f + 1) {F : Nat → Int} {A : Nat → Int → Int} {Φ : PI} (hL : LM T F A) (hC : CHN w F A) (hlv : 0 ≤ F 26 ∧ F 26 + (szT T a from1 : Int) ≤ 12) (hβ : 0 ≤ F 19 ∧ F 19 + 981 * (szT T a from1 : Int) ≤ 16384)
    (hΦ : ∀ F' A', agF [19] F F' → FRN (F 26) (F 26 + 1) (F 19) A A' → TX (F 19) (nameW T (fun b a => nm T f b a) w from1) F' A' → Φ ((nameW T (fun b a => nm T f b a) w from1).length : Int) F' A') : RI mX5_namesBy K [.ref K.m, vI from1, vI (bz (decide (from1 = -1)))] F A Φ := by
  have hn := h.n1
  have gG : GCh T d w := ⟨a, g.1, g.2.2.1, g.2.2.2.1, g.2.2.2.2.1⟩
  have hlen := gG.len h from1
  have h8 := brs_8 h h12 gG from1
  have hsum := br_sizes h g t
  have hbl : ((brs T w from1).map (brN T f)).length = (brs T w from1).length := List.length_map _
  have hs1 : (((brs T w from1).map (brN T f)).map fun q => q.2.length + 11).sum ≤ 19 * ((brs T w from1).map fun t => szT T t.2.2 t.2.1).sum := by
    rw [List.map_map]
    refine sum_le19 fun q hq => ?_
    obtain ⟨p1, p2, p3, p4, p5, -⟩ := br_facts h g hq
    have := sum_mem (g := fun t : Int × Int × Int => szT T t.2.2 t.2.1) hq
    exact nm_len h f q.2.2 q.2.1 (Tw.edge h p4 (by omega)) (by omega)
  refine RI.w (n := 3 * f + 21) hk (fun K1 hk1 hS => wX5_namesBy_0 K1 hk1.1 (c_namesBranches h h12 ih hk1 g t hsz hL hC hlv hβ fun F1 A1 k1 k2 k3 k4 k5 => ?_))
  obtain ⟨hB, hbel⟩ := k5.nls
  have e26 : F1 26 = F 26 := k1 26 (by decide)
  rw [e26, ← hbl, hC.1]
  have hn99 : ∀ q ∈ (brs T w from1).map (brN T f), 0 ≤ q.1 ∧ q.1 ≤ 99 := fun q hq => by
    obtain ⟨p, hp, rfl⟩ := List.mem_map.mp hq
    obtain ⟨-, -, -, -, p5, -⟩ := br_facts h g hp
    have hp5 : (brN T f p).1 = p.1 := rfl
    omega
  have loop := namesBy_loop hk1 (by omega) (own := 12 * F 26) (bl := (brs T w from1).map (brN T f)) (t0 := F 19) (t1 := F1 19) (L := (w.length : Int)) (tree := decide (from1 = -1)) ⟨by omega, by omega⟩ (by omega) hn99 ⟨hβ.1, k3⟩ (by omega) ⟨by omega, by omega⟩ hB hbel (fun F' A' q1 q2 q3 q4 => hS _ _ _ (hΦ F' A' (k1.tr q1) (k2.tr (FRN.t10 q2 q3)) q4))
  have hT1 : TX (F1 19) ([] : List Int) F1 A1 := ⟨by simp, fun i hi => absurd hi (Nat.not_lt_zero _)⟩
  refine c_nextPart (hk1.le (by omega)) ⟨by omega, by omega⟩ (Or.inl rfl) hB (fun hno => ?_) (fun k hk9 hmay hmin => ?_)
  · have hU : srtN (((brs T w from1).map (brN T f)).map fun q => q.2) = [] := by
      have : (brs T w from1).map (brN T f) = [] := by
        rcases hh : (brs T w from1).map (brN T f) with _ | ⟨q, l⟩
        · rfl
        · exact absurd (Or.inl rfl) (hno 0 (by rw [hh]; exact Nat.succ_pos _))
      rw [this]; rfl
    exact loop [] [] (-1) F1 A1 hU (agF.rf _ _) (agA.rf _ _) (fun _ _ => rfl) hT1 (Or.inl ⟨rfl, rfl⟩)
  · have hkU : nmk ((brs T w from1).map (brN T f)) k ∈ srtN (((brs T w from1).map (brN T f)).map fun q => q.2) := mem_srtN.mpr (List.mem_map.mpr ⟨_, getD_mem2 hk9, rfl⟩)
    rcases hh : srtN (((brs T w from1).map (brN T f)).map fun q => q.2) with _ | ⟨u, post⟩
    · rw [hh] at hkU; cases hkU
    have hA := srtN_asc (((brs T w from1).map (brN T f)).map fun q => q.2)
    rw [hh] at hA hkU
    have hku := asc_head hA hkU fun v hv => by
      rw [← hh] at hv
      obtain ⟨q, hq, rfl⟩ := List.mem_map.mp (mem_srtN.mp hv)
      obtain ⟨k', hk', ek⟩ := mem_getD2 hq
      have := hmin k' hk' (Or.inl rfl)
      have e5 : nmk ((brs T w from1).map (brN T f)) k' = q.2 := by show (((brs T w from1).map (brN T f)).getD k' (0, [])).2 = q.2; rw [ek]
      rwa [e5] at this
    exact loop (u :: post) [] (k : Int) F1 A1 hh (agF.rf _ _) (agA.rf _ _) (fun _ _ => rfl) (by rw [if_pos (Or.inl rfl)]; exact hT1) (Or.inr ⟨k, post, rfl, hk9, by rw [hku]⟩)
