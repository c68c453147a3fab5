set_option maxRecDepth 100000
/-! texts of the reference -/
def StrAt (K : KM) (q : Nat) (s : String) : Prop := ∃ b : Nat, K.w q = some (obS b) ∧ q ≠ K.m ∧ b ≠ K.m ∧ K.w b = some (obA 2 s.toList.length (chr s))
theorem MK.str {K : KM} {n : Nat} (h : MK K n) {i : Nat} {x : String × Nat × String} (hx : strs[i]? = some x) : StrAt K (K.G.ad i) x.2.2 := h.2.1.2.2 i x hx
theorem chr_eq (s : String) {j : Int} (h : 0 ≤ j ∧ j < (s.toList.length : Int)) : chr s j = (byS s).getD j.toNat 0 := by
  unfold chr byS
  rw [List.getD_eq_getElem?_getD, List.getD_eq_getElem?_getD, List.getElem?_map, List.getElem?_eq_getElem (by omega)]; rfl
theorem byS_len (s : String) : (byS s).length = s.toList.length := by unfold byS; rw [List.length_map]
section MW2
variable {K : KM} {Mc : Mt} {As : List Value} {F : Nat → Int} {A : Nat → Int → Int} {n : Nat}
theorem RI.wS {Φ : PI} (hk : MK K (n + 1)) (k : ∀ K1 : KM, MK K1 n → (∀ q s, StrAt K q s → StrAt K1 q s) → (∀ x F A, Φ x F A → SI K1 x F A) → VM K1 Mc 0 (lv_args 0 As) [] F A)
    (hy : plainName Mc.1.cls = true := by decide +kernel) (hfit : (lg_sl As).length ≤ Mc.2.2.1 := by exact Nat.le_of_ble_eq_true rfl) : RI Mc K As F A Φ :=
  RI.of n (by have := hk.2.2; omega) hy hfit (fun K1 e1 e2 e3 e4 e5 e6 e7 hS => k K1 ⟨by rw [e2, e4]; exact hk.1, by unfold MX; rw [e2, e4, e5]; exact hk.2.1, by omega⟩ (fun q s h => by unfold StrAt; rw [e4, e5]; exact h) hS)
theorem RI.wT {Φ : PI} (hk : MK K (n + 1)) (k : ∀ K1 : KM, MK K1 n → (∀ q s, StrAt K q s → StrAt K1 q s) → (∀ x F A, Φ x F A → SI K1 x F A) → VM K1 Mc 0 (lv_args 0 (.ref K1.m :: As)) [] F A)
    (hy : plainName Mc.1.cls = true := by decide +kernel) (hfit : (lg_sl (.ref K.m :: As)).length ≤ Mc.2.2.1 := by exact Nat.le_of_ble_eq_true rfl) : RI Mc K (.ref K.m :: As) F A Φ :=
  RI.of n (by have := hk.2.2; omega) hy hfit (fun K1 e1 e2 e3 e4 e5 e6 e7 hS => by
    rw [← e4]
    exact k K1 ⟨by rw [e2, e4]; exact hk.1, by unfold MX; rw [e2, e4, e5]; exact hk.2.1, by omega⟩ (fun q s h => by unfold StrAt; rw [e4, e5]; exact h) hS)
theorem RV.wT {Φ : PV} (hk : MK K (n + 1)) (k : ∀ K1 : KM, MK K1 n → (∀ q s, StrAt K q s → StrAt K1 q s) → (∀ F A, Φ F A → SV K1 F A) → VM K1 Mc 0 (lv_args 0 (.ref K1.m :: As)) [] F A)
    (hy : plainName Mc.1.cls = true := by decide +kernel) (hfit : (lg_sl (.ref K.m :: As)).length ≤ Mc.2.2.1 := by exact Nat.le_of_ble_eq_true rfl) : RV Mc K (.ref K.m :: As) F A Φ :=
  RV.of n (by have := hk.2.2; omega) hy hfit (fun K1 e1 e2 e3 e4 e5 e6 e7 hS => by
    rw [← e4]
    exact k K1 ⟨by rw [e2, e4]; exact hk.1, by unfold MX; rw [e2, e4, e5]; exact hk.2.1, by omega⟩ (fun q s h => by unfold StrAt; rw [e4, e5]; exact h) hS)
/-- a JDK method that leaves all as it was -/
theorem RI.c {Φ : PI} (h : CI Mc (K.l, K.G, K.d, K.av, K.sz, K.S) As (K.wd F A) K.sz 0 (fun x w1 sz1 n1 => w1 = K.wd F A ∧ sz1 = K.sz ∧ n1 = 0 ∧ Φ x F A)) : RI Mc K As F A Φ := by
  obtain ⟨d', hd, h⟩ := h
  refine ⟨d', hd, h.mono ?_⟩
  rintro r w1 sz1 n1 ⟨x, rfl, rfl, rfl, h3, h4⟩
  exact ⟨x, F, A, rfl, rfl, rfl, by omega, h4⟩
end MW2
theorem byS_ascii (s : String) (h : ∀ c ∈ byS s, 0 ≤ c ∧ c < 256) {j : Int} (hj : 0 ≤ j ∧ j < (s.toList.length : Int)) : 0 ≤ chr s j ∧ chr s j < 256 := by
  rw [chr_eq s hj]
  exact h _ (getD_mem (by rw [byS_len]; omega))
/-- a letter of a String; and that it is one -/
theorem c_charAt {K : KM} (hk : MK K 7) {q : Nat} {s : String} (hs : StrAt K q s) (ha : ∀ c ∈ byS s, 0 ≤ c ∧ c < 256) (hl : s.toList.length < 1000) {j : Int} (hj : 0 ≤ j ∧ j < (s.toList.length : Int)) {F : Nat → Int} {A : Nat → Int → Int} {Φ : PI} (h : Φ ((byS s).getD j.toNat 0) F A) : RC K.G (K.wd F A) q "java/lang/String" ∧ RI mJ2_charAt K [.ref q, vI j] F A Φ := by
  obtain ⟨b, h1, h2, h3, h4⟩ := hs
  have e1 : K.wd F A q = some (obS b) := by show wset _ _ _ _ = _; rw [wset_ne _ _ h2]; exact h1
  have e2 : K.wd F A b = some (obA 2 s.toList.length (chr s)) := by show wset _ _ _ _ = _; rw [wset_ne _ _ h3]; exact h4
  refine ⟨rc_S e1, RI.c (j_charAt (b := b) ⟨hk.2.1.1, hk.2.1.2.1, by have := hk.2.2; show 6 ≤ K.d; omega⟩ e1 e2 hj (by omega) (byS_ascii s ha hj) ⟨rfl, rfl, rfl, ?_⟩)⟩
  rw [chr_eq s hj]; exact h
/-! words of a row of words -/
def wsc : List Int → Int → Nat → Nat
  | [], _, at1 => at1
  | c :: l, left, at1 => if left ≤ 0 then at1 else wsc l (left - (if c = 32 then 1 else 0)) (at1 + 1)
def spc (l : List Int) : Int := ((l.filter fun c => c == 32).length : Int)
theorem c_wordAt {K : KM} (hk : MK K 8) {q : Nat} {s : String} (hs : StrAt K q s) (ha : ∀ c ∈ byS s, 0 ≤ c ∧ c < 256) (hl : s.toList.length < 1000) {k : Int} (hk0 : 0 ≤ k) (hsp : k ≤ spc (byS s)) {F : Nat → Int} {A : Nat → Int → Int} {Φ : PI} (h : Φ (wsc (byS s) k 0 : Int) F A) : RI mX5_wordAt K [.ref q, vI k] F A Φ := by
  refine RI.wS (n := 7) hk (fun K1 hk1 hst hS => wX5_wordAt_0 K1 hk1.1 ?_)
  have hs1 := hst q s hs
  have hbl := byS_len s
  have hspl : spc (byS s) < 1000 := by
    unfold spc
    have := List.length_filter_le (fun c => c == 32) (byS s)
    omega
  have key : ∀ (r : List Int) (at1 : Nat) (left : Int), (byS s).drop at1 = r → at1 ≤ (byS s).length → left ≤ spc r → -1 ≤ left → left < 1000 → wsc r left at1 = wsc (byS s) k 0 → VM K1 mX5_wordAt 4 [(0, .ref q), (2, vI (at1 : Int)), (3, vI left)] [] F A := by
    intro r
    induction r with
    | nil =>
      intro at1 left hr hat hle h1 h2 hw
      have hle : left ≤ 0 := hle
      have hw : at1 = wsc (byS s) k 0 := hw
      exact wX5_wordAt_4 K1 hk1.1 ⟨by omega, fun _ => hS _ _ _ (by rw [hw]; exact h), fun c => by omega⟩
    | cons c r ih =>
      intro at1 left hr hat hle h1 h2 hw
      have hlen : at1 < (byS s).length := by
        have := congrArg List.length hr
        rw [List.length_drop, List.length_cons] at this
        omega
      have hc : (byS s).getD at1 0 = c := by
        rw [List.getD_eq_getElem?_getD, ← List.head?_drop, hr]; rfl
      have hr2 : (byS s).drop (at1 + 1) = r := by rw [← List.tail_drop, hr]; rfl
      have hcr := ha c (by rw [← hc]; exact getD_mem hlen)
      have e9 : wsc (c :: r) left at1 = if left ≤ 0 then at1 else wsc r (left - (if c = 32 then 1 else 0)) (at1 + 1) := rfl
      rw [e9] at hw
      have hsp : spc (c :: r) = (if c = 32 then 1 else 0) + spc r := by
        unfold spc
        rw [List.filter_cons]
        by_cases c32 : c = 32
        · rw [if_pos (by rw [c32]; rfl), if_pos c32, List.length_cons]; omega
        · rw [if_neg (by simpa using c32), if_neg c32]; omega
      refine wX5_wordAt_4 K1 hk1.1 ⟨by omega, fun c9 => hS _ _ _ ?_, fun c9 => ?_⟩
      · rw [if_pos c9] at hw; rw [hw]; exact h
      · rw [if_neg c9] at hw
        refine c_charAt hk1 hs1 ha hl ⟨by omega, by omega⟩ ?_
        rw [show ((at1 : Int)).toNat = at1 by omega, hc]
        refine ⟨by omega, fun c32 => ?_, fun c32 => ?_⟩
        · rw [if_neg c32] at hw hsp
          have := ih (at1 + 1) (left - 0) hr2 (by omega) (by omega) (by omega) (by omega) hw
          exact this
        · rw [if_pos c32] at hw hsp
          have := ih (at1 + 1) (left - 1) hr2 (by omega) (by omega) (by omega) (by omega) hw
          exact this
  exact key (byS s) 0 k rfl (Nat.zero_le _) hsp (by omega) (by omega) rfl
/-! the text that is written -/
abbrev TX (b : Int) (l : List Int) (F : Nat → Int) (A : Nat → Int → Int) : Prop := F 19 = b + (l.length : Int) ∧ arr (A 10) b l
abbrev PX (b : Int) (l s : List Int) (F : Nat → Int) (A : Nat → Int → Int) (Φ : PV) : Prop := ∀ F' A', agF [19] F F' → agA [10] A A' → (∀ z, z < b + (l.length : Int) → A' 10 z = A 10 z) → TX b (l ++ s) F' A' → Φ F' A'
theorem TX.fr {b : Int} {l : List Int} {F F' : Nat → Int} {A A' : Nat → Int → Int} (h : TX b l F A) (h19 : F' 19 = F 19) (h10 : A' 10 = A 10) : TX b l F' A' := ⟨h19.trans h.1, by rw [h10]; exact h.2⟩
theorem c_puts {K : KM} (hk : MK K 1) {b : Int} {l : List Int} {c : Int} {F : Nat → Int} {A : Nat → Int → Int} {Φ : PV} (hb : 0 ≤ b) (hT : TX b l F A) (hlen : b + (l.length : Int) < 16384) (h : PX b l [c] F A Φ) : RV mX5_puts K [.ref K.m, vI c] F A Φ := by
  refine RV.w (n := 0) hk (fun K1 hk1 hS => wX5_puts_0 K1 hk1.1 ⟨by rw [hT.1]; omega, hS _ _ (h _ _ ((agF.rf _ _).up (by decide)) ((agA.rf _ _).up (by decide)) (fun z hz => upA_off _ _ _ (by rw [hT.1]; omega)) ⟨?_, fun i hi => ?_⟩)⟩)
  · rw [upN_eq, hT.1, List.length_append, List.length_singleton]; omega
  · rw [List.length_append, List.length_singleton] at hi
    rw [getD_append, hT.1]
    by_cases hi2 : i < l.length
    · rw [if_pos hi2, upA_off _ _ _ (by omega)]; exact hT.2 i hi2
    · rw [if_neg hi2, show i = l.length by omega, upA_at, Nat.sub_self]; rfl
/-- one behind the other -/
theorem PX.seq {b : Int} {l s t : List Int} {F F1 : Nat → Int} {A A1 : Nat → Int → Int} {Φ : PV} (h : PX b l (s ++ t) F A Φ) (g1 : agF [19] F F1) (g2 : agA [10] A A1) (g3 : ∀ z, z < b + (l.length : Int) → A1 10 z = A 10 z) : PX b (l ++ s) t F1 A1 Φ := fun F' A' k1 k2 k3 k4 =>
  h F' A' (g1.tr k1) (g2.tr k2) (fun z hz => by rw [k3 z (by rw [List.length_append]; omega)]; exact g3 z hz) (by rw [← List.append_assoc]; exact k4)
theorem c_putsNumber {K : KM} (hk : MK K 2) {b : Int} {l : List Int} {z : Int} (hz : 0 ≤ z ∧ z ≤ 99) {F : Nat → Int} {A : Nat → Int → Int} {Φ : PV} (hb : 0 ≤ b) (hT : TX b l F A) (hlen : b + (l.length : Int) + 2 ≤ 16384) (h : PX b l (dec z) F A Φ) : RV mX5_putsNumber K [.ref K.m, vI z] F A Φ := by
  have e1 : Int.tmod z 10 = z % 10 := Int.tmod_eq_emod_of_nonneg hz.1
  have e2 : Int.tdiv z 10 = z / 10 := Int.tdiv_eq_ediv_of_nonneg hz.1
  unfold dec at h
  refine RV.w (n := 1) hk (fun K1 hk1 hS => wX5_putsNumber_0 K1 hk1.1 ?_)
  rw [e1, e2]
  refine ⟨by omega, fun c => ?_, fun c => ?_⟩
  · rw [if_neg (by omega)] at h
    exact c_puts hk1 hb hT (by omega) fun F' A' g1 g2 g3 g4 => hS _ _ (h F' A' g1 g2 g3 g4)
  · rw [if_pos (by omega)] at h
    have h : PX b l ([48 + z / 10] ++ [48 + z % 10]) F A Φ := h
    refine c_puts hk1 hb hT (by omega) fun F' A' g1 g2 g3 g4 => c_puts hk1 hb g4 (by rw [List.length_append, List.length_singleton]; omega) fun F2 A2 k1 k2 k3 k4 => hS _ _ (h.seq g1 g2 g3 F2 A2 k1 k2 k3 k4)
theorem c_putsWord {K : KM} (hk : MK K 9) {q : Nat} {s : String} (hs : StrAt K q s) (ha : ∀ c ∈ byS s, 0 ≤ c ∧ c < 256) (hl : s.toList.length < 1000) {k : Int} (hk0 : 0 ≤ k) (hsp : k ≤ spc (byS s)) {wd : List Int} {rest : List Int} (hw : (byS s).drop (wsc (byS s) k 0) = wd ++ 32 :: rest) (h32 : ∀ c ∈ wd, c ≠ 32) {b : Int} {l : List Int} {F : Nat → Int} {A : Nat → Int → Int} {Φ : PV} (hb : 0 ≤ b) (hT : TX b l F A) (hlen : b + (l.length : Int) + (wd.length : Int) ≤ 16384) (h : PX b l wd F A Φ) : RV mX5_putsWord K [.ref K.m, .ref q, vI k] F A Φ := by
  refine RV.wT (n := 8) hk (fun K1 hk1 hst hS => wX5_putsWord_0 K1 hk1.1 (c_wordAt hk1 (hst q s hs) ha hl hk0 hsp ?_))
  have hs1 := hst q s hs
  have hbl := byS_len s
  have key : ∀ (r : List Int) (at1 : Nat) (l : List Int) (F : Nat → Int) (A : Nat → Int → Int), (byS s).drop at1 = r ++ 32 :: rest → (∀ c ∈ r, c ≠ 32) → TX b l F A → b + (l.length : Int) + (r.length : Int) ≤ 16384 → PX b l r F A Φ → VM K1 mX5_putsWord 6 [(0, .ref K1.m), (1, .ref q), (3, vI (at1 : Int))] [] F A := by
    intro r
    induction r with
    | nil =>
      intro at1 l F A hr hr32 hT hlen h
      have hlt : at1 < (byS s).length := by
        have := congrArg List.length hr
        rw [List.length_drop, List.nil_append, List.length_cons] at this
        omega
      have hc : (byS s).getD at1 0 = 32 := by rw [List.getD_eq_getElem?_getD, ← List.head?_drop, hr]; rfl
      refine wX5_putsWord_6 K1 hk1.1 (c_charAt (hk1.le (by decide)) hs1 ha hl ⟨by omega, by omega⟩ ?_)
      rw [show ((at1 : Int)).toNat = at1 by omega, hc]
      exact ⟨by decide, fun _ => hS _ _ (h F A (agF.rf _ _) (agA.rf _ _) (fun _ _ => rfl) (by rw [List.append_nil]; exact hT)), fun c => absurd rfl c⟩
    | cons c r ih =>
      intro at1 l F A hr hr32 hT hlen h
      have hlt : at1 < (byS s).length := by
        have := congrArg List.length hr
        rw [List.length_drop, List.cons_append, List.length_cons] at this
        omega
      have hc : (byS s).getD at1 0 = c := by rw [List.getD_eq_getElem?_getD, ← List.head?_drop, hr]; rfl
      have hr2 : (byS s).drop (at1 + 1) = r ++ 32 :: rest := by rw [← List.tail_drop, hr]; rfl
      have hcr := ha c (by rw [← hc]; exact getD_mem hlt)
      have hc32 := hr32 c List.mem_cons_self
      rw [List.length_cons] at hlen
      refine wX5_putsWord_6 K1 hk1.1 (c_charAt (hk1.le (by decide)) hs1 ha hl ⟨by omega, by omega⟩ ?_)
      rw [show ((at1 : Int)).toNat = at1 by omega, hc]
      refine ⟨by omega, fun c9 => absurd c9 hc32, fun _ => c_charAt (hk1.le (by decide)) hs1 ha hl ⟨by omega, by omega⟩ ?_⟩
      rw [show ((at1 : Int)).toNat = at1 by omega, hc]
      refine c_puts (hk1.le (by decide)) hb hT (by omega) fun F' A' g1 g2 g3 g4 => ?_
      have h : PX b l ([c] ++ r) F A Φ := h
      have := ih (at1 + 1) (l ++ [c]) F' A' hr2 (fun x hx => hr32 x (List.mem_cons_of_mem _ hx)) g4 (by rw [List.length_append, List.length_singleton]; omega) (h.seq g1 g2 g3)
      exact this
  exact key wd _ l F A hw h32 hT hlen h
abbrev stemW : String := "meth eth prop but pent hex hept oct non dec undec dodec "
abbrev manyW : String := "di tri tetra penta hexa hepta octa "
def wdOk (s : String) (L : List (List Int)) : Nat → Bool
  | 0 => true
  | k + 1 => decide ((k : Int) ≤ spc (byS s)) && (((byS s).drop (wsc (byS s) (k : Int) 0)).take ((L.getD k []).length + 1) == L.getD k [] ++ [32]) && (L.getD k []).all (fun c => c != 32) && wdOk s L k
theorem wdOk_of {s : String} {L : List (List Int)} : ∀ {n : Nat}, wdOk s L n = true → ∀ k : Nat, k < n → (k : Int) ≤ spc (byS s) ∧ (∃ rest, (byS s).drop (wsc (byS s) (k : Int) 0) = L.getD k [] ++ 32 :: rest) ∧ ∀ c ∈ L.getD k [], c ≠ 32
  | n + 1, h, k, hk => by
    unfold wdOk at h
    rw [Bool.and_eq_true, Bool.and_eq_true, Bool.and_eq_true] at h
    rcases Nat.lt_or_ge k n with h1 | h1
    · exact wdOk_of h.2 k h1
    · have hkn : k = n := by omega
      subst hkn
      refine ⟨of_decide_eq_true h.1.1.1, ?_, fun c hc => ?_⟩
      · have e := eq_of_beq h.1.1.2
        refine ⟨((byS s).drop (wsc (byS s) (k : Int) 0)).drop ((L.getD k []).length + 1), ?_⟩
        conv => lhs; rw [← List.take_append_drop ((L.getD k []).length + 1) ((byS s).drop (wsc (byS s) (k : Int) 0))]
        rw [e, List.append_assoc]; rfl
      · have := List.all_eq_true.mp h.1.2 c hc
        simpa using this
theorem stemW_ok : wdOk stemW stemL 12 = true := by decide +kernel
theorem manyW_ok : wdOk manyW manyL 7 = true := by decide +kernel
theorem stemW_a : ∀ c ∈ byS stemW, 0 ≤ c ∧ c < 256 := by decide +kernel
theorem manyW_a : ∀ c ∈ byS manyW, 0 ≤ c ∧ c < 256 := by decide +kernel
theorem c_putsStem {K : KM} (hk : MK K 9) {k : Int} (hk12 : 0 ≤ k ∧ k < 12) {b : Int} {l : List Int} {F : Nat → Int} {A : Nat → Int → Int} {Φ : PV} (hb : 0 ≤ b) (hT : TX b l F A) (hlen : b + (l.length : Int) + 5 ≤ 16384) (h : PX b l (stm k) F A Φ) : RV mX5_putsWord K [.ref K.m, .ref (K.G.ad 22), vI k] F A Φ := by
  obtain ⟨h1, ⟨rest, h2⟩, h3⟩ := wdOk_of stemW_ok k.toNat (by omega)
  rw [show ((k.toNat : Nat) : Int) = k by omega] at h1 h2
  have := stm_len' k
  exact c_putsWord hk (hk.str (i := 22) rfl) stemW_a (by decide +kernel) hk12.1 h1 h2 h3 hb hT (by show b + (l.length : Int) + ((stm k).length : Int) ≤ _; omega) h
theorem c_putsMany {K : KM} (hk : MK K 9) {k : Int} (hk7 : 0 ≤ k ∧ k < 7) {b : Int} {l : List Int} {F : Nat → Int} {A : Nat → Int → Int} {Φ : PV} (hb : 0 ≤ b) (hT : TX b l F A) (hlen : b + (l.length : Int) + 5 ≤ 16384) (h : PX b l (mny k) F A Φ) : RV mX5_putsWord K [.ref K.m, .ref (K.G.ad 23), vI k] F A Φ := by
  obtain ⟨h1, ⟨rest, h2⟩, h3⟩ := wdOk_of manyW_ok k.toNat (by omega)
  rw [show ((k.toNat : Nat) : Int) = k by omega] at h1 h2
  have := mny_len' k
  exact c_putsWord hk (hk.str (i := 23) rfl) manyW_a (by decide +kernel) hk7.1 h1 h2 h3 hb hT (by show b + (l.length : Int) + ((mny k).length : Int) ≤ _; omega) h
