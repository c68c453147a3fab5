set_option maxRecDepth 100000
/-! codes of the reference -/
theorem chs_len {T : Tr} {d : Int → Int → Int} (h : TrOk T d) {f : Nat} {b a : Int} (t : Tw T d f b a) : ((chs T b a).length : Int) = ((nbs T b).length : Int) - (if a = -1 then 0 else 1) := by
  have e : chs T b a = (nbs T b).erase a := by
    rw [(nodup_nbs T b).erase_eq_filter]
    rfl
  obtain ⟨hb, ⟨h0, -⟩ | ⟨e1, -⟩⟩ := t
  · have hm : a ∉ nbs T b := fun hm => by have := (h.rng (h.mem_nbs.mp hm)).2; omega
    rw [e, List.erase_of_not_mem hm, if_pos h0]; omega
  · have hm : a ∈ nbs T b := h.mem_nbs.mpr (h.sym e1)
    have h1 := List.length_erase_of_mem hm
    have h2 := List.length_pos_of_mem hm
    have h3 := (h.rng e1).1
    rw [e, if_neg (by omega)]; omega
theorem c_twigsOf {T : Tr} {d : Int → Int → Int} (h : TrOk T d) {K : KM} (hk : MK K 2) {f : Nat} {b a : Int} (t : Tw T d f b a) {F : Nat → Int} {A : Nat → Int → Int} {Φ : PI} (hL : LM T F A) (hΦ : Φ ((chs T b a).length : Int) F A) : RI mX5_twigsOf K [.ref K.m, vI b, vI a] F A Φ := by
  have hn := h.n1
  have hb := t.1
  have hl := chs_len h t
  refine RI.w (n := 1) hk (fun K1 hk1 hS => wX5_twigsOf_0 K1 hk1.1 ⟨by omega, c_bitCount hk1 (hL.2 b hb.1 (by omega)).1 ⟨t.rIa h, fun c => hS _ _ _ ?_, fun c => hS _ _ _ ?_⟩⟩)
  · rw [hL.bits h (by omega)]; rw [if_neg c] at hl; rwa [← hl]
  · rw [hL.bits h (by omega)]; rw [if_pos c] at hl; rwa [← hl]
theorem srtD_top {l r : List Int} {m : Int} (h : l.Perm (m :: r)) (hm : ∀ x ∈ r, x ≤ m) : srtD l = m :: srtD r :=
  srtD_of (List.pairwise_cons.mpr ⟨fun b hb => hm b ((srtD_perm r).mem_iff.mp hb), srtD_desc _⟩) (((srtD_perm r).cons m).trans h.symm)
/-- children that are not yet done -/
def remF (T : Tr) (b a done : Int) : List Int := (chs T b a).filter (fun c => !hasB done c)
theorem c_codeOf {T : Tr} {d : Int → Int → Int} (h : TrOk T d) : ∀ (f : Nat) (K : KM) (b a : Int), MK K (f + 2) → Tw T d f b a → ∀ {F : Nat → Int} {A : Nat → Int → Int} {Φ : PI}, LM T F A → Φ (nmc (cd T f b a)) F A → RI mX5_codeOf K [.ref K.m, vI b, vI a] F A Φ := by
  have hn := h.n1
  intro f
  induction f with
  | zero => intro K b a hk t; obtain ⟨f', h1⟩ := t.pos h; omega
  | succ f ih =>
    intro K b a hk t F A Φ hL hΦ
    have hb := t.1
    have hI : ∀ c ∈ chs T b a, Tw T d f c b := fun c hc => t.step h hc
    have hG : ∀ c ∈ chs T b a, CG (cd T f c b) := fun c hc => (cd_good h f c b (hI c hc)).1
    have hin : ∀ c ∈ chs T b a, 0 ≤ c ∧ c < 13 := fun c hc => by have := (h.rng (h.mem_chs.mp hc).1).2; omega
    have hroot : nmc (cd T (f + 1) b a) = fld ((chs T b a).length : Int) (srtD ((chs T b a).map fun c => cd T f c b)) := by
      have hp := srtD_perm ((chs T b a).map fun c => cd T f c b)
      have e1 := (cd_good h (f + 1) b a t)
      have hg : ∀ c ∈ srtD ((chs T b a).map fun c => cd T f c b), CG c := by
        intro c hc
        obtain ⟨k, hk, rfl⟩ := List.mem_map.mp (hp.mem_iff.mp hc)
        exact hG k hk
      have e0 : sumI ((srtD ((chs T b a).map fun c => cd T f c b)).map szc) = sumI ((chs T b a).map fun c => ((pl T f c b).length : Int)) := by
        rw [sumI_perm (hp.map szc), List.map_map]
        congr 1
        refine List.map_congr_left fun c hc => ?_
        exact (cd_good h f c b (hI c hc)).2
      have e2 := pl_len T f b a
      have e3 := pl_le h t
      have := (cmb_good hg (by rw [srtD_len, List.length_map]; exact Nat.le_trans (chs_len_le T b a) (h.deg b)) (by omega)).2.1
      rw [srtD_len, List.length_map] at this
      exact this
    refine RI.w (n := f + 2) hk (fun K1 hk1 hS => wX5_codeOf_0 K1 hk1.1 (c_twigsOf h (hk1.le (by omega)) t hL (c_twigsOf h (hk1.le (by omega)) t hL ?_)))
    have hS : ∀ v : Int, v = nmc (cd T (f + 1) b a) → SI K1 v F A := fun v hv => hS v F A (by rw [hv]; exact hΦ)
    have key : ∀ (m : Nat) (v done : Int), sm done → (remF T b a done).length = m → fld v (srtD ((remF T b a done).map fun c => cd T f c b)) = nmc (cd T (f + 1) b a) → VM K1 mX5_codeOf 18 [(0, .ref K1.m), (1, vI b), (2, vI a), (3, vI v), (4, vI done), (5, vI (m : Int))] [] F A := by
      intro m
      induction m with
      | zero =>
        intro v done hdn hlen hv
        rw [List.length_eq_zero_iff] at hlen
        rw [hlen] at hv
        exact wX5_codeOf_18 K1 hk1.1 ⟨by omega, fun _ => hS v hv, fun c => absurd (by omega) c⟩
      | succ m ihm =>
        intro v done hdn hlen hv
        have hml : m + 1 ≤ 4 := by
          rw [← hlen]
          exact Nat.le_trans (List.length_filter_le _ _) (Nat.le_trans (chs_len_le T b a) (h.deg b))
        refine wX5_codeOf_18 K1 hk1.1 ⟨by omega, fun c => by omega, fun _ => ?_⟩
        have hmem : ∀ c, c ∈ remF T b a done ↔ c ∈ chs T b a ∧ hasB done c = false := by
          intro c; unfold remF; rw [List.mem_filter]; simp
        have inner : ∀ (j : Nat) (k best gr : Int), 0 ≤ k → k + (j : Int) = (T.1 : Int) → (best = -1 ∧ gr = -1 ∨ best ∈ remF T b a done ∧ gr = nmc (cd T f best b)) → (∀ c ∈ remF T b a done, c < k → nmc (cd T f c b) ≤ gr) →
            VM K1 mX5_codeOf 32 [(0, .ref K1.m), (1, vI b), (2, vI a), (3, vI v), (4, vI done), (5, vI ((m + 1 : Nat) : Int)), (6, vI best), (7, vI gr), (8, vI k)] [] F A := by
          intro j
          induction j with
          | zero =>
            intro k best gr hk0 hkn hbg hall
            refine wX5_codeOf_32 K1 hk1.1 (nb_step (hk1.le (by omega)) h hL hb (by omega) (t.rIa h) (fun _ => ?_) (fun c => by omega) (fun c => by omega))
            have hall : ∀ c ∈ remF T b a done, nmc (cd T f c b) ≤ gr := fun c hc => hall c hc (by have := (h.rng (h.mem_chs.mp ((hmem c).mp hc).1).1).2; omega)
            have hbest : best ∈ remF T b a done ∧ gr = nmc (cd T f best b) := by
              rcases hbg with ⟨-, h2⟩ | h2
              · obtain ⟨c, hc⟩ := List.exists_mem_of_length_pos (l := remF T b a done) (by omega)
                have := hall c hc
                have := nmc_rng (cd T f c b)
                omega
              · exact h2
            have hbc := ((hmem best).mp hbest.1).1
            have hsz := cd_good h f best b (hI best hbc)
            have hpl := pl_le h (hI best hbc)
            refine c_sizeOf h f K1 best b (hk1.le (by omega)) (hI best hbc) hL (c_power (hk1.le (by omega)) (by omega) ?_)
            have hb13 := hin best hbc
            have e : remF T b a (ior done (ishl 1 best)) = (remF T b a done).erase best := by
              have hnd : (remF T b a done).Nodup := (nodup_chs T b a).sublist List.filter_sublist
              rw [hnd.erase_eq_filter]
              unfold remF
              rw [List.filter_filter]
              refine List.filter_congr fun c hc => ?_
              have := hin c hc
              rw [hasB_set hdn hb13 ⟨this.1, by omega⟩]
              cases hasB done c <;> cases hcb : (c == best) <;> simp [bne, hcb]
            have hr := List.perm_cons_erase hbest.1
            have h5 := ihm (v * p5 ((pl T f best b).length : Int) + gr) (ior done (ishl 1 best)) (sm_ior hdn (sm_bit hb13)) (by rw [e, List.length_erase_of_mem hbest.1]; omega) (by
              rw [e, ← hv, srtD_top (m := cd T f best b) (hr.map fun c => cd T f c b)]
              · show _ = fld (v * p5 (szc (cd T f best b)) + nmc (cd T f best b)) _
                rw [hsz.2, hbest.2]
              · intro x hx
                obtain ⟨c, hc, rfl⟩ := List.mem_map.mp hx
                have hc1 := List.mem_of_mem_erase hc
                have h6 := hall c hc1
                have h7 := (hG best hbc).lt_iff (hG c ((hmem c).mp hc1).1)
                rw [hbest.2] at h6
                omega)
            rwa [show (m : Int) = ((m + 1 : Nat) : Int) + -1 by omega] at h5
          | succ j ihj =>
            intro k best gr hk0 hkn hbg hall
            have hg0 : -1 ≤ gr ∧ gr < 1220703125 := by
              rcases hbg with ⟨-, h2⟩ | ⟨-, h2⟩
              · omega
              · have := nmc_rng (cd T f best b); unfold P13 at this; omega
            refine wX5_codeOf_32 K1 hk1.1 (nb_step (hk1.le (by omega)) h hL hb (by omega) (t.rIa h) (fun c => by omega) (fun _ c => ?_) (fun _ e c => ?_))
            · refine ihj (k + 1) best gr (by omega) (by omega) hbg fun c' hc' hlt => hall c' hc' ?_
              have h8 := (h.mem_chs.mp ((hmem c').mp hc').1)
              rcases Int.lt_or_le c' k with h9 | h9
              · exact h9
              · have : c' = k := by omega
                subst this
                rcases c with c | c
                · rw [h8.1] at c; cases c
                · exact absurd c h8.2
            · have hkc : k ∈ chs T b a := h.mem_chs.mpr ⟨e, c⟩
              have hk13 := hin k hkc
              refine c_has (hk1.le (by omega)) (brz' (fun e2 => ?_) (fun e2 => ?_))
              · refine ihj (k + 1) best gr (by omega) (by omega) hbg fun c' hc' hlt => hall c' hc' ?_
                rcases Int.lt_or_le c' k with h9 | h9
                · exact h9
                · have : c' = k := by omega
                  subst this
                  rw [((hmem c').mp hc').2] at e2; cases e2
              · have hkr : k ∈ remF T b a done := (hmem k).mpr ⟨hkc, e2⟩
                have hr := nmc_rng (cd T f k b)
                have hr2 : nmc (cd T f k b) < 1220703125 := hr.2
                refine ih K1 k b hk1 (hI k hkc) hL ⟨by omega, by omega, fun c3 => ⟨by have := hk1.2.2; omega, ?_⟩, fun c3 => ⟨by have := hk1.2.2; omega, ?_⟩⟩
                · rw [show max gr (nmc (cd T f k b)) = gr by omega]
                  refine ihj (k + 1) best gr (by omega) (by omega) hbg fun c' hc' hlt => ?_
                  rcases Int.lt_or_le c' k with h9 | h9
                  · exact hall c' hc' h9
                  · rw [show c' = k by omega]; exact c3
                · rw [show max gr (nmc (cd T f k b)) = nmc (cd T f k b) by omega]
                  refine ihj (k + 1) k _ (by omega) (by omega) (Or.inr ⟨hkr, rfl⟩) fun c' hc' hlt => ?_
                  rcases Int.lt_or_le c' k with h9 | h9
                  · have := hall c' hc' h9; omega
                  · rw [show c' = k by omega]; omega
        exact inner T.1 0 (-1) (-1) (by decide) (by omega) (Or.inl ⟨rfl, rfl⟩) (fun c hc hlt => by have := hin c ((hmem c).mp hc).1; omega)
    have e0 : remF T b a 0 = chs T b a := by
      unfold remF
      rw [List.filter_eq_self]
      intro c hc
      have := hin c hc
      rw [hasB_zero ⟨this.1, by omega⟩]; rfl
    have := key (chs T b a).length ((chs T b a).length : Int) 0 (by decide) (by rw [e0]) (by rw [e0, hroot])
    exact this
