set_option maxRecDepth 100000
/-! the tape: the reference -/
abbrev byA (tp : List Int) (p : Int) : Int := if p < (tp.length : Int) then tp.getD p.toNat 0 else -1
abbrev TP (tp : List Int) (F : Nat → Int) (A : Nat → Int → Int) : Prop := F 31 = (tp.length : Int) ∧ arr (A 18) 0 tp
abbrev TPok (tp : List Int) : Prop := tp.length ≤ 80 ∧ ∀ c ∈ tp, 0 ≤ c ∧ c ≤ 127
theorem byA_rng {tp : List Int} (h : TPok tp) {p : Int} (hp : 0 ≤ p) : -1 ≤ byA tp p ∧ byA tp p ≤ 127 := by
  unfold byA
  split
  · have := h.2 _ (getD_mem (l := tp) (i := p.toNat) (by omega)); omega
  · decide
theorem c_byteAt {K : KM} (hk : MK K 1) {tp : List Int} (ho : TPok tp) {p : Int} (hp : 0 ≤ p ∧ rI p) {F : Nat → Int} {A : Nat → Int → Int} {Φ : PI} (hT : TP tp F A) (h : Φ (byA tp p) F A) : RI mX5_byteAt K [.ref K.m, vI p] F A Φ := by
  have hl := ho.1
  unfold byA at h
  refine RI.w (n := 0) hk (fun K1 hk1 hS => wX5_byteAt_0 K1 hk1.1 ?_)
  rw [hT.1]
  refine ⟨hp.2, by omega, fun c => hS _ _ _ ?_, fun c => ⟨by omega, hS _ _ _ ?_⟩⟩
  · rwa [if_neg (by omega)] at h
  · rw [if_pos (by omega)] at h
    have := hT.2 p.toNat (by omega)
    rw [show (0 : Int) + ((p.toNat : Nat) : Int) = p by omega] at this
    rwa [this]
/-- one byte is taken where it stands -/
theorem c_takes {K : KM} (hk : MK K 2) {tp : List Int} (ho : TPok tp) {c : Int} (hc : rI c) {F : Nat → Int} {A : Nat → Int → Int} {Φ : PI} (hT : TP tp F A) (hp : 0 ≤ F 34 ∧ F 34 ≤ 100) (hY : byA tp (F 34) = c → Φ 1 (upN F 34 (F 34 + 1)) A) (hN : byA tp (F 34) ≠ c → Φ 0 F A) : RI mX5_takes K [.ref K.m, vI c] F A Φ := by
  have hr := byA_rng ho hp.1
  refine RI.w (n := 1) hk (fun K1 hk1 hS => wX5_takes_0 K1 hk1.1 (c_byteAt hk1 ho ⟨hp.1, by omega⟩ hT ⟨by omega, hc, fun e => hS _ _ _ (hY e), fun e => hS _ _ _ (hN e)⟩))
/-- a number of one or two digits: its value and how many bytes; none if there is none -/
def numA (tp : List Int) (p : Int) : Option (Int × Int) := if 49 ≤ byA tp p ∧ byA tp p ≤ 57 then (if isDg (byA tp (p + 1)) then some (10 * (byA tp p - 48) + byA tp (p + 1) - 48, 2) else some (byA tp p - 48, 1)) else none
theorem c_takesNumber {K : KM} (hk : MK K 3) {tp : List Int} (ho : TPok tp) {F : Nat → Int} {A : Nat → Int → Int} {Φ : PI} (hT : TP tp F A) (hp : 0 ≤ F 34 ∧ F 34 ≤ 100) (h45 : 0 ≤ F 45 ∧ F 45 < 80)
    (hY : ∀ v q, numA tp (F 34) = some (v, q) → Φ 1 (upN (upN F 34 (F 34 + q)) 45 (F 45 + 1)) (upA A 26 (F 45) v)) (hN : numA tp (F 34) = none → Φ 0 F A) : RI mX5_takesNumber K [.ref K.m] F A Φ := by
  have hr := byA_rng ho hp.1
  have hr2 := byA_rng ho (p := F 34 + 1) (by omega)
  unfold numA at hY hN
  refine RI.w (n := 2) hk (fun K1 hk1 hS => wX5_takesNumber_0 K1 hk1.1 (c_byteAt (hk1.le (by decide)) ho ⟨hp.1, by omega⟩ hT ⟨by omega, fun c => hS _ _ _ (hN (if_neg (by omega))), fun c => ⟨fun c2 => ?_, fun c2 => hS _ _ _ (hN (if_neg (by omega)))⟩⟩))
  rw [if_pos (by omega)] at hY
  have hT1 : TP tp (upN F 34 (F 34 + 1)) A := ⟨by rw [upN_ne _ _ (by decide)]; exact hT.1, hT.2⟩
  refine c_byteAt (hk1.le (by decide)) ho ⟨by omega, by omega⟩ hT1 (c_isDigit (hk1.le (by decide)) (by omega) (brz (fun e => ?_) (fun e => ?_)))
  · rw [if_neg (by rw [e]; decide)] at hY
    rw [upN_ne F (k := 34) _ (show (45 : Nat) ≠ 34 by decide)]
    exact ⟨h45, hS _ _ _ (hY _ _ rfl)⟩
  · rw [if_pos e] at hY
    rw [upN_eq]
    refine c_byteAt (hk1.le (by decide)) ho ⟨by omega, by omega⟩ hT1 ?_
    rw [upN_ne F (k := 34) _ (show (45 : Nat) ≠ 34 by decide), upN_eq]
    refine ⟨h45, hS _ _ _ ?_⟩
    have := hY _ _ rfl
    have e2 : upN (upN F 34 (F 34 + 1)) 34 (F 34 + 1 + 1) = upN F 34 (F 34 + 2) := by
      funext k
      unfold upN
      split
      · omega
      · rfl
    rw [e2]; exact this
