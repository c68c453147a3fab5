set_option maxRecDepth 100000
/-! yes and no as numbers -/
def bz (b : Bool) : Int := if b then 1 else 0
theorem bz_t : bz true = 1 := rfl
theorem bz_f : bz false = 0 := rfl
theorem bz01 (b : Bool) : bz b = 0 ∨ bz b = 1 := by cases b; exact Or.inl rfl; exact Or.inr rfl
theorem rI_bz (b : Bool) : rI (bz b) := by cases b <;> exact ⟨by decide, by decide⟩
theorem brz {b : Bool} {P Q : Prop} (h0 : b = false → P) (h1 : b = true → Q) : rI (bz b) ∧ ((bz b = 0 → P) ∧ (¬ bz b = 0 → Q)) := by
  refine ⟨rI_bz b, fun c => h0 ?_, fun c => h1 ?_⟩
  · cases b; rfl; exact absurd c (by decide)
  · cases b; exact absurd rfl c; rfl
theorem brz' {b : Bool} {P Q : Prop} (h1 : b = true → Q) (h0 : b = false → P) : rI (bz b) ∧ ((¬ bz b = 0 → Q) ∧ (bz b = 0 → P)) := by
  have := brz h0 h1
  exact ⟨this.1, this.2.2, this.2.1⟩
/-! bits of small numbers -/
abbrev sm (z : Int) : Prop := 0 ≤ z ∧ z < 8192
theorem bv_nat {a : Int} (h : 0 ≤ a ∧ a < 2147483648) : (iI a).toBitVec.toNat = a.toNat := by
  unfold iI
  show (BitVec.ofInt 32 a).toNat = a.toNat
  rw [BitVec.toNat_ofInt]; omega
theorem int_nat {x : Int32} (h : x.toBitVec.toNat < 2147483648) : x.toInt = (x.toBitVec.toNat : Int) :=
  BitVec.toInt_eq_toNat_of_lt (by omega)
theorem iand_nat {a b : Int} (ha : 0 ≤ a ∧ a < 2147483648) (hb : 0 ≤ b ∧ b < 2147483648) : iand a b = ((a.toNat &&& b.toNat : Nat) : Int) := by
  have e : (iI a &&& iI b).toBitVec.toNat = a.toNat &&& b.toNat := by rw [Int32.toBitVec_and, BitVec.toNat_and, bv_nat ha, bv_nat hb]
  unfold iand
  rw [int_nat, e]
  rw [e]
  have := Nat.and_le_left (n := a.toNat) (m := b.toNat)
  omega
theorem ior_nat {a b : Int} (ha : 0 ≤ a ∧ a < 2147483648) (hb : 0 ≤ b ∧ b < 2147483648) : ior a b = ((a.toNat ||| b.toNat : Nat) : Int) := by
  have e : (iI a ||| iI b).toBitVec.toNat = a.toNat ||| b.toNat := by rw [Int32.toBitVec_or, BitVec.toNat_or, bv_nat ha, bv_nat hb]
  unfold ior
  rw [int_nat, e]
  rw [e]
  have := Nat.or_lt_two_pow (n := 31) (x := a.toNat) (y := b.toNat) (by omega) (by omega)
  omega
theorem sh_amt : ∀ k : Fin 32, ((iI ((k : Nat) : Int) &&& 31).toBitVec.smod 32).toNat = (k : Nat) := by decide
theorem ishr_nat {a b : Int} (ha : 0 ≤ a ∧ a < 2147483648) (hb : 0 ≤ b ∧ b < 32) : ishr a b = ((a.toNat >>> b.toNat : Nat) : Int) := by
  have e : (iI a >>> (iI b &&& 31)).toInt = (iI a).toInt >>> b.toNat := by
    show (iI a >>> (iI b &&& 31)).toBitVec.toInt = (iI a).toBitVec.toInt >>> b.toNat
    rw [Int32.toBitVec_shiftRight, BitVec.sshiftRight_eq', BitVec.toInt_sshiftRight]
    have h1 := sh_amt ⟨b.toNat, by omega⟩
    rw [show (((⟨b.toNat, by omega⟩ : Fin 32) : Nat) : Int) = b by show ((b.toNat : Nat) : Int) = b; omega] at h1
    rw [h1]
  unfold ishr
  rw [e, iI_toInt ⟨by omega, by omega⟩]
  conv => lhs; rw [show a = ((a.toNat : Nat) : Int) by omega]
  rfl
theorem ishl_one : ∀ k : Fin 31, ishl 1 ((k : Nat) : Int) = (((2 ^ (k : Nat) : Nat)) : Int) := by decide
theorem ishl1 {k : Int} (h : 0 ≤ k ∧ k < 31) : ishl 1 k = ((2 ^ k.toNat : Nat) : Int) := by
  have h1 := ishl_one ⟨k.toNat, by omega⟩
  rwa [show (((⟨k.toNat, by omega⟩ : Fin 31) : Nat) : Int) = k by show ((k.toNat : Nat) : Int) = k; omega] at h1
/-- whether a bit is set -/
def hasB (z b : Int) : Bool := decide (iand (ishr z b) 1 = 1)
theorem rI_iand (a b : Int) : rI (iand a b) := iI_rng _
theorem rI_ior (a b : Int) : rI (ior a b) := iI_rng _
theorem hasB_nat {z b : Int} (hz : 0 ≤ z ∧ z < 2147483648) (hb : 0 ≤ b ∧ b < 32) : hasB z b = z.toNat.testBit b.toNat := by
  unfold hasB
  have h1 : z.toNat >>> b.toNat ≤ z.toNat := Nat.shiftRight_le _ _
  rw [ishr_nat hz hb, Nat.testBit]
  generalize z.toNat >>> b.toNat = u at h1 ⊢
  rw [iand_nat ⟨by omega, by omega⟩ (by decide)]
  show decide (((u &&& 1 : Nat) : Int) = 1) = _
  rw [Nat.and_comm]
  have h2 : ∀ n : Nat, decide (((1 &&& n : Nat) : Int) = 1) = (1 &&& n != 0) := by
    intro n
    have := Nat.and_le_left (n := 1) (m := n)
    rw [Bool.eq_iff_iff]
    simp
    omega
  exact h2 _
theorem p2_lt {k : Int} (h : 0 ≤ k ∧ k < 13) : 2 ^ k.toNat < 8192 := by
  have : (2 : Nat) ^ k.toNat < 2 ^ 13 := Nat.pow_lt_pow_right (by decide) (by omega)
  exact this
theorem sm_bit {k : Int} (h : 0 ≤ k ∧ k < 13) : sm (ishl 1 k) := by
  rw [ishl1 ⟨h.1, by omega⟩]
  have h1 := p2_lt h
  generalize 2 ^ k.toNat = u at h1 ⊢
  omega
theorem sm_ior {a b : Int} (ha : sm a) (hb : sm b) : sm (ior a b) := by
  rw [ior_nat (by omega) (by omega)]
  have := Nat.or_lt_two_pow (n := 13) (x := a.toNat) (y := b.toNat) (by omega) (by omega)
  omega
theorem hasB_set {z k b : Int} (hz : sm z) (hk : 0 ≤ k ∧ k < 13) (hb : 0 ≤ b ∧ b < 32) : hasB (ior z (ishl 1 k)) b = (hasB z b || b == k) := by
  have h1 := sm_bit hk
  have h2 := sm_ior hz h1
  rw [hasB_nat (by omega) hb, hasB_nat (by omega) hb, ior_nat (by omega) (by omega), ishl1 ⟨hk.1, by omega⟩]
  show (z.toNat ||| 2 ^ k.toNat).testBit b.toNat = _
  rw [Nat.testBit_or, Nat.testBit_two_pow]
  congr 1
  rw [Bool.eq_iff_iff]
  simp
  omega
theorem hasB_zero {b : Int} (hb : 0 ≤ b ∧ b < 32) : hasB 0 b = false := by
  rw [hasB_nat (by decide) hb]; exact Nat.zero_testBit _
theorem iclr_nat {z k : Int} (hz : sm z) (hk : 0 ≤ k ∧ k < 13) : iand z (ixor (ishl 1 k) (-1)) = ((z.toNat &&& (2 ^ k.toNat ^^^ 4294967295) : Nat) : Int) := by
  have h1 := sm_bit hk
  have e : (iI z &&& iI (ixor (ishl 1 k) (-1))).toBitVec.toNat = z.toNat &&& (2 ^ k.toNat ^^^ 4294967295) := by
    unfold ixor
    rw [iI_of, Int32.toBitVec_and, BitVec.toNat_and, bv_nat (by omega), Int32.toBitVec_xor, BitVec.toNat_xor, bv_nat (by omega), ishl1 ⟨hk.1, by omega⟩]
    rfl
  unfold iand
  rw [int_nat, e]
  rw [e]
  have := Nat.and_le_left (n := z.toNat) (m := 2 ^ k.toNat ^^^ 4294967295)
  omega
theorem sm_iclr {z k : Int} (hz : sm z) (hk : 0 ≤ k ∧ k < 13) : sm (iand z (ixor (ishl 1 k) (-1))) := by
  rw [iclr_nat hz hk]
  have := Nat.and_le_left (n := z.toNat) (m := 2 ^ k.toNat ^^^ 4294967295)
  omega
theorem hasB_clr {z k b : Int} (hz : sm z) (hk : 0 ≤ k ∧ k < 13) (hb : 0 ≤ b ∧ b < 32) : hasB (iand z (ixor (ishl 1 k) (-1))) b = (hasB z b && !(b == k)) := by
  have h2 := sm_iclr hz hk
  rw [hasB_nat (by omega) hb, hasB_nat (by omega) hb, iclr_nat hz hk]
  show (z.toNat &&& (2 ^ k.toNat ^^^ 4294967295)).testBit b.toNat = _
  rw [Nat.testBit_and, Nat.testBit_xor, Nat.testBit_two_pow, show (4294967295 : Nat) = 2 ^ 32 - 1 from rfl, Nat.testBit_two_pow_sub_one]
  congr 1
  rw [Bool.eq_iff_iff]
  simp
  omega
/-- the bits that are set -/
def bitsOf (z : Int) : List Int := (rg 13).filter (fun b => hasB z b)
theorem sm_ext {z y : Int} (hz : sm z) (hy : sm y) (h : ∀ b, 0 ≤ b → b < 13 → hasB z b = hasB y b) : z = y := by
  have : z.toNat = y.toNat := by
    refine Nat.eq_of_testBit_eq fun i => ?_
    rcases Nat.lt_or_ge i 13 with h1 | h1
    · have := h (i : Int) (by omega) (by omega)
      rw [hasB_nat (by omega) (by omega), hasB_nat (by omega) (by omega)] at this
      exact this
    · have hp : (8192 : Nat) ≤ 2 ^ i := Nat.pow_le_pow_right (n := 2) (by decide) h1
      rw [Nat.testBit_lt_two_pow (by omega), Nat.testBit_lt_two_pow (by omega)]
  omega
def popN (x0 : Int) : Int := iand (((iand (((iand (x0 - (iand (iushr x0 1) 1431655765)) 858993459) + (iand (iushr (x0 - (iand (iushr x0 1) 1431655765)) 2) 858993459)) + (iushr ((iand (x0 - (iand (iushr x0 1) 1431655765)) 858993459) + (iand (iushr (x0 - (iand (iushr x0 1) 1431655765)) 2) 858993459)) 4)) 252645135) + (iushr (iand (((iand (x0 - (iand (iushr x0 1) 1431655765)) 858993459) + (iand (iushr (x0 - (iand (iushr x0 1) 1431655765)) 2) 858993459)) + (iushr ((iand (x0 - (iand (iushr x0 1) 1431655765)) 858993459) + (iand (iushr (x0 - (iand (iushr x0 1) 1431655765)) 2) 858993459)) 4)) 252645135) 8)) + (iushr ((iand (((iand (x0 - (iand (iushr x0 1) 1431655765)) 858993459) + (iand (iushr (x0 - (iand (iushr x0 1) 1431655765)) 2) 858993459)) + (iushr ((iand (x0 - (iand (iushr x0 1) 1431655765)) 858993459) + (iand (iushr (x0 - (iand (iushr x0 1) 1431655765)) 2) 858993459)) 4)) 252645135) + (iushr (iand (((iand (x0 - (iand (iushr x0 1) 1431655765)) 858993459) + (iand (iushr (x0 - (iand (iushr x0 1) 1431655765)) 2) 858993459)) + (iushr ((iand (x0 - (iand (iushr x0 1) 1431655765)) 858993459) + (iand (iushr (x0 - (iand (iushr x0 1) 1431655765)) 2) 858993459)) 4)) 252645135) 8)) 16)) 63
def cntN : Nat → Nat → Nat
  | 0, _ => 0
  | m + 1, z => z % 2 + cntN m (z / 2)
theorem iushr_amt : ∀ k : Fin 32, ((iI ((k : Nat) : Int)).toUInt32 &&& Int32.toUInt32 31).toNat % 32 = (k : Nat) := by decide
theorem iushr_nat {a k : Nat} (ha : a < 2147483648) (hk : k < 32) : iushr (a : Int) (k : Int) = ((a >>> k : Nat) : Int) := by
  have e : ((iI (a : Int)).toUInt32 >>> ((iI (k : Int)).toUInt32 &&& Int32.toUInt32 31)).toInt32.toBitVec.toNat = a >>> k := by
    show ((iI (a : Int)).toUInt32 >>> ((iI (k : Int)).toUInt32 &&& Int32.toUInt32 31)).toNat = _
    have h1 := iushr_amt ⟨k, hk⟩
    have h2 : (iI (a : Int)).toUInt32.toNat = a := bv_nat (a := (a : Int)) ⟨by omega, by omega⟩
    rw [UInt32.toNat_shiftRight, h1, h2]
  unfold iushr
  rw [int_nat, e]
  rw [e]
  exact Nat.lt_of_le_of_lt (Nat.shiftRight_le _ _) ha
theorem iandN {x y : Nat} (hx : x < 2147483648) (hy : y < 2147483648) : iand (x : Int) (y : Int) = ((x &&& y : Nat) : Int) := by
  rw [iand_nat ⟨by omega, by omega⟩ ⟨by omega, by omega⟩]; rfl
def popA (z : Nat) : Nat := z - ((z >>> 1) &&& 1431655765)
def popB (a : Nat) : Nat := (a &&& 858993459) + ((a >>> 2) &&& 858993459)
def popC (b : Nat) : Nat := (b + (b >>> 4)) &&& 252645135
def popD (c k : Nat) : Nat := c + (c >>> k)
def popT (z : Nat) : Nat := popD (popD (popC (popB (popA z))) 8) 16 &&& 63
def popK : Nat → Bool
  | 0 => true
  | n + 1 => (popT n).beq (cntN 13 n) && popK n
theorem popK_all : popK 8192 = true := by decide +kernel
theorem popK_of : ∀ {n : Nat}, popK n = true → ∀ z, z < n → popT z = cntN 13 z
  | n + 1, h, z, hz => by
    unfold popK at h
    rw [Bool.and_eq_true] at h
    rcases Nat.lt_or_ge z n with h1 | h1
    · exact popK_of h.2 z h1
    · rw [show z = n by omega]; exact Nat.eq_of_beq_eq_true h.1
theorem popA_eq {z : Nat} (hz : z < 8192) : (z : Int) - iand (iushr (z : Int) 1) 1431655765 = (popA z : Int) ∧ popA z ≤ z := by
  have h1 : iushr (z : Int) 1 = ((z >>> 1 : Nat) : Int) := iushr_nat (k := 1) (by omega) (by decide)
  have h2 := Nat.shiftRight_le z 1
  have h3 := Nat.and_le_left (n := z >>> 1) (m := 1431655765)
  have h4 : iand ((z >>> 1 : Nat) : Int) 1431655765 = ((z >>> 1 &&& 1431655765 : Nat) : Int) := iandN (y := 1431655765) (by omega) (by decide)
  unfold popA
  rw [h1, h4]
  generalize z >>> 1 &&& 1431655765 = u at h3 ⊢
  generalize z >>> 1 = v at h2 h3
  omega
theorem popB_eq {a : Nat} (ha : a < 8192) : iand (a : Int) 858993459 + iand (iushr (a : Int) 2) 858993459 = (popB a : Int) ∧ popB a ≤ 2 * a := by
  have h1 : iushr (a : Int) 2 = ((a >>> 2 : Nat) : Int) := iushr_nat (k := 2) (by omega) (by decide)
  have h2 := Nat.shiftRight_le a 2
  have h3 := Nat.and_le_left (n := a >>> 2) (m := 858993459)
  have h4 := Nat.and_le_left (n := a) (m := 858993459)
  have h5 : iand ((a >>> 2 : Nat) : Int) 858993459 = ((a >>> 2 &&& 858993459 : Nat) : Int) := iandN (y := 858993459) (by omega) (by decide)
  have h6 : iand (a : Int) 858993459 = ((a &&& 858993459 : Nat) : Int) := iandN (y := 858993459) (by omega) (by decide)
  unfold popB
  rw [h1, h5, h6]
  generalize a >>> 2 &&& 858993459 = u at h3 ⊢
  generalize a &&& 858993459 = v at h4 ⊢
  generalize a >>> 2 = t at h2 h3
  omega
theorem popC_eq {b : Nat} (hb : b < 20000) : iand ((b : Int) + iushr (b : Int) 4) 252645135 = (popC b : Int) ∧ popC b ≤ 2 * b := by
  have h1 : iushr (b : Int) 4 = ((b >>> 4 : Nat) : Int) := iushr_nat (k := 4) (by omega) (by decide)
  have h2 := Nat.shiftRight_le b 4
  have h3 := Nat.and_le_left (n := b + b >>> 4) (m := 252645135)
  unfold popC
  rw [h1]
  generalize b >>> 4 = u at h2 h3 ⊢
  have h5 : iand ((b + u : Nat) : Int) 252645135 = ((b + u &&& 252645135 : Nat) : Int) := iandN (y := 252645135) (by omega) (by decide)
  rw [show (b : Int) + (u : Int) = ((b + u : Nat) : Int) by omega, h5]
  exact ⟨rfl, by omega⟩
theorem popD_eq {c k : Nat} (hc : c < 200000) (hk : k < 32) : (c : Int) + iushr (c : Int) (k : Int) = (popD c k : Int) ∧ popD c k ≤ 2 * c := by
  have h2 := Nat.shiftRight_le c k
  unfold popD
  rw [iushr_nat (by omega) hk]
  generalize c >>> k = u at h2 ⊢
  omega
theorem pop_all (z : Nat) (hz : z < 8192) : popN (z : Int) = (cntN 13 z : Int) := by
  rw [← popK_of popK_all z hz]
  obtain ⟨a1, a2⟩ := popA_eq hz
  obtain ⟨b1, b2⟩ := popB_eq (a := popA z) (by omega)
  obtain ⟨c1, c2⟩ := popC_eq (b := popB (popA z)) (by omega)
  obtain ⟨d1, d2⟩ := popD_eq (c := popC (popB (popA z))) (k := 8) (by omega) (by decide)
  obtain ⟨e1, e2⟩ := popD_eq (c := popD (popC (popB (popA z))) 8) (k := 16) (by omega) (by decide)
  unfold popN
  rw [a1, b1, c1]
  rw [show (8 : Int) = ((8 : Nat) : Int) from rfl, d1]
  rw [show (16 : Int) = ((16 : Nat) : Int) from rfl, e1]
  exact iandN (y := 63) (by omega) (by decide)
theorem cnt_bits : ∀ (m k z : Nat), (((rgf (k : Int) m).filter (fun b => z.testBit b.toNat)).length) = cntN m (z / 2 ^ k) := by
  intro m
  induction m with
  | zero => intro k z; rfl
  | succ m ih =>
    intro k z
    rw [rgf, List.filter_cons]
    have h1 := ih (k + 1) z
    rw [show ((k + 1 : Nat) : Int) = (k : Int) + 1 by omega] at h1
    have h2 : z.testBit ((k : Nat) : Int).toNat = decide ((z / 2 ^ k) % 2 = 1) := by
      rw [show ((k : Nat) : Int).toNat = k by omega, Nat.testBit_eq_decide_div_mod_eq]
    rw [cntN, Nat.div_div_eq_div_mul, ← Nat.pow_succ, ← h1]
    by_cases h3 : (z / 2 ^ k) % 2 = 1
    · rw [if_pos (by rw [h2]; exact decide_eq_true h3), List.length_cons]; omega
    · rw [if_neg (by rw [h2]; simpa using h3)]; omega
theorem pop_bits {z : Int} (h : sm z) : popN z = ((bitsOf z).length : Int) := by
  have h1 := pop_all z.toNat (show z.toNat < 8192 by omega)
  rw [show ((z.toNat : Nat) : Int) = z by omega] at h1
  rw [h1]
  congr 1
  have h2 := cnt_bits 13 0 z.toNat
  rw [Nat.pow_zero, Nat.div_one] at h2
  rw [← h2]
  unfold bitsOf
  congr 1
  refine List.filter_congr fun b hb => ?_
  rw [mem_rgf] at hb
  exact (hasB_nat (by omega) (by omega)).symm
