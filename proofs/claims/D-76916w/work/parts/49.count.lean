set_option maxRecDepth 100000
/-! how many there are -/
def tkn (x : Int) : Nat → Int
  | 0 => 1
  | k + 1 => (tkn x k * (x + (k : Int))) / ((k : Int) + 1)
def TWl : List Int := [1, 1, 1, 2, 4, 8, 17, 39, 89, 211, 507, 1238, 3057, 7639, 19241, 48865, 124906, 321198, 830219, 2156010, 5622109]
def TW (i : Int) : Int := TWl.getD i.toNat 0
/-- rows of so many twigs, from a size on, with so many atoms -/
def rws : Nat → Int → Int → Int → Int
  | 0, _, _, _ => 0
  | f + 1, n, from1, at1 => if n = 0 then (if at1 = 0 then 1 else 0) else
    sumI ((rgf from1 (at1 / n + 1 - from1).toNat).map fun size => sumI ((rgf 1 n.toNat).map fun k => tkn (TW size) k.toNat * rws f (n - k) (size + 1) (at1 - size * k)))
def prs (n : Int) : Int := sumI ((rgf 1 (n / 2).toNat).map fun a => if 2 * a = n then tkn (TW a) 2 else TW a * TW (n - a))
def hlf (n : Int) : Int := if n % 2 = 0 then TW (n / 2) else 0
def opCounted (w n : Int) : Int := if (0 ≤ w ∧ w ≤ 4) ∧ 1 ≤ n ∧ n ≤ 20 then (if w = 0 then TW n else if w = 1 then rws 5 4 0 (n - 1) else if w = 2 then prs n else if w = 3 then hlf n else rws 5 4 0 (n - 1) - prs n + hlf n) else -9223372036854775808
def TWok : Nat → Bool
  | 0 => true
  | k + 1 => decide (rws 5 3 0 (k : Int) = TW ((k : Int) + 1)) && TWok k
theorem TWok_20 : TWok 20 = true := by decide +kernel
theorem TWok_of : ∀ {n : Nat}, TWok n = true → ∀ k : Nat, k < n → rws 5 3 0 (k : Int) = TW ((k : Int) + 1)
  | n + 1, h, k, hk => by
    unfold TWok at h
    rw [Bool.and_eq_true] at h
    rcases Nat.lt_or_ge k n with h1 | h1
    · exact TWok_of h.2 k h1
    · rw [show k = n by omega]; exact of_decide_eq_true h.1
theorem TW_rec {k : Int} (h : 1 ≤ k ∧ k ≤ 20) : rws 5 3 0 (k - 1) = TW k := by
  have := TWok_of TWok_20 (k - 1).toNat (by omega)
  rwa [show (((k - 1).toNat : Nat) : Int) = k - 1 by omega, show k - 1 + 1 = k by omega] at this
/-- taking some never leaves a long's range -/
theorem tkn_rng : ∀ s : Fin 21, ∀ k : Fin 5, (s : Nat) * (k : Nat) ≤ 20 → ∀ j : Fin 5, (j : Nat) < (k : Nat) → rL (tkn (TW ((s : Nat) : Int)) (j : Nat) * (TW ((s : Nat) : Int) + ((j : Nat) : Int))) := by decide +kernel
theorem tkn_ok {s : Int} {k j : Nat} (hs : 0 ≤ s ∧ s ≤ 20) (hk : k ≤ 4) (hsk : s * (k : Int) ≤ 20) (hj : j < k) : rL (tkn (TW s) j * (TW s + (j : Int))) := by
  have h2 : s.toNat * k ≤ 20 := by
    have h3 : ((s.toNat * k : Nat) : Int) = s * (k : Int) := by rw [Int.natCast_mul, show ((s.toNat : Nat) : Int) = s by omega]
    omega
  have := tkn_rng ⟨s.toNat, by omega⟩ ⟨k, by omega⟩ h2 ⟨j, by omega⟩ hj
  rwa [show (((⟨s.toNat, by omega⟩ : Fin 21) : Nat) : Int) = s by show ((s.toNat : Nat) : Int) = s; omega] at this
theorem TW_ge : ∀ s : Fin 21, 0 ≤ TW ((s : Nat) : Int) := by decide +kernel
theorem TW_ge' {s : Int} (h : 0 ≤ s ∧ s ≤ 20) : 0 ≤ TW s := by
  have := TW_ge ⟨s.toNat, by omega⟩
  rwa [show (((⟨s.toNat, by omega⟩ : Fin 21) : Nat) : Int) = s by show ((s.toNat : Nat) : Int) = s; omega] at this
theorem tkn_ge {x : Int} (h : 0 ≤ x) : ∀ k, 0 ≤ tkn x k
  | 0 => (by show (0 : Int) ≤ 1; decide)
  | k + 1 => Int.ediv_nonneg (Int.mul_nonneg (tkn_ge h k) (by omega)) (by omega)
