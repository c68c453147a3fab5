set_option maxRecDepth 100000
/-! contracts of the class and the JDK: the frame of a proof -/
abbrev VK (K : KV) (m : Nat) : Prop := XS K.G ∧ XY K.G ∧ m ≤ K.d
theorem VK.le {K : KV} {n m : Nat} (h : VK K n) (hm : m ≤ n) : VK K m := ⟨h.1, h.2.1, Nat.le_trans hm h.2.2⟩
section VW
variable {K : KV} {Mc : Mt} {As : List Value} {w : Wd} {sz n m : Nat}
theorem CI.run {Φ : Int → WP} (hk : VK K (m + 1)) (k : ∀ K1 : KV, VK K1 m → (∀ x w1 sz1 n1, Φ x w1 sz1 (n + n1) → K1.S (some (vI x)) w1 sz1 n1) → VX K1 Mc 0 (lv_args 0 As) [] w sz 0)
    (hy : plainName Mc.1.cls = true := by decide +kernel) (hfit : (lg_sl As).length ≤ Mc.2.2.1 := by exact Nat.le_of_ble_eq_true rfl) : CI Mc K As w sz n Φ :=
  ⟨m, by have := hk.2.2; omega, Ret.of hy hfit (k (K.l, K.G, m, As, sz, fun r w1 sz1 n1 => ∃ x : Int, r = some (vI x) ∧ Φ x w1 sz1 (n + n1)) ⟨hk.1, hk.2.1, Nat.le_refl _⟩ (fun x w1 sz1 n1 h => ⟨x, rfl, h⟩))⟩
theorem CL.run {Φ : Int → WP} (hk : VK K (m + 1)) (k : ∀ K1 : KV, VK K1 m → (∀ x w1 sz1 n1, Φ x w1 sz1 (n + n1) → K1.S (some (vL x)) w1 sz1 n1) → VX K1 Mc 0 (lv_args 0 As) [] w sz 0)
    (hy : plainName Mc.1.cls = true := by decide +kernel) (hfit : (lg_sl As).length ≤ Mc.2.2.1 := by exact Nat.le_of_ble_eq_true rfl) : CL Mc K As w sz n Φ :=
  ⟨m, by have := hk.2.2; omega, Ret.of hy hfit (k (K.l, K.G, m, As, sz, fun r w1 sz1 n1 => ∃ x : Int, r = some (vL x) ∧ Φ x w1 sz1 (n + n1)) ⟨hk.1, hk.2.1, Nat.le_refl _⟩ (fun x w1 sz1 n1 h => ⟨x, rfl, h⟩))⟩
theorem CQ.run {Φ : Option Nat → WP} (hk : VK K (m + 1)) (k : ∀ K1 : KV, VK K1 m → (∀ x w1 sz1 n1, Φ x w1 sz1 (n + n1) → K1.S (some (va_rf x)) w1 sz1 n1) → VX K1 Mc 0 (lv_args 0 As) [] w sz 0)
    (hy : plainName Mc.1.cls = true := by decide +kernel) (hfit : (lg_sl As).length ≤ Mc.2.2.1 := by exact Nat.le_of_ble_eq_true rfl) : CQ Mc K As w sz n Φ :=
  ⟨m, by have := hk.2.2; omega, Ret.of hy hfit (k (K.l, K.G, m, As, sz, fun r w1 sz1 n1 => ∃ x : Option Nat, r = some (va_rf x) ∧ Φ x w1 sz1 (n + n1)) ⟨hk.1, hk.2.1, Nat.le_refl _⟩ (fun x w1 sz1 n1 h => ⟨x, rfl, h⟩))⟩
theorem CV.run {Φ : WP} (hk : VK K (m + 1)) (k : ∀ K1 : KV, VK K1 m → (∀ w1 sz1 n1, Φ w1 sz1 (n + n1) → K1.S none w1 sz1 n1) → VX K1 Mc 0 (lv_args 0 As) [] w sz 0)
    (hy : plainName Mc.1.cls = true := by decide +kernel) (hfit : (lg_sl As).length ≤ Mc.2.2.1 := by exact Nat.le_of_ble_eq_true rfl) : CV Mc K As w sz n Φ :=
  ⟨m, by have := hk.2.2; omega, Ret.of hy hfit (k (K.l, K.G, m, As, sz, fun r w1 sz1 n1 => r = none ∧ Φ w1 sz1 (n + n1)) ⟨hk.1, hk.2.1, Nat.le_refl _⟩ (fun w1 sz1 n1 h => ⟨rfl, h⟩))⟩
end VW
/-! a String's letters -/
theorem j_checkIndex2 {K : KV} (hk : VK K 3) {i len : Int} (hi : 0 ≤ i ∧ i < len) (hl : len < 2147483648) {w : Wd} {sz n : Nat} {Φ : WP} (h : Φ w sz n) : CV mJ2_checkIndex K [vI i, vI len] w sz n Φ :=
  CV.run (m := 2) hk (fun K1 hk1 hS => wJ2_checkIndex_0 K1 hk1.2.1 fun g1 => CI.run (m := 1) (hfit := by cases g1 <;> exact Nat.le_of_ble_eq_true rfl) hk1 (fun K2 hk2 hS2 => wJ7_checkIndexq_0 K2 ⟨by omega, fun c => by omega, fun _ => ⟨by omega, fun _ => hS2 _ _ _ _ (hS _ _ _ h), fun c => by omega⟩⟩))
theorem byte_char : ∀ k : Fin 256, i2c (iand ((k : Nat) : Int) 255) = ((k : Nat) : Int) := by decide +kernel
theorem byte_char' {z : Int} (h : 0 ≤ z ∧ z < 256) : i2c (iand z 255) = z := by
  have := byte_char ⟨z.toNat, by omega⟩
  rwa [show (((⟨z.toNat, by omega⟩ : Fin 256) : Nat) : Int) = z by show ((z.toNat : Nat) : Int) = z; omega] at this
theorem j_charAt {K : KV} (hk : VK K 6) {q b len : Nat} {f : Int → Int} {i : Int} {w : Wd} {sz n : Nat} (hq : w q = some (obS b)) (hb : w b = some (obA 2 len f)) (hi : 0 ≤ i ∧ i < (len : Int)) (hl : len < 2147483648) (hf : 0 ≤ f i ∧ f i < 256) {Φ : Int → WP} (h : Φ (f i) w sz n) : CI mJ2_charAt K [.ref q, vI i] w sz n Φ := by
  refine CI.run (m := 5) hk (fun K1 hk1 hS => wJ2_charAt_0 K1 ⟨b, hq, CI.run (m := 4) hk1 (fun K2 hk2 hS2 => wJ2_isLatin1_0 K2 hk2.2.1 ⟨b, hq, hS2 _ _ _ _ ?_⟩)⟩)
  refine ⟨by decide, fun c => absurd c (by decide), fun _ => ⟨b, hq, CI.run (m := 4) hk1 (fun K3 hk3 hS3 => wJ8_charAt_0 K3 ⟨len, f, hb, j_checkIndex2 (hk3.le (by decide)) hi (by omega) ⟨len, f, hb, hi, hl, ?_⟩⟩)⟩⟩
  rw [byte_char' hf]
  exact ⟨hf, hS3 _ _ _ _ ⟨hf, hS _ _ _ _ h⟩⟩
