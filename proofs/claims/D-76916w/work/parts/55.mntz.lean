set_option maxRecDepth 100000
/-! trailing noughts of a bit -/
theorem w_ntz0 (K : KV) {w : Wd} {sz n : Nat} (h : K.S (some (vI 0)) w sz n) : VX K mJ9_numberOfTrailingZeros 0 [(0, vI 1)] [] w sz n :=
  wJ9_numberOfTrailingZeros_0 K ⟨by decide +kernel, ⟨fun c => absurd c (by decide +kernel), fun _ => (Eq.mp (congrArg (fun z => K.S (some (vI z)) w sz n) (show (0 : Int) = _ by decide +kernel)) h)⟩⟩
theorem w_ntz1 (K : KV) {w : Wd} {sz n : Nat} (h : K.S (some (vI 1)) w sz n) : VX K mJ9_numberOfTrailingZeros 0 [(0, vI 2)] [] w sz n :=
  wJ9_numberOfTrailingZeros_0 K ⟨by decide +kernel, ⟨fun _ => ⟨fun _ => ⟨fun _ => ⟨fun _ => ⟨fun _ => (Eq.mp (congrArg (fun z => K.S (some (vI z)) w sz n) (show (1 : Int) = _ by decide +kernel)) h), fun c => absurd (by decide +kernel) c⟩, fun c => absurd (by decide +kernel) c⟩, fun c => absurd (by decide +kernel) c⟩, fun c => absurd (by decide +kernel) c⟩, fun c => absurd (by decide +kernel) c⟩⟩
theorem w_ntz2 (K : KV) {w : Wd} {sz n : Nat} (h : K.S (some (vI 2)) w sz n) : VX K mJ9_numberOfTrailingZeros 0 [(0, vI 4)] [] w sz n :=
  wJ9_numberOfTrailingZeros_0 K ⟨by decide +kernel, ⟨fun _ => ⟨fun _ => ⟨fun _ => ⟨fun _ => ⟨fun _ => (Eq.mp (congrArg (fun z => K.S (some (vI z)) w sz n) (show (2 : Int) = _ by decide +kernel)) h), fun c => absurd (by decide +kernel) c⟩, fun c => absurd (by decide +kernel) c⟩, fun c => absurd (by decide +kernel) c⟩, fun c => absurd (by decide +kernel) c⟩, fun c => absurd (by decide +kernel) c⟩⟩
theorem w_ntz3 (K : KV) {w : Wd} {sz n : Nat} (h : K.S (some (vI 3)) w sz n) : VX K mJ9_numberOfTrailingZeros 0 [(0, vI 8)] [] w sz n :=
  wJ9_numberOfTrailingZeros_0 K ⟨by decide +kernel, ⟨fun _ => ⟨fun _ => ⟨fun _ => ⟨fun _ => ⟨fun c => absurd c (by decide +kernel), fun _ => (Eq.mp (congrArg (fun z => K.S (some (vI z)) w sz n) (show (3 : Int) = _ by decide +kernel)) h)⟩, fun c => absurd (by decide +kernel) c⟩, fun c => absurd (by decide +kernel) c⟩, fun c => absurd (by decide +kernel) c⟩, fun c => absurd (by decide +kernel) c⟩⟩
theorem w_ntz4 (K : KV) {w : Wd} {sz n : Nat} (h : K.S (some (vI 4)) w sz n) : VX K mJ9_numberOfTrailingZeros 0 [(0, vI 16)] [] w sz n :=
  wJ9_numberOfTrailingZeros_0 K ⟨by decide +kernel, ⟨fun _ => ⟨fun _ => ⟨fun _ => ⟨fun _ => ⟨fun c => absurd c (by decide +kernel), fun _ => (Eq.mp (congrArg (fun z => K.S (some (vI z)) w sz n) (show (4 : Int) = _ by decide +kernel)) h)⟩, fun c => absurd (by decide +kernel) c⟩, fun c => absurd (by decide +kernel) c⟩, fun c => absurd (by decide +kernel) c⟩, fun c => absurd (by decide +kernel) c⟩⟩
theorem w_ntz5 (K : KV) {w : Wd} {sz n : Nat} (h : K.S (some (vI 5)) w sz n) : VX K mJ9_numberOfTrailingZeros 0 [(0, vI 32)] [] w sz n :=
  wJ9_numberOfTrailingZeros_0 K ⟨by decide +kernel, ⟨fun _ => ⟨fun _ => ⟨fun _ => ⟨fun c => absurd c (by decide +kernel), fun _ => ⟨by decide +kernel, ⟨fun _ => (Eq.mp (congrArg (fun z => K.S (some (vI z)) w sz n) (show (5 : Int) = _ by decide +kernel)) h), fun c => absurd (by decide +kernel) c⟩⟩⟩, fun c => absurd (by decide +kernel) c⟩, fun c => absurd (by decide +kernel) c⟩, fun c => absurd (by decide +kernel) c⟩⟩
theorem w_ntz6 (K : KV) {w : Wd} {sz n : Nat} (h : K.S (some (vI 6)) w sz n) : VX K mJ9_numberOfTrailingZeros 0 [(0, vI 64)] [] w sz n :=
  wJ9_numberOfTrailingZeros_0 K ⟨by decide +kernel, ⟨fun _ => ⟨fun _ => ⟨fun _ => ⟨fun c => absurd c (by decide +kernel), fun _ => ⟨by decide +kernel, ⟨fun _ => (Eq.mp (congrArg (fun z => K.S (some (vI z)) w sz n) (show (6 : Int) = _ by decide +kernel)) h), fun c => absurd (by decide +kernel) c⟩⟩⟩, fun c => absurd (by decide +kernel) c⟩, fun c => absurd (by decide +kernel) c⟩, fun c => absurd (by decide +kernel) c⟩⟩
theorem w_ntz7 (K : KV) {w : Wd} {sz n : Nat} (h : K.S (some (vI 7)) w sz n) : VX K mJ9_numberOfTrailingZeros 0 [(0, vI 128)] [] w sz n :=
  wJ9_numberOfTrailingZeros_0 K ⟨by decide +kernel, ⟨fun _ => ⟨fun _ => ⟨fun _ => ⟨fun c => absurd c (by decide +kernel), fun _ => ⟨by decide +kernel, ⟨fun c => absurd c (by decide +kernel), fun _ => (Eq.mp (congrArg (fun z => K.S (some (vI z)) w sz n) (show (7 : Int) = _ by decide +kernel)) h)⟩⟩⟩, fun c => absurd (by decide +kernel) c⟩, fun c => absurd (by decide +kernel) c⟩, fun c => absurd (by decide +kernel) c⟩⟩
theorem w_ntz8 (K : KV) {w : Wd} {sz n : Nat} (h : K.S (some (vI 8)) w sz n) : VX K mJ9_numberOfTrailingZeros 0 [(0, vI 256)] [] w sz n :=
  wJ9_numberOfTrailingZeros_0 K ⟨by decide +kernel, ⟨fun _ => ⟨fun _ => ⟨fun _ => ⟨fun c => absurd c (by decide +kernel), fun _ => ⟨by decide +kernel, ⟨fun c => absurd c (by decide +kernel), fun _ => (Eq.mp (congrArg (fun z => K.S (some (vI z)) w sz n) (show (8 : Int) = _ by decide +kernel)) h)⟩⟩⟩, fun c => absurd (by decide +kernel) c⟩, fun c => absurd (by decide +kernel) c⟩, fun c => absurd (by decide +kernel) c⟩⟩
theorem w_ntz9 (K : KV) {w : Wd} {sz n : Nat} (h : K.S (some (vI 9)) w sz n) : VX K mJ9_numberOfTrailingZeros 0 [(0, vI 512)] [] w sz n :=
  wJ9_numberOfTrailingZeros_0 K ⟨by decide +kernel, ⟨fun _ => ⟨fun _ => ⟨fun c => absurd c (by decide +kernel), fun _ => ⟨by decide +kernel, ⟨fun _ => ⟨fun _ => (Eq.mp (congrArg (fun z => K.S (some (vI z)) w sz n) (show (9 : Int) = _ by decide +kernel)) h), fun c => absurd (by decide +kernel) c⟩, fun c => absurd (by decide +kernel) c⟩⟩⟩, fun c => absurd (by decide +kernel) c⟩, fun c => absurd (by decide +kernel) c⟩⟩
theorem w_ntz10 (K : KV) {w : Wd} {sz n : Nat} (h : K.S (some (vI 10)) w sz n) : VX K mJ9_numberOfTrailingZeros 0 [(0, vI 1024)] [] w sz n :=
  wJ9_numberOfTrailingZeros_0 K ⟨by decide +kernel, ⟨fun _ => ⟨fun _ => ⟨fun c => absurd c (by decide +kernel), fun _ => ⟨by decide +kernel, ⟨fun _ => ⟨fun _ => (Eq.mp (congrArg (fun z => K.S (some (vI z)) w sz n) (show (10 : Int) = _ by decide +kernel)) h), fun c => absurd (by decide +kernel) c⟩, fun c => absurd (by decide +kernel) c⟩⟩⟩, fun c => absurd (by decide +kernel) c⟩, fun c => absurd (by decide +kernel) c⟩⟩
theorem w_ntz11 (K : KV) {w : Wd} {sz n : Nat} (h : K.S (some (vI 11)) w sz n) : VX K mJ9_numberOfTrailingZeros 0 [(0, vI 2048)] [] w sz n :=
  wJ9_numberOfTrailingZeros_0 K ⟨by decide +kernel, ⟨fun _ => ⟨fun _ => ⟨fun c => absurd c (by decide +kernel), fun _ => ⟨by decide +kernel, ⟨fun _ => ⟨fun c => absurd c (by decide +kernel), fun _ => (Eq.mp (congrArg (fun z => K.S (some (vI z)) w sz n) (show (11 : Int) = _ by decide +kernel)) h)⟩, fun c => absurd (by decide +kernel) c⟩⟩⟩, fun c => absurd (by decide +kernel) c⟩, fun c => absurd (by decide +kernel) c⟩⟩
theorem w_ntz12 (K : KV) {w : Wd} {sz n : Nat} (h : K.S (some (vI 12)) w sz n) : VX K mJ9_numberOfTrailingZeros 0 [(0, vI 4096)] [] w sz n :=
  wJ9_numberOfTrailingZeros_0 K ⟨by decide +kernel, ⟨fun _ => ⟨fun _ => ⟨fun c => absurd c (by decide +kernel), fun _ => ⟨by decide +kernel, ⟨fun _ => ⟨fun c => absurd c (by decide +kernel), fun _ => (Eq.mp (congrArg (fun z => K.S (some (vI z)) w sz n) (show (12 : Int) = _ by decide +kernel)) h)⟩, fun c => absurd (by decide +kernel) c⟩⟩⟩, fun c => absurd (by decide +kernel) c⟩, fun c => absurd (by decide +kernel) c⟩⟩
theorem w_ntz (K : KV) {w : Wd} {sz n : Nat} : ∀ p : Nat, p < 13 → K.S (some (vI (p : Int))) w sz n → VX K mJ9_numberOfTrailingZeros 0 [(0, vI ((2 ^ p : Nat) : Int))] [] w sz n
  | 0, _, h => w_ntz0 K h
  | 1, _, h => w_ntz1 K h
  | 2, _, h => w_ntz2 K h
  | 3, _, h => w_ntz3 K h
  | 4, _, h => w_ntz4 K h
  | 5, _, h => w_ntz5 K h
  | 6, _, h => w_ntz6 K h
  | 7, _, h => w_ntz7 K h
  | 8, _, h => w_ntz8 K h
  | 9, _, h => w_ntz9 K h
  | 10, _, h => w_ntz10 K h
  | 11, _, h => w_ntz11 K h
  | 12, _, h => w_ntz12 K h
  | p + 13, hp, _ => absurd hp (by omega)
theorem c_ntz {K : KM} (hk : MK K 1) {p : Int} (hp : 0 ≤ p ∧ p < 13) {F : Nat → Int} {A : Nat → Int → Int} {Φ : PI} (h : Φ p F A) : RI mJ9_numberOfTrailingZeros K [vI (ishl 1 p)] F A Φ := by
  rw [ishl1 ⟨hp.1, by omega⟩]
  refine RI.x (n := 0) hk (w_ntz _ p.toNat (by omega) ⟨(p.toNat : Int), F, A, rfl, rfl, rfl, rfl, ?_⟩)
  rwa [show ((p.toNat : Nat) : Int) = p by omega]
