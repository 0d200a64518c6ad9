/-! PURE ROWS: numbers, sets of bits, the book's picture -/
set_option maxRecDepth 100000
/-- is c one of 0 .. n-1 -/
def zI (c : Int32) (n : Nat) : Bool := !(decide (c < 0) || Nat.ble n c.toNatClampNeg)
theorem zI_iff {c : Int32} {n : Nat} : zI c n = true ↔ vp_in c n := by
  unfold zI vp_in
  simp [Nat.ble_eq]
  intro _
  rw [Bool.eq_false_iff, Ne, Nat.ble_eq]
  omega
theorem zI_of {c : Int32} {n : Nat} (h : zI c n = true) (hn : n < 2 ^ 31) : ∃ j : Nat, j < n ∧ c = nI j := vp_in_of (zI_iff.mp h) hn
theorem zI_nI {i n : Nat} (hn : i < 2 ^ 31) : zI (nI i) n = decide (i < n) := by
  unfold zI
  rw [nI_clamp hn]
  have : ¬ nI i < 0 := nI_pos hn
  simp [this]
  by_cases h : i < n
  · simp [h]; rw [Bool.eq_false_iff]; simp; omega
  · simp [h]; omega
theorem zI_dec {c : Int32} {n : Nat} (hn : n < 2 ^ 31) : (0 ≤ c ∧ c ≤ nI n - 1) ↔ zI c n = true := by
  rw [zI_iff, vp_in_iff, Int32.le_iff_toInt_le, Int32.le_iff_toInt_le]
  have h1 : (nI n - 1).toInt = (n : Int) - 1 := by
    cases n with
    | zero => decide
    | succ n => rw [nI_pred, nI_toInt (by omega)]; omega
  rw [h1, Int32.toInt_zero]
  omega
/-- the set of those c < n that are so -/
def bset (P : Nat → Bool) : Nat → Int32
  | 0 => 0
  | n + 1 => bset P n ||| cond (P n) (nI 1 <<< (nI n &&& 31)) 0
theorem bset_t {P : Nat → Bool} {n : Nat} (h : P n = true) : bset P (n + 1) = bset P n ||| (nI 1 <<< (nI n &&& 31)) := by simp [bset, h]
theorem bset_f {P : Nat → Bool} {n : Nat} (h : P n = false) : bset P (n + 1) = bset P n := by simp [bset, h]
/-- how many bits: Kernighan's count -/
def zbits : Nat → Int32 → Nat
  | 0, _ => 0
  | n + 1, x => if x = 0 then 0 else zbits n (x &&& (x - 1)) + 1
/-- BOOKS: numbers (0 knots 1 lines 2 pleas 3 cases), ints (0 bench 1 back 2 draw 3 units 4 sticky), rows (0 one 1 two 2 strong 3 knot 4 pleas told), law -/
abbrev zBk : Type := (Nat → Nat) × (Nat → Int32) × (Nat → Nat → Int32) × Option (List (Int32 × Int32))
/-- the model's current bank holds the book B -/
def mRb (B : zBk) (σ : mS) : Prop := ∃ b : Nat, b < 2 ∧ σ.1 36 = nI b ∧
  σ.2.2.1 3 b = nI (B.1 0) ∧ σ.2.2.1 4 b = nI (B.1 1) ∧ σ.2.2.1 5 b = nI (B.1 2) ∧ σ.2.2.1 6 b = nI (B.1 3) ∧
  B.1 0 ≤ 8 ∧ B.1 1 ≤ 14 ∧ B.1 2 ≤ 8 ∧ B.1 3 ≤ 6 ∧
  σ.2.2.1 8 b = B.2.1 0 ∧ σ.2.2.1 9 b = B.2.1 1 ∧ σ.2.2.1 10 b = B.2.1 2 ∧ σ.2.2.1 7 b = B.2.1 3 ∧ σ.2.2.1 12 b = B.2.1 4 ∧
  (∀ i, i < B.1 1 → σ.2.2.1 13 (14 * b + i) = B.2.2.1 0 i ∧ σ.2.2.1 14 (14 * b + i) = B.2.2.1 1 i) ∧
  (∀ i, i < B.1 2 → σ.2.2.1 15 (8 * b + i) = B.2.2.1 2 i) ∧
  (∀ i, i < B.1 3 → σ.2.2.1 16 (6 * b + i) = B.2.2.1 3 i ∧ σ.2.2.1 17 (6 * b + i) = B.2.2.1 4 i)
/-- the model's row of what is in earnest -/
def mRa (a : Nat → Int32) (σ : mS) : Prop := ∀ k, k < 29 → σ.2.2.1 28 k = a k
/-- a loop upwards -/
theorem zl_up {P : Nat → Prop} {N : Nat} (h : ∀ i, i ≤ N → (i < N → P (i + 1)) → P i) : ∀ i, i ≤ N → P i := by
  have key : ∀ n i, i + n = N → P i := by
    intro n
    induction n with
    | zero => intro i hi; exact h i (by omega) (fun q => by omega)
    | succ n ih => intro i hi; exact h i (by omega) (fun _ => ih (i + 1) (by omega))
  intro i hi
  exact key (N - i) i (by omega)
