set_option maxRecDepth 100000
/-! ===== pure rows: numbers and bits ===== -/
theorem pu_clamp {n : Nat} (h : n < 2 ^ 31) : (nI n).toNatClampNeg = n := nI_clamp h
theorem pu_lit (n : Nat) : (OfNat.ofNat n : Int32) = nI n := rfl
theorem pu_0 : (0 : Int32) = nI 0 := rfl
theorem pu_1 : (1 : Int32) = nI 1 := rfl
theorem pu_c0 : (0 : Int32).toNatClampNeg = 0 := by decide
theorem pu_c1 : (1 : Int32).toNatClampNeg = 1 := by decide
theorem pu_bv (n : Nat) : (nI n).toBitVec = BitVec.ofNat 32 n := rfl
theorem pu_and (a b : Nat) : nI a &&& nI b = nI (a &&& b) := by
  apply Int32.toBitVec_inj.mp
  rw [Int32.toBitVec_and, pu_bv, pu_bv, pu_bv]
  apply BitVec.eq_of_getLsbD_eq
  intro i hi
  simp [BitVec.getLsbD_ofNat, Nat.testBit_and, hi]
theorem pu_or (a b : Nat) : nI a ||| nI b = nI (a ||| b) := by
  apply Int32.toBitVec_inj.mp
  rw [Int32.toBitVec_or, pu_bv, pu_bv, pu_bv]
  apply BitVec.eq_of_getLsbD_eq
  intro i hi
  simp [BitVec.getLsbD_ofNat, Nat.testBit_or, hi]
theorem pu_xor (a b : Nat) : nI a ^^^ nI b = nI (a ^^^ b) := by
  apply Int32.toBitVec_inj.mp
  rw [Int32.toBitVec_xor, pu_bv, pu_bv, pu_bv]
  apply BitVec.eq_of_getLsbD_eq
  intro i hi
  simp [BitVec.getLsbD_ofNat, Nat.testBit_xor, hi]
theorem pu_sm : ∀ n, n < 32 → ((nI n &&& 31).toBitVec.smod 32).toNat = n := by decide +kernel
theorem pu_shl {a p : Nat} (hp : p < 32) (h : a * 2 ^ p < 2 ^ 32) : nI a <<< (nI p &&& 31) = nI (a * 2 ^ p) := pk_shlN _ p (pu_sm p hp) h
theorem pu_1shl {p : Nat} (hp : p < 31) : (1 : Int32) <<< (nI p &&& 31) = nI (2 ^ p) := by
  have h2 : 2 ^ p < 2 ^ 32 := Nat.pow_lt_pow_right (by decide) (by omega)
  have := pu_shl (a := 1) (p := p) (by omega) (by omega)
  rw [Nat.one_mul] at this
  exact this
theorem pu_shr {a p : Nat} (ha : a < 2 ^ 31) (hp : p < 32) : nI a >>> (nI p &&& 31) = nI (a / 2 ^ p) := pk_shrN ha _ p (pu_sm p hp)
theorem pu_bit {a p : Nat} (ha : a < 2 ^ 31) (hp : p < 32) : (nI a >>> (nI p &&& 31)) &&& (1 : Int32) = nI (if a.testBit p then 1 else 0) := by
  rw [pu_shr ha hp, show (1 : Int32) = nI 1 from rfl, pu_and, Nat.and_one_is_mod]
  congr 1
  rw [Nat.testBit, Nat.shiftRight_eq_div_pow, Nat.and_comm, Nat.and_one_is_mod]
  rcases Nat.mod_two_eq_zero_or_one (a / 2 ^ p) with h | h <;> simp [h]
theorem pu_bit1 {a p : Nat} (ha : a < 2 ^ 31) (hp : p < 32) : ((nI a >>> (nI p &&& 31)) &&& (1 : Int32)) = 1 ↔ a.testBit p = true := by
  rw [pu_bit ha hp]
  cases a.testBit p <;> decide
theorem pu_bit0 {a p : Nat} (ha : a < 2 ^ 31) (hp : p < 32) : ((nI a >>> (nI p &&& 31)) &&& (1 : Int32)) = 0 ↔ a.testBit p = false := by
  rw [pu_bit ha hp]
  cases a.testBit p <;> decide
theorem pu_bcN (N : Nat) (x : Int32) : F_J16_bitCount N x = F_J16_bitCount 0 x := rfl
theorem pu_bc {N s : Nat} (h : s < 4096) : F_J16_bitCount N (nI s) = some (nI (pc s)) := (pu_bcN N _).trans (pu_bc0 s h)
theorem pu_bits {N s : Nat} (h : s < 4096) : F_X3_bits N (nI s) = some (nI (pc s)) := by
  rw [F_X3_bits, pu_bc h]; rfl
theorem pu_tz {N s : Nat} (h : s < 256) (h0 : 0 < s) : ∃ k, k < 8 ∧ F_J16_numberOfTrailingZeros N (nI s) = some (nI k) ∧ s.testBit k = true ∧ ∀ j, j < k → s.testBit j = false := pu_tz0 s h h0
/-! ===== loops ===== -/
theorem lp_acc {ρ : Type} (F : Nat → Nat → Option ρ) (m : Nat) (r : Option ρ) (hs : ∀ n i, i < m → F (n + 1) i = F n (i + 1)) (he : ∀ n, F (n + 1) m = r) : ∀ k n i, i + k = m → k < n → F n i = r := by
  intro k
  induction k with
  | zero =>
    intro n i e h
    obtain ⟨n, rfl⟩ : ∃ q, n = q + 1 := ⟨n - 1, by omega⟩
    obtain rfl : i = m := by omega
    exact he n
  | succ k ih =>
    intro n i e h
    obtain ⟨n, rfl⟩ : ∃ q, n = q + 1 := ⟨n - 1, by omega⟩
    rw [hs n i (by omega)]
    exact ih n (i + 1) (by omega) (by omega)
/-- the first place from i on, among k of them -/
def fs (p : Nat → Bool) : Nat → Nat → Option Nat
  | _, 0 => none
  | i, k + 1 => if p i = true then some i else fs p (i + 1) k
theorem fs_some {p : Nat → Bool} : ∀ {k i j : Nat}, fs p i k = some j → i ≤ j ∧ j < i + k ∧ p j = true ∧ ∀ q, i ≤ q → q < j → p q = false := by
  intro k
  induction k with
  | zero => intro i j h; cases h
  | succ k ih =>
    intro i j h
    rw [fs] at h
    split at h
    · cases h
      exact ⟨Nat.le_refl _, by omega, by assumption, fun q h1 h2 => by omega⟩
    · obtain ⟨h1, h2, h3, h4⟩ := ih h
      refine ⟨by omega, by omega, h3, fun q q1 q2 => ?_⟩
      rcases Nat.lt_or_eq_of_le q1 with z | z
      · exact h4 q z q2
      · subst z
        cases e : p i
        · rfl
        · contradiction
theorem fs_none {p : Nat → Bool} : ∀ {k i : Nat}, fs p i k = none → ∀ q, i ≤ q → q < i + k → p q = false := by
  intro k
  induction k with
  | zero => intro i _ q h1 h2; omega
  | succ k ih =>
    intro i h q h1 h2
    rw [fs] at h
    split at h
    · cases h
    · rcases Nat.lt_or_eq_of_le h1 with z | z
      · exact ih h q z (by omega)
      · subst z
        cases e : p i
        · rfl
        · contradiction
theorem lp_fst {ρ : Type} (F : Nat → Nat → Option ρ) (m : Nat) (p : Nat → Bool) (ex : Nat → Option ρ) (r : Option ρ) (hs : ∀ n i, i < m → F (n + 1) i = if p i = true then ex i else F n (i + 1)) (he : ∀ n, F (n + 1) m = r) : ∀ k n i, i + k = m → k < n → F n i = match fs p i k with | some j => ex j | none => r := by
  intro k
  induction k with
  | zero =>
    intro n i e h
    obtain ⟨n, rfl⟩ : ∃ q, n = q + 1 := ⟨n - 1, by omega⟩
    obtain rfl : i = m := by omega
    exact he n
  | succ k ih =>
    intro n i e h
    obtain ⟨n, rfl⟩ : ∃ q, n = q + 1 := ⟨n - 1, by omega⟩
    rw [hs n i (by omega), fs]
    split
    · rfl
    · exact ih n (i + 1) (by omega) (by omega)
