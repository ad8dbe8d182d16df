set_option maxRecDepth 100000
/-- how many bits -/
def pc (s : Nat) : Nat := (List.range 12).countP (fun i => s.testBit i)
theorem pu_bc0 : ∀ s, s < 4096 → F_J16_bitCount 0 (nI s) = some (nI (pc s)) := by decide +kernel
theorem pu_tz0 : ∀ s, s < 256 → 0 < s → ∃ k, k < 8 ∧ F_J16_numberOfTrailingZeros 0 (nI s) = some (nI k) ∧ s.testBit k = true ∧ ∀ j, j < k → s.testBit j = false := by decide +kernel
