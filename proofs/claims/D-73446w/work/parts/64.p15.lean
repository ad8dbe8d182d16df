set_option maxRecDepth 100000
/-! ===== fours: a set t of lines; its pairs one behind the other ===== -/
/-- the union of what pairs meet in: row a, its first b pairs -/
def frI (L : Nat → Nat) (t a : Nat) (u : Nat) : Nat → Nat
  | 0 => u
  | b + 1 => if t.testBit a && t.testBit b then frI L t a u b ||| (L a &&& L b) else frI L t a u b
def frU (L : Nat → Nat) (t : Nat) : Nat → Nat
  | 0 => 0
  | a + 1 => frI L t a (frU L t a) a
/-- how many pairs -/
def frK (t a : Nat) (k : Nat) : Nat → Nat
  | 0 => k
  | b + 1 => if t.testBit a && t.testBit b then frK t a k b + 1 else frK t a k b
def frN (t : Nat) : Nat → Nat
  | 0 => 0
  | a + 1 => frK t a (frN t a) a
/-- a pair that doesn't meet, or in a point that was met before -/
def frX (L : Nat → Nat) (t a u b : Nat) : Bool := t.testBit a && t.testBit b && (decide (L a &&& L b = 0) || decide (frI L t a u b &&& (L a &&& L b) ≠ 0))
theorem frI_lt {P m : Nat} {L : Nat → Nat} (hw : WF P m L) {t a u : Nat} (ha : a < m) (hu : u < 2 ^ P) : ∀ b, b ≤ a → frI L t a u b < 2 ^ P := by
  intro b
  induction b with
  | zero => intro _; exact hu
  | succ b ih =>
    intro h
    rw [frI]
    split
    · exact Nat.or_lt_two_pow (ih (by omega)) (Nat.lt_of_le_of_lt Nat.and_le_left (hw.2.2.2.1 a ha).1)
    · exact ih (by omega)
theorem frU_lt {P m : Nat} {L : Nat → Nat} (hw : WF P m L) (t : Nat) : ∀ a, a ≤ m → frU L t a < 2 ^ P := by
  intro a
  induction a with
  | zero => intro _; exact Nat.two_pow_pos P
  | succ a ih => intro h; exact frI_lt hw (by omega) (ih (by omega)) a (Nat.le_refl _)
/-- the union has at most as many points as there are pairs; as many, if each pair meets in a new one -/
theorem frI_pc {P m : Nat} {L : Nat → Nat} (hw : WF P m L) {t a u k : Nat} (ha : a < m) (hu : u < 2 ^ P) (hk : pc u ≤ k) : ∀ b, b ≤ a → pc (frI L t a u b) ≤ frK t a k b ∧ (pc (frI L t a u b) = frK t a k b ↔ pc u = k ∧ anyB (frX L t a u) b = false) := by
  intro b
  induction b with
  | zero => intro _; exact ⟨hk, by simp [frI, frK, anyB]⟩
  | succ b ih =>
    intro h
    obtain ⟨h1, h2⟩ := ih (by omega)
    have hlt := frI_lt (t := t) hw ha hu b (by omega)
    have h8 := pow8 hw.2.1
    rw [frI, frK, anyB]
    cases ht : t.testBit a && t.testBit b with
    | false =>
      have hx : frX L t a u b = false := by unfold frX; rw [ht]; rfl
      rw [hx, Bool.or_false]
      exact ⟨h1, h2⟩
    | true =>
      have hm := hw.meet ha (show b < m by omega) (show a ≠ b by omega)
      have e := pc_ie (frI L t a u b) (L a &&& L b)
      have hx : frX L t a u b = (decide (L a &&& L b = 0) || decide (frI L t a u b &&& (L a &&& L b) ≠ 0)) := by unfold frX; rw [ht]; rfl
      rw [if_pos rfl, if_pos rfl, hx, Bool.or_eq_false_iff]
      refine ⟨by omega, ?_⟩
      by_cases z1 : L a &&& L b = 0
      · have e0 : pc 0 = 0 := by decide
        rw [z1] at e ⊢
        simp only [Nat.or_zero, Nat.and_zero] at e ⊢
        simp
        omega
      · by_cases z2 : frI L t a u b &&& (L a &&& L b) = 0
        · have e0 : pc 0 = 0 := by decide
          have e1 := pc_pos (s := L a &&& L b) (by have := and_lt (b := L b) (hw.lt ha); omega) z1
          rw [z2] at e
          simp only [z1, z2, ne_eq, not_true_eq_false, decide_false, Bool.or_self, and_true]
          rw [← h2]
          omega
        · have e1 := pc_pos (s := frI L t a u b &&& (L a &&& L b)) (by have := and_lt (b := L a &&& L b) (show frI L t a u b < 256 by omega); omega) z2
          simp only [z1, z2, ne_eq, not_false_eq_true, decide_true, decide_false, Bool.or_true, Bool.true_eq_false, and_false, iff_false]
          omega
def frB (m : Nat) (L : Nat → Nat) (t : Nat) : Bool := !anyB (fun a => anyB (frX L t a (frU L t a)) a) m
theorem frU_pc {P m : Nat} {L : Nat → Nat} (hw : WF P m L) (t : Nat) : ∀ a, a ≤ m → pc (frU L t a) ≤ frN t a ∧ (pc (frU L t a) = frN t a ↔ anyB (fun a => anyB (frX L t a (frU L t a)) a) a = false) := by
  intro a
  induction a with
  | zero => intro _; exact ⟨by show pc 0 ≤ 0; decide, by simp [frU, frN, anyB]; decide⟩
  | succ a ih =>
    intro h
    obtain ⟨h1, h2⟩ := ih (by omega)
    obtain ⟨g1, g2⟩ := frI_pc (t := t) hw (show a < m by omega) (frU_lt hw t a (by omega)) h1 a (Nat.le_refl _)
    rw [frU, frN, anyB, Bool.or_eq_false_iff]
    exact ⟨g1, g2.trans ⟨fun ⟨x, y⟩ => ⟨h2.mp x, y⟩, fun ⟨x, y⟩ => ⟨h2.mpr x, y⟩⟩⟩
