set_option maxRecDepth 100000
/-- a set by other names -/
def img (g : Nat → Nat) (s : Nat) : Nat → Nat
  | 0 => 0
  | k + 1 => img g s k ||| (if s.testBit k then 2 ^ g k else 0)
theorem drop_low : ∀ r, r < 256 → r ≠ 0 → low r < 8 ∧ r.testBit (low r) = true ∧ r &&& (r - 1) < 256 ∧ pc (r &&& (r - 1)) + 1 = pc r ∧ ∀ i, i < 8 → (r &&& (r - 1)).testBit i = (r.testBit i && decide (i ≠ low r)) := by decide +kernel
theorem img_lt {g : Nat → Nat} (hg : ∀ i, i < 8 → g i < 8) (s : Nat) : ∀ k, k ≤ 8 → img g s k < 256 := by
  intro k
  induction k with
  | zero => intro _; show 0 < 256; decide
  | succ k ih =>
    intro h
    rw [img]
    refine or_lt256 (ih (by omega)) ?_
    split
    · exact Nat.pow_lt_pow_right (n := 8) (a := 2) (by decide) (hg k (by omega))
    · decide
theorem img_0 (g : Nat → Nat) : ∀ k, img g 0 k = 0 := by
  intro k
  induction k with
  | zero => rfl
  | succ k ih => rw [img, ih, Nat.zero_testBit]; simp
theorem img_drop {g : Nat → Nat} {r : Nat} (hr : r < 256) (h0 : r ≠ 0) : ∀ k, k ≤ 8 → img g r k = img g (r &&& (r - 1)) k ||| (if low r < k then 2 ^ g (low r) else 0) := by
  obtain ⟨d1, d2, d3, d4, d5⟩ := drop_low r hr h0
  intro k
  induction k with
  | zero => intro _; simp [img]
  | succ k ih =>
    intro h
    rw [img, img, ih (by omega), d5 k (by omega)]
    by_cases e : k = low r
    · rw [if_neg (show ¬ low r < k by omega), if_pos (show r.testBit k = true by rw [e]; exact d2), if_neg (by simp [e]), if_pos (show low r < k + 1 by omega), ← e]
      try simp
    · have e2 : decide (k ≠ low r) = true := decide_eq_true e
      rw [e2, Bool.and_true, Nat.or_assoc, Nat.or_assoc, Nat.or_comm (if low r < k then 2 ^ g (low r) else 0)]
      congr 2
      by_cases e3 : low r < k
      · rw [if_pos e3, if_pos (by omega)]
      · rw [if_neg e3, if_neg (by omega)]
theorem px_named_loop {N : Nat} {nm : Nat → Int32} {g : Nat → Nat} {P : Nat} (hP : P ≤ 8) (hg : ∀ i, i < P → nm i = nI (g i) ∧ g i < 8) : ∀ (f r v : Nat), r < 2 ^ P → pc r < f → F_X3_named_4 N nm f (nI v) (nI r) = some (nI (v ||| img g r 8)) := by
  have h8 := pow8 hP
  intro f
  induction f with
  | zero => intro r v _ h; omega
  | succ f ih =>
    intro r v hr hf
    rw [F_X3_named_4]
    by_cases h0 : r = 0
    · subst h0
      rw [if_pos (show nI 0 = 0 from rfl), img_0, Nat.or_zero]
    · obtain ⟨d1, d2, d3, d4, d5⟩ := drop_low r (by omega) h0
      have hl : low r < P := by
        rcases Nat.lt_or_ge (low r) P with q | q
        · exact q
        · rw [tb_lt hr q] at d2; cases d2
      have hr2 : r &&& (r - 1) < 2 ^ P := Nat.lt_of_le_of_lt Nat.and_le_left hr
      rw [if_neg (fun z => h0 ((nI0_iff (by omega)).mp z)), pu_low (by omega) h0, Option.bind_some, ckI_n _ d1 (by decide), pu_clamp (by omega), (hg _ hl).1, pu_1shl (by have := (hg _ hl).2; omega), pu_or, show nI r - (1 : Int32) = nI (r - 1) from pk_sub (b := 1) (by omega), pu_and, ih _ _ hr2 (by omega), img_drop (by omega) h0 8 (Nat.le_refl _), if_pos d1, Nat.or_assoc, Nat.or_comm (2 ^ g (low r))]
theorem px_named {N : Nat} {nm : Nat → Int32} {g : Nat → Nat} {P s : Nat} (hP : P ≤ 8) (hg : ∀ i, i < P → nm i = nI (g i) ∧ g i < 8) (hs : s < 2 ^ P) (hN : 12 < N) : F_X3_named N (nI s) nm = some (nI (img g s 8)) := by
  rw [F_X3_named]
  have := px_named_loop (N := N) hP hg N s 0 hs (by have := pc_le s; omega)
  rw [Nat.zero_or] at this
  exact this
/-- the first naming -/
theorem px_begin {N n : Nat} (hn : n ≤ 8) (hN : 12 < N) : ∀ (k f i : Nat) (nm : Nat → Int32), i + k = n → k < f → (∀ j, j < i → nm j = nI j) → ∃ nm', F_X3_beginNaming_2 N (nI n) f (nI i) nm = some nm' ∧ ∀ j, j < n → nm' j = nI j := by
  intro k
  induction k with
  | zero =>
    intro f i nm e h hi
    obtain ⟨f, rfl⟩ : ∃ q, f = q + 1 := ⟨f - 1, by omega⟩
    obtain rfl : i = n := by omega
    rw [F_X3_beginNaming_2, if_pos (nI_le (Nat.le_refl _) (by omega))]
    exact ⟨nm, rfl, hi⟩
  | succ k ih =>
    intro f i nm e h hi
    obtain ⟨f, rfl⟩ : ∃ q, f = q + 1 := ⟨f - 1, by omega⟩
    rw [F_X3_beginNaming_2, if_neg (nI_ge (by omega) (by omega)), ckI_n _ (by omega) (by decide), pu_clamp (by omega), nI_1]
    refine ih f (i + 1) _ (by omega) (by omega) (fun j hj => ?_)
    unfold upd
    by_cases q : j = i
    · rw [if_pos q, q]
    · rw [if_neg q]; exact hi j (by omega)
