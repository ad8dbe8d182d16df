set_option maxRecDepth 100000
theorem exch_eq {N a b : Nat} {nm : Nat → Int32} (ha : a < 8) (hb : b < 8) : ∃ nm', F_X3_exchange N (nI a) (nI b) nm = some nm' ∧ ∀ i, nm' i = if i = b then nm a else if i = a then nm b else nm i := by
  rw [F_X3_exchange]
  simp only [ckI_n _ ha (by decide), ckI_n _ hb (by decide), pu_clamp (show a < 2 ^ 31 by omega), pu_clamp (show b < 2 ^ 31 by omega)]
  refine ⟨_, rfl, fun i => ?_⟩
  unfold upd
  by_cases h1 : i = b
  · simp [h1]
  · by_cases h2 : i = a
    · simp [h1, h2]
    · simp [h1, h2]
theorem rev_eq {N : Nat} : ∀ (k n lo hi : Nat) (nm : Nat → Int32), hi < 8 → lo ≤ 8 → hi < lo + k → k < n → lo ≤ hi + 1 → (lo = hi + 1 → 1 ≤ lo) → ∃ nm', F_X3_nextNaming_78 N n (nI lo) (nI hi) nm = some (1, nm') ∧ ∀ i, nm' i = if lo ≤ i ∧ i ≤ hi then nm (lo + hi - i) else nm i := by
  intro k
  induction k with
  | zero =>
    intro n lo hi nm h1 h2 h3 h4 h5 h6
    obtain ⟨n, rfl⟩ : ∃ q, n = q + 1 := ⟨n - 1, by omega⟩
    rw [F_X3_nextNaming_78, if_pos (nI_le (by omega) (by omega))]
    exact ⟨nm, rfl, fun i => by rw [if_neg (by omega)]⟩
  | succ k ih =>
    intro n lo hi nm h1 h2 h3 h4 h5 h6
    obtain ⟨n, rfl⟩ : ∃ q, n = q + 1 := ⟨n - 1, by omega⟩
    rw [F_X3_nextNaming_78]
    by_cases h : hi ≤ lo
    · rw [if_pos (nI_le h (by omega))]
      refine ⟨nm, rfl, fun i => ?_⟩
      by_cases hc : lo ≤ i ∧ i ≤ hi
      · rw [if_pos hc, show lo + hi - i = i by omega]
      · rw [if_neg hc]
    · obtain ⟨n1, e1, e2⟩ := exch_eq (N := N) (nm := nm) (show lo < 8 by omega) h1
      rw [if_neg (nI_ge (by omega) (by omega)), e1, Option.bind_some, nI_1, show nI hi + (-1) = nI (hi - 1) from sb_m1 (by omega)]
      obtain ⟨n2, e3, e4⟩ := ih n (lo + 1) (hi - 1) n1 (by omega) (by omega) (by omega) (by omega) (by omega) (by omega)
      refine ⟨n2, e3, fun i => ?_⟩
      rw [e4 i]
      by_cases c1 : lo + 1 ≤ i ∧ i ≤ hi - 1
      · rw [if_pos c1, if_pos (show lo ≤ i ∧ i ≤ hi by omega), e2, if_neg (by omega), if_neg (by omega), show lo + 1 + (hi - 1) - i = lo + hi - i by omega]
      · rw [if_neg c1, e2]
        by_cases c2 : i = hi
        · rw [if_pos c2, if_pos (show lo ≤ i ∧ i ≤ hi by omega), show lo + hi - i = lo by omega]
        · rw [if_neg c2]
          by_cases c3 : i = lo
          · rw [if_pos c3, if_pos (show lo ≤ i ∧ i ≤ hi by omega), show lo + hi - i = hi by omega]
          · rw [if_neg c3, if_neg (by omega)]
/-- an array holds a row -/
def Rep (nm : Nat → Int32) (l : List Nat) : Prop := ∀ i v, l[i]? = some v → nm i = nI v
/-- a row that doesn't fall: its last rise -/
theorem last_rise : ∀ l : List Nat, l.Nodup → (l.Pairwise (· > ·) ∧ nextL l = none) ∨ ∃ pre x y t, l = pre ++ x :: y :: t ∧ (y :: t).Pairwise (· > ·) ∧ x < y := by
  intro l
  induction l with
  | nil => intro _; exact Or.inl ⟨List.Pairwise.nil, rfl⟩
  | cons a l ih =>
    intro hn
    rw [List.nodup_cons] at hn
    rcases ih hn.2 with ⟨h1, h2⟩ | ⟨pre, x, y, t, e, h1, h2⟩
    · cases l with
      | nil => exact Or.inl ⟨List.pairwise_singleton _ _, rfl⟩
      | cons y t =>
        by_cases h : a < y
        · exact Or.inr ⟨[], a, y, t, rfl, h1, h⟩
        · have hay : y < a := by
            have : a ≠ y := fun z => hn.1 (by rw [z]; exact List.mem_cons_self)
            omega
          have hall : ∀ z ∈ y :: t, z < a := by
            intro z hz
            rcases List.mem_cons.mp hz with q | q
            · rw [q]; exact hay
            · have := (List.pairwise_cons.mp h1).1 z q
              omega
          refine Or.inl ⟨List.pairwise_cons.mpr ⟨fun z hz => hall z hz, h1⟩, ?_⟩
          rw [nextL, h2]
          have := jump_last (s := a) (A := (y :: t).reverse) (fun z hz => hall z (List.mem_reverse.mp hz))
          rw [List.reverse_reverse] at this
          exact this
    · exact Or.inr ⟨a :: pre, x, y, t, by rw [e]; rfl, h1, h2⟩
