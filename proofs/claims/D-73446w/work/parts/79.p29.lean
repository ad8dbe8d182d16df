set_option maxRecDepth 100000
theorem img_id {g : Nat → Nat} {s : Nat} (h : ∀ i, s.testBit i = true → g i = i) : ∀ k j, (img g s k).testBit j = (decide (j < k) && s.testBit j) := by
  intro k
  induction k with
  | zero => intro j; simp [img]
  | succ k ih =>
    intro j
    rw [img, Nat.testBit_or, ih]
    by_cases e : s.testBit k = true
    · rw [if_pos e, h k e, Nat.testBit_two_pow]
      by_cases q : j = k
      · subst q; simp [e]
      · have q2 : ¬ k = j := fun z => q z.symm
        by_cases c : j < k
        · simp [c, q2, show j < k + 1 by omega]
        · simp [c, q2, show ¬ j < k + 1 by omega]
    · rw [if_neg e, Nat.zero_testBit, Bool.or_false]
      by_cases q : j = k
      · subst q; simp at e; simp [e]
      · by_cases c : j < k
        · simp [c, show j < k + 1 by omega]
        · simp [c, show ¬ j < k + 1 by omega]
theorem img_range {P s : Nat} (hP : P ≤ 8) (hs : s < 2 ^ P) : img (gOf (List.range P)) s 8 = s := by
  apply Nat.eq_of_testBit_eq
  intro j
  rw [img_id]
  · rcases Nat.lt_or_ge j 8 with c | c
    · simp [c]
    · rw [tb_lt hs (show P ≤ j by omega)]; simp
  · intro i hi
    have hip : i < P := by
      rcases Nat.lt_or_ge i P with c | c
      · exact c
      · rw [tb_lt hs c] at hi; cases hi
    unfold gOf
    rw [gD (by rw [List.length_range]; exact hip), List.getElem_range]
theorem id_sym {P m : Nat} {L : Nat → Nat} (hw : WF P m L) : ontoB m m L L (gOf (List.range P)) = true := by
  unfold ontoB
  rw [Bool.not_eq_true']
  cases e : anyB (fun l => !anyB (fun j => decide (L j = img (gOf (List.range P)) (L l) 8)) m) m with
  | false => rfl
  | true =>
    obtain ⟨l, h1, h2⟩ := anyB_iff.mp e
    have : anyB (fun j => decide (L j = img (gOf (List.range P)) (L l) 8)) m = true := anyB_iff.mpr ⟨l, h1, decide_eq_true (img_range hw.2.1 (hw.2.2.2.1 l h1).1).symm⟩
    rw [this] at h2
    cases h2
theorem syms_id {P m : Nat} {L : Nat → Nat} (hw : WF P m L) : List.range P ∈ syms P m L := by
  unfold syms
  have hd := (allN_seg P).2
  refine List.mem_filter.mpr ⟨?_, id_sym hw⟩
  cases h : allN P with
  | nil => rw [h] at hd; cases hd
  | cons x ls => rw [h] at hd; rw [← Option.some.inj hd]; exact List.mem_cons_self
theorem becS_bit (p : Nat) : ∀ (ls : List (List Nat)) (b j : Nat), (becS p ls b).testBit j = (b.testBit j || ls.any (fun l => decide (gOf l p = j))) := by
  intro ls
  induction ls with
  | nil => intro b j; simp [becS]
  | cons l ls ih =>
    intro b j
    show (becS p ls (b ||| 2 ^ gOf l p)).testBit j = _
    rw [ih, Nat.testBit_or, Nat.testBit_two_pow, List.any_cons, Bool.or_assoc]
theorem becS_ok {P m p : Nat} {L : Nat → Nat} (hw : WF P m L) (hp : p < P) : becS p (syms P m L) 0 < 256 ∧ becS p (syms P m L) 0 ≠ 0 := by
  have hP := hw.2.1
  constructor
  · have key : ∀ (ls : List (List Nat)) (b : Nat), (∀ l ∈ ls, Row P l) → b < 256 → becS p ls b < 256 := by
      intro ls
      induction ls with
      | nil => intro b _ h; exact h
      | cons l ls ih =>
        intro b h1 h2
        exact ih _ (fun q hq => h1 q (List.mem_cons_of_mem _ hq)) (or_lt256 h2 (Nat.pow_lt_pow_right (n := 8) (a := 2) (by decide) (row_g8 hP (h1 l List.mem_cons_self) p (by omega))))
    exact key _ 0 (fun l hl => prm_row (List.mem_filter.mp hl).1) (by decide)
  · intro z
    have h1 : (becS p (syms P m L) 0).testBit p = true := by
      rw [becS_bit, Bool.or_eq_true]
      refine Or.inr (List.any_eq_true.mpr ⟨_, syms_id hw, ?_⟩)
      unfold gOf
      rw [gD (by rw [List.length_range]; exact hp), List.getElem_range]
      simp
    rw [z] at h1
    simp at h1
def orbS (P m : Nat) (L : Nat → Nat) : Nat := rs (fun p => b2n (decide (low (becS p (syms P m L) 0) = p))) 0 P
theorem px_orbits {N P m : Nat} {L : Nat → Nat} {now nm lb bc : Nat → Int32} (hw : WF P m L) (hm : MS now 0 P m L) (hN : 50000 < N) : ∃ nm' lb' bc', F_X3_orbits N now nm lb bc = some (nI (orbS P m L), nm', lb', bc') := by
  have hP := hw.2.1
  obtain ⟨nm', lb', bc', e, hb⟩ := px_symmetries (nm := nm) (lb := lb) (bc := bc) hw hm hN
  refine ⟨nm', lb', bc', ?_⟩
  rw [F_X3_orbits, e, Option.bind_some]
  show F_X3_orbits_9 N now nm' lb' bc' N 0 0 = _
  refine (lp_sum (fun n v i => F_X3_orbits_9 N now nm' lb' bc' n v (nI i)) P (fun p => b2n (decide (low (becS p (syms P m L) 0) = p))) (fun v => some (v, nm', lb', bc')) ?_ ?_ P N 0 0 (by omega) (by omega)).trans (by rw [Int32.zero_add]; rfl)
  · intro n v p hp
    show F_X3_orbits_9 N now nm' lb' bc' (n + 1) v (nI p) = _
    obtain ⟨k1, k2⟩ := becS_ok hw hp
    have hl := low_lt (becS p (syms P m L) 0)
    rw [F_X3_orbits_9, px_points, hm.1, Option.bind_some, if_neg (nI_ge hp (by omega)), ckI_n _ (by omega) (by decide), pu_clamp (by omega), hb p hp, pu_low k1 k2, Option.bind_some, nI_1]
    by_cases h : low (becS p (syms P m L) 0) = p
    · rw [if_pos (by rw [h]), decide_eq_true h]; rfl
    · rw [if_neg (fun z => h ((nI_eq hl (by omega)).mp z)), decide_eq_false h]; rfl
  · intro n v
    show F_X3_orbits_9 N now nm' lb' bc' (n + 1) v (nI P) = _
    rw [F_X3_orbits_9, px_points, hm.1, Option.bind_some, if_pos (nI_le (Nat.le_refl _) (by omega))]
