set_option maxRecDepth 100000
theorem rs_tri3 (t : Nat → Nat → Nat → Nat) : ∀ m, rs (fun z => rs (fun y => rs (fun x => t x y z) 0 y) 0 z) 0 m = rs (fun x => rs (fun y => rs (fun z => t x y z) (y + 1) (m - 1 - y)) (x + 1) (m - 1 - x)) 0 m := by
  intro m
  induction m with
  | zero => rfl
  | succ m ih =>
    rw [rs_end, ih, rs_end, Nat.zero_add]
    have e0 : rs (fun y => rs (fun z => t m y z) (y + 1) (m + 1 - 1 - y)) (m + 1) (m + 1 - 1 - m) = 0 := by rw [show m + 1 - 1 - m = 0 by omega]; rfl
    rw [e0, Nat.add_zero, rs_tri (fun x y => t x y m) m, ← rs_add]
    refine rs_congr m 0 (fun x _ hx => ?_)
    rw [show m + 1 - 1 - x = (m - 1 - x) + 1 by omega, rs_end, show x + 1 + (m - 1 - x) = m by omega]
    have e1 : rs (fun z => t x m z) (m + 1) (m + 1 - 1 - m) = 0 := by rw [show m + 1 - 1 - m = 0 by omega]; rfl
    rw [e1, Nat.add_zero, ← rs_add]
    refine rs_congr _ _ (fun y hy1 hy2 => ?_)
    rw [show m + 1 - 1 - y = (m - 1 - y) + 1 by omega, rs_end, show y + 1 + (m - 1 - y) = m by omega]
theorem lp_sumL {ρ : Type} (F : Nat → Int32 → Nat → Option ρ) (lo m : Nat) (c : Nat → Nat) (r : Int32 → Option ρ) (hs : ∀ n v i, lo ≤ i → i < m → F (n + 1) v i = F n (v + nI (c i)) (i + 1)) (he : ∀ n v, F (n + 1) v m = r v) : ∀ k n i v, lo ≤ i → i + k = m → k < n → F n v i = r (v + nI (rs c i k)) := by
  intro k
  induction k with
  | zero =>
    intro n i v _ e h
    obtain ⟨n, rfl⟩ : ∃ q, n = q + 1 := ⟨n - 1, by omega⟩
    obtain rfl : i = m := by omega
    rw [he n v, rs, i_add0]
  | succ k ih =>
    intro n i v hl e h
    obtain ⟨n, rfl⟩ : ∃ q, n = q + 1 := ⟨n - 1, by omega⟩
    rw [hs n v i hl (by omega), ih n (i + 1) _ (by omega) (by omega) (by omega), i_assoc, rs]
theorem sgl : ∀ s, s < 256 → s ≠ 0 → pc s ≤ 1 → ∃ i, i < 8 ∧ s = 2 ^ i := by decide +kernel
theorem pc3 : ∀ i, i < 8 → ∀ j, j < 8 → ∀ k, k < 8 → (pc (2 ^ i ||| 2 ^ j ||| 2 ^ k) = 3 ↔ i ≠ j ∧ j ≠ k ∧ i ≠ k) := by decide +kernel
theorem WF.meet {P m : Nat} {L : Nat → Nat} (hw : WF P m L) {a b : Nat} (ha : a < m) (hb : b < m) (hab : a ≠ b) : pc (L a &&& L b) ≤ 1 := by
  rcases Nat.lt_or_gt_of_ne hab with h | h
  · exact hw.2.2.2.2 a b h hb
  · rw [Nat.and_comm]; exact hw.2.2.2.2 b a h ha
/-- three lines make a triangle -/
def tri (x y z : Nat) : Bool := decide (x &&& y ≠ 0) && decide (x &&& z ≠ 0) && decide (y &&& z ≠ 0) && decide (x &&& y ≠ y &&& z)
theorem tb_pow {i j : Nat} : (2 ^ i).testBit j = decide (i = j) := Nat.testBit_two_pow
theorem tri_pc {P m : Nat} {L : Nat → Nat} (hw : WF P m L) {a b c : Nat} (ha : a < m) (hb : b < m) (hc : c < m) (h1 : a ≠ b) (h2 : b ≠ c) (h3 : a ≠ c) (n1 : L a &&& L b ≠ 0) (n2 : L a &&& L c ≠ 0) (n3 : L b &&& L c ≠ 0) : (pc ((L a &&& L b) ||| (L a &&& L c) ||| (L b &&& L c)) = 3 ↔ L a &&& L b ≠ L b &&& L c) := by
  obtain ⟨i, hi, ei⟩ := sgl _ (and_lt (hw.lt ha)) n1 (hw.meet ha hb h1)
  obtain ⟨j, hj, ej⟩ := sgl _ (and_lt (hw.lt ha)) n2 (hw.meet ha hc h3)
  obtain ⟨k, hk, ek⟩ := sgl _ (and_lt (hw.lt hb)) n3 (hw.meet hb hc h2)
  have bi : (L a).testBit i = true ∧ (L b).testBit i = true := by
    have : (L a &&& L b).testBit i = true := by rw [ei, tb_pow]; simp
    simpa [Nat.testBit_and] using this
  have bj : (L a).testBit j = true ∧ (L c).testBit j = true := by
    have : (L a &&& L c).testBit j = true := by rw [ej, tb_pow]; simp
    simpa [Nat.testBit_and] using this
  have bk : (L b).testBit k = true ∧ (L c).testBit k = true := by
    have : (L b &&& L c).testBit k = true := by rw [ek, tb_pow]; simp
    simpa [Nat.testBit_and] using this
  have q1 : ∀ q, (L a).testBit q = true → (L b).testBit q = true → q = i := fun q x y => by
    have : (L a &&& L b).testBit q = true := by rw [Nat.testBit_and, x, y]; rfl
    rw [ei, tb_pow] at this; exact (of_decide_eq_true this).symm
  have q2 : ∀ q, (L a).testBit q = true → (L c).testBit q = true → q = j := fun q x y => by
    have : (L a &&& L c).testBit q = true := by rw [Nat.testBit_and, x, y]; rfl
    rw [ej, tb_pow] at this; exact (of_decide_eq_true this).symm
  have q3 : ∀ q, (L b).testBit q = true → (L c).testBit q = true → q = k := fun q x y => by
    have : (L b &&& L c).testBit q = true := by rw [Nat.testBit_and, x, y]; rfl
    rw [ek, tb_pow] at this; exact (of_decide_eq_true this).symm
  rw [ei, ej, ek, pc3 i hi j hj k hk]
  constructor
  · intro h e
    exact h.2.2 ((Nat.pow_right_inj (by decide)).mp e)
  · intro h
    have hik : i ≠ k := fun e => h (by rw [e])
    refine ⟨fun e => hik ?_, fun e => hik ?_, hik⟩
    · subst e; exact q3 i bi.2 bj.2
    · subst e; exact (q1 j bj.1 bk.1).symm
theorem or_lt256 {a b : Nat} (ha : a < 256) (hb : b < 256) : a ||| b < 256 := Nat.or_lt_two_pow (n := 8) ha hb
theorem tri_x {P m : Nat} {L : Nat → Nat} (hw : WF P m L) {a b c : Nat} (ha : a < m) (hb : b < m) (hc : c < m) (h1 : a ≠ b) (h2 : b ≠ c) (h3 : a ≠ c) : tri (L a) (L b) (L c) = (decide (L a &&& L b ≠ 0) && decide (L a &&& L c ≠ 0) && decide (L b &&& L c ≠ 0) && decide (pc ((L a &&& L b) ||| (L a &&& L c) ||| (L b &&& L c)) = 3)) := by
  unfold tri
  by_cases n1 : L a &&& L b = 0
  · simp [n1]
  by_cases n2 : L a &&& L c = 0
  · simp [n2]
  by_cases n3 : L b &&& L c = 0
  · simp [n3]
  have := tri_pc hw ha hb hc h1 h2 h3 n1 n2 n3
  simp only [n1, n2, n3, ne_eq, not_false_eq_true, decide_true, Bool.true_and]
  exact (decide_eq_decide.mpr this).symm
/-! ===== triangles ===== -/
def triS (m : Nat) (L : Nat → Nat) : Nat := rs (fun x => rs (fun y => rs (fun z => b2n (tri (L x) (L y) (L z))) (y + 1) (m - 1 - y)) (x + 1) (m - 1 - x)) 0 m
theorem px_triangles {N P m : Nat} {L : Nat → Nat} {now : Nat → Int32} (hw : WF P m L) (hm : MS now 0 P m L) (hN : 12 < N) : F_X3_triangles N now = some (nI (triS m L)) := by
  have hmm := hw.2.2.1
  rw [F_X3_triangles]
  refine (lp_sum (fun n v i => F_X3_triangles_4 N now n v (nI i)) m (fun x => rs (fun y => rs (fun z => b2n (tri (L x) (L y) (L z))) (y + 1) (m - 1 - y)) (x + 1) (m - 1 - x)) some ?_ ?_ m N 0 0 (by omega) (by omega)).trans (by rw [Int32.zero_add]; rfl)
  · intro n v a ha
    show F_X3_triangles_4 N now (n + 1) v (nI a) = _
    rw [F_X3_triangles_4, px_lines, hm.2.1, Option.bind_some, if_neg (nI_ge ha (by omega)), nI_1]
    refine (lp_sumL (fun n2 v i => F_X3_triangles_16 N (nI a) now n2 v (nI i) (fun u => F_X3_triangles_4 N now n u (nI (a + 1)))) (a + 1) m (fun y => rs (fun z => b2n (tri (L a) (L y) (L z))) (y + 1) (m - 1 - y)) (fun u => F_X3_triangles_4 N now n u (nI (a + 1))) ?_ ?_ (m - 1 - a) N (a + 1) v (Nat.le_refl _) (by omega) (by omega))
    · intro n2 v b hab hb
      show F_X3_triangles_16 N (nI a) now (n2 + 1) v (nI b) _ = _
      rw [F_X3_triangles_16, px_lines, hm.2.1, Option.bind_some, if_neg (nI_ge hb (by omega)), nI_1]
      refine (lp_sumL (fun n3 v i => F_X3_triangles_29 N (nI a) (nI b) now n3 v (nI i) (fun u => F_X3_triangles_16 N (nI a) now n2 u (nI (b + 1)) (fun u => F_X3_triangles_4 N now n u (nI (a + 1))))) (b + 1) m (fun z => b2n (tri (L a) (L b) (L z))) (fun u => F_X3_triangles_16 N (nI a) now n2 u (nI (b + 1)) (fun u => F_X3_triangles_4 N now n u (nI (a + 1)))) ?_ ?_ (m - 1 - b) N (b + 1) v (Nat.le_refl _) (by omega) (by omega))
      · intro n3 v c hbc hc
        have l1 := and_lt (b := L b) (hw.lt ha)
        have l2 := and_lt (b := L c) (hw.lt ha)
        have l3 := and_lt (b := L c) (hw.lt hb)
        show F_X3_triangles_29 N (nI a) (nI b) now (n3 + 1) v (nI c) _ = _
        rw [F_X3_triangles_29, px_lines, hm.2.1, Option.bind_some, if_neg (nI_ge hc (by omega)), px_at hw hm ha, px_at hw hm hb, px_at hw hm hc]
        simp only [Option.bind_some]
        rw [pu_and, pu_and, pu_and, nI_1, tri_x hw ha hb hc (by omega) (by omega) (by omega)]
        by_cases n1 : L a &&& L b = 0
        · rw [if_pos (by rw [n1]; rfl)]; simp only [n1, ne_eq, not_true_eq_false, decide_false, Bool.false_and]; rfl
        rw [if_neg (fun z => n1 ((nI0_iff (by omega)).mp z))]
        by_cases n2 : L a &&& L c = 0
        · rw [if_pos (by rw [n2]; rfl)]; simp only [n2, ne_eq, not_true_eq_false, decide_false, Bool.false_and, Bool.and_false]; rfl
        rw [if_neg (fun z => n2 ((nI0_iff (by omega)).mp z))]
        by_cases n3 : L b &&& L c = 0
        · rw [if_pos (by rw [n3]; rfl)]; simp only [n3, ne_eq, not_true_eq_false, decide_false, Bool.false_and, Bool.and_false]; rfl
        rw [if_neg (fun z => n3 ((nI0_iff (by omega)).mp z)), pu_or, pu_or, pu_bits (by have := or_lt256 (or_lt256 l1 l2) l3; omega), Option.bind_some]
        have l4 : pc ((L a &&& L b) ||| (L a &&& L c) ||| (L b &&& L c)) < 2 ^ 31 := Nat.lt_of_le_of_lt (List.countP_le_length) (by decide)
        by_cases n4 : pc ((L a &&& L b) ||| (L a &&& L c) ||| (L b &&& L c)) = 3
        · rw [if_pos (by rw [n4]; rfl)]; simp only [n1, n2, n3, n4, ne_eq, not_false_eq_true, decide_true, Bool.true_and]; rfl
        · rw [if_neg (show ¬ nI _ = (3 : Int32) from fun z => n4 ((nI_eq (b := 3) l4 (by decide)).mp z))]; simp only [n1, n2, n3, n4, ne_eq, not_false_eq_true, decide_true, decide_false, Bool.true_and]; rfl
      · intro n3 v
        show F_X3_triangles_29 N (nI a) (nI b) now (n3 + 1) v (nI m) _ = _
        rw [F_X3_triangles_29, px_lines, hm.2.1, Option.bind_some, if_pos (nI_le (Nat.le_refl _) (by omega))]
    · intro n2 v
      show F_X3_triangles_16 N (nI a) now (n2 + 1) v (nI m) _ = _
      rw [F_X3_triangles_16, px_lines, hm.2.1, Option.bind_some, if_pos (nI_le (Nat.le_refl _) (by omega))]
  · intro n v
    show F_X3_triangles_4 N now (n + 1) v (nI m) = _
    rw [F_X3_triangles_4, px_lines, hm.2.1, Option.bind_some, if_pos (nI_le (Nat.le_refl _) (by omega))]
theorem tri_swap {P m : Nat} {L : Nat → Nat} (hw : WF P m L) {a b c : Nat} (ha : a < m) (hb : b < m) (hc : c < m) (h1 : a ≠ b) (h2 : b ≠ c) (h3 : a ≠ c) : tri (L c) (L b) (L a) = tri (L a) (L b) (L c) := by
  rw [tri_x hw ha hb hc h1 h2 h3, tri_x hw hc hb ha (Ne.symm h2) (Ne.symm h1) (Ne.symm h3), Nat.and_comm (L c) (L b), Nat.and_comm (L c) (L a), Nat.and_comm (L b) (L a)]
  have e : (L b &&& L c) ||| (L a &&& L c) ||| (L a &&& L b) = (L a &&& L b) ||| (L a &&& L c) ||| (L b &&& L c) := by
    apply Nat.eq_of_testBit_eq
    intro i
    simp only [Nat.testBit_or]
    cases (L a &&& L b).testBit i <;> cases (L a &&& L c).testBit i <;> cases (L b &&& L c).testBit i <;> rfl
  rw [e]
  cases decide (L a &&& L b ≠ 0) <;> cases decide (L a &&& L c ≠ 0) <;> cases decide (L b &&& L c ≠ 0) <;> rfl
theorem pc_triangles {N P m : Nat} {L : Nat → Nat} {pts lns : Int32} {line : Nat → Int32} (hw : WF P m L) (hc : CS pts lns line P m L) (hN : 12 < N) : F_X1_trianglesOf N line lns = some (nI (triS m L)) := by
  have hmm := hw.2.2.1
  obtain ⟨-, rfl, hL⟩ := hc
  rw [triS, ← rs_tri3 (fun x y z => b2n (tri (L x) (L y) (L z))) m, F_X1_trianglesOf]
  refine (lp_sum (fun n v i => F_X1_trianglesOf_4 N line (nI m) n v (nI i)) m (fun z => rs (fun y => rs (fun x => b2n (tri (L x) (L y) (L z))) 0 y) 0 z) some ?_ ?_ m N 0 0 (by omega) (by omega)).trans (by rw [Int32.zero_add])
  · intro n v a ha
    show F_X1_trianglesOf_4 N line (nI m) (n + 1) v (nI a) = _
    rw [F_X1_trianglesOf_4, if_neg (nI_ge ha (by omega)), nI_1]
    refine (lp_sum (fun n2 v i => F_X1_trianglesOf_14 N (nI a) line n2 v (nI i) (fun u => F_X1_trianglesOf_4 N line (nI m) n u (nI (a + 1)))) a (fun y => rs (fun x => b2n (tri (L x) (L y) (L a))) 0 y) (fun u => F_X1_trianglesOf_4 N line (nI m) n u (nI (a + 1))) ?_ ?_ a N 0 v (by omega) (by omega))
    · intro n2 v b hb
      show F_X1_trianglesOf_14 N (nI a) line (n2 + 1) v (nI b) _ = _
      rw [F_X1_trianglesOf_14, if_neg (nI_ge hb (by omega)), nI_1]
      refine (lp_sum (fun n3 v i => F_X1_trianglesOf_22 N (nI a) (nI b) line n3 v (nI i) (fun u => F_X1_trianglesOf_14 N (nI a) line n2 u (nI (b + 1)) (fun u => F_X1_trianglesOf_4 N line (nI m) n u (nI (a + 1))))) b (fun x => b2n (tri (L x) (L b) (L a))) (fun u => F_X1_trianglesOf_14 N (nI a) line n2 u (nI (b + 1)) (fun u => F_X1_trianglesOf_4 N line (nI m) n u (nI (a + 1)))) ?_ ?_ b N 0 v (by omega) (by omega))
      · intro n3 v c hc
        have hb' : b < m := by omega
        have hc' : c < m := by omega
        have l1 := and_lt (b := L b) (hw.lt ha)
        have l2 := and_lt (b := L c) (hw.lt ha)
        have l3 := and_lt (b := L c) (hw.lt hb')
        show F_X1_trianglesOf_22 N (nI a) (nI b) line (n3 + 1) v (nI c) _ = _
        rw [F_X1_trianglesOf_22, if_neg (nI_ge hc (by omega))]
        simp only [ckI_n _ (show a < 12 by omega) (by decide), ckI_n _ (show b < 12 by omega) (by decide), ckI_n _ (show c < 12 by omega) (by decide), pu_clamp (show a < 2 ^ 31 by omega), pu_clamp (show b < 2 ^ 31 by omega), pu_clamp (show c < 2 ^ 31 by omega), hL a ha, hL b hb', hL c hc', pu_and, nI_1]
        rw [tri_swap hw ha hb' hc' (by omega) (by omega) (by omega)]
        unfold tri
        have z0 : ∀ w : Int32, w + nI (b2n false) = w := fun w => i_add0 w
        by_cases n1 : L a &&& L b = 0
        · rw [if_pos (by rw [n1]; rfl)]; simp only [n1, ne_eq, not_true_eq_false, decide_false, Bool.false_and, z0]
        rw [if_neg (fun z => n1 ((nI0_iff (by omega)).mp z))]
        by_cases n3 : L b &&& L c = 0
        · rw [if_pos (by rw [n3]; rfl)]; simp only [n3, ne_eq, not_true_eq_false, decide_false, Bool.false_and, Bool.and_false, z0]
        rw [if_neg (fun z => n3 ((nI0_iff (by omega)).mp z))]
        by_cases n2 : L a &&& L c = 0
        · rw [if_pos (by rw [n2]; rfl)]; simp only [n2, ne_eq, not_true_eq_false, decide_false, Bool.false_and, Bool.and_false, z0]
        rw [if_neg (fun z => n2 ((nI0_iff (by omega)).mp z))]
        by_cases n4 : L a &&& L b = L b &&& L c
        · rw [if_pos (by rw [n4])]; simp only [n1, n2, n3, n4, ne_eq, not_true_eq_false, not_false_eq_true, decide_true, decide_false, Bool.true_and, Bool.and_false, z0]
        · rw [if_neg (fun z => n4 ((nI_eq (by omega) (by omega)).mp z))]; simp only [n1, n2, n3, n4, ne_eq, not_false_eq_true, decide_true, Bool.true_and]; rfl
      · intro n3 v
        show F_X1_trianglesOf_22 N (nI a) (nI b) line (n3 + 1) v (nI b) _ = _
        rw [F_X1_trianglesOf_22, if_pos (nI_le (Nat.le_refl _) (by omega))]
    · intro n2 v
      show F_X1_trianglesOf_14 N (nI a) line (n2 + 1) v (nI a) _ = _
      rw [F_X1_trianglesOf_14, if_pos (nI_le (Nat.le_refl _) (by omega))]
  · intro n v
    show F_X1_trianglesOf_4 N line (nI m) (n + 1) v (nI m) = _
    rw [F_X1_trianglesOf_4, if_pos (nI_le (Nat.le_refl _) (by omega))]
