set_option maxRecDepth 100000
/-! ===== sums ===== -/
def rs (c : Nat → Nat) : Nat → Nat → Nat
  | _, 0 => 0
  | i, k + 1 => c i + rs c (i + 1) k
theorem rs_end (c : Nat → Nat) : ∀ k i, rs c i (k + 1) = rs c i k + c (i + k) := by
  intro k
  induction k with
  | zero => intro i; simp [rs]
  | succ k ih =>
    intro i
    rw [rs, ih (i + 1), rs, show i + 1 + k = i + (k + 1) by omega]
    omega
theorem rs_congr {c d : Nat → Nat} : ∀ k i, (∀ j, i ≤ j → j < i + k → c j = d j) → rs c i k = rs d i k := by
  intro k
  induction k with
  | zero => intro i _; rfl
  | succ k ih =>
    intro i h
    rw [rs, rs, h i (Nat.le_refl _) (by omega), ih (i + 1) (fun j h1 h2 => h j (by omega) (by omega))]
theorem rs_add (c d : Nat → Nat) : ∀ k i, rs (fun j => c j + d j) i k = rs c i k + rs d i k := by
  intro k
  induction k with
  | zero => intro i; rfl
  | succ k ih => intro i; rw [rs, rs, rs, ih]; omega
theorem rs_shift (c : Nat → Nat) (s : Nat) : ∀ k i, rs c (i + s) k = rs (fun j => c (j + s)) i k := by
  intro k
  induction k with
  | zero => intro i; rfl
  | succ k ih => intro i; rw [rs, rs, show i + s + 1 = (i + 1) + s by omega, ih]
/-- pairs in both orders -/
theorem rs_tri (g : Nat → Nat → Nat) : ∀ P, rs (fun p => rs (fun q => g q p) 0 p) 0 P = rs (fun a => rs (fun b => g a b) (a + 1) (P - 1 - a)) 0 P := by
  intro P
  induction P with
  | zero => rfl
  | succ P ih =>
    rw [rs_end, ih, rs_end, Nat.zero_add]
    have e0 : rs (fun b => g P b) (P + 1) (P + 1 - 1 - P) = 0 := by rw [show P + 1 - 1 - P = 0 by omega]; rfl
    rw [e0, Nat.add_zero, ← rs_add]
    refine rs_congr P 0 (fun a _ ha => ?_)
    rw [show P + 1 - 1 - a = (P - 1 - a) + 1 by omega, rs_end, show a + 1 + (P - 1 - a) = P by omega]
theorem rs_le {c : Nat → Nat} {B : Nat} (h : ∀ j, c j ≤ B) : ∀ k i, rs c i k ≤ B * k := by
  intro k
  induction k with
  | zero => intro i; simp [rs]
  | succ k ih => intro i; rw [rs]; have := ih (i + 1); have := h i; rw [Nat.mul_succ]; omega
theorem i_add0 (v : Int32) : v + nI 0 = v := Int32.add_zero v
theorem i_assoc (v : Int32) (a b : Nat) : v + nI a + nI b = v + nI (a + b) := by rw [Int32.add_assoc, nI_add]
/-- a loop that adds up -/
theorem lp_sum {ρ : Type} (F : Nat → Int32 → Nat → Option ρ) (m : Nat) (c : Nat → Nat) (r : Int32 → Option ρ) (hs : ∀ n v i, i < m → F (n + 1) v i = F n (v + nI (c i)) (i + 1)) (he : ∀ n v, F (n + 1) v m = r v) : ∀ k n i v, i + k = m → k < n → F n v i = r (v + nI (rs c i k)) := by
  intro k
  induction k with
  | zero =>
    intro n i v e h
    obtain ⟨n, rfl⟩ : ∃ q, n = q + 1 := ⟨n - 1, by omega⟩
    obtain rfl : i = m := by omega
    rw [he n v, rs, i_add0]
  | succ k ih =>
    intro n i v e h
    obtain ⟨n, rfl⟩ : ∃ q, n = q + 1 := ⟨n - 1, by omega⟩
    rw [hs n v i (by omega), ih n (i + 1) _ (by omega) (by omega), i_assoc, rs]
def b2n (b : Bool) : Nat := if b then 1 else 0
theorem hmL {now : Nat → Int32} {P m l : Nat} {L : Nat → Nat} (hm : MS now 0 P m L) (hl : l < m) : now (2 + l) = nI (L l) := by
  have := hm.2.2 l hl
  simpa using this
theorem px_at {N P m l : Nat} {L : Nat → Nat} {now : Nat → Int32} (hw : WF P m L) (hm : MS now 0 P m L) (hl : l < m) : F_X3_lineAt N (nI l) now = some (nI (L l)) := by
  have := hw.2.2.1
  rw [px_lineAt now (by omega), hmL hm hl]
theorem and_lt {a b : Nat} (h : a < 256) : a &&& b < 256 := Nat.lt_of_le_of_lt Nat.and_le_left h
theorem nI0_iff {a : Nat} (h : a < 2 ^ 31) : nI a = 0 ↔ a = 0 := nI_eq (b := 0) h (by decide)
/-! ===== flags ===== -/
theorem px_flags {N P m : Nat} {L : Nat → Nat} {now : Nat → Int32} (hw : WF P m L) (hm : MS now 0 P m L) (hN : 12 < N) : F_X3_flags N now = some (nI (rs (fun l => pc (L l)) 0 m)) := by
  have hmm := hw.2.2.1
  rw [F_X3_flags]
  refine (lp_sum (fun n v i => F_X3_flags_4 N now n v (nI i)) m (fun l => pc (L l)) some ?_ ?_ m N 0 0 (by omega) (by omega)).trans (by rw [Int32.zero_add])
  · intro n v i hi
    show F_X3_flags_4 N now (n + 1) v (nI i) = _
    rw [F_X3_flags_4, px_lines, hm.2.1, Option.bind_some, if_neg (nI_ge hi (by omega)), px_at hw hm hi, Option.bind_some, pu_bits (by have := hw.lt hi; omega), Option.bind_some, nI_1]
  · intro n v
    show F_X3_flags_4 N now (n + 1) v (nI m) = _
    rw [F_X3_flags_4, px_lines, hm.2.1, Option.bind_some, if_pos (nI_le (Nat.le_refl _) (by omega))]
theorem pc_flags {N P m : Nat} {L : Nat → Nat} {pts lns : Int32} {line : Nat → Int32} (hw : WF P m L) (hc : CS pts lns line P m L) (hN : 12 < N) : F_X1_flags N line lns = some (nI (rs (fun l => pc (L l)) 0 m)) := by
  have hmm := hw.2.2.1
  obtain ⟨-, rfl, hL⟩ := hc
  rw [F_X1_flags]
  refine (lp_sum (fun n v i => F_X1_flags_4 N line (nI m) n v (nI i)) m (fun l => pc (L l)) some ?_ ?_ m N 0 0 (by omega) (by omega)).trans (by rw [Int32.zero_add])
  · intro n v i hi
    show F_X1_flags_4 N line (nI m) (n + 1) v (nI i) = _
    rw [F_X1_flags_4, if_neg (nI_ge hi (by omega)), ckI_n _ (by omega) (by decide), pu_clamp (by omega), hL i hi, pu_bc (by have := hw.lt hi; omega), Option.bind_some, nI_1]
  · intro n v
    show F_X1_flags_4 N line (nI m) (n + 1) v (nI m) = _
    rw [F_X1_flags_4, if_pos (nI_le (Nat.le_refl _) (by omega))]
/-! ===== pairs of lines that don't meet ===== -/
theorem px_apart {N P m : Nat} {L : Nat → Nat} {now : Nat → Int32} (hw : WF P m L) (hm : MS now 0 P m L) (hN : 12 < N) : F_X3_apart N now = some (nI (rs (fun a => rs (fun b => b2n (decide (L a &&& L b = 0))) (a + 1) (m - 1 - a)) 0 m)) := by
  have hmm := hw.2.2.1
  rw [F_X3_apart]
  refine (lp_sum (fun n v i => F_X3_apart_4 N now n v (nI i)) m (fun a => rs (fun b => b2n (decide (L a &&& L b = 0))) (a + 1) (m - 1 - a)) some ?_ ?_ m N 0 0 (by omega) (by omega)).trans (by rw [Int32.zero_add])
  · intro n v a ha
    show F_X3_apart_4 N now (n + 1) v (nI a) = _
    rw [F_X3_apart_4, px_lines, hm.2.1, Option.bind_some, if_neg (nI_ge ha (by omega)), nI_1]
    refine (lp_sum (fun n2 v i => F_X3_apart_16 N (nI a) now n2 v (nI i) (fun u1_9 => F_X3_apart_4 N now n u1_9 (nI (a + 1)))) m (fun b => b2n (decide (L a &&& L b = 0))) (fun u1_9 => F_X3_apart_4 N now n u1_9 (nI (a + 1))) ?_ ?_ (m - 1 - a) N (a + 1) v (by omega) (by omega))
    · intro n2 v b hb
      show F_X3_apart_16 N (nI a) now (n2 + 1) v (nI b) _ = _
      rw [F_X3_apart_16, px_lines, hm.2.1, Option.bind_some, if_neg (nI_ge hb (by omega)), px_at hw hm ha, Option.bind_some, px_at hw hm hb, Option.bind_some, pu_and, nI_1]
      by_cases h : L a &&& L b = 0
      · rw [if_pos (by rw [h]; rfl)]; simp only [h, decide_true]; rfl
      · rw [if_neg (fun z => h ((nI0_iff (by have := and_lt (b := L b) (hw.lt ha); omega)).mp z))]; simp only [h, decide_false]; rfl
    · intro n2 v
      show F_X3_apart_16 N (nI a) now (n2 + 1) v (nI m) _ = _
      rw [F_X3_apart_16, px_lines, hm.2.1, Option.bind_some, if_pos (nI_le (Nat.le_refl _) (by omega))]
  · intro n v
    show F_X3_apart_4 N now (n + 1) v (nI m) = _
    rw [F_X3_apart_4, px_lines, hm.2.1, Option.bind_some, if_pos (nI_le (Nat.le_refl _) (by omega))]
theorem pc_apart {N P m : Nat} {L : Nat → Nat} {pts lns : Int32} {line : Nat → Int32} (hw : WF P m L) (hc : CS pts lns line P m L) (hN : 12 < N) : F_X1_apart N line lns = some (nI (rs (fun a => rs (fun b => b2n (decide (L a &&& L b = 0))) (a + 1) (m - 1 - a)) 0 m)) := by
  have hmm := hw.2.2.1
  obtain ⟨-, rfl, hL⟩ := hc
  rw [← rs_tri (fun a b => b2n (decide (L a &&& L b = 0))) m, F_X1_apart]
  refine (lp_sum (fun n v i => F_X1_apart_4 N line (nI m) n v (nI i)) m (fun p => rs (fun q => b2n (decide (L q &&& L p = 0))) 0 p) some ?_ ?_ m N 0 0 (by omega) (by omega)).trans (by rw [Int32.zero_add])
  · intro n v a ha
    show F_X1_apart_4 N line (nI m) (n + 1) v (nI a) = _
    rw [F_X1_apart_4, if_neg (nI_ge ha (by omega)), nI_1]
    refine (lp_sum (fun n2 v i => F_X1_apart_17 N (nI a) line n2 v (nI i) (fun u1_6 => F_X1_apart_4 N line (nI m) n u1_6 (nI (a + 1)))) a (fun q => b2n (decide (L q &&& L a = 0))) (fun u1_6 => F_X1_apart_4 N line (nI m) n u1_6 (nI (a + 1))) ?_ ?_ a N 0 v (by omega) (by omega))
    · intro n2 v b hb
      show F_X1_apart_17 N (nI a) line (n2 + 1) v (nI b) _ = _
      rw [F_X1_apart_17, if_neg (nI_ge hb (by omega)), F_X1_doMeet, ckI_n _ (by omega) (by decide), ckI_n _ (by omega) (by decide), pu_clamp (by omega), pu_clamp (by omega), hL a ha, hL b (by omega), pu_and, nI_1]
      by_cases h : L b &&& L a = 0
      · rw [if_pos (by rw [Nat.and_comm, h]; rfl), Option.bind_some, if_pos rfl]; simp only [h, decide_true]; rfl
      · rw [if_neg (fun z => h (by rw [Nat.and_comm]; exact (nI0_iff (by have := and_lt (b := L b) (hw.lt ha); omega)).mp z)), Option.bind_some, if_neg (by decide)]; simp only [h, decide_false]; exact congrArg (fun z => F_X1_apart_17 N (nI a) line n2 z (nI (b + 1)) _) (i_add0 v).symm
    · intro n2 v
      show F_X1_apart_17 N (nI a) line (n2 + 1) v (nI a) _ = _
      rw [F_X1_apart_17, if_pos (nI_le (Nat.le_refl _) (by omega))]
  · intro n v
    show F_X1_apart_4 N line (nI m) (n + 1) v (nI m) = _
    rw [F_X1_apart_4, if_pos (nI_le (Nat.le_refl _) (by omega))]
