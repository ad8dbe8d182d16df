set_option maxRecDepth 100000
/-! ===== a scheme: P points, m lines L ===== -/
def WF (P m : Nat) (L : Nat → Nat) : Prop := 1 ≤ P ∧ P ≤ 8 ∧ m ≤ 12 ∧ (∀ l, l < m → L l < 2 ^ P ∧ 2 ≤ pc (L l) ∧ pc (L l) ≤ 4) ∧ ∀ i j, i < j → j < m → pc (L i &&& L j) ≤ 1
/-- the component's scheme -/
def CS (pts lns : Int32) (line : Nat → Int32) (P m : Nat) (L : Nat → Nat) : Prop := pts = nI P ∧ lns = nI m ∧ ∀ l, l < m → line l = nI (L l)
/-- the reference's row, at a place o of it -/
def MS (row : Nat → Int32) (o P m : Nat) (L : Nat → Nat) : Prop := row o = nI P ∧ row (o + 1) = nI m ∧ ∀ l, l < m → row (o + 2 + l) = nI (L l)
theorem pow8 {P : Nat} (h : P ≤ 8) : 2 ^ P ≤ 256 := Nat.pow_le_pow_right (by decide) h
theorem WF.lt {P m : Nat} {L : Nat → Nat} (h : WF P m L) {l : Nat} (hl : l < m) : L l < 256 := Nat.lt_of_lt_of_le (h.2.2.2.1 l hl).1 (pow8 h.2.1)
theorem px_points (N : Nat) (now : Nat → Int32) : F_X3_points N now = some (now 0) := rfl
theorem px_lines (N : Nat) (now : Nat → Int32) : F_X3_lines N now = some (now 1) := rfl
theorem px_lineAt {N l : Nat} (now : Nat → Int32) (h : l < 152) : F_X3_lineAt N (nI l) now = some (now (2 + l)) := by
  rw [F_X3_lineAt, show (2 : Int32) + nI l = nI (2 + l) from nI_add 2 l, ckI_n _ (by omega) (by decide), pu_clamp (by omega)]
/-- on which lines a point is -/
def thr (L : Nat → Nat) (p : Nat) : Nat → Nat
  | 0 => 0
  | m + 1 => thr L p m ||| (if (L m).testBit p then 2 ^ m else 0)
theorem thr_lt (L : Nat → Nat) (p : Nat) : ∀ m, thr L p m < 2 ^ m := by
  intro m
  induction m with
  | zero => exact Nat.one_pos
  | succ m ih =>
    rw [thr]
    refine Nat.or_lt_two_pow (Nat.lt_of_lt_of_le ih (Nat.pow_le_pow_right (by decide) (by omega))) ?_
    split
    · exact Nat.pow_lt_pow_right (by decide) (by omega)
    · exact Nat.two_pow_pos _
theorem thr_bit (L : Nat → Nat) (p : Nat) : ∀ m l, (thr L p m).testBit l = (decide (l < m) && (L l).testBit p) := by
  intro m
  induction m with
  | zero => intro l; simp [thr]
  | succ m ih =>
    intro l
    rw [thr, Nat.testBit_or, ih]
    by_cases h : l = m
    · subst h
      cases e : (L l).testBit p <;> simp
    · have h2 : (if (L m).testBit p then 2 ^ m else 0).testBit l = false := by
        split
        · rw [Nat.testBit_two_pow]; simp; omega
        · simp
      rw [h2]
      by_cases h3 : l < m
      · simp [h3, show l < m + 1 by omega]
      · simp [h3, show ¬ l < m + 1 by omega]
theorem px_linesOn {N P m p : Nat} {L : Nat → Nat} {now : Nat → Int32} (hw : WF P m L) (hm : MS now 0 P m L) (hp : p < 8) (hN : 12 < N) : F_X3_linesOn N (nI p) now = some (nI (thr L p m)) := by
  have hmm := hw.2.2.1
  rw [F_X3_linesOn]
  refine lp_acc (fun n i => F_X3_linesOn_4 N (nI p) now n (nI (thr L p i)) (nI i)) m _ ?_ ?_ m N 0 (by omega) (by omega)
  · intro n i hi
    show F_X3_linesOn_4 N (nI p) now (n + 1) (nI (thr L p i)) (nI i) = _
    rw [F_X3_linesOn_4, px_lines, hm.2.1]
    simp only [Option.bind_some]
    rw [if_neg (nI_ge hi (by omega)), px_lineAt now (by omega), show now (2 + i) = nI (L i) from by have := hm.2.2 i hi; simpa using this]
    simp only [Option.bind_some]
    rw [pu_bit (by have := hw.lt hi; omega) (by omega), nI_1]
    have e : nI (thr L p i) ||| (nI (if (L i).testBit p then 1 else 0) <<< (nI i &&& 31)) = nI (thr L p (i + 1)) := by
      rw [pu_shl (by omega) (by split <;> have := Nat.pow_le_pow_right (n := 2) (by decide) (show i ≤ 12 by omega) <;> omega), pu_or, thr]
      congr 2
      split <;> simp
    rw [e]
  · intro n
    show F_X3_linesOn_4 N (nI p) now (n + 1) (nI (thr L p m)) (nI m) = _
    rw [F_X3_linesOn_4, px_lines, hm.2.1]
    simp only [Option.bind_some]
    rw [if_pos (nI_le (Nat.le_refl _) (by omega))]
theorem pc_isOn {N p l : Nat} {line : Nat → Int32} {x : Nat} (hl : l < 12) (hx : line l = nI x) (hx2 : x < 4096) (hp : p < 8) : F_X2_isOn N (nI p) (nI l) line = some (if x.testBit p then 1 else 0) := by
  rw [F_X2_isOn, ckI_n _ hl (by decide), pu_clamp (by omega), hx]
  by_cases h : x.testBit p = true
  · rw [if_pos ((pu_bit1 (by omega) (by omega)).mpr h), if_pos h]
  · rw [if_neg (fun z => h ((pu_bit1 (by omega) (by omega)).mp z)), if_neg h]
theorem pc_through {N P m p : Nat} {L : Nat → Nat} {pts lns : Int32} {line : Nat → Int32} (hw : WF P m L) (hc : CS pts lns line P m L) (hp : p < 8) (hN : 12 < N) : F_X2_through N (nI p) line lns = some (nI (thr L p m)) := by
  have hmm := hw.2.2.1
  obtain ⟨-, rfl, hL⟩ := hc
  rw [F_X2_through]
  refine lp_acc (fun n i => F_X2_through_4 N (nI p) line (nI m) n (nI (thr L p i)) (nI i)) m _ ?_ ?_ m N 0 (by omega) (by omega)
  · intro n i hi
    show F_X2_through_4 N (nI p) line (nI m) (n + 1) (nI (thr L p i)) (nI i) = _
    rw [F_X2_through_4, if_neg (nI_ge hi (by omega)), pc_isOn (by omega) (hL i hi) (by have := hw.lt hi; omega) hp]
    simp only [Option.bind_some]
    rw [nI_1]
    by_cases h : (L i).testBit p = true
    · rw [if_pos h, if_neg (by decide), pu_1shl (by omega), pu_or, thr, if_pos h]
    · rw [if_neg h, if_pos rfl, thr, if_neg h, Nat.or_zero]
  · intro n
    show F_X2_through_4 N (nI p) line (nI m) (n + 1) (nI (thr L p m)) (nI m) = _
    rw [F_X2_through_4, if_pos (nI_le (Nat.le_refl _) (by omega))]
/-- a place or none -/
def oI : Option Nat → Int32
  | none => -1
  | some k => nI k
/-- the line on which all of some points are -/
def lnOf (m : Nat) (L : Nat → Nat) (s : Nat) : Option Nat := fs (fun l => decide (L l &&& s = s)) 0 m
theorem px_lineOf {N P m s : Nat} {L : Nat → Nat} {now : Nat → Int32} (hw : WF P m L) (hm : MS now 0 P m L) (hs : s < 256) (hN : 12 < N) : F_X3_lineOf N (nI s) now = some (oI (lnOf m L s)) := by
  have hmm := hw.2.2.1
  rw [F_X3_lineOf]
  refine (lp_fst (fun n i => F_X3_lineOf_2 N (nI s) now n (nI i)) m (fun l => decide (L l &&& s = s)) (fun i => some (nI i)) (some (-1)) ?_ ?_ m N 0 (by omega) (by omega)).trans ?_
  · intro n i hi
    show F_X3_lineOf_2 N (nI s) now (n + 1) (nI i) = _
    rw [F_X3_lineOf_2, px_lines, hm.2.1]
    simp only [Option.bind_some]
    rw [if_neg (nI_ge hi (by omega)), px_lineAt now (by omega), show now (2 + i) = nI (L i) from by have := hm.2.2 i hi; simpa using this]
    simp only [Option.bind_some]
    rw [pu_and, nI_1]
    by_cases h : L i &&& s = s
    · rw [if_pos (by rw [h]), if_pos (by simp [h])]
    · rw [if_neg (fun z => h ((nI_eq (by have := hw.lt hi; have := Nat.and_le_left (n := L i) (m := s); omega) (by omega)).mp z)), if_neg (by simp [h])]
  · intro n
    show F_X3_lineOf_2 N (nI s) now (n + 1) (nI m) = _
    rw [F_X3_lineOf_2, px_lines, hm.2.1]
    simp only [Option.bind_some]
    rw [if_pos (nI_le (Nat.le_refl _) (by omega))]
  · unfold lnOf
    cases fs (fun l => decide (L l &&& s = s)) 0 m <;> rfl
theorem pc_lineOf {N P m s : Nat} {L : Nat → Nat} {pts lns : Int32} {line : Nat → Int32} (hw : WF P m L) (hc : CS pts lns line P m L) (hs : s < 256) (hN : 12 < N) : F_X2_lineOf N (nI s) line lns = some (oI (lnOf m L s)) := by
  have hmm := hw.2.2.1
  obtain ⟨-, rfl, hL⟩ := hc
  rw [F_X2_lineOf]
  refine (lp_fst (fun n i => F_X2_lineOf_2 N (nI s) line (nI m) n (nI i)) m (fun l => decide (L l &&& s = s)) (fun i => some (nI i)) (some (-1)) ?_ ?_ m N 0 (by omega) (by omega)).trans ?_
  · intro n i hi
    show F_X2_lineOf_2 N (nI s) line (nI m) (n + 1) (nI i) = _
    rw [F_X2_lineOf_2, if_neg (nI_ge hi (by omega)), ckI_n _ (by omega) (by decide), pu_clamp (by omega), hL i hi, pu_and, nI_1]
    by_cases h : L i &&& s = s
    · rw [if_pos (by rw [h]), if_pos (by simp [h])]
    · rw [if_neg (fun z => h ((nI_eq (by have := hw.lt hi; have := Nat.and_le_left (n := L i) (m := s); omega) (by omega)).mp z)), if_neg (by simp [h])]
  · intro n
    show F_X2_lineOf_2 N (nI s) line (nI m) (n + 1) (nI m) = _
    rw [F_X2_lineOf_2, if_pos (nI_le (Nat.le_refl _) (by omega))]
  · unfold lnOf
    cases fs (fun l => decide (L l &&& s = s)) 0 m <;> rfl
