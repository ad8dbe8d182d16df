set_option maxRecDepth 100000
/-! ===== regular ===== -/
def regR (P m : Nat) (L : Nat → Nat) : Bool := !anyB (fun p => decide (pc (thr L p m) ≠ pc (thr L 0 m))) P
def regK (m : Nat) (L : Nat → Nat) : Bool := !anyB (fun l => decide (pc (L l) ≠ pc (L 0))) m
theorem thr_lt12 {m : Nat} (L : Nat → Nat) (p : Nat) (h : m ≤ 12) : thr L p m < 4096 := Nat.lt_of_lt_of_le (thr_lt L p m) (pow12 h)
theorem pcI_eq (a b : Nat) : nI (pc a) = nI (pc b) ↔ pc a = pc b := by
  have := pc_le a
  have := pc_le b
  exact nI_eq (by omega) (by omega)
theorem px_regR {N P m : Nat} {L : Nat → Nat} {now : Nat → Int32} (hw : WF P m L) (hm : MS now 0 P m L) (hN : 12 < N) : F_X3_regularR N now = some (if regR P m L then nI (pc (thr L 0 m)) else -1) := by
  have hP := hw.2.1
  have hmm := hw.2.2.1
  rw [F_X3_regularR, pu_0, px_linesOn hw hm (by decide) hN, Option.bind_some, pu_bits (thr_lt12 L 0 hmm), Option.bind_some]
  refine (lp_any1 (fun n p => F_X3_regularR_11 N (nI (pc (thr L 0 m))) now n (nI p)) P (fun p => decide (pc (thr L p m) ≠ pc (thr L 0 m))) (some (-1)) (some (nI (pc (thr L 0 m)))) hw.1 (by simp) ?_ ?_ N (by omega)).trans ?_
  · intro n p _ hp
    show F_X3_regularR_11 N (nI (pc (thr L 0 m))) now (n + 1) (nI p) = _
    rw [F_X3_regularR_11, px_points, hm.1, Option.bind_some, if_neg (nI_ge hp (by omega)), px_linesOn hw hm (by omega) hN, Option.bind_some, pu_bits (thr_lt12 L p hmm), Option.bind_some, nI_1]
    by_cases h : pc (thr L p m) = pc (thr L 0 m)
    · rw [if_pos ((pcI_eq _ _).mpr h), if_neg (by simp [h])]
    · rw [if_neg (fun z => h ((pcI_eq _ _).mp z)), if_pos (by simp [h])]
  · intro n
    show F_X3_regularR_11 N (nI (pc (thr L 0 m))) now (n + 1) (nI P) = _
    rw [F_X3_regularR_11, px_points, hm.1, Option.bind_some, if_pos (nI_le (Nat.le_refl _) (by omega))]
  · unfold regR
    cases anyB (fun p => decide (pc (thr L p m) ≠ pc (thr L 0 m))) P <;> rfl
theorem px_regK {N P m : Nat} {L : Nat → Nat} {now : Nat → Int32} (hw : WF P m L) (hm : MS now 0 P m L) (hN : 12 < N) : F_X3_regularK N now = some (if regK m L then (if m = 0 then 0 else nI (pc (L 0))) else -1) := by
  have hmm := hw.2.2.1
  rw [F_X3_regularK, px_lines, hm.2.1, Option.bind_some]
  by_cases h0 : m = 0
  · subst h0
    rw [if_pos rfl, F_X3_regularK_19]
    obtain ⟨N', rfl⟩ : ∃ q, N = q + 1 := ⟨N - 1, by omega⟩
    rw [F_X3_regularK_22, px_lines, hm.2.1, Option.bind_some, if_pos (by decide)]
    rfl
  · have h1 : 0 < m := by omega
    rw [if_neg (fun z => h0 ((nI0_iff (by omega)).mp z)), pu_0, px_at hw hm h1, Option.bind_some, pu_bits (by have := hw.lt h1; omega), Option.bind_some, F_X3_regularK_19]
    refine (lp_any1 (fun n l => F_X3_regularK_22 N (nI (pc (L 0))) now n (nI l)) m (fun l => decide (pc (L l) ≠ pc (L 0))) (some (-1)) (some (nI (pc (L 0)))) h1 (by simp) ?_ ?_ N (by omega)).trans ?_
    · intro n l _ hl
      show F_X3_regularK_22 N (nI (pc (L 0))) now (n + 1) (nI l) = _
      rw [F_X3_regularK_22, px_lines, hm.2.1, Option.bind_some, if_neg (nI_ge hl (by omega)), px_at hw hm hl, Option.bind_some, pu_bits (by have := hw.lt hl; omega), Option.bind_some, nI_1]
      by_cases h : pc (L l) = pc (L 0)
      · rw [if_pos ((pcI_eq _ _).mpr h), if_neg (by simp [h])]
      · rw [if_neg (fun z => h ((pcI_eq _ _).mp z)), if_pos (by simp [h])]
    · intro n
      show F_X3_regularK_22 N (nI (pc (L 0))) now (n + 1) (nI m) = _
      rw [F_X3_regularK_22, px_lines, hm.2.1, Option.bind_some, if_pos (nI_le (Nat.le_refl _) (by omega))]
    · unfold regK
      cases anyB (fun l => decide (pc (L l) ≠ pc (L 0))) m
      · simp [h0]
      · simp
theorem pcI_m1 (a : Nat) : ¬ nI (pc a) = -1 := fun z => by
  have h := pc_le a
  have := nI_toInt (n := pc a) (by omega)
  rw [z] at this
  have e : Int32.toInt (-1) = -1 := by decide
  omega
theorem px_regular {N P m : Nat} {L : Nat → Nat} {now : Nat → Int32} (hw : WF P m L) (hm : MS now 0 P m L) (hN : 12 < N) : F_X3_isRegular N now = some (b2i (regR P m L && regK m L)) := by
  rw [F_X3_isRegular, px_regR hw hm hN, Option.bind_some, px_regK hw hm hN, Option.bind_some]
  cases regR P m L with
  | false => rfl
  | true =>
    rw [if_neg (show ¬ (if true = true then nI (pc (thr L 0 m)) else -1) = -1 from pcI_m1 _)]
    cases regK m L with
    | false => rfl
    | true =>
      rw [if_neg (show ¬ (if true = true then (if m = 0 then (0 : Int32) else nI (pc (L 0))) else -1) = -1 from by
        rw [if_pos rfl]
        split
        · decide
        · exact pcI_m1 _)]
      rfl
theorem pc_linesThrough {N P m p : Nat} {L : Nat → Nat} {pts lns : Int32} {line : Nat → Int32} (hw : WF P m L) (hc : CS pts lns line P m L) (hp : p < 8) (hN : 12 < N) : F_X1_linesThrough N (nI p) line lns = some (nI (pc (thr L p m))) := by
  rw [F_X1_linesThrough, pc_through hw hc hp hN, Option.bind_some, pu_bc (thr_lt12 L p hw.2.2.1)]; rfl
theorem pc_regular {N P m : Nat} {L : Nat → Nat} {pts lns : Int32} {line : Nat → Int32} (hw : WF P m L) (hc : CS pts lns line P m L) (hN : 12 < N) : F_X1_isRegular N line pts lns = some (b2i (regR P m L && regK m L)) := by
  have hP := hw.2.1
  have hmm := hw.2.2.1
  have ht := fun p (h : p < 8) => pc_linesThrough (N := N) hw hc h hN
  obtain ⟨rfl, rfl, hL⟩ := hc
  rw [F_X1_isRegular]
  have h36 : F_X1_isRegular_36 N line (nI m) N 1 = some (b2i (regK m L)) := by
    by_cases h0 : m = 0
    · subst h0
      obtain ⟨N', rfl⟩ : ∃ q, N = q + 1 := ⟨N - 1, by omega⟩
      rw [F_X1_isRegular_36, if_pos (by decide)]
      rfl
    · refine (lp_any1 (fun n l => F_X1_isRegular_36 N line (nI m) n (nI l)) m (fun l => decide (pc (L l) ≠ pc (L 0))) (some 0) (some 1) (by omega) (by simp) ?_ ?_ N (by omega)).trans ?_
      · intro n l _ hl
        show F_X1_isRegular_36 N line (nI m) (n + 1) (nI l) = _
        rw [F_X1_isRegular_36, if_neg (nI_ge hl (by omega)), pu_0]
        simp only [ckI_n _ (show l < 12 by omega) (by decide), ckI_n _ (show 0 < 12 by decide) (by decide), pu_clamp (show l < 2 ^ 31 by omega), pu_clamp (show 0 < 2 ^ 31 by decide), hL l hl, hL 0 (show 0 < m by omega), pu_bc (N := N) (show L l < 4096 by have := hw.lt hl; omega), pu_bc (N := N) (show L 0 < 4096 by have := hw.lt (show 0 < m by omega); omega), Option.bind_some]
        rw [nI_1]
        by_cases h : pc (L l) = pc (L 0)
        · rw [if_pos ((pcI_eq _ _).mpr h), if_neg (by simp [h])]
        · rw [if_neg (fun z => h ((pcI_eq _ _).mp z)), if_pos (by simp [h])]
      · intro n
        show F_X1_isRegular_36 N line (nI m) (n + 1) (nI m) = _
        rw [F_X1_isRegular_36, if_pos (nI_le (Nat.le_refl _) (by omega))]
      · unfold regK
        cases anyB (fun l => decide (pc (L l) ≠ pc (L 0))) m <;> rfl
  refine (lp_any1 (fun n p => F_X1_isRegular_2 N line (nI P) (nI m) n (nI p) (fun _ => F_X1_isRegular_36 N line (nI m) N 1)) P (fun p => decide (pc (thr L p m) ≠ pc (thr L 0 m))) (some 0) (F_X1_isRegular_36 N line (nI m) N 1) hw.1 (by simp) ?_ ?_ N (by omega)).trans ?_
  · intro n p _ hp
    show F_X1_isRegular_2 N line (nI P) (nI m) (n + 1) (nI p) _ = _
    rw [F_X1_isRegular_2, if_neg (nI_ge hp (by omega)), ht p (by omega), Option.bind_some, show F_X1_linesThrough N 0 line (nI m) = some (nI (pc (thr L 0 m))) from ht 0 (by decide), Option.bind_some, nI_1]
    by_cases h : pc (thr L p m) = pc (thr L 0 m)
    · rw [if_pos ((pcI_eq _ _).mpr h), if_neg (by simp [h])]
    · rw [if_neg (fun z => h ((pcI_eq _ _).mp z)), if_pos (by simp [h])]
  · intro n
    show F_X1_isRegular_2 N line (nI P) (nI m) (n + 1) (nI P) _ = _
    rw [F_X1_isRegular_2, if_pos (nI_le (Nat.le_refl _) (by omega))]
  · rw [h36]
    unfold regR
    cases anyB (fun p => decide (pc (thr L p m) ≠ pc (thr L 0 m))) P <;> rfl
