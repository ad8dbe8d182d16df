set_option maxRecDepth 100000
/-- a set without another -/
def sd (x s : Nat) : Nat := x ^^^ (x &&& s)
theorem sd_bit (x s i : Nat) : (sd x s).testBit i = (x.testBit i && !s.testBit i) := by
  unfold sd
  rw [Nat.testBit_xor, Nat.testBit_and]
  cases x.testBit i <;> cases s.testBit i <;> rfl
theorem sd_lt {x s k : Nat} (h : x < 2 ^ k) : sd x s < 2 ^ k := Nat.xor_lt_two_pow h (Nat.lt_of_le_of_lt Nat.and_le_left h)
theorem sd_0 {x s : Nat} : sd x s = 0 ↔ x &&& s = x := by
  constructor
  · intro h
    apply Nat.eq_of_testBit_eq
    intro i
    have hb : (sd x s).testBit i = false := by rw [h]; simp
    rw [sd_bit] at hb
    rw [Nat.testBit_and]
    cases e : x.testBit i <;> cases e2 : s.testBit i <;> simp_all
  · intro h
    unfold sd
    rw [h, Nat.xor_self]
theorem pu_andn (x s : Nat) : nI x &&& (nI s ^^^ (-1 : Int32)) = nI (sd x s) := by
  apply Int32.toBitVec_inj.mp
  rw [Int32.toBitVec_and, Int32.toBitVec_xor, pu_bv, pu_bv, pu_bv]
  apply BitVec.eq_of_getLsbD_eq
  intro i hi
  rw [BitVec.getLsbD_and, BitVec.getLsbD_xor, BitVec.getLsbD_ofNat, BitVec.getLsbD_ofNat, BitVec.getLsbD_ofNat, sd_bit]
  have : (Int32.toBitVec (-1)).getLsbD i = true := by
    rw [show Int32.toBitVec (-1) = BitVec.allOnes 32 from by decide, BitVec.getLsbD_allOnes]
    exact decide_eq_true hi
  rw [this]
  simp [hi]
/-- a whole line lies in a set -/
def hasB (m : Nat) (L : Nat → Nat) (s : Nat) : Bool := anyB (fun l => decide (L l &&& s = L l)) m
theorem pc_hasNone {N P m s : Nat} {L : Nat → Nat} {pts lns : Int32} {line : Nat → Int32} (hw : WF P m L) (hc : CS pts lns line P m L) (hN : 12 < N) : F_X1_hasNone N (nI s) line lns = some (b2i (!hasB m L s)) := by
  have hmm := hw.2.2.1
  obtain ⟨-, rfl, hL⟩ := hc
  rw [F_X1_hasNone]
  refine (lp_any (fun n i => F_X1_hasNone_2 N (nI s) line (nI m) n (nI i)) m (fun l => decide (L l &&& s = L l)) (some 0) (some 1) ?_ ?_ N (by omega)).trans ?_
  · intro n i hi
    show F_X1_hasNone_2 N (nI s) line (nI m) (n + 1) (nI i) = _
    rw [F_X1_hasNone_2, if_neg (nI_ge hi (by omega)), ckI_n _ (by omega) (by decide), pu_clamp (by omega), hL i hi, pu_andn, nI_1]
    have hl := sd_lt (k := 8) (s := s) (hw.lt hi)
    by_cases h : L i &&& s = L i
    · rw [if_pos ((nI0_iff (by omega)).mpr (sd_0.mpr h)), if_pos (decide_eq_true h)]
    · rw [if_neg (fun z => h (sd_0.mp ((nI0_iff (by omega)).mp z))), if_neg (by simp [h])]
  · intro n
    show F_X1_hasNone_2 N (nI s) line (nI m) (n + 1) (nI m) = _
    rw [F_X1_hasNone_2, if_pos (nI_le (Nat.le_refl _) (by omega))]
  · show _ = some (b2i (!anyB (fun l => decide (L l &&& s = L l)) m))
    cases anyB (fun l => decide (L l &&& s = L l)) m <;> rfl
theorem px_hasLine {N P m s : Nat} {L : Nat → Nat} {now : Nat → Int32} (hw : WF P m L) (hm : MS now 0 P m L) (hN : 12 < N) : F_X3_hasLine N (nI s) now = some (b2i (hasB m L s)) := by
  have hmm := hw.2.2.1
  rw [F_X3_hasLine]
  refine lp_acc (fun n i => F_X3_hasLine_4 N (nI s) now n (b2i (anyB (fun l => decide (L l &&& s = L l)) i)) (nI i)) m _ ?_ ?_ m N 0 (by omega) (by omega)
  · intro n i hi
    show F_X3_hasLine_4 N (nI s) now (n + 1) (b2i (anyB (fun l => decide (L l &&& s = L l)) i)) (nI i) = F_X3_hasLine_4 N (nI s) now n (b2i (anyB (fun l => decide (L l &&& s = L l)) (i + 1))) (nI (i + 1))
    have hl := sd_lt (k := 8) (s := s) (hw.lt hi)
    rw [F_X3_hasLine_4, px_lines, hm.2.1, Option.bind_some, if_neg (nI_ge hi (by omega)), px_at hw hm hi, Option.bind_some, pu_andn, nI_1, anyB]
    cases anyB (fun l => decide (L l &&& s = L l)) i with
    | true => rw [if_neg (by decide)]; rfl
    | false =>
      rw [if_pos (show b2i false = 0 from rfl), Bool.false_or]
      by_cases h : L i &&& s = L i
      · rw [if_pos ((nI0_iff (by omega)).mpr (sd_0.mpr h)), decide_eq_true h]; rfl
      · rw [if_neg (fun z => h (sd_0.mp ((nI0_iff (by omega)).mp z))), decide_eq_false h]; rfl
  · intro n
    show F_X3_hasLine_4 N (nI s) now (n + 1) (b2i (anyB (fun l => decide (L l &&& s = L l)) m)) (nI m) = _
    rw [F_X3_hasLine_4, px_lines, hm.2.1, Option.bind_some, if_pos (nI_le (Nat.le_refl _) (by omega)), ckP_v]
    · rfl
    · cases anyB (fun l => decide (L l &&& s = L l)) m <;> decide
/-- a set meets each line -/
def metB (m : Nat) (L : Nat → Nat) (s : Nat) : Bool := !anyB (fun l => decide (L l &&& s = 0)) m
theorem pc_meetsAll {N P m s : Nat} {L : Nat → Nat} {pts lns : Int32} {line : Nat → Int32} (hw : WF P m L) (hc : CS pts lns line P m L) (hN : 12 < N) : F_X1_meetsAll N (nI s) line lns = some (b2i (metB m L s)) := by
  have hmm := hw.2.2.1
  obtain ⟨-, rfl, hL⟩ := hc
  rw [F_X1_meetsAll]
  refine (lp_any (fun n i => F_X1_meetsAll_2 N (nI s) line (nI m) n (nI i)) m (fun l => decide (L l &&& s = 0)) (some 0) (some 1) ?_ ?_ N (by omega)).trans ?_
  · intro n i hi
    show F_X1_meetsAll_2 N (nI s) line (nI m) (n + 1) (nI i) = _
    have hl := and_lt (b := s) (hw.lt hi)
    rw [F_X1_meetsAll_2, if_neg (nI_ge hi (by omega)), ckI_n _ (by omega) (by decide), pu_clamp (by omega), hL i hi, pu_and, nI_1]
    by_cases h : L i &&& s = 0
    · rw [if_pos ((nI0_iff (by omega)).mpr h), if_pos (decide_eq_true h)]
    · rw [if_neg (fun z => h ((nI0_iff (by omega)).mp z)), if_neg (by simp [h])]
  · intro n
    show F_X1_meetsAll_2 N (nI s) line (nI m) (n + 1) (nI m) = _
    rw [F_X1_meetsAll_2, if_pos (nI_le (Nat.le_refl _) (by omega))]
  · unfold metB
    cases anyB (fun l => decide (L l &&& s = 0)) m <;> rfl
/-- all points -/
theorem pall_bit (P i : Nat) : (2 ^ P - 1).testBit i = decide (i < P) := Nat.testBit_two_pow_sub_one P i
theorem tb_lt {x P i : Nat} (h : x < 2 ^ P) (hi : P ≤ i) : x.testBit i = false := Nat.testBit_lt_two_pow (Nat.lt_of_lt_of_le h (Nat.pow_le_pow_right (by decide) hi))
theorem met_has {P m s : Nat} {L : Nat → Nat} (hw : WF P m L) : metB m L s = !hasB m L (sd (2 ^ P - 1) s) := by
  unfold metB hasB
  congr 1
  refine anyB_congr (fun l hl => ?_)
  refine decide_eq_decide.mpr ⟨fun h => ?_, fun h => ?_⟩
  · apply Nat.eq_of_testBit_eq
    intro i
    have hb : (L l &&& s).testBit i = false := by rw [h]; simp
    rw [Nat.testBit_and] at hb
    rw [Nat.testBit_and, sd_bit, pall_bit]
    cases e : (L l).testBit i with
    | false => rfl
    | true =>
      rw [e] at hb
      have hi : i < P := by
        rcases Nat.lt_or_ge i P with q | q
        · exact q
        · rw [tb_lt (hw.2.2.2.1 l hl).1 q] at e; cases e
      simp [hi] at hb ⊢
      exact hb
  · apply Nat.eq_of_testBit_eq
    intro i
    have hb : (L l &&& sd (2 ^ P - 1) s).testBit i = (L l).testBit i := by rw [h]
    rw [Nat.testBit_and, sd_bit, pall_bit] at hb
    rw [Nat.testBit_and, Nat.zero_testBit]
    cases e : (L l).testBit i with
    | false => rfl
    | true =>
      rw [e] at hb
      cases e2 : s.testBit i
      · rfl
      · rw [e2] at hb; simp at hb
/-! ===== a step repeated until it stays ===== -/
def it (f : Nat → Nat) : Nat → Nat → Nat
  | 0, s => s
  | k + 1, s => it f k (f s)
theorem it_end (f : Nat → Nat) : ∀ k s, it f (k + 1) s = f (it f k s) := by
  intro k
  induction k with
  | zero => intro s; rfl
  | succ k ih => intro s; rw [it, ih (f s), it]
theorem it_fix {f : Nat → Nat} {s : Nat} (h : f s = s) : ∀ k, it f k s = s := by
  intro k
  induction k with
  | zero => rfl
  | succ k ih => rw [it, h, ih]
theorem it_stab {f : Nat → Nat} {ok : Nat → Prop} {μ : Nat → Nat} {B : Nat} (h : ∀ s, ok s → ok (f s) ∧ (f s = s ∨ μ s < μ (f s)) ∧ μ s ≤ B) : ∀ k s, ok s → B ≤ k + μ s → f (it f k s) = it f k s := by
  intro k
  induction k with
  | zero =>
    intro s hs hB
    obtain ⟨h1, h2, h3⟩ := h s hs
    rcases h2 with h2 | h2
    · exact h2
    · have := (h _ h1).2.2
      omega
  | succ k ih =>
    intro s hs hB
    obtain ⟨h1, h2, h3⟩ := h s hs
    rcases h2 with h2 | h2
    · rw [it_fix h2, h2]
    · rw [it]
      exact ih (f s) h1 (by omega)
theorem it_big {f : Nat → Nat} {s : Nat} {k : Nat} (h : f (it f k s) = it f k s) : ∀ j, it f (k + j) s = it f k s := by
  intro j
  induction j with
  | zero => rfl
  | succ j ih => rw [← Nat.add_assoc, it_end, ih, h]
theorem countP_lt {p q : Nat → Bool} : ∀ {l : List Nat}, (∀ x ∈ l, p x = true → q x = true) → (∃ x ∈ l, q x = true ∧ p x = false) → l.countP p < l.countP q := by
  intro l
  induction l with
  | nil => intro _ h; obtain ⟨x, hx, _⟩ := h; cases hx
  | cons a l ih =>
    intro h1 h2
    have hle : l.countP p ≤ l.countP q := List.countP_mono_left (fun x hx => h1 x (List.mem_cons_of_mem _ hx))
    rw [List.countP_cons, List.countP_cons]
    obtain ⟨x, hx, hq, hp⟩ := h2
    rcases List.mem_cons.mp hx with e | e
    · subst e
      rw [if_pos hq, if_neg (by rw [hp]; decide)]
      omega
    · have := ih (fun x hx => h1 x (List.mem_cons_of_mem _ hx)) ⟨x, e, hq, hp⟩
      by_cases ha : p a = true
      · rw [if_pos ha, if_pos (h1 a List.mem_cons_self ha)]; omega
      · rw [if_neg ha]; omega
theorem pc_up {s t : Nat} (ht : t < 4096) (h : s ||| t ≠ s) : pc s < pc (s ||| t) := by
  refine countP_lt (fun x _ hx => by rw [Nat.testBit_or, hx]; rfl) ?_
  obtain ⟨i, hi⟩ : ∃ i, (s ||| t).testBit i ≠ s.testBit i := Classical.byContradiction fun hn => h (Nat.eq_of_testBit_eq (fun i => Classical.byContradiction fun z => hn ⟨i, z⟩))
  rw [Nat.testBit_or] at hi
  have hsi : s.testBit i = false := by cases e : s.testBit i <;> simp_all
  have hti : t.testBit i = true := by cases e : t.testBit i <;> simp_all
  refine ⟨i, List.mem_range.mpr ?_, by rw [Nat.testBit_or, hti, Bool.or_true], hsi⟩
  rcases Nat.lt_or_ge i 12 with q | q
  · exact q
  · rw [tb_lt (P := 12) ht q] at hti; cases hti
theorem pc_pos {s : Nat} (h : s < 4096) (h0 : s ≠ 0) : 1 ≤ pc s := by
  have := pc_up (s := 0) (t := s) h (by rw [Nat.zero_or]; exact h0)
  rw [Nat.zero_or] at this
  omega
theorem pc_aux : ∀ P, P ≤ 8 → (List.range 12).countP (fun i => decide (i < P)) ≤ P := by decide
theorem pc_max : ∀ P, P ≤ 8 → ∀ s, s < 2 ^ P → pc s ≤ P := by
  intro P hP s hs
  unfold pc
  have : (List.range 12).countP (fun i => s.testBit i) ≤ (List.range 12).countP (fun i => decide (i < P)) := List.countP_mono_left (fun x _ hx => by
    rcases Nat.lt_or_ge x P with q | q
    · exact decide_eq_true q
    · rw [tb_lt hs q] at hx; cases hx)
  refine Nat.le_trans this (pc_aux P hP)
