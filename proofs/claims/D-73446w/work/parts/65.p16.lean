set_option maxRecDepth 100000
theorem pu_bit2' {s a b : Nat} (hs : s < 2 ^ 31) (ha : a < 32) (hb : b < 32) : ((nI s >>> (nI a &&& 31)) &&& (nI s >>> (nI b &&& 31)) &&& (1 : Int32)) = nI (b2n (s.testBit a && s.testBit b)) := by
  rw [pu_shr hs ha, pu_shr hs hb, pu_and, show (1 : Int32) = nI 1 from rfl, pu_and]
  congr 1
  apply Nat.eq_of_testBit_eq
  intro i
  rw [Nat.testBit_and, Nat.testBit_and, Nat.testBit_div_two_pow, Nat.testBit_div_two_pow]
  cases i with
  | zero =>
    simp only [Nat.zero_add]
    cases s.testBit a <;> cases s.testBit b <;> rfl
  | succ i =>
    have h1 : Nat.testBit 1 (i + 1) = false := by simp [Nat.testBit_succ]
    have h2 : ∀ z : Bool, (b2n z).testBit (i + 1) = false := by intro z; cases z <;> simp [b2n, Nat.testBit_succ]
    rw [h1, h2, Bool.and_false]
def cb (t a : Nat) : Nat := (List.range a).countP (fun i => t.testBit i)
theorem cb_s (t a : Nat) : cb t (a + 1) = cb t a + b2n (t.testBit a) := by
  unfold cb
  rw [List.range_succ, List.countP_append]
  cases h : t.testBit a <;> simp [h, b2n]
theorem frK_eq (t a k : Nat) : ∀ b, frK t a k b = k + (if t.testBit a then cb t b else 0) := by
  intro b
  induction b with
  | zero => rw [frK]; cases t.testBit a <;> rfl
  | succ b ih =>
    rw [frK, cb_s, ih]
    cases t.testBit a <;> cases t.testBit b <;> simp [b2n] <;> omega
theorem frN_eq (t : Nat) : ∀ a, 2 * frN t a + cb t a = cb t a * cb t a := by
  intro a
  induction a with
  | zero => rfl
  | succ a ih =>
    rw [frN, frK_eq, cb_s]
    cases t.testBit a with
    | false => simpa [b2n] using ih
    | true =>
      simp only [b2n, if_true]
      have e : (cb t a + 1) * (cb t a + 1) = cb t a * cb t a + 2 * cb t a + 1 := by rw [Nat.add_mul, Nat.mul_add]; omega
      rw [e]
      generalize cb t a * cb t a = q at ih
      omega
theorem cb_big {t m : Nat} (h : t < 2 ^ m) : ∀ j, cb t (m + j) = cb t m := by
  intro j
  induction j with
  | zero => rfl
  | succ j ih => rw [← Nat.add_assoc, cb_s, ih, tb_lt h (by omega)]; rfl
theorem fr6 {t m : Nat} (hm : m ≤ 12) (ht : t < 2 ^ m) (h4 : pc t = 4) : frN t m = 6 := by
  have h1 : cb t m = 4 := by
    have := cb_big ht (12 - m)
    rw [show m + (12 - m) = 12 by omega] at this
    rw [← this]; exact h4
  have := frN_eq t m
  rw [h1] at this
  omega
theorem pc_around {N P m t : Nat} {L : Nat → Nat} {pts lns : Int32} {line : Nat → Int32} (hw : WF P m L) (hc : CS pts lns line P m L) (ht : t < 4096) (hN : 12 < N) : F_X1_areAround N (nI t) line lns = some (b2i (frB m L t)) := by
  have hmm := hw.2.2.1
  have h8 := pow8 hw.2.1
  obtain ⟨-, rfl, hL⟩ := hc
  rw [F_X1_areAround]
  refine (lp_any (fun n a => F_X1_areAround_4 N (nI t) line (nI m) n (nI (frU L t a)) (nI a)) m (fun a => anyB (frX L t a (frU L t a)) a) (some 0) (some 1) ?_ ?_ N (by omega)).trans ?_
  · intro n a ha
    show F_X1_areAround_4 N (nI t) line (nI m) (n + 1) (nI (frU L t a)) (nI a) = _
    rw [F_X1_areAround_4, if_neg (nI_ge ha (by omega)), nI_1]
    have hu := frU_lt hw t a (by omega)
    refine lp_any (fun n2 b => F_X1_areAround_18 N (nI t) (nI a) line n2 (nI (frI L t a (frU L t a) b)) (nI b) (fun u => F_X1_areAround_4 N (nI t) line (nI m) n u (nI (a + 1)))) a (frX L t a (frU L t a)) (some 0) (F_X1_areAround_4 N (nI t) line (nI m) n (nI (frU L t (a + 1))) (nI (a + 1))) ?_ ?_ N (by omega)
    · intro n2 b hb
      show F_X1_areAround_18 N (nI t) (nI a) line (n2 + 1) (nI (frI L t a (frU L t a) b)) (nI b) _ = if frX L t a (frU L t a) b = true then some 0 else F_X1_areAround_18 N (nI t) (nI a) line n2 (nI (frI L t a (frU L t a) (b + 1))) (nI (b + 1)) _
      have hi := frI_lt (t := t) hw ha hu b (by omega)
      have hx := and_lt (b := L b) (hw.lt ha)
      have hy := and_lt (b := L a &&& L b) (show frI L t a (frU L t a) b < 256 by omega)
      rw [F_X1_areAround_18, if_neg (nI_ge hb (by omega)), nI_1, frI]
      cases b1 : t.testBit a with
      | false => rw [if_pos ((pu_bit0 (by omega) (by omega)).mpr b1), if_neg (by simp [frX, b1])]; rfl
      | true =>
        rw [if_neg (fun z => by rw [(pu_bit0 (by omega) (by omega)).mp z] at b1; cases b1)]
        cases b2 : t.testBit b with
        | false => rw [if_pos ((pu_bit0 (by omega) (by omega)).mpr b2), if_neg (by simp [frX, b2])]; rfl
        | true =>
          rw [if_neg (fun z => by rw [(pu_bit0 (by omega) (by omega)).mp z] at b2; cases b2), ckI_n _ (by omega) (by decide), ckI_n _ (by omega) (by decide), pu_clamp (by omega), pu_clamp (by omega), hL a ha, hL b (by omega), pu_and, pu_and, pu_or]
          by_cases z1 : L a &&& L b = 0
          · rw [if_pos ((nI0_iff (by omega)).mpr z1), if_pos (by simp [frX, b1, b2, z1])]
          · rw [if_neg (fun z => z1 ((nI0_iff (by omega)).mp z))]
            by_cases z2 : frI L t a (frU L t a) b &&& (L a &&& L b) = 0
            · rw [if_pos ((nI0_iff (by omega)).mpr z2), if_neg (by simp [frX, b1, b2, z1, z2])]; rfl
            · rw [if_neg (fun z => z2 ((nI0_iff (by omega)).mp z)), if_pos (by simp [frX, b1, b2, z1, z2])]
    · intro n2
      show F_X1_areAround_18 N (nI t) (nI a) line (n2 + 1) (nI (frI L t a (frU L t a) a)) (nI a) _ = _
      rw [F_X1_areAround_18, if_pos (nI_le (Nat.le_refl _) (by omega))]
      rfl
  · intro n
    show F_X1_areAround_4 N (nI t) line (nI m) (n + 1) (nI (frU L t m)) (nI m) = _
    rw [F_X1_areAround_4, if_pos (nI_le (Nat.le_refl _) (by omega))]
  · unfold frB
    cases anyB (fun a => anyB (frX L t a (frU L t a)) a) m <;> rfl
def frS (m : Nat) (L : Nat → Nat) : Nat := rs (fun t => b2n (decide (pc t = 4) && frB m L t)) 0 (2 ^ m)
theorem pcI_4 (a : Nat) : nI (pc a) = 4 ↔ pc a = 4 := by
  have := pc_le a
  exact nI_eq (b := 4) (by omega) (by decide)
theorem pc_fours {N P m : Nat} {L : Nat → Nat} {pts lns : Int32} {line : Nat → Int32} (hw : WF P m L) (hc : CS pts lns line P m L) (hN : 5000 < N) : F_X1_fours N line lns = some (nI (frS m L)) := by
  have hmm := hw.2.2.1
  have h12 := pow12 hmm
  have hr := fun t (h : t < 4096) => pc_around (N := N) hw hc h (by omega)
  obtain ⟨-, rfl, -⟩ := hc
  rw [F_X1_fours]
  refine (lp_sum (fun n v t => F_X1_fours_4 N line (nI m) n v (nI t)) (2 ^ m) (fun t => b2n (decide (pc t = 4) && frB m L t)) some ?_ ?_ (2 ^ m) N 0 0 (by omega) (by omega)).trans (by rw [Int32.zero_add]; rfl)
  · intro n v t ht
    show F_X1_fours_4 N line (nI m) (n + 1) v (nI t) = _
    have z0 : v + nI (b2n false) = v := i_add0 v
    rw [F_X1_fours_4, pu_1shl (by omega), if_neg (nI_ge ht (by omega)), pu_bc (by omega), Option.bind_some, hr t (by omega), Option.bind_some, nI_1]
    by_cases h : pc t = 4
    · rw [if_pos ((pcI_4 t).mpr h), decide_eq_true h, Bool.true_and]
      cases frB m L t
      · rw [if_pos (show b2i false = 0 from rfl), z0]
      · rw [if_neg (by decide)]; rfl
    · rw [if_neg (fun z => h ((pcI_4 t).mp z)), decide_eq_false h, Bool.false_and, z0]
  · intro n v
    show F_X1_fours_4 N line (nI m) (n + 1) v (nI (2 ^ m)) = _
    rw [F_X1_fours_4, pu_1shl (by omega), if_pos (nI_le (Nat.le_refl _) (by omega))]
theorem px_fours {N P m : Nat} {L : Nat → Nat} {now : Nat → Int32} (hw : WF P m L) (hm : MS now 0 P m L) (hN : 5000 < N) : F_X3_fours N now = some (nI (frS m L)) := by
  have hmm := hw.2.2.1
  have h12 := pow12 hmm
  have h8 := pow8 hw.2.1
  rw [F_X3_fours]
  refine (lp_sum (fun n v t => F_X3_fours_4 N now n v (nI t)) (2 ^ m) (fun t => b2n (decide (pc t = 4) && frB m L t)) some ?_ ?_ (2 ^ m) N 0 0 (by omega) (by omega)).trans (by rw [Int32.zero_add]; rfl)
  · intro n v t ht
    show F_X3_fours_4 N now (n + 1) v (nI t) = _
    have z0 : v + nI (b2n false) = v := i_add0 v
    rw [F_X3_fours_4, px_lines, hm.2.1, Option.bind_some, pu_1shl (by omega), if_neg (nI_ge ht (by omega)), pu_bits (by omega), Option.bind_some, nI_1]
    by_cases h : pc t = 4
    · rw [if_pos ((pcI_4 t).mpr h), decide_eq_true h, Bool.true_and]
      generalize hk : (fun u3_13 : Int32 => (F_X3_bits N u3_13).bind fun y14 => if y14 = 6 then F_X3_fours_4 N now n (v + (1 : Int32)) (nI (t + 1)) else F_X3_fours_4 N now n (v + (0 : Int32)) (nI (t + 1))) = k
      have outer : F_X3_fours_30 N (nI t) now N 0 0 k = k (nI (frU L t m)) := by
        refine lp_acc (fun n2 a => F_X3_fours_30 N (nI t) now n2 (nI (frU L t a)) (nI a) k) m _ ?_ ?_ m N 0 (by omega) (by omega)
        · intro n2 a ha
          show F_X3_fours_30 N (nI t) now (n2 + 1) (nI (frU L t a)) (nI a) k = F_X3_fours_30 N (nI t) now n2 (nI (frU L t (a + 1))) (nI (a + 1)) k
          rw [F_X3_fours_30, px_lines, hm.2.1, Option.bind_some, if_neg (nI_ge ha (by omega)), nI_1]
          refine lp_acc (fun n3 b => F_X3_fours_42 N (nI t) (nI a) now n3 (nI (frI L t a (frU L t a) b)) (nI b) (fun u => F_X3_fours_30 N (nI t) now n2 u (nI (a + 1)) k)) a _ ?_ ?_ a N 0 (by omega) (by omega)
          · intro n3 b hb
            show F_X3_fours_42 N (nI t) (nI a) now (n3 + 1) (nI (frI L t a (frU L t a) b)) (nI b) _ = F_X3_fours_42 N (nI t) (nI a) now n3 (nI (frI L t a (frU L t a) (b + 1))) (nI (b + 1)) _
            rw [F_X3_fours_42, if_neg (nI_ge hb (by omega)), px_at hw hm ha, px_at hw hm (show b < m by omega), pu_bit2' (by omega) (by omega) (by omega), nI_1, frI]
            simp only [Option.bind_some]
            rw [pu_and, pu_or]
            cases t.testBit a && t.testBit b
            · rw [if_neg (show ¬ nI (b2n false) = 1 from by decide)]; rfl
            · rw [if_pos (show nI (b2n true) = 1 from rfl)]; rfl
          · intro n3
            show F_X3_fours_42 N (nI t) (nI a) now (n3 + 1) (nI (frI L t a (frU L t a) a)) (nI a) _ = _
            rw [F_X3_fours_42, if_pos (nI_le (Nat.le_refl _) (by omega))]
            rfl
        · intro n2
          show F_X3_fours_30 N (nI t) now (n2 + 1) (nI (frU L t m)) (nI m) k = _
          rw [F_X3_fours_30, px_lines, hm.2.1, Option.bind_some, if_pos (nI_le (Nat.le_refl _) (by omega))]
      have hu := frU_lt hw t m (Nat.le_refl _)
      have hf := (frU_pc hw t m (Nat.le_refl _)).2
      rw [fr6 hmm ht h] at hf
      rw [outer, ← hk]
      show (F_X3_bits N (nI (frU L t m))).bind _ = _
      rw [pu_bits (by omega), Option.bind_some]
      have hp := pc_le (frU L t m)
      unfold frB
      by_cases h6 : pc (frU L t m) = 6
      · rw [if_pos (show nI _ = (6 : Int32) from (nI_eq (b := 6) (by omega) (by decide)).mpr h6), hf.mp h6]; rfl
      · rw [if_neg (show ¬ nI _ = (6 : Int32) from fun z => h6 ((nI_eq (b := 6) (by omega) (by decide)).mp z))]
        cases e : anyB (fun a => anyB (frX L t a (frU L t a)) a) m
        · exact absurd (hf.mpr e) h6
        · rfl
    · rw [if_neg (fun z => h ((pcI_4 t).mp z)), decide_eq_false h, Bool.false_and, z0]
  · intro n v
    show F_X3_fours_4 N now (n + 1) v (nI (2 ^ m)) = _
    rw [F_X3_fours_4, px_lines, hm.2.1, Option.bind_some, pu_1shl (by omega), if_pos (nI_le (Nat.le_refl _) (by omega))]
