set_option maxRecDepth 100000
def stf (g : Nat → Nat → Nat) : Nat → Nat → Nat → Nat
  | _, 0, s => s
  | i, k + 1, s => stf g (i + 1) k (g i s)
theorem stf_ok {g : Nat → Nat → Nat} {ok : Nat → Prop} {m : Nat} (hg : ∀ i s, i < m → ok s → ok (g i s)) : ∀ k i s, i + k ≤ m → ok s → ok (stf g i k s) := by
  intro k
  induction k with
  | zero => intro i s _ h; exact h
  | succ k ih => intro i s h1 h2; exact ih (i + 1) _ (by omega) (hg i s (by omega) h2)
theorem lp_st {ρ : Type} (F : Nat → Nat → Nat → Option ρ) (m : Nat) (ok : Nat → Prop) (g : Nat → Nat → Nat) (r : Nat → Option ρ) (hg : ∀ i s, i < m → ok s → ok (g i s)) (hs : ∀ n s i, i < m → ok s → F (n + 1) s i = F n (g i s) (i + 1)) (he : ∀ n s, ok s → F (n + 1) s m = r s) : ∀ k n i s, ok s → i + k = m → k < n → F n s i = r (stf g i k s) := by
  intro k
  induction k with
  | zero =>
    intro n i s ho e h
    obtain ⟨n, rfl⟩ : ∃ q, n = q + 1 := ⟨n - 1, by omega⟩
    obtain rfl : i = m := by omega
    exact he n s ho
  | succ k ih =>
    intro n i s ho e h
    obtain ⟨n, rfl⟩ : ∃ q, n = q + 1 := ⟨n - 1, by omega⟩
    rw [hs n s i (by omega) ho]
    exact ih n (i + 1) _ (hg i s (by omega) ho) (by omega) (by omega)
theorem stf_it (f : Nat → Nat) : ∀ k i s, stf (fun _ s => f s) i k s = it f k s := by
  intro k
  induction k with
  | zero => intro i s; rfl
  | succ k ih => intro i s; rw [stf, ih, it]
/-! ===== what hangs together ===== -/
def rnd (m : Nat) (L : Nat → Nat) (s : Nat) : Nat := stf (fun l s => if L l &&& s = 0 then s else s ||| L l) 0 m s
theorem grow_or {L : Nat → Nat} {P m : Nat} (hL : ∀ l, l < m → L l < 2 ^ P) (c : Nat → Nat → Prop) [∀ l s, Decidable (c l s)] : ∀ k i s, i + k ≤ m → s < 2 ^ P → ∃ t, t < 2 ^ P ∧ stf (fun l s => if c l s then s else s ||| L l) i k s = s ||| t := by
  intro k
  induction k with
  | zero => intro i s _ h; exact ⟨0, Nat.two_pow_pos P, by rw [stf, Nat.or_zero]⟩
  | succ k ih =>
    intro i s h1 h2
    rw [stf]
    by_cases hc : c i s
    · rw [if_pos hc]; exact ih (i + 1) s (by omega) h2
    · rw [if_neg hc]
      obtain ⟨t, ht, e⟩ := ih (i + 1) (s ||| L i) (by omega) (Nat.or_lt_two_pow h2 (hL i (by omega)))
      exact ⟨L i ||| t, Nat.or_lt_two_pow (hL i (by omega)) ht, by rw [e, Nat.or_assoc]⟩
theorem it_rounds {P : Nat} {f : Nat → Nat} (h1 : 1 ≤ P) (h8 : P ≤ 8) (hf : ∀ s, s < 2 ^ P → ∃ t, t < 2 ^ P ∧ f s = s ||| t) {s : Nat} (hs : s < 2 ^ P) (h0 : s ≠ 0) : f (it f (P - 1) s) = it f (P - 1) s := by
  have hp := pow8 h8
  refine it_stab (ok := fun s => s < 2 ^ P) (μ := pc) (B := P) ?_ (P - 1) s hs ?_
  · intro s hs
    obtain ⟨t, ht, e⟩ := hf s hs
    refine ⟨by rw [e]; exact Nat.or_lt_two_pow hs ht, ?_, pc_max P h8 s hs⟩
    by_cases z : s ||| t = s
    · exact Or.inl (by rw [e, z])
    · exact Or.inr (by rw [e]; exact pc_up (by omega) z)
  · have := pc_pos (s := s) (by omega) h0
    omega
theorem rnd_or {P m : Nat} {L : Nat → Nat} (hw : WF P m L) : ∀ s, s < 2 ^ P → ∃ t, t < 2 ^ P ∧ rnd m L s = s ||| t := fun s hs => grow_or (fun l hl => (hw.2.2.2.1 l hl).1) (fun l s => L l &&& s = 0) m 0 s (by omega) hs
/-- the piece of a point -/
def pieceS (P m : Nat) (L : Nat → Nat) (p : Nat) : Nat := it (rnd m L) (P - 1) (2 ^ p)
theorem piece_big {P m p k : Nat} {L : Nat → Nat} (hw : WF P m L) (hp : p < P) (hk : P - 1 ≤ k) : it (rnd m L) k (2 ^ p) = pieceS P m L p := by
  have h := it_rounds hw.1 hw.2.1 (rnd_or hw) (s := 2 ^ p) (Nat.pow_lt_pow_right (by decide) hp) (Nat.ne_of_gt (Nat.two_pow_pos p))
  have := it_big h (k - (P - 1))
  rw [show P - 1 + (k - (P - 1)) = k by omega] at this
  exact this
theorem it_ok {f : Nat → Nat} {ok : Nat → Prop} (h : ∀ s, ok s → ok (f s)) : ∀ k s, ok s → ok (it f k s) := by
  intro k
  induction k with
  | zero => intro s h; exact h
  | succ k ih => intro s hs; exact ih _ (h s hs)
theorem rnd_lt {P m : Nat} {L : Nat → Nat} (hw : WF P m L) : ∀ s, s < 2 ^ P → rnd m L s < 2 ^ P := fun s hs => by
  obtain ⟨t, ht, e⟩ := rnd_or hw s hs
  rw [e]; exact Nat.or_lt_two_pow hs ht
theorem pieceS_lt {P m p : Nat} {L : Nat → Nat} (hw : WF P m L) (hp : p < P) : pieceS P m L p < 2 ^ P := it_ok (ok := fun s => s < 2 ^ P) (rnd_lt hw) _ _ (Nat.pow_lt_pow_right (by decide) hp)
theorem px_piece {N P m p : Nat} {L : Nat → Nat} {now : Nat → Int32} (hw : WF P m L) (hm : MS now 0 P m L) (hp : p < P) (hN : 12 < N) : F_X3_pieceOf N (nI p) now = some (nI (pieceS P m L p)) := by
  have hmm := hw.2.2.1
  have hP := hw.2.1
  have h8 := pow8 hP
  rw [F_X3_pieceOf, pu_1shl (by omega), ← piece_big hw hp (k := P) (by omega), ← stf_it (rnd m L) P 0]
  refine lp_st (fun n s i => F_X3_pieceOf_6 N now n (nI s) (nI i)) P (fun s => s < 2 ^ P) (fun _ s => rnd m L s) (fun s => some (nI s)) (fun i s _ h => rnd_lt hw s h) ?_ ?_ P N 0 (2 ^ p) (Nat.pow_lt_pow_right (by decide) hp) (by omega) (by omega)
  · intro n s i hi hs
    show F_X3_pieceOf_6 N now (n + 1) (nI s) (nI i) = _
    rw [F_X3_pieceOf_6, px_points, hm.1, Option.bind_some, if_neg (nI_ge hi (by omega)), nI_1]
    refine lp_st (fun n2 s l => F_X3_pieceOf_17 N now n2 (nI s) (nI l) (fun u => F_X3_pieceOf_6 N now n u (nI (i + 1)))) m (fun s => s < 2 ^ P) (fun l s => if L l &&& s = 0 then s else s ||| L l) (fun s => F_X3_pieceOf_6 N now n (nI s) (nI (i + 1))) ?_ ?_ ?_ m N 0 s hs (by omega) (by omega)
    · intro l s hl hs
      show (if L l &&& s = 0 then s else s ||| L l) < 2 ^ P
      split
      · exact hs
      · exact Nat.or_lt_two_pow hs (hw.2.2.2.1 l hl).1
    · intro n2 s l hl hs
      show F_X3_pieceOf_17 N now (n2 + 1) (nI s) (nI l) _ = _
      have hx := and_lt (b := s) (hw.lt hl)
      rw [F_X3_pieceOf_17, px_lines, hm.2.1, Option.bind_some, if_neg (nI_ge hl (by omega)), px_at hw hm hl]
      simp only [Option.bind_some]
      rw [pu_and, pu_or, nI_1]
      by_cases h : L l &&& s = 0
      · rw [if_pos ((nI0_iff (by omega)).mpr h), if_pos h]
      · rw [if_neg (fun z => h ((nI0_iff (by omega)).mp z)), if_neg h]
    · intro n2 s hs
      show F_X3_pieceOf_17 N now (n2 + 1) (nI s) (nI m) _ = _
      rw [F_X3_pieceOf_17, px_lines, hm.2.1, Option.bind_some, if_pos (nI_le (Nat.le_refl _) (by omega))]
  · intro n s hs
    show F_X3_pieceOf_6 N now (n + 1) (nI s) (nI P) = _
    rw [F_X3_pieceOf_6, px_points, hm.1, Option.bind_some, if_pos (nI_le (Nat.le_refl _) (by omega))]
theorem pc_piece {N P m p : Nat} {L : Nat → Nat} {pts lns : Int32} {line : Nat → Int32} (hw : WF P m L) (hc : CS pts lns line P m L) (hp : p < P) (hN : 12 < N) : F_X1_piece N (nI p) line lns = some (nI (pieceS P m L p)) := by
  have hmm := hw.2.2.1
  have hP := hw.2.1
  have h8 := pow8 hP
  obtain ⟨-, rfl, hL⟩ := hc
  rw [F_X1_piece, pu_1shl (by omega), ← piece_big hw hp (k := 12) (by omega), ← stf_it (rnd m L) 12 0]
  refine lp_st (fun n s i => F_X1_piece_6 N line (nI m) n (nI s) (nI i)) 12 (fun s => s < 2 ^ P) (fun _ s => rnd m L s) (fun s => some (nI s)) (fun i s _ h => rnd_lt hw s h) ?_ ?_ 12 N 0 (2 ^ p) (Nat.pow_lt_pow_right (by decide) hp) (by omega) (by omega)
  · intro n s i hi hs
    show F_X1_piece_6 N line (nI m) (n + 1) (nI s) (nI i) = _
    rw [F_X1_piece_6, if_neg (show ¬ (12 : Int32) ≤ nI i from nI_ge (b := 12) hi (by decide)), nI_1]
    refine lp_st (fun n2 s l => F_X1_piece_15 N line (nI m) n2 (nI s) (nI l) (fun u => F_X1_piece_6 N line (nI m) n u (nI (i + 1)))) m (fun s => s < 2 ^ P) (fun l s => if L l &&& s = 0 then s else s ||| L l) (fun s => F_X1_piece_6 N line (nI m) n (nI s) (nI (i + 1))) ?_ ?_ ?_ m N 0 s hs (by omega) (by omega)
    · intro l s hl hs
      show (if L l &&& s = 0 then s else s ||| L l) < 2 ^ P
      split
      · exact hs
      · exact Nat.or_lt_two_pow hs (hw.2.2.2.1 l hl).1
    · intro n2 s l hl hs
      show F_X1_piece_15 N line (nI m) (n2 + 1) (nI s) (nI l) _ = _
      have hx := and_lt (b := s) (hw.lt hl)
      rw [F_X1_piece_15, if_neg (nI_ge hl (by omega))]
      simp only [ckI_n _ (show l < 12 by omega) (by decide), pu_clamp (show l < 2 ^ 31 by omega), hL l hl, pu_and, pu_or, nI_1]
      by_cases h : L l &&& s = 0
      · rw [if_pos ((nI0_iff (by omega)).mpr h), if_pos h]
      · rw [if_neg (fun z => h ((nI0_iff (by omega)).mp z)), if_neg h]
    · intro n2 s hs
      show F_X1_piece_15 N line (nI m) (n2 + 1) (nI s) (nI m) _ = _
      rw [F_X1_piece_15, if_pos (nI_le (Nat.le_refl _) (by omega))]
  · intro n s hs
    show F_X1_piece_6 N line (nI m) (n + 1) (nI s) (nI 12) = _
    rw [F_X1_piece_6, if_pos (show (12 : Int32) ≤ nI 12 from nI_le (Nat.le_refl _) (by decide))]
/-- the lowest point of a set -/
def low (s : Nat) : Nat := (fs (fun i => s.testBit i) 0 8).getD 0
theorem pu_low {N s : Nat} (h : s < 256) (h0 : s ≠ 0) : F_J16_numberOfTrailingZeros N (nI s) = some (nI (low s)) := by
  obtain ⟨k, hk, e, h1, h2⟩ := pu_tz (N := N) h (by omega)
  rw [e]
  congr 2
  unfold low
  cases hf : fs (fun i => s.testBit i) 0 8 with
  | none => have := fs_none hf k (by omega) (by omega); rw [this] at h1; cases h1
  | some j =>
    obtain ⟨-, j1, j2, j3⟩ := fs_some hf
    show k = j
    rcases Nat.lt_trichotomy k j with q | q | q
    · have := j3 k (by omega) q; rw [this] at h1; cases h1
    · exact q
    · have := h2 j q; rw [this] at j2; cases j2
theorem pieceS_ne {P m p : Nat} {L : Nat → Nat} (hw : WF P m L) (hp : p < P) : pieceS P m L p ≠ 0 := by
  refine (it_ok (ok := fun s => s < 2 ^ P ∧ s ≠ 0) (fun s hs => ?_) (P - 1) (2 ^ p) ⟨Nat.pow_lt_pow_right (by decide) hp, Nat.ne_of_gt (Nat.two_pow_pos p)⟩).2
  obtain ⟨t, ht, e⟩ := rnd_or hw s hs.1
  refine ⟨rnd_lt hw s hs.1, fun z => hs.2 ?_⟩
  rw [e] at z
  exact (Nat.or_eq_zero_iff.mp z).1
def piecesS (P m : Nat) (L : Nat → Nat) : Nat := rs (fun p => b2n (decide (low (pieceS P m L p) = p))) 0 P
theorem low_lt (s : Nat) : low s < 2 ^ 31 := by
  unfold low
  cases hf : fs (fun i => s.testBit i) 0 8 with
  | none => exact (by decide : (0:Nat) < 2 ^ 31)
  | some j => have := (fs_some hf).2.1; show j < 2 ^ 31; omega
theorem px_pieces {N P m : Nat} {L : Nat → Nat} {now : Nat → Int32} (hw : WF P m L) (hm : MS now 0 P m L) (hN : 12 < N) : F_X3_pieces N now = some (nI (piecesS P m L)) := by
  have hP := hw.2.1
  have h8 := pow8 hP
  rw [F_X3_pieces]
  refine (lp_sum (fun n v i => F_X3_pieces_4 N now n v (nI i)) P (fun p => b2n (decide (low (pieceS P m L p) = p))) some ?_ ?_ P N 0 0 (by omega) (by omega)).trans (by rw [Int32.zero_add]; rfl)
  · intro n v p hp
    show F_X3_pieces_4 N now (n + 1) v (nI p) = _
    rw [F_X3_pieces_4, px_points, hm.1, Option.bind_some, if_neg (nI_ge hp (by omega)), px_piece hw hm hp hN, Option.bind_some, pu_low (by have := pieceS_lt hw hp; omega) (pieceS_ne hw hp), Option.bind_some, nI_1]
    have hl := low_lt (pieceS P m L p)
    by_cases h : low (pieceS P m L p) = p
    · rw [if_pos (by rw [h]), decide_eq_true h]; rfl
    · rw [if_neg (fun z => h ((nI_eq hl (by omega)).mp z)), decide_eq_false h]; rfl
  · intro n v
    show F_X3_pieces_4 N now (n + 1) v (nI P) = _
    rw [F_X3_pieces_4, px_points, hm.1, Option.bind_some, if_pos (nI_le (Nat.le_refl _) (by omega))]
theorem pc_pieces {N P m : Nat} {L : Nat → Nat} {pts lns : Int32} {line : Nat → Int32} (hw : WF P m L) (hc : CS pts lns line P m L) (hN : 12 < N) : F_X1_pieces N line pts lns = some (nI (piecesS P m L)) := by
  have hP := hw.2.1
  have h8 := pow8 hP
  have hpc := fun p (hp : p < P) => pc_piece (N := N) hw hc hp hN
  obtain ⟨rfl, -, -⟩ := hc
  rw [F_X1_pieces]
  refine (lp_sum (fun n v i => F_X1_pieces_4 N line (nI P) lns n v (nI i)) P (fun p => b2n (decide (low (pieceS P m L p) = p))) some ?_ ?_ P N 0 0 (by omega) (by omega)).trans (by rw [Int32.zero_add]; rfl)
  · intro n v p hp
    show F_X1_pieces_4 N line (nI P) lns (n + 1) v (nI p) = _
    rw [F_X1_pieces_4, if_neg (nI_ge hp (by omega)), hpc p hp, Option.bind_some, F_X1_lowest, pu_low (by have := pieceS_lt hw hp; omega) (pieceS_ne hw hp)]
    simp only [Option.bind_some]
    rw [nI_1]
    have hl := low_lt (pieceS P m L p)
    by_cases h : low (pieceS P m L p) = p
    · rw [if_pos (by rw [h]), decide_eq_true h]; rfl
    · rw [if_neg (fun z => h ((nI_eq hl (by omega)).mp z)), decide_eq_false h]; exact congrArg (fun z => F_X1_pieces_4 N line (nI P) lns n z (nI (p + 1))) (i_add0 v).symm
  · intro n v
    show F_X1_pieces_4 N line (nI P) lns (n + 1) v (nI P) = _
    rw [F_X1_pieces_4, if_pos (nI_le (Nat.le_refl _) (by omega))]
