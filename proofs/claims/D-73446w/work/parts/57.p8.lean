set_option maxRecDepth 100000
/-! ===== how far ===== -/
def par (m : Nat) (L : Nat → Nat) (s : Nat) : Nat := stf (fun l t => if L l &&& s = 0 then t else t ||| L l) 0 m s
theorem par_or {P m : Nat} {L : Nat → Nat} (hw : WF P m L) : ∀ s, s < 2 ^ P → ∃ t, t < 2 ^ P ∧ par m L s = s ||| t := fun s hs => grow_or (fun l hl => (hw.2.2.2.1 l hl).1) (fun l _ => L l &&& s = 0) m 0 s (by omega) hs
theorem par_lt {P m : Nat} {L : Nat → Nat} (hw : WF P m L) : ∀ s, s < 2 ^ P → par m L s < 2 ^ P := fun s hs => by
  obtain ⟨t, ht, e⟩ := par_or hw s hs
  rw [e]; exact Nat.or_lt_two_pow hs ht
theorem fs_add (p : Nat → Bool) : ∀ k r i, fs p i (k + r) = match fs p i k with | some j => some j | none => fs p (i + k) r := by
  intro k
  induction k with
  | zero => intro r i; simp [fs]
  | succ k ih =>
    intro r i
    rw [show k + 1 + r = (k + r) + 1 by omega, fs, fs]
    split
    · rfl
    · rw [ih, show i + 1 + k = i + (k + 1) by omega]
theorem fs_stay {p : Nat → Bool} {K M : Nat} (hK : 1 ≤ K) (hM : K ≤ M) (h : ∀ j, K ≤ j → j < M → p j = p (K - 1)) : fs p 0 M = fs p 0 K := by
  rw [show M = K + (M - K) by omega, fs_add]
  cases e : fs p 0 K with
  | some j => rfl
  | none =>
    show fs p (0 + K) (M - K) = none
    cases e2 : fs p (0 + K) (M - K) with
    | none => rfl
    | some j =>
      obtain ⟨h1, h2, h3, -⟩ := fs_some e2
      have h4 := fs_none e (K - 1) (by omega) (by omega)
      rw [h j (by omega) (by omega), h4] at h3
      cases h3
def farS (P m : Nat) (L : Nat → Nat) (a b : Nat) : Option Nat := fs (fun n => (it (par m L) n (2 ^ a)).testBit b) 0 P
theorem far_big {P m a b M : Nat} {L : Nat → Nat} (hw : WF P m L) (ha : a < P) (hM : P ≤ M) : fs (fun n => (it (par m L) n (2 ^ a)).testBit b) 0 M = farS P m L a b := by
  have h := it_rounds hw.1 hw.2.1 (par_or hw) (s := 2 ^ a) (Nat.pow_lt_pow_right (by decide) ha) (Nat.ne_of_gt (Nat.two_pow_pos a))
  refine fs_stay hw.1 hM (fun j h1 h2 => ?_)
  have := it_big h (j - (P - 1))
  rw [show P - 1 + (j - (P - 1)) = j by omega] at this
  show (it (par m L) j (2 ^ a)).testBit b = (it (par m L) (P - 1) (2 ^ a)).testBit b
  rw [this]
theorem px_far {N P m a b : Nat} {L : Nat → Nat} {now : Nat → Int32} (hw : WF P m L) (hm : MS now 0 P m L) (ha : a < P) (hb : b < P) (hN : 12 < N) (cd : Int32) : F_X3_far_34 N (nI b) now cd N (nI (2 ^ a)) 0 = some (oI (farS P m L a b), cd) := by
  have hmm := hw.2.2.1
  have hP := hw.2.1
  have h8 := pow8 hP
  rw [← far_big hw ha (M := P + 1) (by omega)]
  have hok : ∀ i, it (par m L) i (2 ^ a) < 2 ^ P := fun i => it_ok (ok := fun s => s < 2 ^ P) (par_lt hw) _ _ (Nat.pow_lt_pow_right (by decide) ha)
  refine (lp_fst (fun n i => F_X3_far_34 N (nI b) now cd n (nI (it (par m L) i (2 ^ a))) (nI i)) (P + 1) (fun n => (it (par m L) n (2 ^ a)).testBit b) (fun i => some (nI i, cd)) (some (-1, cd)) ?_ ?_ (P + 1) N 0 (by omega) (by omega)).trans ?_
  · intro n i hi
    show F_X3_far_34 N (nI b) now cd (n + 1) (nI (it (par m L) i (2 ^ a))) (nI i) = _
    have hs := hok i
    rw [F_X3_far_34, px_points, hm.1, Option.bind_some, if_neg (nI_nlt (by omega) (by omega)), nI_1]
    by_cases h : (it (par m L) i (2 ^ a)).testBit b = true
    · rw [if_pos ((pu_bit1 (by omega) (by omega)).mpr h), if_pos h]
    · rw [if_neg (fun z => h ((pu_bit1 (by omega) (by omega)).mp z)), if_neg h, it_end]
      generalize it (par m L) i (2 ^ a) = s at hs
      refine lp_st (fun n2 t l => F_X3_far_61 N (nI s) now n2 (nI t) (nI l) (fun u => F_X3_far_34 N (nI b) now cd n u (nI (i + 1)))) m (fun t => t < 2 ^ P) (fun l t => if L l &&& s = 0 then t else t ||| L l) (fun t => F_X3_far_34 N (nI b) now cd n (nI t) (nI (i + 1))) ?_ ?_ ?_ m N 0 s hs (by omega) (by omega)
      · intro l t hl ht
        show (if L l &&& s = 0 then t else t ||| L l) < 2 ^ P
        split
        · exact ht
        · exact Nat.or_lt_two_pow ht (hw.2.2.2.1 l hl).1
      · intro n2 t l hl ht
        show F_X3_far_61 N (nI s) now (n2 + 1) (nI t) (nI l) _ = _
        have hx := and_lt (b := s) (hw.lt hl)
        rw [F_X3_far_61, px_lines, hm.2.1, Option.bind_some, if_neg (nI_ge hl (by omega)), px_at hw hm hl]
        simp only [Option.bind_some]
        rw [pu_and, pu_or, nI_1]
        by_cases h : L l &&& s = 0
        · rw [if_pos ((nI0_iff (by omega)).mpr h), if_pos h]
        · rw [if_neg (fun z => h ((nI0_iff (by omega)).mp z)), if_neg h]
      · intro n2 t ht
        show F_X3_far_61 N (nI s) now (n2 + 1) (nI t) (nI m) _ = _
        rw [F_X3_far_61, px_lines, hm.2.1, Option.bind_some, if_pos (nI_le (Nat.le_refl _) (by omega))]
  · intro n
    show F_X3_far_34 N (nI b) now cd (n + 1) (nI (it (par m L) (P + 1) (2 ^ a))) (nI (P + 1)) = _
    rw [F_X3_far_34, px_points, hm.1, Option.bind_some, if_pos (nI_lt (by omega) (by omega))]
  · cases fs (fun n => (it (par m L) n (2 ^ a)).testBit b) 0 (P + 1) <;> rfl
theorem pc_far {N P m a b : Nat} {L : Nat → Nat} {pts lns : Int32} {line : Nat → Int32} (hw : WF P m L) (hc : CS pts lns line P m L) (ha : a < P) (hb : b < P) (hN : 12 < N) : F_X1_far_37 N (nI b) line lns N (nI (2 ^ a)) 0 = some (oI (farS P m L a b)) := by
  have hmm := hw.2.2.1
  have hP := hw.2.1
  have h8 := pow8 hP
  obtain ⟨-, rfl, hL⟩ := hc
  rw [← far_big hw ha (M := 9) (by omega)]
  have hok : ∀ i, it (par m L) i (2 ^ a) < 2 ^ P := fun i => it_ok (ok := fun s => s < 2 ^ P) (par_lt hw) _ _ (Nat.pow_lt_pow_right (by decide) ha)
  refine (lp_fst (fun n i => F_X1_far_37 N (nI b) line (nI m) n (nI (it (par m L) i (2 ^ a))) (nI i)) 9 (fun n => (it (par m L) n (2 ^ a)).testBit b) (fun i => some (nI i)) (some (-1)) ?_ ?_ 9 N 0 (by omega) (by omega)).trans ?_
  · intro n i hi
    show F_X1_far_37 N (nI b) line (nI m) (n + 1) (nI (it (par m L) i (2 ^ a))) (nI i) = _
    have hs := hok i
    rw [F_X1_far_37, if_neg (show ¬ (8 : Int32) < nI i from nI_nlt (a := 8) (by omega) (by decide)), nI_1]
    by_cases h : (it (par m L) i (2 ^ a)).testBit b = true
    · rw [if_pos ((pu_bit1 (by omega) (by omega)).mpr h), if_pos h]
    · rw [if_neg (fun z => h ((pu_bit1 (by omega) (by omega)).mp z)), if_neg h, it_end]
      generalize it (par m L) i (2 ^ a) = s at hs
      refine lp_st (fun n2 t l => F_X1_far_62 N (nI s) line (nI m) n2 (nI t) (nI l) (fun u => F_X1_far_37 N (nI b) line (nI m) n u (nI (i + 1)))) m (fun t => t < 2 ^ P) (fun l t => if L l &&& s = 0 then t else t ||| L l) (fun t => F_X1_far_37 N (nI b) line (nI m) n (nI t) (nI (i + 1))) ?_ ?_ ?_ m N 0 s hs (by omega) (by omega)
      · intro l t hl ht
        show (if L l &&& s = 0 then t else t ||| L l) < 2 ^ P
        split
        · exact ht
        · exact Nat.or_lt_two_pow ht (hw.2.2.2.1 l hl).1
      · intro n2 t l hl ht
        show F_X1_far_62 N (nI s) line (nI m) (n2 + 1) (nI t) (nI l) _ = _
        have hx := and_lt (b := s) (hw.lt hl)
        rw [F_X1_far_62, if_neg (nI_ge hl (by omega))]
        simp only [ckI_n _ (show l < 12 by omega) (by decide), pu_clamp (show l < 2 ^ 31 by omega), hL l hl, pu_and, pu_or, nI_1]
        by_cases h : L l &&& s = 0
        · rw [if_pos ((nI0_iff (by omega)).mpr h), if_pos h]
        · rw [if_neg (fun z => h ((nI0_iff (by omega)).mp z)), if_neg h]
      · intro n2 t ht
        show F_X1_far_62 N (nI s) line (nI m) (n2 + 1) (nI t) (nI m) _ = _
        rw [F_X1_far_62, if_pos (nI_le (Nat.le_refl _) (by omega))]
  · intro n
    show F_X1_far_37 N (nI b) line (nI m) (n + 1) (nI (it (par m L) 9 (2 ^ a))) (nI 9) = _
    rw [F_X1_far_37, if_pos (show (8 : Int32) < nI 9 from nI_lt (a := 8) (by omega) (by decide))]
  · cases fs (fun n => (it (par m L) n (2 ^ a)).testBit b) 0 9 <;> rfl
/-! ===== caps ===== -/
theorem px_all {N P m : Nat} {L : Nat → Nat} {now : Nat → Int32} (hw : WF P m L) (hm : MS now 0 P m L) : F_X3_all N now = some (nI (2 ^ P - 1)) := by
  have hP := hw.2.1
  rw [F_X3_all, px_points, hm.1, Option.bind_some, pu_1shl (by omega), show (1 : Int32) = nI 1 from rfl, pk_sub (Nat.two_pow_pos P)]
def capS (P m : Nat) (L : Nat → Nat) : Nat := stf (fun s b => if hasB m L s = true then b else if pc s ≤ pc b then b else s) 1 (2 ^ P - 1) 0
theorem px_cap {N P m : Nat} {L : Nat → Nat} {now : Nat → Int32} (hw : WF P m L) (hm : MS now 0 P m L) (hN : 300 < N) : F_X3_cap N now = some (nI (capS P m L)) := by
  have hP := hw.2.1
  have h8 := pow8 hP
  have hp1 := Nat.two_pow_pos P
  rw [F_X3_cap]
  refine lp_st (fun n b s => F_X3_cap_4 N now n (nI b) (nI s)) (2 ^ P) (fun b => b < 2 ^ P) (fun s b => if hasB m L s = true then b else if pc s ≤ pc b then b else s) (fun b => some (nI b)) ?_ ?_ ?_ (2 ^ P - 1) N 1 0 hp1 (by omega) (by omega)
  · intro s b hs hb
    show (if hasB m L s = true then b else if pc s ≤ pc b then b else s) < 2 ^ P
    split
    · exact hb
    · split
      · exact hb
      · exact hs
  · intro n b s hs hb
    show F_X3_cap_4 N now (n + 1) (nI b) (nI s) = _
    have := pc_le s
    have := pc_le b
    rw [F_X3_cap_4, px_all hw hm, Option.bind_some, if_neg (nI_nlt (by omega) (by omega)), pu_bits (by omega), pu_bits (by omega), px_hasLine hw hm (by omega)]
    simp only [Option.bind_some]
    rw [nI_1]
    by_cases h1 : pc s ≤ pc b
    · rw [if_pos ((nI_leI (by omega) (by omega)).mpr h1)]
      cases hasB m L s <;> simp [h1]
    · rw [if_neg (fun z => h1 ((nI_leI (by omega) (by omega)).mp z))]
      cases hasB m L s
      · rw [if_pos (show b2i false = 0 from rfl)]; simp [h1]
      · rw [if_neg (by decide)]; simp
  · intro n b hb
    show F_X3_cap_4 N now (n + 1) (nI b) (nI (2 ^ P)) = _
    rw [F_X3_cap_4, px_all hw hm, Option.bind_some, if_pos (nI_lt (by omega) (by omega))]
theorem pc_cap {N P m : Nat} {L : Nat → Nat} {pts lns : Int32} {line : Nat → Int32} (hw : WF P m L) (hc : CS pts lns line P m L) (hN : 300 < N) : F_X1_cap N line pts lns = some (nI (capS P m L)) := by
  have hP := hw.2.1
  have h8 := pow8 hP
  have hp1 := Nat.two_pow_pos P
  have hh := fun s => pc_hasNone (N := N) (s := s) hw hc (by omega)
  obtain ⟨rfl, -, -⟩ := hc
  rw [F_X1_cap]
  refine lp_st (fun n b s => F_X1_cap_4 N line (nI P) lns n (nI b) (nI s)) (2 ^ P) (fun b => b < 2 ^ P) (fun s b => if hasB m L s = true then b else if pc s ≤ pc b then b else s) (fun b => some (nI b)) ?_ ?_ ?_ (2 ^ P - 1) N 1 0 hp1 (by omega) (by omega)
  · intro s b hs hb
    show (if hasB m L s = true then b else if pc s ≤ pc b then b else s) < 2 ^ P
    split
    · exact hb
    · split
      · exact hb
      · exact hs
  · intro n b s hs hb
    show F_X1_cap_4 N line (nI P) lns (n + 1) (nI b) (nI s) = _
    have := pc_le s
    have := pc_le b
    rw [F_X1_cap_4, pu_1shl (by omega), if_neg (nI_ge hs (by omega)), hh s, pu_bc (by omega), pu_bc (by omega)]
    simp only [Option.bind_some]
    rw [nI_1]
    cases hasB m L s with
    | true => rw [if_pos (show b2i (!true) = 0 from rfl)]; simp
    | false =>
      rw [if_neg (by decide)]
      by_cases h1 : pc s ≤ pc b
      · rw [if_pos ((nI_leI (by omega) (by omega)).mpr h1)]; simp [h1]
      · rw [if_neg (fun z => h1 ((nI_leI (by omega) (by omega)).mp z))]; simp [h1]
  · intro n b hb
    show F_X1_cap_4 N line (nI P) lns (n + 1) (nI b) (nI (2 ^ P)) = _
    rw [F_X1_cap_4, pu_1shl (by omega), if_pos (nI_le (Nat.le_refl _) (by omega))]
