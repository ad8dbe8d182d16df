set_option maxRecDepth 100000
theorem lp_ex {ρ : Type} (F : Nat → Nat → Nat → Option ρ) (m : Nat) (I : Nat → Nat → Prop) (r : Nat → Option ρ) (hs : ∀ n s i, i < m → I i s → ∃ s', I (i + 1) s' ∧ F (n + 1) s i = F n s' (i + 1)) (he : ∀ n s, I m s → F (n + 1) s m = r s) : ∀ k n i s, I i s → i + k = m → k < n → ∃ s', I m s' ∧ F n s i = r s' := by
  intro k
  induction k with
  | zero =>
    intro n i s hi e h
    obtain ⟨n, rfl⟩ : ∃ q, n = q + 1 := ⟨n - 1, by omega⟩
    obtain rfl : i = m := by omega
    exact ⟨s, hi, he n s hi⟩
  | succ k ih =>
    intro n i s hi e h
    obtain ⟨n, rfl⟩ : ∃ q, n = q + 1 := ⟨n - 1, by omega⟩
    obtain ⟨s', h1, h2⟩ := hs n s i (by omega) hi
    rw [h2]
    exact ih n (i + 1) s' h1 (by omega) (by omega)
/-! ===== covers ===== -/
/-- the least of the smallest sets with a property, among those from lo on and below hi; all itself where there is none -/
def Bst (c : Nat → Bool) (al lo hi b : Nat) : Prop := (b = al ∨ (lo ≤ b ∧ b < hi ∧ c b = true)) ∧ ∀ s, lo ≤ s → s < hi → c s = true → pc b ≤ pc s ∧ (pc s = pc b → b ≤ s)
theorem pc_all {P s : Nat} (hP : P ≤ 8) (h : s < 2 ^ P - 1) : pc s < pc (2 ^ P - 1) := by
  have h8 := pow8 hP
  have e : s ||| (2 ^ P - 1) = 2 ^ P - 1 := by
    apply Nat.eq_of_testBit_eq
    intro i
    rw [Nat.testBit_or, pall_bit]
    rcases Nat.lt_or_ge i P with q | q
    · simp [q]
    · rw [tb_lt (P := P) (by omega) q]; simp
  have := pc_up (s := s) (t := 2 ^ P - 1) (by omega) (by rw [e]; omega)
  rw [e] at this
  exact this
theorem Bst_one {c : Nat → Bool} {P b1 b2 : Nat} (hP : P ≤ 8) (h1 : Bst c (2 ^ P - 1) 0 (2 ^ P - 1) b1) (h2 : Bst c (2 ^ P - 1) 0 (2 ^ P - 1) b2) : b1 = b2 := by
  rcases h1.1 with e1 | ⟨-, l1, c1⟩ <;> rcases h2.1 with e2 | ⟨-, l2, c2⟩
  · rw [e1, e2]
  · have := (h1.2 b2 (Nat.zero_le _) l2 c2).1
    have := pc_all hP l2
    rw [e1] at *
    omega
  · have := (h2.2 b1 (Nat.zero_le _) l1 c1).1
    have := pc_all hP l1
    rw [e2] at *
    omega
  · have a1 := h1.2 b2 (Nat.zero_le _) l2 c2
    have a2 := h2.2 b1 (Nat.zero_le _) l1 c1
    have := a1.2 (by omega)
    have := a2.2 (by omega)
    omega
theorem px_cover {N P m : Nat} {L : Nat → Nat} {now : Nat → Int32} (hw : WF P m L) (hm : MS now 0 P m L) (hN : 300 < N) : ∃ b, Bst (metB m L) (2 ^ P - 1) 0 (2 ^ P - 1) b ∧ F_X3_cover N now = some (nI b) := by
  have hP := hw.2.1
  have h8 := pow8 hP
  have hp1 := Nat.two_pow_pos P
  rw [F_X3_cover, px_all hw hm, Option.bind_some]
  refine Exists.elim (lp_ex (fun n b s => F_X3_cover_7 N now n (nI b) (nI s)) (2 ^ P) (fun i b => b < 2 ^ P ∧ Bst (metB m L) (2 ^ P - 1) 0 i b) (fun b => some (nI b)) ?_ ?_ (2 ^ P) N 0 (2 ^ P - 1) ⟨by omega, Or.inl rfl, fun s _ h => by omega⟩ (by omega) (by omega)) ?_
  · intro n b s hs hI
    have := pc_le s
    have := pc_le b
    show ∃ s', _ ∧ F_X3_cover_7 N now (n + 1) (nI b) (nI s) = _
    rw [F_X3_cover_7, px_all hw hm]
    simp only [Option.bind_some]
    rw [if_neg (nI_nlt (by omega) (by omega)), pu_bits (by omega), pu_bits (by omega), pu_andn, px_hasLine hw hm (by omega)]
    simp only [Option.bind_some]
    rw [nI_1]
    have hmh := met_has (s := s) hw
    by_cases h1 : pc b ≤ pc s
    · rw [if_pos ((nI_leI (by omega) (by omega)).mpr h1)]
      refine ⟨b, ⟨hI.1, ?_, fun q q1 q2 q3 => ?_⟩, rfl⟩
      · rcases hI.2.1 with z | ⟨z1, z2, z3⟩
        · exact Or.inl z
        · exact Or.inr ⟨z1, by omega, z3⟩
      · rcases Nat.lt_or_eq_of_le (Nat.le_of_lt_succ q2) with z | z
        · exact hI.2.2 q q1 z q3
        · subst z
          refine ⟨h1, fun _ => ?_⟩
          rcases hI.2.1 with w | ⟨-, w, -⟩
          · rcases Nat.lt_or_eq_of_le (show q ≤ 2 ^ P - 1 by omega) with u | u
            · have := pc_all hP u; rw [w] at h1; omega
            · omega
          · omega
    · rw [if_neg (fun z => h1 ((nI_leI (by omega) (by omega)).mp z))]
      cases hh : hasB m L (sd (2 ^ P - 1) s) with
      | true =>
        rw [hh] at hmh
        rw [if_neg (by decide)]
        refine ⟨b, ⟨hI.1, ?_, fun q q1 q2 q3 => ?_⟩, rfl⟩
        · rcases hI.2.1 with z | ⟨z1, z2, z3⟩
          · exact Or.inl z
          · exact Or.inr ⟨z1, by omega, z3⟩
        · rcases Nat.lt_or_eq_of_le (Nat.le_of_lt_succ q2) with z | z
          · exact hI.2.2 q q1 z q3
          · subst z; rw [hmh] at q3; cases q3
      | false =>
        rw [hh] at hmh
        rw [if_pos (show b2i false = 0 from rfl)]
        refine ⟨s, ⟨hs, Or.inr ⟨Nat.zero_le _, by omega, hmh⟩, fun q q1 q2 q3 => ?_⟩, rfl⟩
        rcases Nat.lt_or_eq_of_le (Nat.le_of_lt_succ q2) with z | z
        · have := (hI.2.2 q q1 z q3).1
          exact ⟨by omega, fun _ => by omega⟩
        · subst z; exact ⟨Nat.le_refl _, fun _ => Nat.le_refl _⟩
  · intro n b hI
    show F_X3_cover_7 N now (n + 1) (nI b) (nI (2 ^ P)) = _
    rw [F_X3_cover_7, px_all hw hm, Option.bind_some, if_pos (nI_lt (by omega) (by omega))]
  · intro b hbe
    obtain ⟨hb, e⟩ := hbe
    refine ⟨b, ⟨?_, fun s h1 h2 => hb.2.2 s h1 (by omega)⟩, e⟩
    rcases hb.2.1 with z | ⟨z1, z2, z3⟩
    · exact Or.inl z
    · rcases Nat.lt_or_eq_of_le (show b ≤ 2 ^ P - 1 by omega) with q | q
      · exact Or.inr ⟨z1, q, z3⟩
      · exact Or.inl q
/-- the number behind i steps down from a - 1 -/
def dn (a i : Nat) : Int32 := if i < a then nI (a - 1 - i) else -1
theorem dn_step {a i : Nat} (h : i < a) : dn a i + (-1) = dn a (i + 1) := by
  unfold dn
  rw [if_pos h]
  by_cases h2 : i + 1 < a
  · rw [if_pos h2, show a - 1 - i = (a - 1 - (i + 1)) + 1 by omega, pk_m1]
  · rw [if_neg h2, show a - 1 - i = 0 by omega]; rfl
theorem pc_cover {N P m : Nat} {L : Nat → Nat} {pts lns : Int32} {line : Nat → Int32} (hw : WF P m L) (hc : CS pts lns line P m L) (hN : 300 < N) : ∃ b, Bst (metB m L) (2 ^ P - 1) 0 (2 ^ P - 1) b ∧ F_X1_cover N line pts lns = some (nI b) := by
  have hP := hw.2.1
  have h8 := pow8 hP
  have hp1 := Nat.two_pow_pos P
  have hp2 : 2 ≤ 2 ^ P := Nat.pow_le_pow_right (n := 2) (by decide) hw.1
  have hh := fun s => pc_meetsAll (N := N) (s := s) hw hc (by omega)
  obtain ⟨rfl, -, -⟩ := hc
  rw [F_X1_cover, pu_1shl (by omega), show (1 : Int32) = nI 1 from rfl, pk_sub (by omega), show nI (2 ^ P - 1) - nI 1 = dn (2 ^ P - 1) 0 from by rw [pk_sub (by omega), dn, if_pos (by omega)]; rfl]
  refine Exists.elim (lp_ex (fun n b i => F_X1_cover_16 N line lns n (nI b) (dn (2 ^ P - 1) i)) (2 ^ P - 1) (fun i b => b < 2 ^ P ∧ Bst (metB m L) (2 ^ P - 1) (2 ^ P - 1 - i) (2 ^ P - 1) b) (fun b => some (nI b)) ?_ ?_ (2 ^ P - 1) N 0 (2 ^ P - 1) ⟨by omega, Or.inl rfl, fun s h1 h2 => by omega⟩ (by omega) (by omega)) ?_
  · intro n b i hi hI
    show ∃ s', _ ∧ F_X1_cover_16 N line lns (n + 1) (nI b) (dn (2 ^ P - 1) i) = _
    have hst := dn_step hi
    have hd : dn (2 ^ P - 1) i = nI (2 ^ P - 1 - 1 - i) := by rw [dn, if_pos hi]
    rw [F_X1_cover_16, hst, hd]
    generalize hs : 2 ^ P - 1 - 1 - i = s
    have := pc_le s
    have := pc_le b
    rw [if_neg (nI_pos (by omega)), hh s, pu_bc (by omega), pu_bc (by have := hI.1; omega)]
    simp only [Option.bind_some]
    have keep : (metB m L s = true → pc b < pc s) → Bst (metB m L) (2 ^ P - 1) (2 ^ P - 1 - (i + 1)) (2 ^ P - 1) b := by
      intro hk
      refine ⟨?_, fun q q1 q2 q3 => ?_⟩
      · rcases hI.2.1 with z | ⟨z1, z2, z3⟩
        · exact Or.inl z
        · exact Or.inr ⟨by omega, z2, z3⟩
      · rcases Nat.lt_or_ge q (2 ^ P - 1 - i) with z | z
        · obtain rfl : q = s := by omega
          have := hk q3
          exact ⟨by omega, fun _ => by omega⟩
        · exact hI.2.2 q z q2 q3
    cases hmet : metB m L s with
    | false =>
      rw [if_pos (show b2i false = 0 from rfl)]
      exact ⟨b, ⟨hI.1, keep (fun z => by rw [hmet] at z; cases z)⟩, rfl⟩
    | true =>
      rw [if_neg (by decide)]
      by_cases h1 : pc b < pc s
      · rw [if_pos ((nI_ltI (by omega) (by omega)).mpr h1)]
        exact ⟨b, ⟨hI.1, keep (fun _ => h1)⟩, rfl⟩
      · rw [if_neg (fun z => h1 ((nI_ltI (by omega) (by omega)).mp z))]
        refine ⟨s, ⟨by omega, Or.inr ⟨by omega, by omega, hmet⟩, fun q q1 q2 q3 => ?_⟩, rfl⟩
        rcases Nat.lt_or_ge q (2 ^ P - 1 - i) with z | z
        · obtain rfl : q = s := by omega
          exact ⟨Nat.le_refl _, fun _ => Nat.le_refl _⟩
        · have := (hI.2.2 q z q2 q3).1
          exact ⟨by omega, fun _ => by omega⟩
  · intro n b hI
    show F_X1_cover_16 N line lns (n + 1) (nI b) (dn (2 ^ P - 1) (2 ^ P - 1)) = _
    have hd : dn (2 ^ P - 1) (2 ^ P - 1) = -1 := by rw [dn, if_neg (by omega)]
    rw [F_X1_cover_16, hd, if_pos (by decide)]
  · intro b hbe
    obtain ⟨hb, e⟩ := hbe
    refine ⟨b, ?_, e⟩
    have := hb.2
    rw [show 2 ^ P - 1 - (2 ^ P - 1) = 0 by omega] at this
    exact this
theorem cover_eq {N P m : Nat} {L : Nat → Nat} {now : Nat → Int32} {pts lns : Int32} {line : Nat → Int32} (hw : WF P m L) (hm : MS now 0 P m L) (hc : CS pts lns line P m L) (hN : 300 < N) : ∃ b, F_X3_cover N now = some b ∧ F_X1_cover N line pts lns = some b := by
  obtain ⟨b1, h1, e1⟩ := px_cover hw hm hN
  obtain ⟨b2, h2, e2⟩ := pc_cover hw hc hN
  obtain rfl := Bst_one hw.2.1 h1 h2
  exact ⟨_, e1, e2⟩
