set_option maxRecDepth 100000
/-- some place below m -/
def anyB (p : Nat → Bool) : Nat → Bool
  | 0 => false
  | m + 1 => anyB p m || p m
theorem anyB_iff {p : Nat → Bool} : ∀ {m : Nat}, anyB p m = true ↔ ∃ l, l < m ∧ p l = true := by
  intro m
  induction m with
  | zero => simp [anyB]
  | succ m ih =>
    rw [anyB, Bool.or_eq_true, ih]
    constructor
    · rintro (⟨l, h1, h2⟩ | h)
      · exact ⟨l, by omega, h2⟩
      · exact ⟨m, by omega, h⟩
    · rintro ⟨l, h1, h2⟩
      rcases Nat.lt_or_eq_of_le (Nat.le_of_lt_succ h1) with h | h
      · exact Or.inl ⟨l, h, h2⟩
      · subst h; exact Or.inr h2
theorem anyB_congr {p q : Nat → Bool} {m : Nat} (h : ∀ l, l < m → p l = q l) : anyB p m = anyB q m := by
  apply Bool.eq_iff_iff.mpr
  rw [anyB_iff, anyB_iff]
  exact ⟨fun ⟨l, a, b⟩ => ⟨l, a, by rw [← h l a]; exact b⟩, fun ⟨l, a, b⟩ => ⟨l, a, by rw [h l a]; exact b⟩⟩
theorem fs_any (p : Nat → Bool) (m : Nat) {α : Type} (e r : α) : (match fs p 0 m with | some _ => e | none => r) = if anyB p m = true then e else r := by
  cases h : fs p 0 m with
  | none =>
    have := fs_none h
    rw [if_neg (fun z => by obtain ⟨l, a, b⟩ := anyB_iff.mp z; rw [this l (by omega) (by omega)] at b; cases b)]
  | some j =>
    obtain ⟨-, h2, h3, -⟩ := fs_some h
    rw [if_pos (anyB_iff.mpr ⟨j, by omega, h3⟩)]
theorem lp_any {ρ : Type} (F : Nat → Nat → Option ρ) (m : Nat) (p : Nat → Bool) (e r : Option ρ) (hs : ∀ n i, i < m → F (n + 1) i = if p i = true then e else F n (i + 1)) (he : ∀ n, F (n + 1) m = r) (n : Nat) (hn : m < n) : F n 0 = if anyB p m = true then e else r := by
  rw [lp_fst F m p (fun _ => e) r hs he m n 0 (by omega) hn]
  exact fs_any p m e r
/-- a loop from 1 on -/
theorem lp_any1 {ρ : Type} (F : Nat → Nat → Option ρ) (m : Nat) (p : Nat → Bool) (e r : Option ρ) (hm : 1 ≤ m) (h0 : p 0 = false) (hs : ∀ n i, 1 ≤ i → i < m → F (n + 1) i = if p i = true then e else F n (i + 1)) (he : ∀ n, F (n + 1) m = r) (n : Nat) (hn : m < n) : F n 1 = if anyB p m = true then e else r := by
  have key : ∀ k n i, 1 ≤ i → i + k = m → k < n → F n i = match fs p i k with | some _ => e | none => r := by
    intro k
    induction k with
    | zero =>
      intro n i _ e1 h
      obtain ⟨n, rfl⟩ : ∃ q, n = q + 1 := ⟨n - 1, by omega⟩
      obtain rfl : i = m := by omega
      exact he n
    | succ k ih =>
      intro n i h1 e1 h
      obtain ⟨n, rfl⟩ : ∃ q, n = q + 1 := ⟨n - 1, by omega⟩
      rw [hs n i h1 (by omega), fs]
      split
      · rfl
      · exact ih n (i + 1) (by omega) (by omega) (by omega)
  rw [key (m - 1) n 1 (Nat.le_refl _) (by omega) (by omega), ← fs_any p m e r]
  obtain ⟨q, rfl⟩ : ∃ q, m = q + 1 := ⟨m - 1, by omega⟩
  rw [fs, if_neg (by rw [h0]; decide)]
  rfl
def b2i (b : Bool) : Int32 := if b then 1 else 0
theorem pc_le (s : Nat) : pc s ≤ 12 := List.countP_le_length
theorem pcI_le1 (s : Nat) : nI (pc s) ≤ 1 ↔ ¬ 1 < pc s := by
  have := pc_le s
  rw [show (1 : Int32) = nI 1 from rfl, nI_leI (by omega) (by decide)]
  omega
/-- two points of a set are on a line -/
def sh2 (m : Nat) (L : Nat → Nat) (s : Nat) : Bool := anyB (fun l => decide (1 < pc (L l &&& s))) m
theorem pc_isFree {N P m s : Nat} {L : Nat → Nat} {pts lns : Int32} {line : Nat → Int32} (hw : WF P m L) (hc : CS pts lns line P m L) (hN : 12 < N) : F_X2_isFree N (nI s) line lns = some (b2i (!sh2 m L s)) := by
  have hmm := hw.2.2.1
  obtain ⟨-, rfl, hL⟩ := hc
  rw [F_X2_isFree]
  refine (lp_any (fun n i => F_X2_isFree_2 N (nI s) line (nI m) n (nI i)) m (fun l => decide (1 < pc (L l &&& s))) (some 0) (some 1) ?_ ?_ N (by omega)).trans ?_
  · intro n i hi
    show F_X2_isFree_2 N (nI s) line (nI m) (n + 1) (nI i) = _
    rw [F_X2_isFree_2, if_neg (nI_ge hi (by omega)), ckI_n _ (by omega) (by decide), pu_clamp (by omega), hL i hi, pu_and, pu_bc (by have := and_lt (b := s) (hw.lt hi); omega), Option.bind_some, nI_1]
    by_cases h : 1 < pc (L i &&& s)
    · rw [if_neg (fun z => (pcI_le1 _).mp z h), if_pos (decide_eq_true h)]
    · rw [if_pos ((pcI_le1 _).mpr h), if_neg (by simp [h])]
  · intro n
    show F_X2_isFree_2 N (nI s) line (nI m) (n + 1) (nI m) = _
    rw [F_X2_isFree_2, if_pos (nI_le (Nat.le_refl _) (by omega))]
  · show _ = some (b2i (!anyB (fun l => decide (1 < pc (L l &&& s))) m))
    cases anyB (fun l => decide (1 < pc (L l &&& s))) m <;> rfl
theorem px_shares {N P m s n0 : Nat} {L : Nat → Nat} {now : Nat → Int32} (hw : WF P m L) (hm : MS now 0 P m L) (hn : 14 ≤ n0) (hn0 : n0 < 2 ^ 31) (hN : 12 < N) : F_X3_sharesTwo N n0 (nI s) now = some (b2i (sh2 m L s)) := by
  have hmm := hw.2.2.1
  rw [F_X3_sharesTwo]
  refine lp_acc (fun n i => F_X3_sharesTwo_4 N n0 (nI s) now n (b2i (anyB (fun l => decide (1 < pc (L l &&& s))) i)) (nI i)) m _ ?_ ?_ m N 0 (by omega) (by omega)
  · intro n i hi
    show F_X3_sharesTwo_4 N n0 (nI s) now (n + 1) (b2i (anyB (fun l => decide (1 < pc (L l &&& s))) i)) (nI i) = F_X3_sharesTwo_4 N n0 (nI s) now n (b2i (anyB (fun l => decide (1 < pc (L l &&& s))) (i + 1))) (nI (i + 1))
    rw [F_X3_sharesTwo_4, pu_1, ckI_n _ (by omega) hn0, pu_clamp (by decide), hm.2.1, if_neg (nI_ge hi (by omega)), show (2 : Int32) + nI i = nI (2 + i) from nI_add 2 i, ckI_n _ (by omega) hn0, pu_clamp (by omega), hmL hm hi, pu_and, pu_bits (by have := and_lt (b := s) (hw.lt hi); omega), Option.bind_some, nI_add, anyB]
    cases anyB (fun l => decide (1 < pc (L l &&& s))) i with
    | true => rw [if_neg (by decide)]; rfl
    | false =>
      rw [if_pos (by rfl), Bool.false_or]
      by_cases h : 1 < pc (L i &&& s)
      · rw [if_neg (show ¬ nI _ ≤ nI 1 from fun z => (pcI_le1 _).mp z h), decide_eq_true h]; rfl
      · rw [if_pos (show nI _ ≤ nI 1 from (pcI_le1 _).mpr h), decide_eq_false h]; rfl
  · intro n
    show F_X3_sharesTwo_4 N n0 (nI s) now (n + 1) (b2i (anyB (fun l => decide (1 < pc (L l &&& s))) m)) (nI m) = _
    rw [F_X3_sharesTwo_4, pu_1, ckI_n _ (by omega) hn0, pu_clamp (by decide), hm.2.1, if_pos (nI_le (Nat.le_refl _) (by omega)), ckP_v]
    · rfl
    · cases anyB (fun l => decide (1 < pc (L l &&& s))) m <;> decide
/-- whether a line can be added -/
def canB (P m : Nat) (L : Nat → Nat) (v : Int32) : Bool := if v < 0 ∨ nI (2 ^ P) ≤ v then false else decide (2 ≤ pc v.toNatClampNeg) && decide (pc v.toNatClampNeg ≤ 4) && decide (m < 12) && !sh2 m L v.toNatClampNeg
theorem pc_canAdd {N P m : Nat} {L : Nat → Nat} {pts lns : Int32} {line : Nat → Int32} (hw : WF P m L) (hc : CS pts lns line P m L) (v : Int32) (hN : 12 < N) : F_X2_canAdd N v line pts lns = some (b2i (canB P m L v)) := by
  have hP := hw.2.1
  have hmm := hw.2.2.1
  have h8 := pow8 hP
  have hf := fun s => pc_isFree (N := N) (s := s) hw hc hN
  obtain ⟨rfl, rfl, hL⟩ := hc
  rw [F_X2_canAdd, pu_1shl (by omega)]
  unfold canB
  by_cases h1 : v < 0
  · rw [if_pos h1, if_pos (Or.inl h1)]; rfl
  by_cases h2 : nI (2 ^ P) ≤ v
  · rw [if_neg h1, if_pos h2, if_pos (Or.inr h2)]; rfl
  rw [if_neg h1, if_neg h2, if_neg (show ¬ (v < 0 ∨ nI (2 ^ P) ≤ v) from by rintro (z | z) <;> contradiction)]
  obtain ⟨s, hs, rfl⟩ := nI_of h1
  have hs2 : s < 2 ^ P := by
    rw [nI_leI (by omega) (by omega)] at h2
    omega
  have hp := pc_le s
  rw [pu_clamp hs, pu_bc (by omega), Option.bind_some, hf s]
  simp only [Option.bind_some]
  rw [show (2 : Int32) = nI 2 from rfl, show (4 : Int32) = nI 4 from rfl, show (12 : Int32) = nI 12 from rfl]
  by_cases a1 : pc s < 2
  · rw [if_pos ((nI_ltI (by omega) (by decide)).mpr a1), decide_eq_false (show ¬ 2 ≤ pc s by omega)]; rfl
  rw [if_neg (fun z => a1 ((nI_ltI (by omega) (by decide)).mp z)), decide_eq_true (show 2 ≤ pc s by omega)]
  by_cases a2 : 4 < pc s
  · rw [if_pos ((nI_ltI (by decide) (by omega)).mpr a2), decide_eq_false (show ¬ pc s ≤ 4 by omega)]; rfl
  rw [if_neg (fun z => a2 ((nI_ltI (by decide) (by omega)).mp z)), decide_eq_true (show pc s ≤ 4 by omega)]
  by_cases a3 : 12 ≤ m
  · rw [if_pos ((nI_leI (by decide) (by omega)).mpr a3), decide_eq_false (show ¬ m < 12 by omega)]; rfl
  rw [if_neg (fun z => a3 ((nI_leI (by decide) (by omega)).mp z)), decide_eq_true (show m < 12 by omega)]
  cases sh2 m L s <;> rfl
theorem px_isIn (N : Nat) (v a b : Int32) : F_X3_isIn N v a b = some (b2i (decide (¬ v < a ∧ ¬ b < v))) := by
  rw [F_X3_isIn]
  by_cases h1 : v < a
  · rw [if_pos h1]; simp [h1]; rfl
  · rw [if_neg h1]
    by_cases h2 : b < v
    · rw [if_pos h2]; simp [h1, h2]; rfl
    · rw [if_neg h2]; simp [h1, h2]; rfl
theorem px_canAdd {N P m : Nat} {L : Nat → Nat} {now : Nat → Int32} (hw : WF P m L) (hm : MS now 0 P m L) (v : Int32) (hN : 12 < N) : F_X3_canAdd N v now = some (b2i (canB P m L v)) := by
  have hP := hw.2.1
  have hmm := hw.2.2.1
  have h8 := pow8 hP
  have hp1 : 0 < 2 ^ P := Nat.two_pow_pos P
  rw [F_X3_canAdd, px_points, hm.1, Option.bind_some, pu_1shl (by omega), show nI (2 ^ P) - (1 : Int32) = nI (2 ^ P - 1) from by
    rw [show (1 : Int32) = nI 1 from rfl, pk_sub hp1], px_isIn, Option.bind_some]
  unfold canB
  by_cases h1 : v < 0
  · rw [if_pos (by simp [h1]; rfl), if_pos (Or.inl h1)]; rfl
  obtain ⟨s, hs, rfl⟩ := nI_of h1
  by_cases h2 : nI (2 ^ P) ≤ nI s
  · have h3 : nI (2 ^ P - 1) < nI s := by
      rw [nI_leI (by omega) (by omega)] at h2
      exact (nI_ltI (by omega) (by omega)).mpr (by omega)
    rw [if_pos (by simp [h1, h3]; rfl), if_pos (Or.inr h2)]; rfl
  have hs2 : s < 2 ^ P := by
    rw [nI_leI (by omega) (by omega)] at h2
    omega
  have h3 : ¬ nI (2 ^ P - 1) < nI s := fun z => by
    have := (nI_ltI (by omega) (by omega)).mp z
    omega
  have hp := pc_le s
  rw [if_neg (by simp [h1, h3]; decide), if_neg (show ¬ (nI s < 0 ∨ nI (2 ^ P) ≤ nI s) from by rintro (z | z) <;> contradiction), pu_clamp hs, pu_bits (by omega), Option.bind_some, px_isIn, Option.bind_some, px_shares hw hm (by decide) (by decide) hN, px_lines, hm.2.1]
  simp only [Option.bind_some]
  rw [show (2 : Int32) = nI 2 from rfl, show (4 : Int32) = nI 4 from rfl, show (12 : Int32) = nI 12 from rfl]
  simp only [nI_ltI (show pc s < 2 ^ 31 by omega) (show 2 < 2 ^ 31 by decide), nI_ltI (show 4 < 2 ^ 31 by decide) (show pc s < 2 ^ 31 by omega), nI_leI (show 12 < 2 ^ 31 by decide) (show m < 2 ^ 31 by omega)]
  by_cases a1 : pc s < 2
  · rw [if_pos (by simp [a1]; rfl), decide_eq_false (show ¬ 2 ≤ pc s by omega)]; rfl
  rw [decide_eq_true (show 2 ≤ pc s by omega)]
  by_cases a2 : 4 < pc s
  · rw [if_pos (by simp [a2]; rfl), decide_eq_false (show ¬ pc s ≤ 4 by omega)]; rfl
  rw [if_neg (by simp [a1, a2]; decide), decide_eq_true (show pc s ≤ 4 by omega)]
  cases sh2 m L s with
  | true => rw [if_neg (by decide), Bool.not_true, Bool.and_false]; rfl
  | false =>
    rw [if_pos (show b2i false = 0 from rfl)]
    by_cases a3 : 12 ≤ m
    · rw [if_pos a3, decide_eq_false (show ¬ m < 12 by omega)]; rfl
    · rw [if_neg a3, decide_eq_true (show m < 12 by omega)]; rfl
