set_option maxRecDepth 100000
theorem px_fill {N : Nat} {k : (Nat → Int32) → Option (Nat → Int32)} : ∀ (d f i : Nat) (a : Nat → Int32), i + d = 256 → d < f → (∀ j, j < i → a j = -1) → ∃ a', F_X3_tellLines_2 N f (nI i) a k = k a' ∧ ∀ j, j < 256 → a' j = -1 := by
  intro d
  induction d with
  | zero =>
    intro f i a e h hi
    obtain ⟨f, rfl⟩ : ∃ q, f = q + 1 := ⟨f - 1, by omega⟩
    obtain rfl : i = 256 := by omega
    rw [F_X3_tellLines_2, if_pos (show (256 : Int32) ≤ nI 256 from nI_le (a := 256) (Nat.le_refl _) (by decide))]
    exact ⟨a, rfl, hi⟩
  | succ d ih =>
    intro f i a e h hi
    obtain ⟨f, rfl⟩ : ∃ q, f = q + 1 := ⟨f - 1, by omega⟩
    rw [F_X3_tellLines_2, if_neg (show ¬ (256 : Int32) ≤ nI i from nI_ge (b := 256) (by omega) (by decide)), ckI_n _ (by omega) (by decide), pu_clamp (by omega), nI_1]
    refine ih f (i + 1) _ (by omega) (by omega) (fun j hj => ?_)
    unfold upd
    by_cases q : j = i
    · rw [if_pos q]
    · rw [if_neg q]; exact hi j (by omega)
theorem nI_ne_m1 {j : Nat} (h : j < 2 ^ 31) : ¬ nI j = -1 := fun z => by
  have h1 := nI_toInt h
  rw [z] at h1
  have : Int32.toInt (-1) = -1 := by decide
  omega
/-- which numbers are lines -/
def Tells (a : Nat → Int32) (m : Nat) (L : Nat → Nat) : Prop := ∀ s, s < 256 → (a s = -1 ↔ ¬ ∃ l, l < m ∧ L l = s)
theorem px_tell {N P m : Nat} {L : Nat → Nat} {now : Nat → Int32} (hw : WF P m L) (hm : MS now 0 P m L) (hN : 300 < N) (a : Nat → Int32) : ∃ a', F_X3_tellLines N now a = some a' ∧ Tells a' m L := by
  have hmm := hw.2.2.1
  have key : ∀ (d f i : Nat) (a : Nat → Int32), i + d = m → d < f → Tells a i L → ∃ a', F_X3_tellLines_24 N now f (nI i) a = some a' ∧ Tells a' m L := by
    intro d
    induction d with
    | zero =>
      intro f i a e h hi
      obtain ⟨f, rfl⟩ : ∃ q, f = q + 1 := ⟨f - 1, by omega⟩
      obtain rfl : i = m := by omega
      rw [F_X3_tellLines_24, px_lines, hm.2.1, Option.bind_some, if_pos (nI_le (Nat.le_refl _) (by omega))]
      exact ⟨a, rfl, hi⟩
    | succ d ih =>
      intro f i a e h hi
      obtain ⟨f, rfl⟩ : ∃ q, f = q + 1 := ⟨f - 1, by omega⟩
      have hl := hw.lt (show i < m by omega)
      rw [F_X3_tellLines_24, px_lines, hm.2.1, Option.bind_some, if_neg (nI_ge (by omega) (by omega)), px_at hw hm (by omega), Option.bind_some, ckI_n _ hl (by decide), pu_clamp (by omega), nI_1]
      refine ih f (i + 1) _ (by omega) (by omega) (fun s hs => ?_)
      unfold upd
      by_cases q : s = L i
      · rw [if_pos q]
        exact ⟨fun z => absurd z (nI_ne_m1 (by omega)), fun z => absurd ⟨i, by omega, q.symm⟩ z⟩
      · rw [if_neg q, hi s hs]
        constructor
        · rintro z ⟨l, l1, l2⟩
          rcases Nat.lt_or_eq_of_le (Nat.le_of_lt_succ l1) with w | w
          · exact z ⟨l, w, l2⟩
          · exact q (by rw [← l2, w])
        · rintro z ⟨l, l1, l2⟩
          exact z ⟨l, by omega, l2⟩
  rw [F_X3_tellLines]
  obtain ⟨a1, e1, h1⟩ := px_fill (N := N) (k := fun c => F_X3_tellLines_24 N now N 0 c) 256 N 0 a (by omega) (by omega) (fun j hj => by omega)
  obtain ⟨a2, e2, h2⟩ := key m N 0 a1 (by omega) (by omega) (fun s hs => ⟨fun _ ⟨l, l1, _⟩ => by omega, fun _ => h1 s hs⟩)
  refine ⟨a2, ?_, h2⟩
  have e1' : F_X3_tellLines_2 N N 0 a (fun c => F_X3_tellLines_24 N now N 0 c) = F_X3_tellLines_24 N now N 0 a1 := e1
  rw [e1']
  exact e2
/-- each line of a scheme becomes a line of another one -/
def ontoB (m m2 : Nat) (L L2 : Nat → Nat) (g : Nat → Nat) : Bool := !anyB (fun l => !anyB (fun j => decide (L2 j = img g (L l) 8)) m2) m
theorem px_isSym {N P m : Nat} {L : Nat → Nat} {now nm a : Nat → Int32} {g : Nat → Nat} (hw : WF P m L) (hm : MS now 0 P m L) (hg : ∀ i, i < P → nm i = nI (g i) ∧ g i < 8) (hg8 : ∀ i, i < 8 → g i < 8) (ha : Tells a m L) (hN : 300 < N) : F_X3_isSymmetry N now nm a = some (b2i (ontoB m m L L g)) := by
  have hmm := hw.2.2.1
  rw [F_X3_isSymmetry]
  refine (lp_any (fun n i => F_X3_isSymmetry_2 N now nm a n (nI i)) m (fun l => !anyB (fun j => decide (L j = img g (L l) 8)) m) (some 0) (some 1) ?_ ?_ N (by omega)).trans ?_
  · intro n i hi
    show F_X3_isSymmetry_2 N now nm a (n + 1) (nI i) = _
    have hl := img_lt hg8 (L i) 8 (Nat.le_refl _)
    rw [F_X3_isSymmetry_2, px_lines, hm.2.1, Option.bind_some, if_neg (nI_ge hi (by omega)), px_at hw hm hi, Option.bind_some, px_named hw.2.1 hg (hw.2.2.2.1 i hi).1 (by omega), Option.bind_some, ckI_n _ hl (by decide), pu_clamp (by omega), nI_1]
    cases e : anyB (fun j => decide (L j = img g (L i) 8)) m with
    | false =>
      have h1 : a (img g (L i) 8) = -1 := (ha _ hl).mpr (fun ⟨l, l1, l2⟩ => by rw [anyB_iff.mpr ⟨l, l1, decide_eq_true l2⟩] at e; cases e)
      rw [if_pos h1]; rfl
    | true =>
      obtain ⟨l, l1, l2⟩ := anyB_iff.mp e
      rw [if_neg (fun z => (ha _ hl).mp z ⟨l, l1, of_decide_eq_true l2⟩)]; rfl
  · intro n
    show F_X3_isSymmetry_2 N now nm a (n + 1) (nI m) = _
    rw [F_X3_isSymmetry_2, px_lines, hm.2.1, Option.bind_some, if_pos (nI_le (Nat.le_refl _) (by omega))]
  · unfold ontoB
    cases anyB (fun l => !anyB (fun j => decide (L j = img g (L l) 8)) m) m <;> rfl
