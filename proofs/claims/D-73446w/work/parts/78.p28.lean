set_option maxRecDepth 100000
def fc : Nat → Nat
  | 0 => 1
  | n + 1 => (n + 1) * fc n
theorem prm_len : ∀ (n : Nat) (S : List Nat), S.length = n → (prm n S).length = fc n := by
  intro n
  induction n with
  | zero => intro S _; rfl
  | succ n ih =>
    have key : ∀ (B A : List Nat), (A ++ B).length = n + 1 → (prmS (prm n) A B).length = B.length * fc n := by
      intro B
      induction B with
      | nil => intro A _; rw [prmS]; simp
      | cons s B ihB =>
        intro A hA
        rw [prmS, List.length_append, List.length_map, ih (A ++ B) (by simp at hA ⊢; omega), ihB (A ++ [s]) (by simp at hA ⊢; omega), List.length_cons, Nat.add_mul]
        omega
    intro S hS
    rw [prm, key S [] hS, hS, fc]
theorem fc_le : ∀ P, P ≤ 8 → fc P ≤ 40320 := by decide
theorem px_zero8 {N : Nat} {k : (Nat → Int32) → Option (Int32 × (Nat → Int32) × (Nat → Int32) × (Nat → Int32))} : ∀ (d f i : Nat) (a : Nat → Int32), i + d = 8 → d < f → (∀ j, j < i → a j = 0) → ∃ a', F_X3_symmetries_8 N f (nI i) a k = k a' ∧ ∀ j, j < 8 → a' j = 0 := by
  intro d
  induction d with
  | zero =>
    intro f i a e h hi
    obtain ⟨f, rfl⟩ : ∃ q, f = q + 1 := ⟨f - 1, by omega⟩
    obtain rfl : i = 8 := by omega
    rw [F_X3_symmetries_8, if_pos (show (8 : Int32) ≤ nI 8 from nI_le (a := 8) (Nat.le_refl _) (by decide))]
    exact ⟨a, rfl, hi⟩
  | succ d ih =>
    intro f i a e h hi
    obtain ⟨f, rfl⟩ : ∃ q, f = q + 1 := ⟨f - 1, by omega⟩
    rw [F_X3_symmetries_8, if_neg (show ¬ (8 : Int32) ≤ nI i from nI_ge (b := 8) (by omega) (by decide)), ckI_n _ (by omega) (by decide), pu_clamp (by omega), nI_1]
    refine ih f (i + 1) _ (by omega) (by omega) (fun j hj => ?_)
    unfold upd
    by_cases q : j = i
    · rw [if_pos q]
    · rw [if_neg q]; exact hi j (by omega)
theorem rep_range {nm : Nat → Int32} {n : Nat} (h : ∀ j, j < n → nm j = nI j) : Rep nm (List.range n) := by
  intro i v hv
  have hi := (List.getElem?_eq_some_iff.mp hv).1
  rw [List.length_range] at hi
  rw [List.getElem?_range hi] at hv
  rw [← Option.some.inj hv]
  exact h i hi
/-- the symmetries, in order -/
def syms (P m : Nat) (L : Nat → Nat) : List (List Nat) := (allN P).filter (fun q => ontoB m m L L (gOf q))
theorem px_symmetries {N P m : Nat} {L : Nat → Nat} {now nm lb bc : Nat → Int32} (hw : WF P m L) (hm : MS now 0 P m L) (hN : 50000 < N) : ∃ nm' lb' bc', F_X3_symmetries N now nm lb bc = some (nI (syms P m L).length, nm', lb', bc') ∧ ∀ p, p < P → bc' p = nI (becS p (syms P m L) 0) := by
  have hP := hw.2.1
  obtain ⟨lb1, t1, t2⟩ := px_tell hw hm (by omega) lb (N := N)
  obtain ⟨nm1, b1, b2⟩ := px_begin (N := N) hP (by omega) P N 0 nm (by omega) (by omega) (fun j hj => by omega)
  have b1' : F_X3_beginNaming N (nI P) nm = some nm1 := b1
  obtain ⟨sg, hd⟩ := allN_seg P
  obtain ⟨ls, hl⟩ : ∃ ls, allN P = List.range P :: ls := by
    cases h : allN P with
    | nil => rw [h] at hd; cases hd
    | cons x ls => rw [h] at hd; exact ⟨ls, by rw [← Option.some.inj hd]⟩
  have hlen : ls.length + 1 ≤ 40320 := by
    have h1 := prm_len P (List.range P) List.length_range
    have h2 : (allN P).length = ls.length + 1 := by rw [hl]; rfl
    have h3 := fc_le P hP
    unfold allN at h2
    omega
  rw [F_X3_symmetries, t1, Option.bind_some]
  obtain ⟨bc1, c1, c2⟩ := px_zero8 (N := N) (k := fun c => (F_X3_points N now).bind fun y5 => (F_X3_beginNaming N y5 nm).bind fun y6 => F_X3_symmetries_37 N now lb1 N 0 1 y6 c) 8 N 0 bc (by omega) (by omega) (fun j hj => by omega)
  have c1' : F_X3_symmetries_8 N N 0 bc (fun c => (F_X3_points N now).bind fun y5 => (F_X3_beginNaming N y5 nm).bind fun y6 => F_X3_symmetries_37 N now lb1 N 0 1 y6 c) = _ := c1
  rw [c1', px_points, hm.1, Option.bind_some, b1', Option.bind_some]
  rw [hl] at sg
  obtain ⟨nm2, bc2, g1, g2⟩ := px_symLoop (N := N) hw hm t2 (by omega) ls (List.range P) N 0 nm1 bc1 (fun _ => 0) sg (fun q hq => prm_row (by rw [← hl] at hq; exact hq)) (rep_range b2) (by omega) (fun p hp => c2 p (by omega))
  rw [Nat.zero_add, ← hl] at g1
  rw [← hl] at g2
  exact ⟨nm2, lb1, bc2, g1, g2⟩
