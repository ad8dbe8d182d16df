set_option maxRecDepth 100000
theorem prm_perm : ∀ (n : Nat) (S : List Nat), S.length = n → ∀ l ∈ prm n S, l.Perm S := by
  intro n
  induction n with
  | zero =>
    intro S hS l hl
    obtain rfl := List.eq_nil_of_length_eq_zero hS
    rw [prm, List.mem_singleton] at hl
    rw [hl]
  | succ n ih =>
    have key : ∀ (B A : List Nat), (A ++ B).length = n + 1 → ∀ l ∈ prmS (prm n) A B, l.Perm (A ++ B) := by
      intro B
      induction B with
      | nil => intro A _ l hl; rw [prmS] at hl; cases hl
      | cons s B ihB =>
        intro A hA l hl
        rw [prmS, List.mem_append] at hl
        rcases hl with h | h
        · obtain ⟨q, hq, rfl⟩ := List.mem_map.mp h
          have := ih (A ++ B) (by simp at hA ⊢; omega) q hq
          exact (List.Perm.cons s this).trans List.perm_middle.symm
        · have := ihB (A ++ [s]) (by simp at hA ⊢; omega) l h
          rw [List.append_assoc] at this
          exact this
    intro S hS l hl
    rw [prm] at hl
    exact key S [] hS l hl
/-- a row of names 0 .. P - 1 -/
def Row (P : Nat) (l : List Nat) : Prop := l.length = P ∧ l.Nodup ∧ ∀ v ∈ l, v < P
theorem prm_row {P : Nat} {l : List Nat} (h : l ∈ prm P (List.range P)) : Row P l := by
  have hp := prm_perm P (List.range P) List.length_range l h
  exact ⟨by rw [hp.length_eq, List.length_range], hp.nodup_iff.mpr List.nodup_range, fun v hv => List.mem_range.mp (hp.mem_iff.mp hv)⟩
theorem range_asc (P : Nat) : (List.range P).Pairwise (· < ·) := List.pairwise_lt_range
/-- all namings of P points, in order -/
def allN (P : Nat) : List (List Nat) := prm P (List.range P)
theorem allN_seg (P : Nat) : Seg nextL (allN P) none ∧ (allN P).head? = some (List.range P) := by
  have := prm_seg P (List.range P) List.length_range (range_asc P)
  exact ⟨this.1, this.2.1⟩
/-- the naming as a function -/
def gOf (l : List Nat) (i : Nat) : Nat := l.getD i 0
theorem row_g {P : Nat} {l : List Nat} {nm : Nat → Int32} (hP : P ≤ 8) (h : Row P l) (hR : Rep nm l) : ∀ i, i < P → nm i = nI (gOf l i) ∧ gOf l i < 8 := by
  intro i hi
  have hi' : i < l.length := by rw [h.1]; exact hi
  unfold gOf
  rw [gD hi']
  exact ⟨hR i _ (List.getElem?_eq_getElem hi'), Nat.lt_of_lt_of_le (h.2.2 _ (List.getElem_mem hi')) hP⟩
theorem row_g8 {P : Nat} {l : List Nat} (hP : P ≤ 8) (h : Row P l) : ∀ i, i < 8 → gOf l i < 8 := by
  intro i _
  unfold gOf
  by_cases hi : i < l.length
  · rw [gD hi]; exact Nat.lt_of_lt_of_le (h.2.2 _ (List.getElem_mem hi)) hP
  · rw [List.getD, List.getElem?_eq_none (by omega)]; decide
theorem px_nextRow {N P : Nat} {nm : Nat → Int32} {l : List Nat} (h1 : 1 ≤ P) (hP : P ≤ 8) (hr : Row P l) (hR : Rep nm l) (hN : 12 < N) : (nextL l = none → F_X3_nextNaming N (nI P) nm = some (0, nm)) ∧ ∀ l', nextL l = some l' → ∃ nm', F_X3_nextNaming N (nI P) nm = some (1, nm') ∧ Rep nm' l' := by
  have := px_next (N := N) (nm := nm) (l := l) (by rw [hr.1]; exact h1) (by rw [hr.1]; exact hP) hr.2.1 (fun v hv => Nat.lt_of_lt_of_le (hr.2.2 v hv) hP) hR hN
  rw [hr.1] at this
  exact this
/-- the becomes row: what a point becomes by the namings of a list -/
def becS (p : Nat) (ls : List (List Nat)) (b : Nat) : Nat := ls.foldl (fun acc l => acc ||| 2 ^ gOf l p) b
theorem px_bec {N P m : Nat} {L : Nat → Nat} {now nm : Nat → Int32} {l : List Nat} (hw : WF P m L) (hm : MS now 0 P m L) (hr : Row P l) (hR : Rep nm l) {k : (Nat → Int32) → Option (Int32 × (Nat → Int32) × (Nat → Int32) × (Nat → Int32))} : ∀ (d f i : Nat) (a : Nat → Int32) (B : Nat → Nat), i + d = P → d < f → (∀ p, p < P → a p = nI (if p < i then B p ||| 2 ^ gOf l p else B p)) → ∃ a', F_X3_symmetries_53 N now nm f (nI i) a k = k a' ∧ ∀ p, p < P → a' p = nI (B p ||| 2 ^ gOf l p) := by
  have hP := hw.2.1
  intro d
  induction d with
  | zero =>
    intro f i a B e h hi
    obtain ⟨f, rfl⟩ : ∃ q, f = q + 1 := ⟨f - 1, by omega⟩
    obtain rfl : i = P := by omega
    rw [F_X3_symmetries_53, px_points, hm.1, Option.bind_some, if_pos (nI_le (Nat.le_refl _) (by omega))]
    exact ⟨a, rfl, fun p hp => by rw [hi p hp, if_pos hp]⟩
  | succ d ih =>
    intro f i a B e h hi
    obtain ⟨f, rfl⟩ : ∃ q, f = q + 1 := ⟨f - 1, by omega⟩
    have hgi := row_g hP hr hR i (by omega)
    rw [F_X3_symmetries_53, px_points, hm.1, Option.bind_some, if_neg (nI_ge (by omega) (by omega)), ckI_n _ (by omega) (by decide), ckI_n _ (by omega) (by decide), ckI_n _ (by omega) (by decide), pu_clamp (by omega), hgi.1, pu_1shl (by omega), hi i (by omega), if_neg (Nat.lt_irrefl _), pu_or, nI_1]
    refine ih f (i + 1) _ B (by omega) (by omega) (fun p hp => ?_)
    unfold upd
    by_cases q : p = i
    · rw [if_pos q, if_pos (by omega), q]
    · rw [if_neg q, hi p hp]
      by_cases q2 : p < i
      · rw [if_pos q2, if_pos (by omega)]
      · rw [if_neg q2, if_neg (by omega)]
