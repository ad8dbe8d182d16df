set_option maxRecDepth 100000
/-! ===== namings: the next one, and all of them in order ===== -/
/-- the head goes up: the least of a falling row above it comes first, the rest rises -/
def jump (x : Nat) (t : List Nat) : Option (List Nat) := match (t.takeWhile (fun z => decide (x < z))).reverse with
  | [] => none
  | y :: U => some (y :: (U.reverse ++ x :: t.dropWhile (fun z => decide (x < z))).reverse)
def nextL : List Nat → Option (List Nat)
  | [] => none
  | x :: t => match nextL t with
    | some t' => some (x :: t')
    | none => jump x t
def prmS (rec : List Nat → List (List Nat)) : List Nat → List Nat → List (List Nat)
  | _, [] => []
  | A, s :: B => (rec (A ++ B)).map (fun q => s :: q) ++ prmS rec (A ++ [s]) B
/-- all namings of a row, in order -/
def prm : Nat → List Nat → List (List Nat)
  | 0, _ => [[]]
  | n + 1, S => prmS (prm n) [] S
/-- one comes behind the other; what comes behind the last -/
def Seg (f : List Nat → Option (List Nat)) : List (List Nat) → Option (List Nat) → Prop
  | [], _ => False
  | [a], z => f a = z
  | a :: b :: r, z => f a = some b ∧ Seg f (b :: r) z
theorem Seg.app {f : List Nat → Option (List Nat)} {h : List Nat} {r : List (List Nat)} {z : Option (List Nat)} (h2 : Seg f (h :: r) z) : ∀ {l : List (List Nat)}, Seg f l (some h) → Seg f (l ++ h :: r) z := by
  intro l
  induction l with
  | nil => intro q; exact q.elim
  | cons a l ih =>
    intro q
    cases l with
    | nil => exact ⟨q, h2⟩
    | cons b l => exact ⟨q.1, ih q.2⟩
theorem Seg.map_cons {s : Nat} : ∀ {l : List (List Nat)}, Seg nextL l none → ∃ e, l.getLast? = some e ∧ Seg nextL (l.map (fun q => s :: q)) (jump s e) := by
  intro l
  induction l with
  | nil => intro q; exact q.elim
  | cons a l ih =>
    intro q
    cases l with
    | nil =>
      have q : nextL a = none := q
      refine ⟨a, rfl, ?_⟩
      show nextL (s :: a) = jump s a
      rw [nextL, q]
    | cons b l =>
      obtain ⟨e, e1, e2⟩ := ih q.2
      refine ⟨e, by rw [List.getLast?_cons_cons]; exact e1, ?_, e2⟩
      have q1 : nextL a = some b := q.1
      show nextL (s :: a) = some (s :: b)
      rw [nextL, q1]
theorem tw_all {x : Nat} : ∀ {U V : List Nat}, (∀ u ∈ U, x < u) → (∀ v ∈ V, v < x) → (U ++ V).takeWhile (fun z => decide (x < z)) = U ∧ (U ++ V).dropWhile (fun z => decide (x < z)) = V := by
  intro U
  induction U with
  | nil =>
    intro V _ hV
    cases V with
    | nil => exact ⟨rfl, rfl⟩
    | cons v V =>
      have : ¬ x < v := by have := hV v List.mem_cons_self; omega
      simp [this]
  | cons u U ih =>
    intro V hU hV
    have hu : x < u := hU u List.mem_cons_self
    obtain ⟨h1, h2⟩ := ih (V := V) (fun z hz => hU z (List.mem_cons_of_mem _ hz)) hV
    constructor
    · rw [List.cons_append, List.takeWhile_cons_of_pos (by simp [hu]), h1]
    · rw [List.cons_append, List.dropWhile_cons_of_pos (by simp [hu]), h2]
theorem jump_last {s : Nat} {A : List Nat} (hA : ∀ a ∈ A, a < s) : jump s A.reverse = none := by
  have := tw_all (x := s) (U := []) (V := A.reverse) (fun u h => by cases h) (fun v hv => hA v (List.mem_reverse.mp hv))
  unfold jump
  rw [List.nil_append] at this
  rw [this.1]
  rfl
theorem jump_next {s y : Nat} {A B : List Nat} (hA : ∀ a ∈ A, a < s) (hy : s < y) (hB : ∀ b ∈ B, s < b) : jump s (A ++ y :: B).reverse = some (y :: (A ++ s :: B)) := by
  have e : (A ++ y :: B).reverse = (B.reverse ++ [y]) ++ A.reverse := by simp
  have := tw_all (x := s) (U := B.reverse ++ [y]) (V := A.reverse) (fun u h => by
    rcases List.mem_append.mp h with h | h
    · exact hB u (List.mem_reverse.mp h)
    · rw [List.mem_singleton.mp h]; exact hy) (fun v hv => hA v (List.mem_reverse.mp hv))
  unfold jump
  rw [e, this.1, this.2]
  simp
theorem prm_seg : ∀ (n : Nat) (S : List Nat), S.length = n → S.Pairwise (· < ·) → Seg nextL (prm n S) none ∧ (prm n S).head? = some S ∧ (prm n S).getLast? = some S.reverse := by
  intro n
  induction n with
  | zero =>
    intro S hS _
    obtain rfl := List.eq_nil_of_length_eq_zero hS
    exact ⟨rfl, rfl, rfl⟩
  | succ n ih =>
    have key : ∀ (B A : List Nat) (s : Nat), (A ++ s :: B).length = n + 1 → (A ++ s :: B).Pairwise (· < ·) → Seg nextL (prmS (prm n) A (s :: B)) none ∧ (prmS (prm n) A (s :: B)).head? = some (s :: (A ++ B)) ∧ (prmS (prm n) A (s :: B)).getLast? = some (A ++ s :: B).reverse := by
      intro B
      induction B with
      | nil =>
        intro A s hl hp
        rw [List.pairwise_append] at hp
        have hA : ∀ a ∈ A, a < s := fun a ha => hp.2.2 a ha s List.mem_cons_self
        obtain ⟨i1, i2, i3⟩ := ih A (by simp at hl; omega) hp.1
        obtain ⟨e, e1, e2⟩ := Seg.map_cons (s := s) i1
        rw [i3] at e1
        obtain rfl := Option.some.inj e1
        rw [jump_last hA] at e2
        rw [prmS, prmS, List.append_nil, List.append_nil]
        exact ⟨e2, by rw [List.head?_map, i2]; rfl, by rw [List.getLast?_map, i3]; simp⟩
      | cons y B ihB =>
        intro A s hl hp
        have hp0 := hp
        rw [List.pairwise_append] at hp
        have hA : ∀ a ∈ A, a < s := fun a ha => hp.2.2 a ha s List.mem_cons_self
        have hsB := (List.pairwise_cons.mp hp.2.1).1
        have hy : s < y := hsB y List.mem_cons_self
        have hB : ∀ b ∈ B, s < b := fun b hb => hsB b (List.mem_cons_of_mem _ hb)
        have hp1 : (A ++ y :: B).Pairwise (· < ·) := by
          rw [List.pairwise_append]
          exact ⟨hp.1, (List.pairwise_cons.mp hp.2.1).2, fun a ha b hb => hp.2.2 a ha b (List.mem_cons_of_mem _ hb)⟩
        obtain ⟨i1, i2, i3⟩ := ih (A ++ y :: B) (by simp at hl ⊢; omega) hp1
        obtain ⟨e, e1, e2⟩ := Seg.map_cons (s := s) i1
        rw [i3] at e1
        obtain rfl := Option.some.inj e1
        rw [jump_next hA hy hB] at e2
        obtain ⟨j1, j2, j3⟩ := ihB (A ++ [s]) y (by simp at hl ⊢; omega) (by simpa using hp0)
        rw [prmS]
        obtain ⟨r, hr⟩ : ∃ r, prmS (prm n) (A ++ [s]) (y :: B) = (y :: (A ++ s :: B)) :: r := by
          cases hq : prmS (prm n) (A ++ [s]) (y :: B) with
          | nil => rw [hq] at j2; cases j2
          | cons h r => rw [hq] at j2; have := Option.some.inj j2; exact ⟨r, by rw [this]; simp⟩
        rw [hr] at j1 j3 ⊢
        refine ⟨Seg.app j1 e2, ?_, ?_⟩
        · rw [List.head?_append, List.head?_map, i2]; rfl
        · rw [List.getLast?_append, j3]; simp
    intro S hS hp
    cases S with
    | nil => cases hS
    | cons s B =>
      obtain ⟨k1, k2, k3⟩ := key B [] s hS hp
      rw [prm]
      exact ⟨k1, by rw [k2]; rfl, k3⟩
