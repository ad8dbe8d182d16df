set_option maxRecDepth 100000
/-- a falling row, cut where it falls below x -/
theorem fall_cut {x : Nat} : ∀ t : List Nat, t.Pairwise (· > ·) → x ∉ t → ∃ T V, t = T ++ V ∧ (∀ u ∈ T, x < u) ∧ ∀ v ∈ V, v < x := by
  intro t
  induction t with
  | nil => intro _ _; exact ⟨[], [], rfl, fun u h => (List.not_mem_nil h).elim, fun u h => (List.not_mem_nil h).elim⟩
  | cons a t ih =>
    intro hp hx
    obtain ⟨h1, h2⟩ := List.pairwise_cons.mp hp
    by_cases h : x < a
    · obtain ⟨T, V, e, hT, hV⟩ := ih h2 (fun z => hx (List.mem_cons_of_mem _ z))
      refine ⟨a :: T, V, by rw [e]; rfl, fun u hu => ?_, hV⟩
      rcases List.mem_cons.mp hu with q | q
      · rw [q]; exact h
      · exact hT u q
    · have ha : a < x := by
        have : x ≠ a := fun z => hx (by rw [z]; exact List.mem_cons_self)
        omega
      refine ⟨[], a :: t, rfl, fun u h => (List.not_mem_nil h).elim, fun v hv => ?_⟩
      rcases List.mem_cons.mp hv with q | q
      · rw [q]; exact ha
      · have := h1 v q; omega
theorem nextL_pre {l l' : List Nat} (h : nextL l = some l') : ∀ pre : List Nat, nextL (pre ++ l) = some (pre ++ l') := by
  intro pre
  induction pre with
  | nil => exact h
  | cons a pre ih => rw [List.cons_append, nextL, ih]; rfl
theorem fall_next : ∀ t : List Nat, t.Pairwise (· > ·) → nextL t = none := by
  intro t
  induction t with
  | nil => intro _; rfl
  | cons a t ih =>
    intro hp
    obtain ⟨h1, h2⟩ := List.pairwise_cons.mp hp
    rw [nextL, ih h2]
    have := jump_last (s := a) (A := t.reverse) (fun z hz => h1 z (List.mem_reverse.mp hz))
    rw [List.reverse_reverse] at this
    exact this
theorem jump_cut {x y : Nat} {U V : List Nat} (hU : ∀ u ∈ U, x < u) (hy : x < y) (hV : ∀ v ∈ V, v < x) : jump x (U ++ y :: V) = some (y :: (U ++ x :: V).reverse) := by
  have := tw_all (x := x) (U := U ++ [y]) (V := V) (fun u h => by
    rcases List.mem_append.mp h with h | h
    · exact hU u h
    · rw [List.mem_singleton.mp h]; exact hy) hV
  have e : U ++ y :: V = (U ++ [y]) ++ V := by simp
  unfold jump
  rw [e, this.1, this.2]
  simp
/-- the row's shape at a step: what comes next -/
theorem next_shape {l : List Nat} (hn : l.Nodup) : (l.Pairwise (· > ·) ∧ nextL l = none) ∨ ∃ pre x U y V, l = pre ++ x :: (U ++ y :: V) ∧ (U ++ y :: V).Pairwise (· > ·) ∧ x < y ∧ (∀ v ∈ V, v < x) ∧ (∀ u ∈ U, x < u) ∧ nextL l = some (pre ++ y :: (U ++ x :: V).reverse) := by
  rcases last_rise l hn with h | ⟨pre, x, a, t, e, hp, hx⟩
  · exact Or.inl h
  · have hnx : x ∉ a :: t := by
      rw [e, List.nodup_append] at hn
      exact (List.nodup_cons.mp hn.2.1).1
    obtain ⟨T, V, eT, hT, hV⟩ := fall_cut (x := x) (a :: t) hp hnx
    have hTn : T ≠ [] := by
      intro z
      rw [z, List.nil_append] at eT
      have := hV a (by rw [← eT]; exact List.mem_cons_self)
      omega
    obtain ⟨U, y, eU⟩ : ∃ U y, T = U ++ [y] := ⟨T.dropLast, T.getLast hTn, (List.dropLast_concat_getLast hTn).symm⟩
    have eA : a :: t = U ++ y :: V := by rw [eT, eU]; simp
    have hU : ∀ u ∈ U, x < u := fun u hu => hT u (by rw [eU]; exact List.mem_append_left _ hu)
    have hy : x < y := hT y (by rw [eU]; simp)
    refine Or.inr ⟨pre, x, U, y, V, by rw [e, eA], by rw [← eA]; exact hp, hy, hV, hU, ?_⟩
    rw [e]
    refine nextL_pre ?_ pre
    rw [nextL, fall_next _ hp, eA]
    exact jump_cut hU hy hV
/-! ===== the array's loops ===== -/
theorem scan_k {N q : Nat} {nm : Nat → Int32} {g : Nat → Nat} {n : Nat} (hn : n ≤ 8) (hg : ∀ i, i < n → nm i = nI (g i) ∧ g i < 8) (k : Int32 → Option (Int32 × (Nat → Int32))) (hq : q + 1 < n) (hr : g q < g (q + 1)) : ∀ (d f : Nat), q + d + 1 < n → (∀ p, q < p → p ≤ q + d → g (p + 1) < g p) → d < f → F_X3_nextNaming_4 N nm f (nI (q + d)) k = k (nI q) := by
  intro d
  induction d with
  | zero =>
    intro f h1 _ h3
    obtain ⟨f, rfl⟩ : ∃ z, f = z + 1 := ⟨f - 1, by omega⟩
    show F_X3_nextNaming_4 N nm (f + 1) (nI q) k = _
    rw [F_X3_nextNaming_4, if_neg (nI_pos (by omega)), nI_1, ckI_n _ (by omega) (by decide), ckI_n _ (by omega) (by decide), pu_clamp (by omega), pu_clamp (by omega), (hg q (by omega)).1, (hg (q + 1) (by omega)).1, if_pos ((nI_leI (by have := (hg q (by omega)).2; omega) (by have := (hg (q + 1) (by omega)).2; omega)).mpr (by omega))]
  | succ d ih =>
    intro f h1 h2 h3
    obtain ⟨f, rfl⟩ : ∃ z, f = z + 1 := ⟨f - 1, by omega⟩
    have hlt := h2 (q + (d + 1)) (by omega) (Nat.le_refl _)
    rw [F_X3_nextNaming_4, if_neg (nI_pos (by omega)), nI_1, ckI_n _ (by omega) (by decide), ckI_n _ (by omega) (by decide), pu_clamp (by omega), pu_clamp (by omega), (hg (q + (d + 1)) (by omega)).1, (hg (q + (d + 1) + 1) (by omega)).1, if_neg (fun z => by
      have := (nI_leI (by have := (hg (q + (d + 1)) (by omega)).2; omega) (by have := (hg (q + (d + 1) + 1) (by omega)).2; omega)).mp z
      omega), show nI (q + (d + 1)) + (-1) = nI (q + d) from by rw [← Nat.add_assoc]; exact pk_m1 _]
    exact ih f (by omega) (fun p p1 p2 => h2 p p1 (by omega)) (by omega)
theorem scan_none {N : Nat} {nm : Nat → Int32} {g : Nat → Nat} {n : Nat} (hn : n ≤ 8) (hg : ∀ i, i < n → nm i = nI (g i) ∧ g i < 8) (k : Int32 → Option (Int32 × (Nat → Int32))) : ∀ (d f : Nat), d + 1 < n → (∀ p, p ≤ d → g (p + 1) < g p) → d + 1 < f → F_X3_nextNaming_4 N nm f (nI d) k = k (-1) := by
  intro d
  induction d with
  | zero =>
    intro f h1 h2 h3
    obtain ⟨f, rfl⟩ : ∃ z, f = z + 2 := ⟨f - 2, by omega⟩
    have hlt := h2 0 (Nat.le_refl _)
    rw [F_X3_nextNaming_4, if_neg (nI_pos (by decide)), nI_1, ckI_n _ (by omega) (by decide), ckI_n _ (by omega) (by decide), pu_clamp (by decide), pu_clamp (by decide), (hg 0 (by omega)).1, (hg (0 + 1) (by omega)).1, if_neg (fun z => by
      have := (nI_leI (by have := (hg 0 (by omega)).2; omega) (by have := (hg (0 + 1) (by omega)).2; omega)).mp z
      omega), show nI 0 + (-1) = (-1 : Int32) from by decide, F_X3_nextNaming_4, if_pos (by decide)]
  | succ d ih =>
    intro f h1 h2 h3
    obtain ⟨f, rfl⟩ : ∃ z, f = z + 1 := ⟨f - 1, by omega⟩
    have hlt := h2 (d + 1) (Nat.le_refl _)
    rw [F_X3_nextNaming_4, if_neg (nI_pos (by omega)), nI_1, ckI_n _ (by omega) (by decide), ckI_n _ (by omega) (by decide), pu_clamp (by omega), pu_clamp (by omega), (hg (d + 1) (by omega)).1, (hg (d + 1 + 1) (by omega)).1, if_neg (fun z => by
      have := (nI_leI (by have := (hg (d + 1) (by omega)).2; omega) (by have := (hg (d + 1 + 1) (by omega)).2; omega)).mp z
      omega), pk_m1]
    exact ih f (by omega) (fun p p1 => h2 p (by omega)) (by omega)
theorem scan_j {N q j : Nat} {nm : Nat → Int32} {g : Nat → Nat} {n : Nat} (hn : n ≤ 8) (hg : ∀ i, i < n → nm i = nI (g i) ∧ g i < 8) (k : Int32 → Option (Int32 × (Nat → Int32))) (hq : q < n) (hr : g q ≤ g j) : ∀ (d f : Nat), j + d < n → (∀ p, j < p → p ≤ j + d → g p < g q) → d < f → F_X3_nextNaming_41 N (nI q) nm f (nI (j + d)) k = k (nI j) := by
  intro d
  induction d with
  | zero =>
    intro f h1 _ h3
    obtain ⟨f, rfl⟩ : ∃ z, f = z + 1 := ⟨f - 1, by omega⟩
    show F_X3_nextNaming_41 N (nI q) nm (f + 1) (nI j) k = _
    rw [F_X3_nextNaming_41, ckI_n _ (by omega) (by decide), ckI_n _ (by omega) (by decide), pu_clamp (by omega), pu_clamp (by omega), (hg q (by omega)).1, (hg j (by omega)).1, if_pos ((nI_leI (by have := (hg q (by omega)).2; omega) (by have := (hg j (by omega)).2; omega)).mpr hr)]
  | succ d ih =>
    intro f h1 h2 h3
    obtain ⟨f, rfl⟩ : ∃ z, f = z + 1 := ⟨f - 1, by omega⟩
    have hlt := h2 (j + (d + 1)) (by omega) (Nat.le_refl _)
    rw [F_X3_nextNaming_41, ckI_n _ (by omega) (by decide), ckI_n _ (by omega) (by decide), pu_clamp (by omega), pu_clamp (by omega), (hg q (by omega)).1, (hg (j + (d + 1)) (by omega)).1, if_neg (fun z => by
      have := (nI_leI (by have := (hg q (by omega)).2; omega) (by have := (hg (j + (d + 1)) (by omega)).2; omega)).mp z
      omega), show nI (j + (d + 1)) + (-1) = nI (j + d) from by rw [← Nat.add_assoc]; exact pk_m1 _]
    exact ih f (by omega) (fun p p1 p2 => h2 p p1 (by omega)) (by omega)
