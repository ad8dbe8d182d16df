set_option maxRecDepth 100000
theorem gD {l : List Nat} {i : Nat} (h : i < l.length) : l.getD i 0 = l[i] := by
  rw [List.getD, List.getElem?_eq_getElem h]; rfl
theorem px_next {N : Nat} {nm : Nat → Int32} {l : List Nat} (h1 : 1 ≤ l.length) (h8 : l.length ≤ 8) (hnd : l.Nodup) (hb : ∀ v ∈ l, v < 8) (hR : Rep nm l) (hN : 12 < N) : (nextL l = none → F_X3_nextNaming N (nI l.length) nm = some (0, nm)) ∧ ∀ l', nextL l = some l' → ∃ nm', F_X3_nextNaming N (nI l.length) nm = some (1, nm') ∧ Rep nm' l' := by
  have hg : ∀ i, i < l.length → nm i = nI (l.getD i 0) ∧ l.getD i 0 < 8 := by
    intro i hi
    rw [gD hi]
    exact ⟨hR i _ (List.getElem?_eq_getElem hi), hb _ (List.getElem_mem hi)⟩
  rcases next_shape hnd with ⟨hp, hno⟩ | ⟨pre, x, U, y, V, el, hp, hxy, hV, hU, hnx⟩
  · refine ⟨fun _ => ?_, fun l' h => by rw [hno] at h; cases h⟩
    have hend : ∀ k : Int32 → Option (Int32 × (Nat → Int32)), F_X3_nextNaming_4 N nm N (nI l.length - 2) k = k (-1) := by
      intro k
      by_cases h2 : l.length = 1
      · obtain ⟨N', rfl⟩ : ∃ z, N = z + 1 := ⟨N - 1, by omega⟩
        rw [h2, show nI 1 - 2 = (-1 : Int32) from by decide, F_X3_nextNaming_4, if_pos (by decide)]
      · rw [show nI l.length - 2 = nI (l.length - 2) from pk_sub (b := 2) (by omega)]
        refine scan_none (g := fun i => l.getD i 0) h8 hg k (l.length - 2) N (by omega) (fun p hp2 => ?_) (by omega)
        have a1 : p < l.length := by omega
        have a2 : p + 1 < l.length := by omega
        show l.getD (p + 1) 0 < l.getD p 0
        rw [gD a1, gD a2]
        exact List.pairwise_iff_getElem.mp hp p (p + 1) a1 a2 (by omega)
    rw [F_X3_nextNaming, hend, F_X3_nextNaming_31, if_neg (by decide)]
  · refine ⟨fun h => (by rw [hnx] at h; cases h), fun l' h => ?_⟩
    rw [hnx] at h
    obtain rfl := Option.some.inj h
    have hlen : l.length = pre.length + 1 + U.length + 1 + V.length := by rw [el]; simp; omega
    have gW : ∀ z, l[pre.length + 1 + z]? = (U ++ y :: V)[z]? := by
      intro z
      rw [el, List.getElem?_append_right (by omega), show pre.length + 1 + z - pre.length = z + 1 by omega, List.getElem?_cons_succ]
    have gq : l.getD pre.length 0 = x := by rw [el]; simp [List.getD]
    have gz : ∀ z (hz : z < (U ++ y :: V).length), l.getD (pre.length + 1 + z) 0 = (U ++ y :: V)[z] := by
      intro z hz
      rw [List.getD, gW, List.getElem?_eq_getElem hz]; rfl
    have hWl : (U ++ y :: V).length = U.length + 1 + V.length := by simp; omega
    have gj : l.getD (pre.length + 1 + U.length) 0 = y := by rw [gz U.length (by omega)]; simp
    have hj : pre.length + 1 + U.length < 8 := by omega
    obtain ⟨n1, e1, e2⟩ := exch_eq (N := N) (nm := nm) (a := pre.length) (b := pre.length + 1 + U.length) (by omega) hj
    obtain ⟨n2, e3, e4⟩ := rev_eq (N := N) 8 N (pre.length + 1) (l.length - 1) n1 (by omega) (by omega) (by omega) (by omega) (by omega) (by omega)
    refine ⟨n2, ?_, ?_⟩
    · rw [F_X3_nextNaming, show nI l.length - 2 = nI (pre.length + (U.length + V.length)) from (pk_sub (b := 2) (by omega)).trans (by congr 1; omega)]
      rw [scan_k (g := fun i => l.getD i 0) h8 hg _ (q := pre.length) (by omega) ?_ (U.length + V.length) N (by omega) ?_ (by omega)]
      · rw [F_X3_nextNaming_31, if_pos (nI_pos' (by omega)), show nI l.length - (1 : Int32) = nI (l.length - 1) from pk_sub (b := 1) (by omega), show nI (l.length - 1) = nI (pre.length + 1 + U.length + V.length) from by congr 1; omega]
        rw [scan_j (g := fun i => l.getD i 0) h8 hg _ (q := pre.length) (j := pre.length + 1 + U.length) (by omega) ?_ V.length N (by omega) ?_ (by omega)]
        · rw [e1, Option.bind_some, nI_1, show nI (pre.length + 1 + U.length + V.length) = nI (l.length - 1) from by congr 1; omega]
          exact e3
        · show l.getD pre.length 0 ≤ l.getD (pre.length + 1 + U.length) 0
          rw [gq, gj]; omega
        · intro p p1 p2
          show l.getD p 0 < l.getD pre.length 0
          obtain ⟨z, rfl⟩ : ∃ z, p = pre.length + 1 + z := ⟨p - (pre.length + 1), by omega⟩
          have hz : z < (U ++ y :: V).length := by omega
          rw [gq, gz z hz]
          apply hV
          rw [List.getElem_append_right (by omega)]
          obtain ⟨w, hw⟩ : ∃ w, z - U.length = w + 1 := ⟨z - U.length - 1, by omega⟩
          simp only [hw, List.getElem_cons_succ]
          exact List.getElem_mem _
      · show l.getD pre.length 0 < l.getD (pre.length + 1) 0
        have := gz 0 (by omega)
        rw [Nat.add_zero] at this
        rw [gq, this]
        cases U with
        | nil => exact hxy
        | cons u U => exact hU u List.mem_cons_self
      · intro p p1 p2
        show l.getD (p + 1) 0 < l.getD p 0
        obtain ⟨z, rfl⟩ : ∃ z, p = pre.length + 1 + z := ⟨p - (pre.length + 1), by omega⟩
        have a1 : z < (U ++ y :: V).length := by omega
        have a2 : z + 1 < (U ++ y :: V).length := by omega
        rw [gz z a1, Nat.add_assoc, gz (z + 1) a2]
        exact List.pairwise_iff_getElem.mp hp z (z + 1) a1 a2 (by omega)
    · intro i v hi
      rw [e4 i]
      rcases Nat.lt_trichotomy i pre.length with c | c | c
      · rw [if_neg (by omega), e2, if_neg (by omega), if_neg (by omega)]
        apply hR i v
        rw [List.getElem?_append_left c] at hi
        rw [el, List.getElem?_append_left c]
        exact hi
      · subst c
        rw [List.getElem?_append_right (Nat.le_refl _), Nat.sub_self, List.getElem?_cons_zero] at hi
        obtain rfl := Option.some.inj hi
        rw [if_neg (by omega), e2, if_neg (by omega), if_pos rfl, (hg _ (by omega)).1, gj]
      · obtain ⟨r, rfl⟩ : ∃ r, i = pre.length + 1 + r := ⟨i - (pre.length + 1), by omega⟩
        rw [List.getElem?_append_right (by omega), show pre.length + 1 + r - pre.length = r + 1 by omega, List.getElem?_cons_succ] at hi
        have hr : r < (U ++ x :: V).reverse.length := (List.getElem?_eq_some_iff.mp hi).1
        have hXl : (U ++ x :: V).length = U.length + 1 + V.length := by simp; omega
        rw [List.length_reverse] at hr
        rw [List.getElem?_reverse hr] at hi
        generalize hz : (U ++ x :: V).length - 1 - r = z at hi
        rw [if_pos (by omega), show pre.length + 1 + (l.length - 1) - (pre.length + 1 + r) = pre.length + 1 + z by omega, e2]
        by_cases c2 : z = U.length
        · rw [if_pos (by omega), (hg _ (by omega)).1, gq]
          rw [c2, List.getElem?_append_right (Nat.le_refl _), Nat.sub_self, List.getElem?_cons_zero] at hi
          rw [Option.some.inj hi]
        · rw [if_neg (by omega), if_neg (by omega)]
          apply hR _ v
          rw [gW, ← hi]
          rcases Nat.lt_or_ge z U.length with c3 | c3
          · rw [List.getElem?_append_left c3, List.getElem?_append_left c3]
          · rw [List.getElem?_append_right c3, List.getElem?_append_right c3]
            obtain ⟨w, hw⟩ : ∃ w, z - U.length = w + 1 := ⟨z - U.length - 1, by omega⟩
            rw [hw, List.getElem?_cons_succ, List.getElem?_cons_succ]
