set_option maxRecDepth 100000
theorem px_symLoop {N P m : Nat} {L : Nat → Nat} {now lb : Nat → Int32} (hw : WF P m L) (hm : MS now 0 P m L) (ht : Tells lb m L) (hN : 300 < N) : ∀ (ls : List (List Nat)) (l : List Nat) (f cnt : Nat) (nm a : Nat → Int32) (B : Nat → Nat), Seg nextL (l :: ls) none → (∀ q ∈ l :: ls, Row P q) → Rep nm l → ls.length + 2 ≤ f → (∀ p, p < P → a p = nI (B p)) → ∃ nm' a', F_X3_symmetries_37 N now lb f (nI cnt) 1 nm a = some (nI (cnt + ((l :: ls).filter (fun q => ontoB m m L L (gOf q))).length), nm', lb, a') ∧ ∀ p, p < P → a' p = nI (becS p ((l :: ls).filter (fun q => ontoB m m L L (gOf q))) (B p)) := by
  have hP := hw.2.1
  intro ls
  induction ls with
  | nil =>
    intro l f cnt nm a B hs hr hR hf ha
    obtain ⟨f, rfl⟩ : ∃ q, f = q + 2 := ⟨f - 2, by simp at hf; omega⟩
    have hrow := hr l List.mem_cons_self
    have hno : nextL l = none := hs
    have hnext := (px_nextRow (N := N) hw.1 hP hrow hR (by omega)).1 hno
    rw [F_X3_symmetries_37, if_neg (by decide), px_isSym hw hm (row_g hP hrow hR) (row_g8 hP hrow) ht hN, Option.bind_some]
    cases e : ontoB m m L L (gOf l) with
    | false =>
      rw [if_pos (show b2i false = 0 from rfl), px_points, hm.1, Option.bind_some, hnext, Option.bind_some]
      show ∃ nm' a', F_X3_symmetries_37 N now lb (f + 1) (nI cnt) 0 nm a = _ ∧ _
      rw [F_X3_symmetries_37, if_pos rfl, List.filter_cons_of_neg (by simp [e])]
      exact ⟨nm, a, rfl, ha⟩
    | true =>
      rw [if_neg (by decide), List.filter_cons_of_pos (by simp [e])]
      obtain ⟨a', e1, e2⟩ := px_bec (N := N) hw hm hrow hR (k := fun c => (F_X3_points N now).bind fun y19 => (F_X3_nextNaming N y19 nm).bind fun y20 => F_X3_symmetries_37 N now lb (f + 1) (nI cnt + 1) y20.1 y20.2 c) P N 0 a B (by omega) (by omega) (fun p hp => by rw [ha p hp, if_neg (by omega)])
      refine ⟨nm, a', ?_, e2⟩
      have e1' : F_X3_symmetries_53 N now nm N 0 a (fun c => (F_X3_points N now).bind fun y19 => (F_X3_nextNaming N y19 nm).bind fun y20 => F_X3_symmetries_37 N now lb (f + 1) (nI cnt + 1) y20.1 y20.2 c) = _ := e1
      rw [e1', px_points, hm.1, Option.bind_some, hnext, Option.bind_some]
      show F_X3_symmetries_37 N now lb (f + 1) (nI cnt + 1) 0 nm a' = _
      rw [F_X3_symmetries_37, if_pos rfl, nI_1]
      rfl
  | cons l2 ls ih =>
    intro l f cnt nm a B hs hr hR hf ha
    obtain ⟨f, rfl⟩ : ∃ q, f = q + 1 := ⟨f - 1, by omega⟩
    have hrow := hr l List.mem_cons_self
    have hsome : nextL l = some l2 := hs.1
    obtain ⟨nm2, hnext, hR2⟩ := (px_nextRow (N := N) hw.1 hP hrow hR (by omega)).2 l2 hsome
    have hr2 : ∀ q ∈ l2 :: ls, Row P q := fun q hq => hr q (List.mem_cons_of_mem _ hq)
    have hf2 : ls.length + 2 ≤ f := by simp at hf; omega
    rw [F_X3_symmetries_37, if_neg (by decide), px_isSym hw hm (row_g hP hrow hR) (row_g8 hP hrow) ht hN, Option.bind_some]
    cases e : ontoB m m L L (gOf l) with
    | false =>
      rw [if_pos (show b2i false = 0 from rfl), px_points, hm.1, Option.bind_some, hnext, Option.bind_some, List.filter_cons_of_neg (by simp [e])]
      exact ih l2 f cnt nm2 a B hs.2 hr2 hR2 hf2 ha
    | true =>
      rw [if_neg (by decide), List.filter_cons_of_pos (by simp [e])]
      obtain ⟨a', e1, e2⟩ := px_bec (N := N) hw hm hrow hR (k := fun c => (F_X3_points N now).bind fun y19 => (F_X3_nextNaming N y19 nm).bind fun y20 => F_X3_symmetries_37 N now lb f (nI cnt + 1) y20.1 y20.2 c) P N 0 a B (by omega) (by omega) (fun p hp => by rw [ha p hp, if_neg (by omega)])
      have e1' : F_X3_symmetries_53 N now nm N 0 a (fun c => (F_X3_points N now).bind fun y19 => (F_X3_nextNaming N y19 nm).bind fun y20 => F_X3_symmetries_37 N now lb f (nI cnt + 1) y20.1 y20.2 c) = _ := e1
      rw [e1', px_points, hm.1, Option.bind_some, hnext, Option.bind_some, nI_1]
      obtain ⟨nm3, a3, g1, g2⟩ := ih l2 f (cnt + 1) nm2 a' (fun p => B p ||| 2 ^ gOf l p) hs.2 hr2 hR2 hf2 e2
      refine ⟨nm3, a3, ?_, g2⟩
      show F_X3_symmetries_37 N now lb f (nI (cnt + 1)) 1 nm2 a' = _
      rw [g1, List.length_cons]
      congr 3
      omega
