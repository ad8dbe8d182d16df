set_option maxRecDepth 100000
theorem fs_end (p : Nat → Bool) (i : Nat) : fs p 0 (i + 1) = match fs p 0 i with | some j => some j | none => if p i = true then some i else none := by
  rw [fs_add p i 1 0]
  cases fs p 0 i with
  | some j => rfl
  | none => simp [fs]
theorem oI_m1 {o : Option Nat} (h : ∀ j, o = some j → j < 2 ^ 31) : oI o = -1 ↔ o = none := by
  cases o with
  | none => simp [oI]
  | some j =>
    constructor
    · intro z
      have z2 : nI j = -1 := z
      have h1 := nI_toInt (h j rfl)
      rw [z2] at h1
      have : Int32.toInt (-1) = -1 := by decide
      omega
    · intro z; cases z
/-! ===== halves ===== -/
def hvB (P m : Nat) (L : Nat → Nat) (j : Nat) : Bool := !hasB m L (2 * j + 1) && !hasB m L (sd (2 ^ P - 1) (2 * j + 1))
theorem half_pow {P : Nat} (h : 1 ≤ P) : 2 * 2 ^ (P - 1) = 2 ^ P := by
  obtain ⟨q, rfl⟩ : ∃ q, P = q + 1 := ⟨P - 1, by omega⟩
  rw [Nat.pow_succ]; simp [Nat.mul_comm]
theorem px_halves {N P m : Nat} {L : Nat → Nat} {now : Nat → Int32} (hw : WF P m L) (hm : MS now 0 P m L) (hN : 300 < N) (x y : Int32) : F_X3_tellHalves N now x y = some (nI (rs (fun j => b2n (hvB P m L j)) 0 (2 ^ (P - 1))), oI ((fs (hvB P m L) 0 (2 ^ (P - 1))).map (fun j => 2 * j + 1))) := by
  have hP := hw.2.1
  have h8 := pow8 hP
  have hh := half_pow hw.1
  rw [F_X3_tellHalves]
  refine lp_acc (fun n i => F_X3_tellHalves_12 N now n (nI (2 * i + 1)) (nI (rs (fun j => b2n (hvB P m L j)) 0 i)) (oI ((fs (hvB P m L) 0 i).map (fun j => 2 * j + 1)))) (2 ^ (P - 1)) _ ?_ ?_ (2 ^ (P - 1)) N 0 (by omega) (by omega)
  · intro n i hi
    show F_X3_tellHalves_12 N now (n + 1) (nI (2 * i + 1)) (nI (rs (fun j => b2n (hvB P m L j)) 0 i)) (oI ((fs (hvB P m L) 0 i).map (fun j => 2 * j + 1))) = F_X3_tellHalves_12 N now n (nI (2 * (i + 1) + 1)) (nI (rs (fun j => b2n (hvB P m L j)) 0 (i + 1))) (oI ((fs (hvB P m L) 0 (i + 1)).map (fun j => 2 * j + 1)))
    rw [F_X3_tellHalves_12, px_all hw hm]
    simp only [Option.bind_some]
    rw [if_neg (nI_nlt (by omega) (by omega)), pu_andn, px_hasLine hw hm (by omega), px_hasLine hw hm (by omega)]
    simp only [Option.bind_some]
    rw [show nI (2 * i + 1) + 2 = nI (2 * (i + 1) + 1) from nI_add (2 * i + 1) 2, rs_end, fs_end, Nat.zero_add]
    have hv : hvB P m L i = (!hasB m L (2 * i + 1) && !hasB m L (sd (2 ^ P - 1) (2 * i + 1))) := rfl
    have h1 : ∀ j, (fs (hvB P m L) 0 i).map (fun j => 2 * j + 1) = some j → j < 2 ^ 31 := by
      intro j hj
      cases hf : fs (hvB P m L) 0 i with
      | none => rw [hf] at hj; cases hj
      | some q => rw [hf] at hj; cases hj; have := (fs_some hf).2.1; show 2 * q + 1 < 2 ^ 31; omega
    cases e1 : hasB m L (2 * i + 1) with
    | true =>
      rw [e1] at hv
      rw [if_neg (by decide), hv]
      cases fs (hvB P m L) 0 i <;> rfl
    | false =>
      rw [if_pos (show b2i false = 0 from rfl)]
      cases e2 : hasB m L (sd (2 ^ P - 1) (2 * i + 1)) with
      | true =>
        rw [e1, e2] at hv
        rw [if_neg (by decide), hv]
        cases fs (hvB P m L) 0 i <;> rfl
      | false =>
        rw [e1, e2] at hv
        rw [if_pos (show b2i false = 0 from rfl), hv, show nI (rs (fun j => b2n (hvB P m L j)) 0 i) + (1 : Int32) = nI (rs (fun j => b2n (hvB P m L j)) 0 i + 1) from nI_1 _]
        cases hf : fs (hvB P m L) 0 i with
        | none => rw [if_pos (show oI (Option.map (fun j => 2 * j + 1) none) = -1 from rfl)]; rfl
        | some q =>
          rw [hf] at h1
          rw [if_neg (fun z => by have := (oI_m1 h1).mp z; cases this)]; rfl
  · intro n
    show F_X3_tellHalves_12 N now (n + 1) (nI (2 * 2 ^ (P - 1) + 1)) _ _ = _
    rw [F_X3_tellHalves_12, px_all hw hm, Option.bind_some, if_pos (nI_lt (by omega) (by omega))]
theorem pc_halves0 {N P m : Nat} {L : Nat → Nat} {pts lns : Int32} {line : Nat → Int32} (hw : WF P m L) (hc : CS pts lns line P m L) (hN : 300 < N) : F_X1_halves N 0 line pts lns = some (nI (rs (fun j => b2n (hvB P m L j)) 0 (2 ^ (P - 1)))) := by
  have hP := hw.2.1
  have h8 := pow8 hP
  have hp := half_pow hw.1
  have hh := fun s => pc_hasNone (N := N) (s := s) hw hc (by omega)
  obtain ⟨rfl, -, -⟩ := hc
  rw [F_X1_halves, pu_1shl (by omega), show (1 : Int32) = nI 1 from rfl, pk_sub (Nat.two_pow_pos P)]
  refine (lp_sum (fun n v i => F_X1_halves_17 N 0 (nI (2 ^ P - 1)) line lns n v (nI (2 * i + 1)) (fun u => if (0 : Int32) = 0 then some u else some (-1))) (2 ^ (P - 1)) (fun j => b2n (hvB P m L j)) some ?_ ?_ (2 ^ (P - 1)) N 0 0 (by omega) (by omega)).trans (by rw [Int32.zero_add])
  · intro n v i hi
    show F_X1_halves_17 N 0 (nI (2 ^ P - 1)) line lns (n + 1) v (nI (2 * i + 1)) _ = _
    rw [F_X1_halves_17, if_neg (nI_nlt (by omega) (by omega)), pu_andn, hh, hh, Option.bind_some, Option.bind_some]
    rw [show nI (2 * i + 1) + 2 = nI (2 * (i + 1) + 1) from nI_add (2 * i + 1) 2]
    have hv : hvB P m L i = (!hasB m L (2 * i + 1) && !hasB m L (sd (2 ^ P - 1) (2 * i + 1))) := rfl
    have z0 : v + nI (b2n false) = v := i_add0 v
    cases e1 : hasB m L (2 * i + 1) with
    | true => rw [e1] at hv; rw [if_pos (show b2i (!true) = 0 from rfl), hv]; simp only [Bool.not_true, Bool.false_and]; rw [z0]
    | false =>
      rw [if_neg (by decide)]
      cases e2 : hasB m L (sd (2 ^ P - 1) (2 * i + 1)) with
      | true => rw [e1, e2] at hv; rw [if_pos (show b2i (!true) = 0 from rfl), hv]; simp only [Bool.not_true, Bool.and_false]; rw [z0]
      | false => rw [e1, e2] at hv; rw [if_neg (by decide), if_pos rfl, hv]; rfl
  · intro n v
    show F_X1_halves_17 N 0 (nI (2 ^ P - 1)) line lns (n + 1) v (nI (2 * 2 ^ (P - 1) + 1)) _ = _
    rw [F_X1_halves_17, if_pos (nI_lt (by omega) (by omega)), if_pos rfl]
theorem pc_halves1 {N P m : Nat} {L : Nat → Nat} {pts lns : Int32} {line : Nat → Int32} (hw : WF P m L) (hc : CS pts lns line P m L) (hN : 300 < N) : F_X1_halves N 1 line pts lns = some (oI ((fs (hvB P m L) 0 (2 ^ (P - 1))).map (fun j => 2 * j + 1))) := by
  have hP := hw.2.1
  have h8 := pow8 hP
  have hp := half_pow hw.1
  have hh := fun s => pc_hasNone (N := N) (s := s) hw hc (by omega)
  obtain ⟨rfl, -, -⟩ := hc
  rw [F_X1_halves, pu_1shl (by omega), show nI (2 ^ P) - (1 : Int32) = nI (2 ^ P - 1) from by rw [show (1 : Int32) = nI 1 from rfl, pk_sub (Nat.two_pow_pos P)]]
  refine (lp_fst (fun n i => F_X1_halves_17 N 1 (nI (2 ^ P - 1)) line lns n 0 (nI (2 * i + 1)) (fun u => if (1 : Int32) = 0 then some u else some (-1))) (2 ^ (P - 1)) (hvB P m L) (fun j => some (nI (2 * j + 1))) (some (-1)) ?_ ?_ (2 ^ (P - 1)) N 0 (by omega) (by omega)).trans ?_
  · intro n i hi
    show F_X1_halves_17 N 1 (nI (2 ^ P - 1)) line lns (n + 1) 0 (nI (2 * i + 1)) _ = _
    rw [F_X1_halves_17, if_neg (nI_nlt (by omega) (by omega)), pu_andn, hh, hh, Option.bind_some, Option.bind_some]
    rw [show nI (2 * i + 1) + 2 = nI (2 * (i + 1) + 1) from nI_add (2 * i + 1) 2]
    have hv : hvB P m L i = (!hasB m L (2 * i + 1) && !hasB m L (sd (2 ^ P - 1) (2 * i + 1))) := rfl
    cases e1 : hasB m L (2 * i + 1) with
    | true => rw [e1] at hv; rw [if_pos (show b2i (!true) = 0 from rfl), hv]; rfl
    | false =>
      rw [if_neg (by decide)]
      cases e2 : hasB m L (sd (2 ^ P - 1) (2 * i + 1)) with
      | true => rw [e1, e2] at hv; rw [if_pos (show b2i (!true) = 0 from rfl), hv]; rfl
      | false => rw [e1, e2] at hv; rw [if_neg (by decide), if_neg (by decide), hv]; rfl
  · intro n
    show F_X1_halves_17 N 1 (nI (2 ^ P - 1)) line lns (n + 1) 0 (nI (2 * 2 ^ (P - 1) + 1)) _ = _
    rw [F_X1_halves_17, if_pos (nI_lt (by omega) (by omega)), if_neg (by decide)]
  · cases fs (hvB P m L) 0 (2 ^ (P - 1)) <;> rfl
/-! ===== spreads ===== -/
/-- bits of a union -/
theorem countP_ie (p q : Nat → Bool) : ∀ l : List Nat, l.countP (fun x => p x || q x) + l.countP (fun x => p x && q x) = l.countP p + l.countP q := by
  intro l
  induction l with
  | nil => rfl
  | cons a l ih =>
    simp only [List.countP_cons]
    cases p a <;> cases q a <;> simp <;> omega
theorem pc_ie (a b : Nat) : pc (a ||| b) + pc (a &&& b) = pc a + pc b := by
  unfold pc
  have := countP_ie (fun i => a.testBit i) (fun i => b.testBit i) (List.range 12)
  simpa [Nat.testBit_or, Nat.testBit_and] using this
/-- the union of the first i lines of a set of lines, the sum of their points, whether they are apart -/
def spU (L : Nat → Nat) (t : Nat) : Nat → Nat
  | 0 => 0
  | i + 1 => if t.testBit i then spU L t i ||| L i else spU L t i
def spN (L : Nat → Nat) (t : Nat) : Nat → Nat
  | 0 => 0
  | i + 1 => if t.testBit i then spN L t i + pc (L i) else spN L t i
def spX (L : Nat → Nat) (t i : Nat) : Bool := t.testBit i && decide (spU L t i &&& L i ≠ 0)
theorem spU_lt {P m : Nat} {L : Nat → Nat} (hw : WF P m L) (t : Nat) : ∀ i, i ≤ m → spU L t i < 2 ^ P := by
  intro i
  induction i with
  | zero => intro _; exact Nat.two_pow_pos P
  | succ i ih =>
    intro h
    rw [spU]
    split
    · exact Nat.or_lt_two_pow (ih (by omega)) (hw.2.2.2.1 i (by omega)).1
    · exact ih (by omega)
theorem spN_le {P m : Nat} {L : Nat → Nat} (hw : WF P m L) (t : Nat) : ∀ i, i ≤ m → spN L t i ≤ 12 * i := by
  intro i
  induction i with
  | zero => intro _; exact Nat.le_refl _
  | succ i ih =>
    intro h
    have := ih (by omega)
    have := pc_le (L i)
    rw [spN]
    split <;> omega
theorem sp_ge {L : Nat → Nat} (t : Nat) : ∀ i, pc (spU L t i) ≤ spN L t i := by
  intro i
  induction i with
  | zero => show pc 0 ≤ 0; decide
  | succ i ih =>
    rw [spU, spN]
    split
    · have := pc_ie (spU L t i) (L i); omega
    · exact ih
theorem sp_apart {P m : Nat} {L : Nat → Nat} (hw : WF P m L) (t : Nat) : ∀ i, i ≤ m → (anyB (spX L t) i = false ↔ pc (spU L t i) = spN L t i) := by
  intro i
  induction i with
  | zero => intro _; simp [anyB, spU, spN]; rfl
  | succ i ih =>
    intro h
    have ih := ih (by omega)
    rw [anyB, Bool.or_eq_false_iff, ih, spU, spN]
    unfold spX
    have hg := sp_ge (L := L) t i
    have hl := and_lt (b := L i) (Nat.lt_of_lt_of_le (spU_lt hw t i (by omega)) (pow8 hw.2.1))
    cases ht : t.testBit i with
    | false => simp
    | true =>
      have e := pc_ie (spU L t i) (L i)
      simp only [if_true, Bool.true_and, decide_eq_false_iff_not, ne_eq, Decidable.not_not]
      by_cases z : spU L t i &&& L i = 0
      · rw [z] at e
        have e0 : pc 0 = 0 := by decide
        constructor
        · rintro ⟨a, -⟩; omega
        · intro a; exact ⟨by omega, z⟩
      · have := pc_pos (s := spU L t i &&& L i) (by omega) z
        constructor
        · rintro ⟨-, b⟩; exact absurd b z
        · intro a; omega
def spB (P m : Nat) (L : Nat → Nat) (t : Nat) : Bool := !anyB (spX L t) m && decide (spU L t m = 2 ^ P - 1)
theorem pcall : ∀ P, P ≤ 8 → pc (2 ^ P - 1) = P := by decide +kernel
theorem sp_iff {P m : Nat} {L : Nat → Nat} (hw : WF P m L) (t : Nat) : spB P m L t = (decide (spU L t m = 2 ^ P - 1) && decide (spN L t m = P)) := by
  unfold spB
  by_cases h : spU L t m = 2 ^ P - 1
  · have := sp_apart hw t m (Nat.le_refl _)
    rw [h, pcall P hw.2.1] at this
    cases e : anyB (spX L t) m with
    | false => have hn := (this.mp e).symm; simp [h, hn]
    | true => have hn : ¬ spN L t m = P := fun z => by rw [this.mpr z.symm] at e; cases e
              simp [hn]
  · simp [h]
