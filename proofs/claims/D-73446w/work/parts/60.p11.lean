set_option maxRecDepth 100000
theorem pc_parts {N P m t : Nat} {L : Nat → Nat} {pts lns : Int32} {line : Nat → Int32} (hw : WF P m L) (hc : CS pts lns line P m L) (ht : t < 4096) (hN : 12 < N) : F_X1_parts N (nI t) line pts lns = some (b2i (spB P m L t)) := by
  have hmm := hw.2.2.1
  have hP := hw.2.1
  have h8 := pow8 hP
  obtain ⟨rfl, rfl, hL⟩ := hc
  rw [F_X1_parts, pu_1shl (by omega), show nI (2 ^ P) - (1 : Int32) = nI (2 ^ P - 1) from by rw [show (1 : Int32) = nI 1 from rfl, pk_sub (Nat.two_pow_pos P)]]
  refine (lp_any (fun n i => F_X1_parts_4 N (nI t) line (nI m) n (nI (spU L t i)) (nI i) (fun u => if u = nI (2 ^ P - 1) then some 1 else some 0)) m (spX L t) (some 0) (if nI (spU L t m) = nI (2 ^ P - 1) then some 1 else some 0) ?_ ?_ N (by omega)).trans ?_
  · intro n i hi
    show F_X1_parts_4 N (nI t) line (nI m) (n + 1) (nI (spU L t i)) (nI i) _ = _
    have hu := spU_lt hw t i (by omega)
    have hl := and_lt (b := L i) (Nat.lt_of_lt_of_le hu h8)
    rw [F_X1_parts_4, if_neg (nI_ge hi (by omega)), nI_1, spU]
    cases hb : t.testBit i with
    | false =>
      rw [if_pos ((pu_bit0 (by omega) (by omega)).mpr hb), if_neg (by simp [spX, hb])]
      rfl
    | true =>
      rw [if_neg (fun z => by rw [(pu_bit0 (by omega) (by omega)).mp z] at hb; cases hb), ckI_n _ (by omega) (by decide), ckI_n _ (by omega) (by decide), pu_clamp (by omega), hL i hi, pu_and, pu_or]
      by_cases z : spU L t i &&& L i = 0
      · rw [if_pos ((nI0_iff (by omega)).mpr z), if_neg (by simp [spX, hb, z])]; rfl
      · rw [if_neg (fun q => z ((nI0_iff (by omega)).mp q)), if_pos (by simp [spX, hb, z])]
  · intro n
    show F_X1_parts_4 N (nI t) line (nI m) (n + 1) (nI (spU L t m)) (nI m) _ = _
    rw [F_X1_parts_4, if_pos (nI_le (Nat.le_refl _) (by omega))]
  · have hu := spU_lt hw t m (Nat.le_refl _)
    unfold spB
    cases anyB (spX L t) m with
    | true => rfl
    | false =>
      rw [if_neg (by decide)]
      by_cases z : spU L t m = 2 ^ P - 1
      · rw [if_pos (by rw [z]), decide_eq_true z]; rfl
      · rw [if_neg (fun q => z ((nI_eq (by omega) (by omega)).mp q)), decide_eq_false z]; rfl
theorem sp_0 {P m : Nat} {L : Nat → Nat} (h1 : 1 ≤ P) : spB P m L 0 = false := by
  have hu : ∀ i, spU L 0 i = 0 := by
    intro i
    induction i with
    | zero => rfl
    | succ i ih => rw [spU, Nat.zero_testBit]; exact ih
  unfold spB
  rw [hu, decide_eq_false (by have := Nat.pow_le_pow_right (n := 2) (by decide) h1; omega), Bool.and_false]
theorem pow12 {m : Nat} (h : m ≤ 12) : 2 ^ m ≤ 4096 := Nat.pow_le_pow_right (n := 2) (by decide) h
theorem px_spreads {N P m : Nat} {L : Nat → Nat} {now : Nat → Int32} (hw : WF P m L) (hm : MS now 0 P m L) (hN : 5000 < N) (x y : Int32) : F_X3_tellSpreads N now x y = some (nI (rs (fun t => b2n (spB P m L t)) 0 (2 ^ m)), oI (fs (spB P m L) 0 (2 ^ m))) := by
  have hP := hw.2.1
  have hmm := hw.2.2.1
  have h8 := pow8 hP
  have h12 := pow12 hmm
  rw [F_X3_tellSpreads]
  refine lp_acc (fun n i => F_X3_tellSpreads_12 N now n (nI i) (nI (rs (fun t => b2n (spB P m L t)) 0 i)) (oI (fs (spB P m L) 0 i))) (2 ^ m) _ ?_ ?_ (2 ^ m) N 0 (by omega) (by omega)
  · intro n t ht
    show F_X3_tellSpreads_12 N now (n + 1) (nI t) (nI (rs (fun t => b2n (spB P m L t)) 0 t)) (oI (fs (spB P m L) 0 t)) = F_X3_tellSpreads_12 N now n (nI (t + 1)) (nI (rs (fun t => b2n (spB P m L t)) 0 (t + 1))) (oI (fs (spB P m L) 0 (t + 1)))
    rw [F_X3_tellSpreads_12, px_lines, hm.2.1, Option.bind_some, pu_1shl (by omega), if_neg (nI_ge ht (by omega)), nI_1]
    generalize hk : (fun u2 u3 : Int32 => (F_X3_all N now).bind fun y11 => if u2 = y11 then (F_X3_points N now).bind fun y13 => if u3 = y13 then if oI (fs (spB P m L) 0 t) = -1 then F_X3_tellSpreads_12 N now n (nI (t + 1)) (nI (rs (fun t => b2n (spB P m L t)) 0 t) + 1) (nI t) else F_X3_tellSpreads_12 N now n (nI (t + 1)) (nI (rs (fun t => b2n (spB P m L t)) 0 t) + 1) (oI (fs (spB P m L) 0 t)) else F_X3_tellSpreads_12 N now n (nI (t + 1)) (nI (rs (fun t => b2n (spB P m L t)) 0 t)) (oI (fs (spB P m L) 0 t)) else F_X3_tellSpreads_12 N now n (nI (t + 1)) (nI (rs (fun t => b2n (spB P m L t)) 0 t)) (oI (fs (spB P m L) 0 t))) = k
    have inner : F_X3_tellSpreads_29 N (nI t) now N 0 0 0 k = k (nI (spU L t m)) (nI (spN L t m)) := by
      refine lp_acc (fun n2 i => F_X3_tellSpreads_29 N (nI t) now n2 (nI (spU L t i)) (nI (spN L t i)) (nI i) k) m _ ?_ ?_ m N 0 (by omega) (by omega)
      · intro n2 i hi
        show F_X3_tellSpreads_29 N (nI t) now (n2 + 1) (nI (spU L t i)) (nI (spN L t i)) (nI i) k = F_X3_tellSpreads_29 N (nI t) now n2 (nI (spU L t (i + 1))) (nI (spN L t (i + 1))) (nI (i + 1)) k
        rw [F_X3_tellSpreads_29, px_lines, hm.2.1, Option.bind_some, if_neg (nI_ge hi (by omega)), nI_1, spU, spN]
        cases hb : t.testBit i with
        | false => rw [if_pos ((pu_bit0 (by omega) (by omega)).mpr hb)]; rfl
        | true =>
          rw [if_neg (fun z => by rw [(pu_bit0 (by omega) (by omega)).mp z] at hb; cases hb), px_at hw hm hi]
          simp only [Option.bind_some]
          rw [pu_bits (by have := hw.lt hi; omega), Option.bind_some, pu_or, nI_add]
          rfl
      · intro n2
        show F_X3_tellSpreads_29 N (nI t) now (n2 + 1) (nI (spU L t m)) (nI (spN L t m)) (nI m) k = _
        rw [F_X3_tellSpreads_29, px_lines, hm.2.1, Option.bind_some, if_pos (nI_le (Nat.le_refl _) (by omega))]
    rw [inner, ← hk, px_all hw hm, px_points, hm.1, rs_end, fs_end, Nat.zero_add, sp_iff hw t]
    simp only [Option.bind_some]
    have hu := spU_lt hw t m (Nat.le_refl _)
    have hn := spN_le hw t m (Nat.le_refl _)
    have h1 : ∀ j, fs (spB P m L) 0 t = some j → j < 2 ^ 31 := fun j hj => by have := (fs_some hj).2.1; omega
    by_cases z1 : spU L t m = 2 ^ P - 1
    · rw [if_pos (by rw [z1]), decide_eq_true z1]
      by_cases z2 : spN L t m = P
      · rw [if_pos (by rw [z2]), decide_eq_true z2, show nI (rs (fun t => b2n (spB P m L t)) 0 t) + (1 : Int32) = nI (rs (fun t => b2n (spB P m L t)) 0 t + 1) from nI_1 _]
        cases hf : fs (spB P m L) 0 t with
        | none => rw [if_pos (show oI none = -1 from rfl)]; rfl
        | some q => rw [hf] at h1; rw [if_neg (fun z => by have := (oI_m1 h1).mp z; cases this)]; rfl
      · rw [if_neg (fun q => z2 ((nI_eq (by omega) (by omega)).mp q)), decide_eq_false z2]
        cases fs (spB P m L) 0 t <;> rfl
    · rw [if_neg (fun q => z1 ((nI_eq (by omega) (by omega)).mp q)), decide_eq_false z1]
      cases fs (spB P m L) 0 t <;> rfl
  · intro n
    show F_X3_tellSpreads_12 N now (n + 1) (nI (2 ^ m)) _ _ = _
    rw [F_X3_tellSpreads_12, px_lines, hm.2.1, Option.bind_some, pu_1shl (by omega), if_pos (nI_le (Nat.le_refl _) (by omega))]
theorem pc_spreads0 {N P m : Nat} {L : Nat → Nat} {pts lns : Int32} {line : Nat → Int32} (hw : WF P m L) (hc : CS pts lns line P m L) (hN : 5000 < N) : F_X1_spreads N 0 line pts lns = some (nI (rs (fun t => b2n (spB P m L t)) 0 (2 ^ m))) := by
  have hmm := hw.2.2.1
  have h12 := pow12 hmm
  have hp1 := Nat.two_pow_pos m
  have hh := fun t (h : t < 4096) => pc_parts (N := N) hw hc h (by omega)
  obtain ⟨-, rfl, -⟩ := hc
  rw [F_X1_spreads, show 2 ^ m = (2 ^ m - 1) + 1 by omega, rs, sp_0 hw.1, show b2n false = 0 from rfl, Nat.zero_add]
  refine (lp_sum (fun n v t => F_X1_spreads_4 N 0 line pts (nI m) n v (nI t) (fun u => if (0 : Int32) = 0 then some u else some (-1))) (2 ^ m) (fun t => b2n (spB P m L t)) some ?_ ?_ (2 ^ m - 1) N 1 0 (by omega) (by omega)).trans (by rw [Int32.zero_add])
  · intro n v t ht
    show F_X1_spreads_4 N 0 line pts (nI m) (n + 1) v (nI t) _ = _
    rw [F_X1_spreads_4, pu_1shl (by omega), if_neg (nI_ge ht (by omega)), hh t (by omega), Option.bind_some, nI_1]
    cases spB P m L t with
    | false => rw [if_pos (show b2i false = 0 from rfl)]; exact congrArg (fun z => F_X1_spreads_4 N 0 line pts (nI m) n z (nI (t + 1)) _) (i_add0 v).symm
    | true => rw [if_neg (by decide), if_pos rfl]; rfl
  · intro n v
    show F_X1_spreads_4 N 0 line pts (nI m) (n + 1) v (nI (2 ^ m)) _ = _
    rw [F_X1_spreads_4, pu_1shl (by omega), if_pos (nI_le (Nat.le_refl _) (by omega)), if_pos rfl]
theorem pc_spreads1 {N P m : Nat} {L : Nat → Nat} {pts lns : Int32} {line : Nat → Int32} (hw : WF P m L) (hc : CS pts lns line P m L) (hN : 5000 < N) : F_X1_spreads N 1 line pts lns = some (oI (fs (spB P m L) 0 (2 ^ m))) := by
  have hmm := hw.2.2.1
  have h12 := pow12 hmm
  have hp1 := Nat.two_pow_pos m
  have hh := fun t (h : t < 4096) => pc_parts (N := N) hw hc h (by omega)
  obtain ⟨-, rfl, -⟩ := hc
  rw [F_X1_spreads, show 2 ^ m = (2 ^ m - 1) + 1 by omega, fs, if_neg (by rw [sp_0 hw.1]; decide)]
  refine (lp_fst (fun n t => F_X1_spreads_4 N 1 line pts (nI m) n 0 (nI t) (fun u => if (1 : Int32) = 0 then some u else some (-1))) (2 ^ m) (spB P m L) (fun t => some (nI t)) (some (-1)) ?_ ?_ (2 ^ m - 1) N 1 (by omega) (by omega)).trans ?_
  · intro n t ht
    show F_X1_spreads_4 N 1 line pts (nI m) (n + 1) 0 (nI t) _ = _
    rw [F_X1_spreads_4, pu_1shl (by omega), if_neg (nI_ge ht (by omega)), hh t (by omega), Option.bind_some, nI_1]
    cases spB P m L t with
    | false => rw [if_pos (show b2i false = 0 from rfl)]; rfl
    | true => rw [if_neg (by decide), if_neg (by decide)]; rfl
  · intro n
    show F_X1_spreads_4 N 1 line pts (nI m) (n + 1) 0 (nI (2 ^ m)) _ = _
    rw [F_X1_spreads_4, pu_1shl (by omega), if_pos (nI_le (Nat.le_refl _) (by omega)), if_neg (by decide)]
  · cases fs (spB P m L) (0 + 1) (2 ^ m - 1) <;> rfl
