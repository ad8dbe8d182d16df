set_option maxRecDepth 100000
def slS (X Y : Nat → Int32) (P m : Nat) (L : Nat → Nat) : Nat := rs (fun l => b2n (slB X Y (L l) P)) 0 m
theorem px_slips {N P m : Nat} {L : Nat → Nat} {x y now : Nat → Int32} (hw : WF P m L) (hm : MS now 0 P m L) (hx : CX x y now P) (hN : 12 < N) : F_X3_slips N now = some (nI (slS x y P m L)) := by
  have hmm := hw.2.2.1
  rw [F_X3_slips]
  refine (lp_sum (fun n v i => F_X3_slips_4 N now n v (nI i)) m (fun l => b2n (slB x y (L l) P)) some ?_ ?_ m N 0 0 (by omega) (by omega)).trans (by rw [Int32.zero_add]; rfl)
  · intro n v l hl
    show F_X3_slips_4 N now (n + 1) v (nI l) = _
    rw [F_X3_slips_4, px_lines, hm.2.1, Option.bind_some, if_neg (nI_ge hl (by omega)), px_slip hw hm hx hl hN, Option.bind_some, nI_1]
    cases slB x y (L l) P
    · rw [if_pos (show b2i false = 0 from rfl)]; rfl
    · rw [if_neg (by decide)]; rfl
  · intro n v
    show F_X3_slips_4 N now (n + 1) v (nI m) = _
    rw [F_X3_slips_4, px_lines, hm.2.1, Option.bind_some, if_pos (nI_le (Nat.le_refl _) (by omega))]
theorem pc_slips {N P m : Nat} {L : Nat → Nat} {pts lns : Int32} {line x y : Nat → Int32} (hw : WF P m L) (hc : CS pts lns line P m L) (hN : 12 < N) : F_X1_slipsMany N line x y pts lns = some (nI (slS x y P m L)) := by
  have hmm := hw.2.2.1
  have hs := fun l (hl : l < m) => pc_slip (N := N) (x := x) (y := y) hw hc hl hN
  obtain ⟨-, rfl, -⟩ := hc
  rw [F_X1_slipsMany]
  refine (lp_sum (fun n v i => F_X1_slipsMany_4 N line x y pts (nI m) n v (nI i)) m (fun l => b2n (slB x y (L l) P)) some ?_ ?_ m N 0 0 (by omega) (by omega)).trans (by rw [Int32.zero_add]; rfl)
  · intro n v l hl
    show F_X1_slipsMany_4 N line x y pts (nI m) (n + 1) v (nI l) = _
    rw [F_X1_slipsMany_4, if_neg (nI_ge hl (by omega)), hs l hl, Option.bind_some, nI_1]
    cases slB x y (L l) P
    · rw [if_pos (show b2i false = 0 from rfl)]; exact congrArg (fun z => F_X1_slipsMany_4 N line x y pts (nI m) n z (nI (l + 1))) (i_add0 v).symm
    · rw [if_neg (by decide)]; rfl
  · intro n v
    show F_X1_slipsMany_4 N line x y pts (nI m) (n + 1) v (nI m) = _
    rw [F_X1_slipsMany_4, if_pos (nI_le (Nat.le_refl _) (by omega))]
/-! ===== strays ===== -/
theorem oI_lnOf (m : Nat) (L : Nat → Nat) (s : Nat) (hm : m ≤ 12) : oI (lnOf m L s) = -1 ↔ lnOf m L s = none := oI_m1 (fun j hj => by have := (fs_some hj).2.1; omega)
theorem three_lt {a b c : Nat} (ha : a < 8) (hb : b < 8) (hc : c < 8) : 2 ^ a ||| 2 ^ b ||| 2 ^ c < 256 := or_lt256 (or_lt256 (Nat.pow_lt_pow_right (n := 8) (a := 2) (by decide) ha) (Nat.pow_lt_pow_right (n := 8) (a := 2) (by decide) hb)) (Nat.pow_lt_pow_right (n := 8) (a := 2) (by decide) hc)
def stB (X Y : Nat → Int32) (m : Nat) (L : Nat → Nat) (a b c : Nat) : Bool := (lnOf m L (2 ^ a ||| 2 ^ b ||| 2 ^ c)).isNone && il X Y a b c
def stS (X Y : Nat → Int32) (P m : Nat) (L : Nat → Nat) : Nat := rs (fun a => rs (fun b => rs (fun c => b2n (stB X Y m L a b c)) 0 b) 0 a) 0 P
theorem px_strays {N P m : Nat} {L : Nat → Nat} {x y now : Nat → Int32} (hw : WF P m L) (hm : MS now 0 P m L) (hx : CX x y now P) (hN : 12 < N) : F_X3_strays N now = some (nI (stS x y P m L)) := by
  have hP := hw.2.1
  have hmm := hw.2.2.1
  rw [F_X3_strays]
  refine (lp_sum (fun n v i => F_X3_strays_4 N now n v (nI i)) P (fun a => rs (fun b => rs (fun c => b2n (stB x y m L a b c)) 0 b) 0 a) some ?_ ?_ P N 0 0 (by omega) (by omega)).trans (by rw [Int32.zero_add]; rfl)
  · intro n v a ha
    show F_X3_strays_4 N now (n + 1) v (nI a) = _
    rw [F_X3_strays_4, px_points, hm.1, Option.bind_some, if_neg (nI_ge ha (by omega)), nI_1]
    refine lp_sum (fun n2 v i => F_X3_strays_14 N (nI a) now n2 v (nI i) (fun u => F_X3_strays_4 N now n u (nI (a + 1)))) a (fun b => rs (fun c => b2n (stB x y m L a b c)) 0 b) (fun u => F_X3_strays_4 N now n u (nI (a + 1))) ?_ ?_ a N 0 v (by omega) (by omega)
    · intro n2 v b hb
      show F_X3_strays_14 N (nI a) now (n2 + 1) v (nI b) _ = _
      rw [F_X3_strays_14, if_neg (nI_ge hb (by omega)), nI_1]
      refine lp_sum (fun n3 v i => F_X3_strays_22 N (nI a) (nI b) now n3 v (nI i) (fun u => F_X3_strays_14 N (nI a) now n2 u (nI (b + 1)) (fun u => F_X3_strays_4 N now n u (nI (a + 1))))) b (fun c => b2n (stB x y m L a b c)) (fun u => F_X3_strays_14 N (nI a) now n2 u (nI (b + 1)) (fun u => F_X3_strays_4 N now n u (nI (a + 1)))) ?_ ?_ b N 0 v (by omega) (by omega)
      · intro n3 v c hc
        show F_X3_strays_22 N (nI a) (nI b) now (n3 + 1) v (nI c) _ = _
        rw [F_X3_strays_22, if_neg (nI_ge hc (by omega)), pu_1shl (by omega), pu_1shl (by omega), pu_1shl (by omega), pu_or, pu_or, px_lineOf hw hm (three_lt (by omega) (by omega) (by omega)) hN, Option.bind_some, px_inLine hx hP ha (by omega) (by omega), Option.bind_some, nI_1]
        have ho := oI_lnOf m L (2 ^ a ||| 2 ^ b ||| 2 ^ c) hmm
        unfold stB
        cases hl : lnOf m L (2 ^ a ||| 2 ^ b ||| 2 ^ c) with
        | none =>
          rw [if_pos (show oI none = -1 from rfl)]
          cases il x y a b c
          · rw [if_pos (show b2i false = 0 from rfl)]; rfl
          · rw [if_neg (by decide)]; rfl
        | some j => rw [hl] at ho; rw [if_neg (fun z => by have := ho.mp z; cases this)]; rfl
      · intro n3 v
        show F_X3_strays_22 N (nI a) (nI b) now (n3 + 1) v (nI b) _ = _
        rw [F_X3_strays_22, if_pos (nI_le (Nat.le_refl _) (by omega))]
    · intro n2 v
      show F_X3_strays_14 N (nI a) now (n2 + 1) v (nI a) _ = _
      rw [F_X3_strays_14, if_pos (nI_le (Nat.le_refl _) (by omega))]
  · intro n v
    show F_X3_strays_4 N now (n + 1) v (nI P) = _
    rw [F_X3_strays_4, px_points, hm.1, Option.bind_some, if_pos (nI_le (Nat.le_refl _) (by omega))]
theorem pc_strays {N P m : Nat} {L : Nat → Nat} {pts lns : Int32} {line x y : Nat → Int32} (hw : WF P m L) (hc : CS pts lns line P m L) (hN : 12 < N) : F_X1_strays N line x y pts lns = some (nI (stS x y P m L)) := by
  have hP := hw.2.1
  have hmm := hw.2.2.1
  have hlo := fun s (h : s < 256) => pc_lineOf (N := N) hw hc h hN
  obtain ⟨rfl, -, -⟩ := hc
  rw [F_X1_strays]
  refine (lp_sum (fun n v i => F_X1_strays_4 N line x y (nI P) lns n v (nI i)) P (fun a => rs (fun b => rs (fun c => b2n (stB x y m L a b c)) 0 b) 0 a) some ?_ ?_ P N 0 0 (by omega) (by omega)).trans (by rw [Int32.zero_add]; rfl)
  · intro n v a ha
    show F_X1_strays_4 N line x y (nI P) lns (n + 1) v (nI a) = _
    rw [F_X1_strays_4, if_neg (nI_ge ha (by omega)), nI_1]
    refine lp_sum (fun n2 v i => F_X1_strays_17 N (nI a) line x y lns n2 v (nI i) (fun u => F_X1_strays_4 N line x y (nI P) lns n u (nI (a + 1)))) a (fun b => rs (fun c => b2n (stB x y m L a b c)) 0 b) (fun u => F_X1_strays_4 N line x y (nI P) lns n u (nI (a + 1))) ?_ ?_ a N 0 v (by omega) (by omega)
    · intro n2 v b hb
      show F_X1_strays_17 N (nI a) line x y lns (n2 + 1) v (nI b) _ = _
      rw [F_X1_strays_17, if_neg (nI_ge hb (by omega)), nI_1]
      refine lp_sum (fun n3 v i => F_X1_strays_25 N (nI a) (nI b) line x y lns n3 v (nI i) (fun u => F_X1_strays_17 N (nI a) line x y lns n2 u (nI (b + 1)) (fun u => F_X1_strays_4 N line x y (nI P) lns n u (nI (a + 1))))) b (fun c => b2n (stB x y m L a b c)) (fun u => F_X1_strays_17 N (nI a) line x y lns n2 u (nI (b + 1)) (fun u => F_X1_strays_4 N line x y (nI P) lns n u (nI (a + 1)))) ?_ ?_ b N 0 v (by omega) (by omega)
      · intro n3 v c hc
        show F_X1_strays_25 N (nI a) (nI b) line x y lns (n3 + 1) v (nI c) _ = _
        rw [F_X1_strays_25, if_neg (nI_ge hc (by omega)), pu_1shl (by omega), pu_1shl (by omega), pu_1shl (by omega), pu_or, pu_or, hlo _ (three_lt (by omega) (by omega) (by omega)), Option.bind_some, pc_inLine (by omega) (by omega) (by omega), Option.bind_some, nI_1]
        have ho := oI_lnOf m L (2 ^ a ||| 2 ^ b ||| 2 ^ c) hmm
        have z0 : v + nI (b2n false) = v := i_add0 v
        unfold stB
        cases hl : lnOf m L (2 ^ a ||| 2 ^ b ||| 2 ^ c) with
        | none =>
          rw [if_pos (show oI none = -1 from rfl)]
          cases il x y a b c
          · rw [if_pos (show b2i false = 0 from rfl)]; simp only [Bool.and_false]; rw [z0]
          · rw [if_neg (by decide)]; rfl
        | some j => rw [hl] at ho; rw [if_neg (fun z => by have := ho.mp z; cases this)]; simp only [Option.isNone_some, Bool.false_and]; rw [z0]
      · intro n3 v
        show F_X1_strays_25 N (nI a) (nI b) line x y lns (n3 + 1) v (nI b) _ = _
        rw [F_X1_strays_25, if_pos (nI_le (Nat.le_refl _) (by omega))]
    · intro n2 v
      show F_X1_strays_17 N (nI a) line x y lns (n2 + 1) v (nI a) _ = _
      rw [F_X1_strays_17, if_pos (nI_le (Nat.le_refl _) (by omega))]
  · intro n v
    show F_X1_strays_4 N line x y (nI P) lns (n + 1) v (nI P) = _
    rw [F_X1_strays_4, if_pos (nI_le (Nat.le_refl _) (by omega))]
/-! ===== joined pairs ===== -/
theorem two_lt {a b : Nat} (ha : a < 8) (hb : b < 8) : 2 ^ a ||| 2 ^ b < 256 := or_lt256 (Nat.pow_lt_pow_right (n := 8) (a := 2) (by decide) ha) (Nat.pow_lt_pow_right (n := 8) (a := 2) (by decide) hb)
def jnB (m : Nat) (L : Nat → Nat) (a b : Nat) : Bool := (lnOf m L (2 ^ a ||| 2 ^ b)).isSome
theorem px_joinedB {N P m a b : Nat} {L : Nat → Nat} {now : Nat → Int32} (hw : WF P m L) (hm : MS now 0 P m L) (ha : a < P) (hb : b < P) (hN : 12 < N) : F_X3_areJoined N (nI a) (nI b) now = some (b2i (jnB m L a b)) := by
  have hP := hw.2.1
  rw [F_X3_areJoined, pu_1shl (by omega), pu_1shl (by omega), pu_or, px_lineOf hw hm (two_lt (by omega) (by omega)) hN, Option.bind_some]
  have ho := oI_lnOf m L (2 ^ a ||| 2 ^ b) hw.2.2.1
  unfold jnB
  cases hl : lnOf m L (2 ^ a ||| 2 ^ b) with
  | none => rw [if_pos (show oI none = -1 from rfl)]; rfl
  | some j => rw [hl] at ho; rw [if_neg (fun z => by have := ho.mp z; cases this)]; rfl
def jnS (P m : Nat) (L : Nat → Nat) : Nat := rs (fun a => rs (fun b => b2n (jnB m L a b)) (a + 1) (P - 1 - a)) 0 P
theorem px_pairs {N P m : Nat} {L : Nat → Nat} {now : Nat → Int32} (hw : WF P m L) (hm : MS now 0 P m L) (hN : 12 < N) : F_X3_pairs N now = some (nI (jnS P m L)) := by
  have hP := hw.2.1
  rw [F_X3_pairs]
  refine (lp_sum (fun n v i => F_X3_pairs_4 N now n v (nI i)) P (fun a => rs (fun b => b2n (jnB m L a b)) (a + 1) (P - 1 - a)) some ?_ ?_ P N 0 0 (by omega) (by omega)).trans (by rw [Int32.zero_add]; rfl)
  · intro n v a ha
    show F_X3_pairs_4 N now (n + 1) v (nI a) = _
    rw [F_X3_pairs_4, px_points, hm.1, Option.bind_some, if_neg (nI_ge ha (by omega)), nI_1]
    refine lp_sum (fun n2 v i => F_X3_pairs_16 N (nI a) now n2 v (nI i) (fun u => F_X3_pairs_4 N now n u (nI (a + 1)))) P (fun b => b2n (jnB m L a b)) (fun u => F_X3_pairs_4 N now n u (nI (a + 1))) ?_ ?_ (P - 1 - a) N (a + 1) v (by omega) (by omega)
    · intro n2 v b hb
      show F_X3_pairs_16 N (nI a) now (n2 + 1) v (nI b) _ = _
      rw [F_X3_pairs_16, px_points, hm.1, Option.bind_some, if_neg (nI_ge hb (by omega)), px_joinedB hw hm ha hb hN, Option.bind_some, nI_1]
      cases jnB m L a b
      · rw [if_pos (show b2i false = 0 from rfl)]; rfl
      · rw [if_neg (by decide)]; rfl
    · intro n2 v
      show F_X3_pairs_16 N (nI a) now (n2 + 1) v (nI P) _ = _
      rw [F_X3_pairs_16, px_points, hm.1, Option.bind_some, if_pos (nI_le (Nat.le_refl _) (by omega))]
  · intro n v
    show F_X3_pairs_4 N now (n + 1) v (nI P) = _
    rw [F_X3_pairs_4, px_points, hm.1, Option.bind_some, if_pos (nI_le (Nat.le_refl _) (by omega))]
theorem pc_pairs {N P m : Nat} {L : Nat → Nat} {pts lns : Int32} {line : Nat → Int32} (hw : WF P m L) (hc : CS pts lns line P m L) (hN : 12 < N) : F_X1_joinedPairs N line pts lns = some (nI (jnS P m L)) := by
  have hP := hw.2.1
  have hmm := hw.2.2.1
  have hlo := fun s (h : s < 256) => pc_lineOf (N := N) hw hc h hN
  obtain ⟨rfl, -, -⟩ := hc
  rw [jnS, ← rs_tri (fun a b => b2n (jnB m L a b)) P, F_X1_joinedPairs]
  refine (lp_sum (fun n v i => F_X1_joinedPairs_4 N line (nI P) lns n v (nI i)) P (fun p => rs (fun q => b2n (jnB m L q p)) 0 p) some ?_ ?_ P N 0 0 (by omega) (by omega)).trans (by rw [Int32.zero_add])
  · intro n v a ha
    show F_X1_joinedPairs_4 N line (nI P) lns (n + 1) v (nI a) = _
    rw [F_X1_joinedPairs_4, if_neg (nI_ge ha (by omega)), nI_1]
    refine lp_sum (fun n2 v i => F_X1_joinedPairs_17 N (nI a) line lns n2 v (nI i) (fun u => F_X1_joinedPairs_4 N line (nI P) lns n u (nI (a + 1)))) a (fun q => b2n (jnB m L q a)) (fun u => F_X1_joinedPairs_4 N line (nI P) lns n u (nI (a + 1))) ?_ ?_ a N 0 v (by omega) (by omega)
    · intro n2 v b hb
      show F_X1_joinedPairs_17 N (nI a) line lns (n2 + 1) v (nI b) _ = _
      rw [F_X1_joinedPairs_17, if_neg (nI_ge hb (by omega)), pu_1shl (by omega), pu_1shl (by omega), pu_or, hlo _ (two_lt (by omega) (by omega)), Option.bind_some, nI_1]
      have ho := oI_lnOf m L (2 ^ a ||| 2 ^ b) hmm
      have z0 : v + nI (b2n false) = v := i_add0 v
      unfold jnB
      rw [Nat.or_comm (2 ^ b) (2 ^ a)]
      cases hl : lnOf m L (2 ^ a ||| 2 ^ b) with
      | none => rw [if_pos (show oI none = -1 from rfl)]; simp only [Option.isSome_none]; rw [z0]
      | some j => rw [hl] at ho; rw [if_neg (fun z => by have := ho.mp z; cases this)]; rfl
    · intro n2 v
      show F_X1_joinedPairs_17 N (nI a) line lns (n2 + 1) v (nI a) _ = _
      rw [F_X1_joinedPairs_17, if_pos (nI_le (Nat.le_refl _) (by omega))]
  · intro n v
    show F_X1_joinedPairs_4 N line (nI P) lns (n + 1) v (nI P) = _
    rw [F_X1_joinedPairs_4, if_pos (nI_le (Nat.le_refl _) (by omega))]
