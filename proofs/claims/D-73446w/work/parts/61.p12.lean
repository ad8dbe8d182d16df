set_option maxRecDepth 100000
/-- where points lie, in both -/
def CX (x y now : Nat → Int32) (P : Nat) : Prop := ∀ p, p < P → x p = now (14 + p) ∧ y p = now (22 + p)
def il (X Y : Nat → Int32) (a b c : Nat) : Bool := decide ((X b - X a) * (Y c - Y a) = (X c - X a) * (Y b - Y a))
def same (X Y : Nat → Int32) (a b : Nat) : Bool := decide (X a = X b) && decide (Y a = Y b)
theorem sub0 {a b : Int32} : a - b = 0 ↔ a = b := by
  constructor
  · intro h
    have : a - b + b = 0 + b := by rw [h]
    simpa using this
  · intro h; rw [h, Int32.sub_self]
theorem b2i_and1 (b : Bool) : b2i b &&& 1 = b2i b := by cases b <;> decide
theorem px_ckx {α : Type} {p : Nat} (hp : p < 8) (k : Option α) : ckI ((14 : Int32) + nI p) 154 k = k := by
  rw [show (14 : Int32) + nI p = nI (14 + p) from nI_add 14 p, ckI_n _ (by omega) (by decide)]
theorem px_cky {α : Type} {p : Nat} (hp : p < 8) (k : Option α) : ckI ((22 : Int32) + nI p) 154 k = k := by
  rw [show (22 : Int32) + nI p = nI (22 + p) from nI_add 22 p, ckI_n _ (by omega) (by decide)]
theorem px_vx {p : Nat} (hp : p < 8) : Int32.toNatClampNeg ((14 : Int32) + nI p) = 14 + p := by
  rw [show (14 : Int32) + nI p = nI (14 + p) from nI_add 14 p, pu_clamp (by omega)]
theorem px_vy {p : Nat} (hp : p < 8) : Int32.toNatClampNeg ((22 : Int32) + nI p) = 22 + p := by
  rw [show (22 : Int32) + nI p = nI (22 + p) from nI_add 22 p, pu_clamp (by omega)]
theorem px_inLine {N P a b c : Nat} {x y now : Nat → Int32} (hx : CX x y now P) (hP : P ≤ 8) (ha : a < P) (hb : b < P) (hc : c < P) : F_X3_areInLineAt N (nI a) (nI b) (nI c) now = some (b2i (il x y a b c)) := by
  have a8 : a < 8 := by omega
  have b8 : b < 8 := by omega
  have c8 : c < 8 := by omega
  rw [F_X3_areInLineAt]
  simp only [px_ckx a8, px_ckx b8, px_ckx c8, px_cky a8, px_cky b8, px_cky c8, px_vx a8, px_vx b8, px_vx c8, px_vy a8, px_vy b8, px_vy c8, ← (hx a ha).1, ← (hx a ha).2, ← (hx b hb).1, ← (hx b hb).2, ← (hx c hc).1, ← (hx c hc).2]
  have e : F_X3_areInLine N (x a) (y a) (x b) (y b) (x c) (y c) = some (b2i (il x y a b c)) := by
    rw [F_X3_areInLine]
    unfold il
    by_cases h : (x b - x a) * (y c - y a) = (x c - x a) * (y b - y a)
    · rw [if_pos h, decide_eq_true h]; rfl
    · rw [if_neg h, decide_eq_false h]; rfl
  rw [e, Option.bind_some, ckP_v _ (b2i_and1 _)]
theorem pc_inLine {N a b c : Nat} {x y : Nat → Int32} (ha : a < 8) (hb : b < 8) (hc : c < 8) : F_X1_isInLine N (nI a) (nI b) (nI c) x y = some (b2i (il x y a b c)) := by
  rw [F_X1_isInLine]
  simp only [ckI_n _ ha (by decide), ckI_n _ hb (by decide), ckI_n _ hc (by decide), pu_clamp (show a < 2 ^ 31 by omega), pu_clamp (show b < 2 ^ 31 by omega), pu_clamp (show c < 2 ^ 31 by omega)]
  rw [F_X1_span, Option.bind_some]
  unfold il
  by_cases h : (x b - x a) * (y c - y a) = (x c - x a) * (y b - y a)
  · rw [if_pos (sub0.mpr h), decide_eq_true h]; rfl
  · rw [if_neg (fun z => h (sub0.mp z)), decide_eq_false h]; rfl
theorem px_atOne {N P a b : Nat} {x y now : Nat → Int32} (hx : CX x y now P) (hP : P ≤ 8) (ha : a < P) (hb : b < P) : F_X3_areAtOne N (nI a) (nI b) now = some (b2i (same x y a b)) := by
  have a8 : a < 8 := by omega
  have b8 : b < 8 := by omega
  rw [F_X3_areAtOne]
  simp only [px_ckx a8, px_ckx b8, px_cky a8, px_cky b8, px_vx a8, px_vx b8, px_vy a8, px_vy b8, ← (hx a ha).1, ← (hx a ha).2, ← (hx b hb).1, ← (hx b hb).2]
  unfold same
  by_cases h1 : x a = x b
  · rw [if_pos h1, decide_eq_true h1]
    by_cases h2 : y a = y b
    · rw [if_pos h2, decide_eq_true h2]; rfl
    · rw [if_neg h2, decide_eq_false h2]; rfl
  · rw [if_neg h1, decide_eq_false h1]; rfl
theorem pc_atOne {N a b : Nat} {x y : Nat → Int32} (ha : a < 8) (hb : b < 8) : F_X1_areSame N (nI a) (nI b) x y = some (b2i (same x y a b)) := by
  rw [F_X1_areSame]
  simp only [ckI_n _ ha (by decide), ckI_n _ hb (by decide), pu_clamp (show a < 2 ^ 31 by omega), pu_clamp (show b < 2 ^ 31 by omega)]
  unfold same
  by_cases h1 : x a = x b
  · rw [if_pos h1, decide_eq_true h1]
    by_cases h2 : y a = y b
    · rw [if_pos h2, decide_eq_true h2]; rfl
    · rw [if_neg h2, decide_eq_false h2]; rfl
  · rw [if_neg h1, decide_eq_false h1]; rfl
theorem pu_bit2 {s a b : Nat} (hs : s < 256) (ha : a < 32) (hb : b < 32) : ((nI s >>> (nI a &&& 31)) &&& (nI s >>> (nI b &&& 31)) &&& (1 : Int32)) = nI (b2n (s.testBit a && s.testBit b)) := by
  rw [pu_shr (by omega) ha, pu_shr (by omega) hb, pu_and, show (1 : Int32) = nI 1 from rfl, pu_and]
  congr 1
  apply Nat.eq_of_testBit_eq
  intro i
  rw [Nat.testBit_and, Nat.testBit_and, Nat.testBit_div_two_pow, Nat.testBit_div_two_pow]
  cases i with
  | zero =>
    simp only [Nat.zero_add]
    cases s.testBit a <;> cases s.testBit b <;> rfl
  | succ i =>
    have h1 : Nat.testBit 1 (i + 1) = false := by simp [Nat.testBit_succ]
    have h2 : ∀ z : Bool, (b2n z).testBit (i + 1) = false := by intro z; cases z <;> simp [b2n, Nat.testBit_succ]
    rw [h1, h2, Bool.and_false]
/-- a line whose points don't lie in line -/
def slB (X Y : Nat → Int32) (s P : Nat) : Bool := anyB (fun a => anyB (fun b => s.testBit a && s.testBit b && (same X Y a b || anyB (fun c => s.testBit c && !il X Y a b c) b)) a) P
theorem px_slip {N P m l : Nat} {L : Nat → Nat} {x y now : Nat → Int32} (hw : WF P m L) (hm : MS now 0 P m L) (hx : CX x y now P) (hl : l < m) (hN : 12 < N) : F_X3_doesSlip N (nI l) now = some (b2i (slB x y (L l) P)) := by
  have hP := hw.2.1
  have hs := hw.lt hl
  rw [F_X3_doesSlip, px_at hw hm hl, Option.bind_some]
  generalize L l = s at hs
  have h56 : ∀ a b k, a < P → b < a → F_X3_doesSlip_56 N (nI s) (nI a) (nI b) now N 0 k = if anyB (fun c => s.testBit c && !il x y a b c) b = true then some 1 else k () := by
    intro a b k ha hb
    refine lp_any (fun n c => F_X3_doesSlip_56 N (nI s) (nI a) (nI b) now n (nI c) k) b (fun c => s.testBit c && !il x y a b c) (some 1) (k ()) ?_ ?_ N (by omega)
    · intro n c hc
      show F_X3_doesSlip_56 N (nI s) (nI a) (nI b) now (n + 1) (nI c) k = _
      rw [F_X3_doesSlip_56, if_neg (nI_ge hc (by omega)), px_inLine hx hP ha (by omega) (by omega), Option.bind_some, nI_1]
      cases hb1 : s.testBit c with
      | false => rw [if_neg (fun z => by rw [(pu_bit1 (by omega) (by omega)).mp z] at hb1; cases hb1)]; rfl
      | true =>
        rw [if_pos ((pu_bit1 (by omega) (by omega)).mpr hb1)]
        cases il x y a b c
        · rw [if_pos (show b2i false = 0 from rfl)]; rfl
        · rw [if_neg (by decide)]; rfl
    · intro n
      show F_X3_doesSlip_56 N (nI s) (nI a) (nI b) now (n + 1) (nI b) k = _
      rw [F_X3_doesSlip_56, if_pos (nI_le (Nat.le_refl _) (by omega))]
  have h19 : ∀ a k, a < P → F_X3_doesSlip_19 N (nI s) (nI a) now N 0 k = if anyB (fun b => s.testBit a && s.testBit b && (same x y a b || anyB (fun c => s.testBit c && !il x y a b c) b)) a = true then some 1 else k () := by
    intro a k ha
    refine lp_any (fun n b => F_X3_doesSlip_19 N (nI s) (nI a) now n (nI b) k) a (fun b => s.testBit a && s.testBit b && (same x y a b || anyB (fun c => s.testBit c && !il x y a b c) b)) (some 1) (k ()) ?_ ?_ N (by omega)
    · intro n b hb
      show F_X3_doesSlip_19 N (nI s) (nI a) now (n + 1) (nI b) k = _
      rw [F_X3_doesSlip_19, if_neg (nI_ge hb (by omega)), pu_bit2 hs (by omega) (by omega), px_atOne hx hP ha (by omega), Option.bind_some, nI_1, h56 a b _ ha hb]
      cases s.testBit a && s.testBit b with
      | false => rw [if_pos (show nI (b2n false) = 0 from rfl)]; rfl
      | true =>
        rw [if_neg (show ¬ nI (b2n true) = 0 from by decide)]
        cases same x y a b with
        | true => rw [if_neg (by decide)]; rfl
        | false => rw [if_pos (show b2i false = 0 from rfl)]; rfl
    · intro n
      show F_X3_doesSlip_19 N (nI s) (nI a) now (n + 1) (nI a) k = _
      rw [F_X3_doesSlip_19, if_pos (nI_le (Nat.le_refl _) (by omega))]
  refine (lp_any (fun n a => F_X3_doesSlip_8 N (nI s) now n (nI a)) P (fun a => anyB (fun b => s.testBit a && s.testBit b && (same x y a b || anyB (fun c => s.testBit c && !il x y a b c) b)) a) (some 1) (some 0) ?_ ?_ N (by omega)).trans ?_
  · intro n a ha
    show F_X3_doesSlip_8 N (nI s) now (n + 1) (nI a) = _
    rw [F_X3_doesSlip_8, px_points, hm.1, Option.bind_some, if_neg (nI_ge ha (by omega)), h19 a _ ha, nI_1]
  · intro n
    show F_X3_doesSlip_8 N (nI s) now (n + 1) (nI P) = _
    rw [F_X3_doesSlip_8, px_points, hm.1, Option.bind_some, if_pos (nI_le (Nat.le_refl _) (by omega))]
  · unfold slB
    cases anyB (fun a => anyB (fun b => s.testBit a && s.testBit b && (same x y a b || anyB (fun c => s.testBit c && !il x y a b c) b)) a) P <;> rfl
theorem pc_slip {N P m l : Nat} {L : Nat → Nat} {pts lns : Int32} {line x y : Nat → Int32} (hw : WF P m L) (hc : CS pts lns line P m L) (hl : l < m) (hN : 12 < N) : F_X1_slips N (nI l) line x y pts = some (b2i (slB x y (L l) P)) := by
  have hP := hw.2.1
  have hmm := hw.2.2.1
  have hs := hw.lt hl
  obtain ⟨rfl, -, hL⟩ := hc
  have hon : ∀ p, p < 8 → F_X2_isOn N (nI p) (nI l) line = some (if (L l).testBit p then 1 else 0) := fun p hp => pc_isOn (by omega) (hL l hl) (by omega) hp
  rw [F_X1_slips]
  generalize L l = s at hs hon
  have h61 : ∀ a b k, a < P → b < a → F_X1_slips_61 N (nI l) (nI a) (nI b) line x y N 0 k = if anyB (fun c => s.testBit c && !il x y a b c) b = true then some 1 else k () := by
    intro a b k ha hb
    refine lp_any (fun n c => F_X1_slips_61 N (nI l) (nI a) (nI b) line x y n (nI c) k) b (fun c => s.testBit c && !il x y a b c) (some 1) (k ()) ?_ ?_ N (by omega)
    · intro n c hc
      show F_X1_slips_61 N (nI l) (nI a) (nI b) line x y (n + 1) (nI c) k = _
      rw [F_X1_slips_61, if_neg (nI_ge hc (by omega)), hon c (by omega), Option.bind_some, pc_inLine (by omega) (by omega) (by omega), Option.bind_some, nI_1]
      cases s.testBit c with
      | false => rw [if_pos (show (if false = true then (1 : Int32) else 0) = 0 from rfl)]; rfl
      | true =>
        rw [if_pos rfl, if_neg (by decide)]
        cases il x y a b c
        · rw [if_pos (show b2i false = 0 from rfl)]; rfl
        · rw [if_neg (by decide)]; rfl
    · intro n
      show F_X1_slips_61 N (nI l) (nI a) (nI b) line x y (n + 1) (nI b) k = _
      rw [F_X1_slips_61, if_pos (nI_le (Nat.le_refl _) (by omega))]
  have h15 : ∀ a k, a < P → F_X1_slips_15 N (nI l) (nI a) line x y N 0 k = if anyB (fun b => s.testBit a && s.testBit b && (same x y a b || anyB (fun c => s.testBit c && !il x y a b c) b)) a = true then some 1 else k () := by
    intro a k ha
    refine lp_any (fun n b => F_X1_slips_15 N (nI l) (nI a) line x y n (nI b) k) a (fun b => s.testBit a && s.testBit b && (same x y a b || anyB (fun c => s.testBit c && !il x y a b c) b)) (some 1) (k ()) ?_ ?_ N (by omega)
    · intro n b hb
      show F_X1_slips_15 N (nI l) (nI a) line x y (n + 1) (nI b) k = _
      rw [F_X1_slips_15, if_neg (nI_ge hb (by omega)), hon a (by omega), hon b (by omega), Option.bind_some, Option.bind_some, pc_atOne (by omega) (by omega), Option.bind_some, nI_1, h61 a b _ ha hb]
      cases s.testBit a with
      | false => rw [if_pos (show (if false = true then (1 : Int32) else 0) = 0 from rfl)]; rfl
      | true =>
        rw [if_pos rfl, if_neg (by decide)]
        cases s.testBit b with
        | false => rw [if_pos (show (if false = true then (1 : Int32) else 0) = 0 from rfl)]; rfl
        | true =>
          rw [if_pos rfl, if_neg (by decide)]
          cases same x y a b with
          | true => rw [if_neg (by decide)]; rfl
          | false => rw [if_pos (show b2i false = 0 from rfl)]; rfl
    · intro n
      show F_X1_slips_15 N (nI l) (nI a) line x y (n + 1) (nI a) k = _
      rw [F_X1_slips_15, if_pos (nI_le (Nat.le_refl _) (by omega))]
  refine (lp_any (fun n a => F_X1_slips_2 N (nI l) line x y (nI P) n (nI a)) P (fun a => anyB (fun b => s.testBit a && s.testBit b && (same x y a b || anyB (fun c => s.testBit c && !il x y a b c) b)) a) (some 1) (some 0) ?_ ?_ N (by omega)).trans ?_
  · intro n a ha
    show F_X1_slips_2 N (nI l) line x y (nI P) (n + 1) (nI a) = _
    rw [F_X1_slips_2, if_neg (nI_ge ha (by omega)), h15 a _ ha, nI_1]
  · intro n
    show F_X1_slips_2 N (nI l) line x y (nI P) (n + 1) (nI P) = _
    rw [F_X1_slips_2, if_pos (nI_le (Nat.le_refl _) (by omega))]
  · unfold slB
    cases anyB (fun a => anyB (fun b => s.testBit a && s.testBit b && (same x y a b || anyB (fun c => s.testBit c && !il x y a b c) b)) a) P <;> rfl
