set_option maxRecDepth 100000
set_option linter.unusedVariables false
def F_X2_isPoint (N : Nat) (v1 : Int32) (c_points : Int32) : Option (Int32) := (if v1 < 0 then (some (0)) else (if c_points ≤ v1 then (some (0)) else (some (1))))
theorem cw_X2_isPoint {R : Room} {s : State} {args : Array Value} {own : String} {index lev mc ms : Nat} (hts : ∀ w ∈ lw_all, w.before args s = true) (hl : Cond.methodLink own index yX2_isPoint ∈ lw_all) (hR : (rmL lev mc ms).frames + 1 ≤ R.frames ∧ 8 + (2 + 11) + (rmL lev mc ms).locals ≤ R.locals) : CallW R s args own RX2 index yX2_isPoint cX2_isPoint 2 (some .boolean) (ws_ yX2_isPoint cX2_isPoint 2 (some .boolean)) (rmL lev mc ms) mc ms 1 := cwV 1 hts (lw_V hl q813 q814 q155 q815) rfl rfl rfl (by decide +kernel) hR
set_option maxHeartbeats 4000000 in
theorem M_X2_isPoint {l : Launch} {G : GE} (hG : GC G) {N : Nat} {h0 : Nat} {ad : Nat → Nat} {c_lines : Int32} {c_line : (Nat → Int32)} {c_x : (Nat → Int32)} {c_y : (Nat → Int32)} {v1 : Int32} {c_points : Int32} {ρ : (Int32)} (h : F_X2_isPoint N v1 c_points = some ρ) : MR l G yX2_isPoint cX2_isPoint 2 (some .boolean) 1 (sW h0 ad G.2.2 c_points c_lines c_line c_x c_y) [.ref h0, .int v1] ρ := by
  rw [F_X2_isPoint] at h
  refine MR.start (rt := .boolean) hG (by decide) (Nat.le_of_ble_eq_true rfl) ?_
  intro p e s m args below meth c Q S hW0 hK hP hret ls hl
  obtain ⟨hx, hb, hml, hown, hts⟩ := id S
  have hl : lv_has ls 2 [(0, .ref h0), (1, .int v1)] := hl
  refine lv_iload_n hx hb dX2_isPoint_0 rfl (lv_at hl 1 rfl) ?_
  refine lv_if_lt (tgt := 16) hx hb dX2_isPoint_1 (by decide) (fun c1 => ?_) (fun c1 => ?_)
  · rw [if_pos c1] at h
    refine lv_iconst (v := 0) hx hb dX2_isPoint_16 (by decide) ?_
    obtain rfl := Option.some.inj h
    exact hret dX2_isPoint_17 rfl
  · rw [if_neg c1] at h
    refine lv_iload_n hx hb dX2_isPoint_4 rfl (lv_at hl 1 rfl) ?_
    refine lv_aload_n hx hb dX2_isPoint_5 rfl (lv_at hl 0 rfl) ?_
    refine va_get (ci := 1) (v := .int c_points) (C := RX2) (T := TX2) (N := 5) hx hb hts in_X2 hown hK hP 0 rfl rfl 0 (by decide) (hts _ q225) (fun _ h9 => h9) rfl dX2_isPoint_6 ?_
    refine lv_icmp_ge (tgt := 16) hx hb dX2_isPoint_9 (by decide) (fun c3 => ?_) (fun c3 => ?_)
    · rw [if_pos c3] at h
      refine lv_iconst (v := 0) hx hb dX2_isPoint_16 (by decide) ?_
      obtain rfl := Option.some.inj h
      exact hret dX2_isPoint_17 rfl
    · rw [if_neg c3] at h
      refine lv_iconst (v := 1) hx hb dX2_isPoint_12 (by decide) ?_
      refine lv_goto (tgt := 17) hx hb dX2_isPoint_13 (by decide) ?_
      obtain rfl := Option.some.inj h
      exact hret dX2_isPoint_17 rfl
def F_X2_isOn (N : Nat) (v1 : Int32) (v2 : Int32) (c_line : (Nat → Int32)) : Option (Int32) := (ckI v2 12 (if (((c_line (Int32.toNatClampNeg v2)) >>> (v1 &&& 31)) &&& (1 : Int32)) = 1 then (some (1)) else (some (0))))
theorem cw_X2_isOn {R : Room} {s : State} {args : Array Value} {own : String} {index lev mc ms : Nat} (hts : ∀ w ∈ lw_all, w.before args s = true) (hl : Cond.methodLink own index yX2_isOn ∈ lw_all) (hR : (rmL lev mc ms).frames + 1 ≤ R.frames ∧ 8 + (3 + 11) + (rmL lev mc ms).locals ≤ R.locals) : CallW R s args own RX2 index yX2_isOn cX2_isOn 3 (some .boolean) (ws_ yX2_isOn cX2_isOn 3 (some .boolean)) (rmL lev mc ms) mc ms 2 := cwV 2 hts (lw_V hl q856 q857 q155 q858) rfl rfl rfl (by decide +kernel) hR
set_option maxHeartbeats 4000000 in
theorem M_X2_isOn {l : Launch} {G : GE} (hG : GC G) {N : Nat} {h0 : Nat} {ad : Nat → Nat} {c_points : Int32} {c_lines : Int32} {c_x : (Nat → Int32)} {c_y : (Nat → Int32)} {v1 : Int32} {v2 : Int32} {c_line : (Nat → Int32)} {ρ : (Int32)} (h : F_X2_isOn N v1 v2 c_line = some ρ) : MR l G yX2_isOn cX2_isOn 3 (some .boolean) 1 (sW h0 ad G.2.2 c_points c_lines c_line c_x c_y) [.ref h0, .int v1, .int v2] ρ := by
  rw [F_X2_isOn] at h
  refine MR.start (rt := .boolean) hG (by decide) (Nat.le_of_ble_eq_true rfl) ?_
  intro p e s m args below meth c Q S hW0 hK hP hret ls hl
  obtain ⟨hx, hb, hml, hown, hts⟩ := id S
  have hl : lv_has ls 3 [(0, .ref h0), (1, .int v1), (2, .int v2)] := hl
  refine lv_aload_n hx hb dX2_isOn_0 rfl (lv_at hl 0 rfl) ?_
  refine va_get (ci := 1) (v := .ref (ad 2)) (C := RX2) (T := TX2) (N := 5) hx hb hts in_X2 hown hK hP 0 rfl rfl 2 (by decide) (hts _ q232) (fun _ h9 => h9) rfl dX2_isOn_1 ?_
  refine lv_iload_n hx hb dX2_isOn_4 rfl (lv_at hl 2 rfl) ?_
  obtain ⟨i1, h⟩ := ckI_s h
  refine va_iald (f := c_line) hx hb hK hP 1 0 rfl rfl i1 dX2_isOn_5 ?_
  refine lv_iload_n hx hb dX2_isOn_6 rfl (lv_at hl 1 rfl) ?_
  refine lv_ishr hx hb dX2_isOn_7 ?_
  refine lv_iconst (v := 1) hx hb dX2_isOn_8 (by decide) ?_
  refine lv_iand hx hb dX2_isOn_9 ?_
  refine lv_iconst (v := 1) hx hb dX2_isOn_10 (by decide) ?_
  refine lv_icmp_ne (tgt := 18) hx hb dX2_isOn_11 (by decide) (fun c2 => ?_) (fun c2 => ?_)
  · rw [if_neg c2] at h
    refine lv_iconst (v := 0) hx hb dX2_isOn_18 (by decide) ?_
    obtain rfl := Option.some.inj h
    exact hret dX2_isOn_19 rfl
  · rw [if_pos c2] at h
    refine lv_iconst (v := 1) hx hb dX2_isOn_14 (by decide) ?_
    refine lv_goto (tgt := 19) hx hb dX2_isOn_15 (by decide) ?_
    obtain rfl := Option.some.inj h
    exact hret dX2_isOn_19 rfl
def F_X2_through_4 (N : Nat) (v1 : Int32) (c_line : (Nat → Int32)) (c_lines : Int32) : Nat → Int32 → Int32 → Option (Int32)
  | 0, _, _ => none
  | n + 1, v2, v3 => (if c_lines ≤ v3 then (some (v2)) else ((F_X2_isOn N v1 v3 c_line).bind fun y3 => (if y3 = 0 then (F_X2_through_4 N v1 c_line c_lines n v2 (v3 + 1)) else (F_X2_through_4 N v1 c_line c_lines n (v2 ||| ((1 : Int32) <<< (v3 &&& 31))) (v3 + 1)))))
def F_X2_through (N : Nat) (v1 : Int32) (c_line : (Nat → Int32)) (c_lines : Int32) : Option (Int32) := (F_X2_through_4 N v1 c_line c_lines N 0 0)
theorem cw_X2_through {R : Room} {s : State} {args : Array Value} {own : String} {index lev mc ms : Nat} (hts : ∀ w ∈ lw_all, w.before args s = true) (hl : Cond.methodLink own index yX2_through ∈ lw_all) (hR : (rmL lev mc ms).frames + 1 ≤ R.frames ∧ 8 + (4 + 11) + (rmL lev mc ms).locals ≤ R.locals) : CallW R s args own RX2 index yX2_through cX2_through 4 (some .int) (ws_ yX2_through cX2_through 4 (some .int)) (rmL lev mc ms) mc ms 1 := cwV 1 hts (lw_V hl q852 q853 q155 q854) rfl rfl rfl (by decide +kernel) hR
set_option maxHeartbeats 4000000 in
theorem M_X2_through {l : Launch} {G : GE} (hG : GC G) {N : Nat} {h0 : Nat} {ad : Nat → Nat} {c_points : Int32} {c_x : (Nat → Int32)} {c_y : (Nat → Int32)} {v1 : Int32} {c_line : (Nat → Int32)} {c_lines : Int32} {ρ : (Int32)} (h : F_X2_through N v1 c_line c_lines = some ρ) : MR l G yX2_through cX2_through 4 (some .int) 2 (sW h0 ad G.2.2 c_points c_lines c_line c_x c_y) [.ref h0, .int v1] ρ := by
  rw [F_X2_through] at h
  refine MR.start (rt := .int) hG (by decide) (Nat.le_of_ble_eq_true rfl) ?_
  intro p e s m args below meth c Q S hW0 hK hP hret ls hl
  obtain ⟨hx, hb, hml, hown, hts⟩ := id S
  have hl : lv_has ls 4 [(0, .ref h0), (1, .int v1)] := hl
  have S_X2_through_4 : ∀ (n : Nat) (v1 : Int32) (v2 : Int32) (v3 : Int32), F_X2_through_4 N v1 c_line c_lines n v2 v3 = some ρ → ∀ (ls : Array Slot), lv_has ls 4 [(0, .ref h0), (1, .int v1), (2, .int v2), (3, .int v3)] → W p l e (rmL 2 0 0) s m args below meth c s.heap [] 0 0 Q (F0 m 4 ls []) := by
    intro n
    induction n with
    | zero =>
      intro v1 v2 v3 h
      exact absurd h (by simp [F_X2_through_4])
    | succ n ih =>
      intro v1 v2 v3 h ls hl
      rw [F_X2_through_4] at h
      refine lv_iload_n hx hb dX2_through_4 rfl (lv_at hl 3 rfl) ?_
      refine lv_aload_n hx hb dX2_through_5 rfl (lv_at hl 0 rfl) ?_
      refine va_get (ci := 1) (v := .int c_lines) (C := RX2) (T := TX2) (N := 5) hx hb hts in_X2 hown hK hP 0 rfl rfl 1 (by decide) (hts _ q229) (fun _ h9 => h9) rfl dX2_through_6 ?_
      refine lv_icmp_ge (tgt := 33) hx hb dX2_through_9 (by decide) (fun c1 => ?_) (fun c1 => ?_)
      · rw [if_pos c1] at h
        refine lv_iload_n hx hb dX2_through_33 rfl (lv_at hl 2 rfl) ?_
        obtain rfl := Option.some.inj h
        exact hret dX2_through_34 rfl
      · rw [if_neg c1] at h
        refine lv_aload_n hx hb dX2_through_12 rfl (lv_at hl 0 rfl) ?_
        refine lv_iload_n hx hb dX2_through_13 rfl (lv_at hl 1 rfl) ?_
        refine lv_iload_n hx hb dX2_through_14 rfl (lv_at hl 3 rfl) ?_
        obtain ⟨y3, e3, h⟩ := ob_s h
        refine MR.callV (q0 := 0) (M_X2_isOn hG e3) S (cw_X2_isOn hts q855 ⟨Nat.le_of_ble_eq_true rfl, Nat.le_of_ble_eq_true rfl⟩) hW0 hK hP rfl rfl rfl hl.1 rfl (Nat.le_of_ble_eq_true rfl) dX2_through_15 ⟨Nat.zero_le _, Nat.zero_le _⟩ ?_
        refine lv_if_eq (tgt := 27) hx hb dX2_through_18 (by decide) (fun c4 => ?_) (fun c4 => ?_)
        · rw [if_pos c4] at h
          refine lv_iinc (v := (v3 + 1)) (lv' := [(3, .int (v3 + 1)), (0, .ref h0), (1, .int v1), (2, .int v2)]) hx hb dX2_through_27 hl (k := 3) rfl rfl (by decide) rfl (fun ls hl => ?_)
          refine lv_goto (tgt := 4) hx hb dX2_through_30 (by decide) ?_
          exact ih v1 v2 (v3 + 1) h _ (lv_sub hl [1, 2, 3, 0] rfl)
        · rw [if_neg c4] at h
          refine lv_iload_n hx hb dX2_through_21 rfl (lv_at hl 2 rfl) ?_
          refine lv_iconst (v := 1) hx hb dX2_through_22 (by decide) ?_
          refine lv_iload_n hx hb dX2_through_23 rfl (lv_at hl 3 rfl) ?_
          refine lv_ishl hx hb dX2_through_24 ?_
          refine lv_ior hx hb dX2_through_25 ?_
          refine lv_istore_n (lv' := [(2, .int (v2 ||| ((1 : Int32) <<< (v3 &&& 31)))), (0, .ref h0), (1, .int v1), (3, .int v3)]) hx hb dX2_through_26 rfl hl (by decide) rfl (fun ls hl => ?_)
          refine lv_iinc (v := (v3 + 1)) (lv' := [(3, .int (v3 + 1)), (2, .int (v2 ||| ((1 : Int32) <<< (v3 &&& 31)))), (0, .ref h0), (1, .int v1)]) hx hb dX2_through_27 hl (k := 3) rfl rfl (by decide) rfl (fun ls hl => ?_)
          refine lv_goto (tgt := 4) hx hb dX2_through_30 (by decide) ?_
          exact ih v1 (v2 ||| ((1 : Int32) <<< (v3 &&& 31))) (v3 + 1) h _ (lv_sub hl [2, 3, 1, 0] rfl)
  refine lv_iconst (v := 0) hx hb dX2_through_0 (by decide) ?_
  refine lv_istore_n (lv' := [(2, .int 0), (0, .ref h0), (1, .int v1)]) hx hb dX2_through_1 rfl hl (by decide) rfl (fun ls hl => ?_)
  refine lv_iconst (v := 0) hx hb dX2_through_2 (by decide) ?_
  refine lv_istore_n (lv' := [(3, .int 0), (2, .int 0), (0, .ref h0), (1, .int v1)]) hx hb dX2_through_3 rfl hl (by decide) rfl (fun ls hl => ?_)
  refine S_X2_through_4 N v1 0 0 h  _ (lv_sub hl [2, 3, 1, 0] rfl)
def F_X2_lineOf_2 (N : Nat) (v1 : Int32) (c_line : (Nat → Int32)) (c_lines : Int32) : Nat → Int32 → Option (Int32)
  | 0, _ => none
  | n + 1, v2 => (if c_lines ≤ v2 then (some ((-1))) else (ckI v2 12 (if ((c_line (Int32.toNatClampNeg v2)) &&& v1) = v1 then (some (v2)) else (F_X2_lineOf_2 N v1 c_line c_lines n (v2 + 1)))))
def F_X2_lineOf (N : Nat) (v1 : Int32) (c_line : (Nat → Int32)) (c_lines : Int32) : Option (Int32) := (F_X2_lineOf_2 N v1 c_line c_lines N 0)
theorem cw_X2_lineOf {R : Room} {s : State} {args : Array Value} {own : String} {index lev mc ms : Nat} (hts : ∀ w ∈ lw_all, w.before args s = true) (hl : Cond.methodLink own index yX2_lineOf ∈ lw_all) (hR : (rmL lev mc ms).frames + 1 ≤ R.frames ∧ 8 + (3 + 11) + (rmL lev mc ms).locals ≤ R.locals) : CallW R s args own RX2 index yX2_lineOf cX2_lineOf 3 (some .int) (ws_ yX2_lineOf cX2_lineOf 3 (some .int)) (rmL lev mc ms) mc ms 1 := cwV 1 hts (lw_V hl q1219 q1220 q155 q1221) rfl rfl rfl (by decide +kernel) hR
set_option maxHeartbeats 4000000 in
theorem M_X2_lineOf {l : Launch} {G : GE} (hG : GC G) {N : Nat} {h0 : Nat} {ad : Nat → Nat} {c_points : Int32} {c_x : (Nat → Int32)} {c_y : (Nat → Int32)} {v1 : Int32} {c_line : (Nat → Int32)} {c_lines : Int32} {ρ : (Int32)} (h : F_X2_lineOf N v1 c_line c_lines = some ρ) : MR l G yX2_lineOf cX2_lineOf 3 (some .int) 1 (sW h0 ad G.2.2 c_points c_lines c_line c_x c_y) [.ref h0, .int v1] ρ := by
  rw [F_X2_lineOf] at h
  refine MR.start (rt := .int) hG (by decide) (Nat.le_of_ble_eq_true rfl) ?_
  intro p e s m args below meth c Q S hW0 hK hP hret ls hl
  obtain ⟨hx, hb, hml, hown, hts⟩ := id S
  have hl : lv_has ls 3 [(0, .ref h0), (1, .int v1)] := hl
  have S_X2_lineOf_2 : ∀ (n : Nat) (v1 : Int32) (v2 : Int32), F_X2_lineOf_2 N v1 c_line c_lines n v2 = some ρ → ∀ (ls : Array Slot), lv_has ls 3 [(0, .ref h0), (1, .int v1), (2, .int v2)] → W p l e (rmL 1 0 0) s m args below meth c s.heap [] 0 0 Q (F0 m 2 ls []) := by
    intro n
    induction n with
    | zero =>
      intro v1 v2 h
      exact absurd h (by simp [F_X2_lineOf_2])
    | succ n ih =>
      intro v1 v2 h ls hl
      rw [F_X2_lineOf_2] at h
      refine lv_iload_n hx hb dX2_lineOf_2 rfl (lv_at hl 2 rfl) ?_
      refine lv_aload_n hx hb dX2_lineOf_3 rfl (lv_at hl 0 rfl) ?_
      refine va_get (ci := 1) (v := .int c_lines) (C := RX2) (T := TX2) (N := 5) hx hb hts in_X2 hown hK hP 0 rfl rfl 1 (by decide) (hts _ q229) (fun _ h9 => h9) rfl dX2_lineOf_4 ?_
      refine lv_icmp_ge (tgt := 30) hx hb dX2_lineOf_7 (by decide) (fun c1 => ?_) (fun c1 => ?_)
      · rw [if_pos c1] at h
        refine lv_iconst (v := (-1)) hx hb dX2_lineOf_30 (by decide) ?_
        obtain rfl := Option.some.inj h
        exact hret dX2_lineOf_31 rfl
      · rw [if_neg c1] at h
        refine lv_aload_n hx hb dX2_lineOf_10 rfl (lv_at hl 0 rfl) ?_
        refine va_get (ci := 1) (v := .ref (ad 2)) (C := RX2) (T := TX2) (N := 5) hx hb hts in_X2 hown hK hP 0 rfl rfl 2 (by decide) (hts _ q232) (fun _ h9 => h9) rfl dX2_lineOf_11 ?_
        refine lv_iload_n hx hb dX2_lineOf_14 rfl (lv_at hl 2 rfl) ?_
        obtain ⟨i3, h⟩ := ckI_s h
        refine va_iald (f := c_line) hx hb hK hP 1 0 rfl rfl i3 dX2_lineOf_15 ?_
        refine lv_iload_n hx hb dX2_lineOf_16 rfl (lv_at hl 1 rfl) ?_
        refine lv_iand hx hb dX2_lineOf_17 ?_
        refine lv_iload_n hx hb dX2_lineOf_18 rfl (lv_at hl 1 rfl) ?_
        refine lv_icmp_ne (tgt := 24) hx hb dX2_lineOf_19 (by decide) (fun c4 => ?_) (fun c4 => ?_)
        · rw [if_neg c4] at h
          refine lv_iinc (v := (v2 + 1)) (lv' := [(2, .int (v2 + 1)), (0, .ref h0), (1, .int v1)]) hx hb dX2_lineOf_24 hl (k := 2) rfl rfl (by decide) rfl (fun ls hl => ?_)
          refine lv_goto (tgt := 2) hx hb dX2_lineOf_27 (by decide) ?_
          exact ih v1 (v2 + 1) h _ (lv_sub hl [1, 2, 0] rfl)
        · rw [if_pos c4] at h
          refine lv_iload_n hx hb dX2_lineOf_22 rfl (lv_at hl 2 rfl) ?_
          obtain rfl := Option.some.inj h
          exact hret dX2_lineOf_23 rfl
  refine lv_iconst (v := 0) hx hb dX2_lineOf_0 (by decide) ?_
  refine lv_istore_n (lv' := [(2, .int 0), (0, .ref h0), (1, .int v1)]) hx hb dX2_lineOf_1 rfl hl (by decide) rfl (fun ls hl => ?_)
  refine S_X2_lineOf_2 N v1 0 h  _ (lv_sub hl [1, 2, 0] rfl)
def F_X2_isFree_2 (N : Nat) (v1 : Int32) (c_line : (Nat → Int32)) (c_lines : Int32) : Nat → Int32 → Option (Int32)
  | 0, _ => none
  | n + 1, v2 => (if c_lines ≤ v2 then (some (1)) else (ckI v2 12 ((F_J16_bitCount N ((c_line (Int32.toNatClampNeg v2)) &&& v1)).bind fun y4 => (if y4 ≤ 1 then (F_X2_isFree_2 N v1 c_line c_lines n (v2 + 1)) else (some (0))))))
def F_X2_isFree (N : Nat) (v1 : Int32) (c_line : (Nat → Int32)) (c_lines : Int32) : Option (Int32) := (F_X2_isFree_2 N v1 c_line c_lines N 0)
theorem cw_X2_isFree {R : Room} {s : State} {args : Array Value} {own : String} {index lev mc ms : Nat} (hts : ∀ w ∈ lw_all, w.before args s = true) (hl : Cond.methodLink own index yX2_isFree ∈ lw_all) (hR : (rmL lev mc ms).frames + 1 ≤ R.frames ∧ 8 + (3 + 11) + (rmL lev mc ms).locals ≤ R.locals) : CallW R s args own RX2 index yX2_isFree cX2_isFree 3 (some .boolean) (ws_ yX2_isFree cX2_isFree 3 (some .boolean)) (rmL lev mc ms) mc ms 1 := cwV 1 hts (lw_V hl q689 q690 q155 q691) rfl rfl rfl (by decide +kernel) hR
set_option maxHeartbeats 4000000 in
theorem M_X2_isFree {l : Launch} {G : GE} (hG : GC G) {N : Nat} {h0 : Nat} {ad : Nat → Nat} {c_points : Int32} {c_x : (Nat → Int32)} {c_y : (Nat → Int32)} {v1 : Int32} {c_line : (Nat → Int32)} {c_lines : Int32} {ρ : (Int32)} (h : F_X2_isFree N v1 c_line c_lines = some ρ) : MR l G yX2_isFree cX2_isFree 3 (some .boolean) 2 (sW h0 ad G.2.2 c_points c_lines c_line c_x c_y) [.ref h0, .int v1] ρ := by
  rw [F_X2_isFree] at h
  refine MR.start (rt := .boolean) hG (by decide) (Nat.le_of_ble_eq_true rfl) ?_
  intro p e s m args below meth c Q S hW0 hK hP hret ls hl
  obtain ⟨hx, hb, hml, hown, hts⟩ := id S
  have hl : lv_has ls 3 [(0, .ref h0), (1, .int v1)] := hl
  have S_X2_isFree_2 : ∀ (n : Nat) (v1 : Int32) (v2 : Int32), F_X2_isFree_2 N v1 c_line c_lines n v2 = some ρ → ∀ (ls : Array Slot), lv_has ls 3 [(0, .ref h0), (1, .int v1), (2, .int v2)] → W p l e (rmL 2 0 0) s m args below meth c s.heap [] 0 0 Q (F0 m 2 ls []) := by
    intro n
    induction n with
    | zero =>
      intro v1 v2 h
      exact absurd h (by simp [F_X2_isFree_2])
    | succ n ih =>
      intro v1 v2 h ls hl
      rw [F_X2_isFree_2] at h
      refine lv_iload_n hx hb dX2_isFree_2 rfl (lv_at hl 2 rfl) ?_
      refine lv_aload_n hx hb dX2_isFree_3 rfl (lv_at hl 0 rfl) ?_
      refine va_get (ci := 1) (v := .int c_lines) (C := RX2) (T := TX2) (N := 5) hx hb hts in_X2 hown hK hP 0 rfl rfl 1 (by decide) (hts _ q229) (fun _ h9 => h9) rfl dX2_isFree_4 ?_
      refine lv_icmp_ge (tgt := 33) hx hb dX2_isFree_7 (by decide) (fun c1 => ?_) (fun c1 => ?_)
      · rw [if_pos c1] at h
        refine lv_iconst (v := 1) hx hb dX2_isFree_33 (by decide) ?_
        obtain rfl := Option.some.inj h
        exact hret dX2_isFree_34 rfl
      · rw [if_neg c1] at h
        refine lv_aload_n hx hb dX2_isFree_10 rfl (lv_at hl 0 rfl) ?_
        refine va_get (ci := 1) (v := .ref (ad 2)) (C := RX2) (T := TX2) (N := 5) hx hb hts in_X2 hown hK hP 0 rfl rfl 2 (by decide) (hts _ q232) (fun _ h9 => h9) rfl dX2_isFree_11 ?_
        refine lv_iload_n hx hb dX2_isFree_14 rfl (lv_at hl 2 rfl) ?_
        obtain ⟨i3, h⟩ := ckI_s h
        refine va_iald (f := c_line) hx hb hK hP 1 0 rfl rfl i3 dX2_isFree_15 ?_
        refine lv_iload_n hx hb dX2_isFree_16 rfl (lv_at hl 1 rfl) ?_
        refine lv_iand hx hb dX2_isFree_17 ?_
        obtain ⟨y4, e4, h⟩ := ob_s h
        refine MR.callS (M_J16_bitCount hG e4) S (cw_J16_bitCount hts q682 ⟨Nat.le_of_ble_eq_true rfl, Nat.le_of_ble_eq_true rfl⟩) hW0 vaP0 rfl hl.1 rfl (Nat.le_of_ble_eq_true rfl) dX2_isFree_18 ⟨Nat.zero_le _, Nat.zero_le _⟩ ?_
        refine lv_iconst (v := 1) hx hb dX2_isFree_21 (by decide) ?_
        refine lv_icmp_le (tgt := 27) hx hb dX2_isFree_22 (by decide) (fun c5 => ?_) (fun c5 => ?_)
        · rw [if_pos c5] at h
          refine lv_iinc (v := (v2 + 1)) (lv' := [(2, .int (v2 + 1)), (0, .ref h0), (1, .int v1)]) hx hb dX2_isFree_27 hl (k := 2) rfl rfl (by decide) rfl (fun ls hl => ?_)
          refine lv_goto (tgt := 2) hx hb dX2_isFree_30 (by decide) ?_
          exact ih v1 (v2 + 1) h _ (lv_sub hl [1, 2, 0] rfl)
        · rw [if_neg c5] at h
          refine lv_iconst (v := 0) hx hb dX2_isFree_25 (by decide) ?_
          obtain rfl := Option.some.inj h
          exact hret dX2_isFree_26 rfl
  refine lv_iconst (v := 0) hx hb dX2_isFree_0 (by decide) ?_
  refine lv_istore_n (lv' := [(2, .int 0), (0, .ref h0), (1, .int v1)]) hx hb dX2_isFree_1 rfl hl (by decide) rfl (fun ls hl => ?_)
  refine S_X2_isFree_2 N v1 0 h  _ (lv_sub hl [1, 2, 0] rfl)
def F_X2_canAdd (N : Nat) (v1 : Int32) (c_line : (Nat → Int32)) (c_points : Int32) (c_lines : Int32) : Option (Int32) := (if v1 < 0 then (some (0)) else (if ((1 : Int32) <<< (c_points &&& 31)) ≤ v1 then (some (0)) else ((F_J16_bitCount N v1).bind fun y5 => (if y5 < 2 then (some (0)) else ((F_J16_bitCount N v1).bind fun y8 => (if 4 < y8 then (some (0)) else (if 12 ≤ c_lines then (some (0)) else ((F_X2_isFree N v1 c_line c_lines).bind fun y13 => (if y13 = 0 then (some (0)) else (some (1)))))))))))
theorem cw_X2_canAdd {R : Room} {s : State} {args : Array Value} {own : String} {index lev mc ms : Nat} (hts : ∀ w ∈ lw_all, w.before args s = true) (hl : Cond.methodLink own index yX2_canAdd ∈ lw_all) (hR : (rmL lev mc ms).frames + 1 ≤ R.frames ∧ 8 + (2 + 11) + (rmL lev mc ms).locals ≤ R.locals) : CallW R s args own RX2 index yX2_canAdd cX2_canAdd 2 (some .boolean) (ws_ yX2_canAdd cX2_canAdd 2 (some .boolean)) (rmL lev mc ms) mc ms 1 := cwV 1 hts (lw_V hl q679 q680 q155 q681) rfl rfl rfl (by decide +kernel) hR
set_option maxHeartbeats 4000000 in
theorem M_X2_canAdd {l : Launch} {G : GE} (hG : GC G) {N : Nat} {h0 : Nat} {ad : Nat → Nat} {c_x : (Nat → Int32)} {c_y : (Nat → Int32)} {v1 : Int32} {c_line : (Nat → Int32)} {c_points : Int32} {c_lines : Int32} {ρ : (Int32)} (h : F_X2_canAdd N v1 c_line c_points c_lines = some ρ) : MR l G yX2_canAdd cX2_canAdd 2 (some .boolean) 3 (sW h0 ad G.2.2 c_points c_lines c_line c_x c_y) [.ref h0, .int v1] ρ := by
  rw [F_X2_canAdd] at h
  refine MR.start (rt := .boolean) hG (by decide) (Nat.le_of_ble_eq_true rfl) ?_
  intro p e s m args below meth c Q S hW0 hK hP hret ls hl
  obtain ⟨hx, hb, hml, hown, hts⟩ := id S
  have hl : lv_has ls 2 [(0, .ref h0), (1, .int v1)] := hl
  refine lv_iload_n hx hb dX2_canAdd_0 rfl (lv_at hl 1 rfl) ?_
  refine lv_if_lt (tgt := 51) hx hb dX2_canAdd_1 (by decide) (fun c1 => ?_) (fun c1 => ?_)
  · rw [if_pos c1] at h
    refine lv_iconst (v := 0) hx hb dX2_canAdd_51 (by decide) ?_
    obtain rfl := Option.some.inj h
    exact hret dX2_canAdd_52 rfl
  · rw [if_neg c1] at h
    refine lv_iload_n hx hb dX2_canAdd_4 rfl (lv_at hl 1 rfl) ?_
    refine lv_iconst (v := 1) hx hb dX2_canAdd_5 (by decide) ?_
    refine lv_aload_n hx hb dX2_canAdd_6 rfl (lv_at hl 0 rfl) ?_
    refine va_get (ci := 1) (v := .int c_points) (C := RX2) (T := TX2) (N := 5) hx hb hts in_X2 hown hK hP 0 rfl rfl 0 (by decide) (hts _ q225) (fun _ h9 => h9) rfl dX2_canAdd_7 ?_
    refine lv_ishl hx hb dX2_canAdd_10 ?_
    refine lv_icmp_ge (tgt := 51) hx hb dX2_canAdd_11 (by decide) (fun c3 => ?_) (fun c3 => ?_)
    · rw [if_pos c3] at h
      refine lv_iconst (v := 0) hx hb dX2_canAdd_51 (by decide) ?_
      obtain rfl := Option.some.inj h
      exact hret dX2_canAdd_52 rfl
    · rw [if_neg c3] at h
      refine lv_iload_n hx hb dX2_canAdd_14 rfl (lv_at hl 1 rfl) ?_
      obtain ⟨y5, e5, h⟩ := ob_s h
      refine MR.callS (M_J16_bitCount hG e5) S (cw_J16_bitCount hts q682 ⟨Nat.le_of_ble_eq_true rfl, Nat.le_of_ble_eq_true rfl⟩) hW0 vaP0 rfl hl.1 rfl (Nat.le_of_ble_eq_true rfl) dX2_canAdd_15 ⟨Nat.zero_le _, Nat.zero_le _⟩ ?_
      refine lv_iconst (v := 2) hx hb dX2_canAdd_18 (by decide) ?_
      refine lv_icmp_lt (tgt := 51) hx hb dX2_canAdd_19 (by decide) (fun c6 => ?_) (fun c6 => ?_)
      · rw [if_pos c6] at h
        refine lv_iconst (v := 0) hx hb dX2_canAdd_51 (by decide) ?_
        obtain rfl := Option.some.inj h
        exact hret dX2_canAdd_52 rfl
      · rw [if_neg c6] at h
        refine lv_iload_n hx hb dX2_canAdd_22 rfl (lv_at hl 1 rfl) ?_
        obtain ⟨y8, e8, h⟩ := ob_s h
        refine MR.callS (M_J16_bitCount hG e8) S (cw_J16_bitCount hts q682 ⟨Nat.le_of_ble_eq_true rfl, Nat.le_of_ble_eq_true rfl⟩) hW0 vaP0 rfl hl.1 rfl (Nat.le_of_ble_eq_true rfl) dX2_canAdd_23 ⟨Nat.zero_le _, Nat.zero_le _⟩ ?_
        refine lv_iconst (v := 4) hx hb dX2_canAdd_26 (by decide) ?_
        refine lv_icmp_gt (tgt := 51) hx hb dX2_canAdd_27 (by decide) (fun c9 => ?_) (fun c9 => ?_)
        · rw [if_pos c9] at h
          refine lv_iconst (v := 0) hx hb dX2_canAdd_51 (by decide) ?_
          obtain rfl := Option.some.inj h
          exact hret dX2_canAdd_52 rfl
        · rw [if_neg c9] at h
          refine lv_aload_n hx hb dX2_canAdd_30 rfl (lv_at hl 0 rfl) ?_
          refine va_get (ci := 1) (v := .int c_lines) (C := RX2) (T := TX2) (N := 5) hx hb hts in_X2 hown hK hP 0 rfl rfl 1 (by decide) (hts _ q229) (fun _ h9 => h9) rfl dX2_canAdd_31 ?_
          refine lv_bipush (v := 12) hx hb dX2_canAdd_34 (by decide) ?_
          refine lv_icmp_ge (tgt := 51) hx hb dX2_canAdd_36 (by decide) (fun c11 => ?_) (fun c11 => ?_)
          · rw [if_pos c11] at h
            refine lv_iconst (v := 0) hx hb dX2_canAdd_51 (by decide) ?_
            obtain rfl := Option.some.inj h
            exact hret dX2_canAdd_52 rfl
          · rw [if_neg c11] at h
            refine lv_aload_n hx hb dX2_canAdd_39 rfl (lv_at hl 0 rfl) ?_
            refine lv_iload_n hx hb dX2_canAdd_40 rfl (lv_at hl 1 rfl) ?_
            obtain ⟨y13, e13, h⟩ := ob_s h
            refine MR.callV (q0 := 0) (M_X2_isFree hG e13) S (cw_X2_isFree hts q688 ⟨Nat.le_of_ble_eq_true rfl, Nat.le_of_ble_eq_true rfl⟩) hW0 hK hP rfl rfl rfl hl.1 rfl (Nat.le_of_ble_eq_true rfl) dX2_canAdd_41 ⟨Nat.zero_le _, Nat.zero_le _⟩ ?_
            refine lv_if_eq (tgt := 51) hx hb dX2_canAdd_44 (by decide) (fun c14 => ?_) (fun c14 => ?_)
            · rw [if_pos c14] at h
              refine lv_iconst (v := 0) hx hb dX2_canAdd_51 (by decide) ?_
              obtain rfl := Option.some.inj h
              exact hret dX2_canAdd_52 rfl
            · rw [if_neg c14] at h
              refine lv_iconst (v := 1) hx hb dX2_canAdd_47 (by decide) ?_
              refine lv_goto (tgt := 52) hx hb dX2_canAdd_48 (by decide) ?_
              obtain rfl := Option.some.inj h
              exact hret dX2_canAdd_52 rfl
def F_X2_adds (N : Nat) (v1 : Int32) (c_line : (Nat → Int32)) (c_lines : Int32) : Option ((Nat → Int32) × Int32) := (ckI c_lines 12 (some ((upd c_line (Int32.toNatClampNeg c_lines) v1), (c_lines + (1 : Int32)))))
theorem cw_X2_adds {R : Room} {s : State} {args : Array Value} {own : String} {index lev mc ms : Nat} (hts : ∀ w ∈ lw_all, w.before args s = true) (hl : Cond.methodLink own index yX2_adds ∈ lw_all) (hR : (rmL lev mc ms).frames + 1 ≤ R.frames ∧ 8 + (2 + 11) + (rmL lev mc ms).locals ≤ R.locals) : CallW R s args own RX2 index yX2_adds cX2_adds 2 none (ws_ yX2_adds cX2_adds 2 none) (rmL lev mc ms) mc ms 1 := cwV 1 hts (lw_V hl q797 q798 q155 q799) rfl rfl rfl (by decide +kernel) hR
set_option maxHeartbeats 4000000 in
theorem M_X2_adds {l : Launch} {G : GE} (hG : GC G) {N : Nat} {h0 : Nat} {ad : Nat → Nat} {c_points : Int32} {c_x : (Nat → Int32)} {c_y : (Nat → Int32)} {v1 : Int32} {c_line : (Nat → Int32)} {c_lines : Int32} {ρ : ((Nat → Int32) × Int32)} (h : F_X2_adds N v1 c_line c_lines = some ρ) : MW l G yX2_adds cX2_adds 2 none 1 (sW h0 ad G.2.2 c_points c_lines c_line c_x c_y) [.ref h0, .int v1] none (sW h0 ad G.2.2 c_points ρ.2 ρ.1 c_x c_y) := by
  rw [F_X2_adds] at h
  refine MW.start hG (by decide) (Nat.le_of_ble_eq_true rfl) ?_
  intro p e s m args below meth c Q A S hW0 hK hP hD hA hreti hretv ls hl
  have hS : va_S A s.heap s.heap [] := va_S.rf
  obtain ⟨hx, hb, hml, hown, hts⟩ := id S
  have hl : lv_has ls 2 [(0, .ref h0), (1, .int v1)] := hl
  refine lv_aload_n hx hb dX2_adds_0 rfl (lv_at hl 0 rfl) ?_
  refine va_get (ci := 1) (v := .ref (ad 2)) (C := RX2) (T := TX2) (N := 5) hx hb hts in_X2 hown hK hP 0 rfl rfl 2 (by decide) (hts _ q232) (fun _ h9 => h9) rfl dX2_adds_1 ?_
  refine lv_aload_n hx hb dX2_adds_4 rfl (lv_at hl 0 rfl) ?_
  refine va_get (ci := 1) (v := .int c_lines) (C := RX2) (T := TX2) (N := 5) hx hb hts in_X2 hown hK hP 0 rfl rfl 1 (by decide) (hts _ q229) (fun _ h9 => h9) rfl dX2_adds_5 ?_
  refine lv_iload_n hx hb dX2_adds_8 rfl (lv_at hl 1 rfl) ?_
  obtain ⟨i1, h⟩ := ckI_s h
  refine va_iast (f := c_line) hx hb hK hP hD hS 1 0 rfl rfl i1 dX2_adds_9 (fun H locs hP hD hS => ?_)
  have hP : va_P G.2.1 vwCl (sW h0 ad G.2.2 c_points c_lines (upd c_line (Int32.toNatClampNeg c_lines) v1) c_x c_y) H := hP
  have hD : va_D A (sW h0 ad G.2.2 c_points c_lines (upd c_line (Int32.toNatClampNeg c_lines) v1) c_x c_y) := hD
  refine lv_aload_n hx hb dX2_adds_10 rfl (lv_at hl 0 rfl) ?_
  refine lv_dup hx hb dX2_adds_11 rfl ?_
  refine va_get (ci := 1) (v := .int c_lines) (C := RX2) (T := TX2) (N := 5) hx hb hts in_X2 hown hK hP 0 rfl rfl 1 (by decide) (hts _ q229) (fun _ h9 => h9) rfl dX2_adds_12 ?_
  refine lv_iconst (v := 1) hx hb dX2_adds_15 (by decide) ?_
  refine lv_iadd hx hb dX2_adds_16 ?_
  refine va_put (ci := 1) (v := .int (c_lines + (1 : Int32))) (ty := .int) (C := RX2) (T := TX2) (N := 5) hx hb hts in_X2 tyX2 tyX2_ok nmX2 hown hK hP hD hS 0 rfl rfl 1 (by decide) (hts _ q229) (fun _ h9 => h9) rfl (by decide +kernel) rfl rfl (Nat.le_of_ble_eq_true rfl) dX2_adds_17 (fun H locs hP hD hS => ?_)
  have hP : va_P G.2.1 vwCl (sW h0 ad G.2.2 c_points (c_lines + (1 : Int32)) (upd c_line (Int32.toNatClampNeg c_lines) v1) c_x c_y) H := hP
  have hD : va_D A (sW h0 ad G.2.2 c_points (c_lines + (1 : Int32)) (upd c_line (Int32.toNatClampNeg c_lines) v1) c_x c_y) := hD
  obtain rfl := Option.some.inj h
  exact hretv rfl dX2_adds_20 rfl hP hD hS
def F_X2_drops_12 (N : Nat) (c_lines : Int32) : Nat → Int32 → (Nat → Int32) → Option ((Nat → Int32) × Int32)
  | 0, _, _ => none
  | n + 1, v2, c_line => (if c_lines ≤ v2 then (some (c_line, c_lines)) else (ckI (v2 + (1 : Int32)) 12 (ckI v2 12 (F_X2_drops_12 N c_lines n (v2 + 1) (upd c_line (Int32.toNatClampNeg v2) (c_line (Int32.toNatClampNeg (v2 + (1 : Int32)))))))))
def F_X2_drops (N : Nat) (v1 : Int32) (c_line : (Nat → Int32)) (c_lines : Int32) : Option ((Nat → Int32) × Int32) := (F_X2_drops_12 N (c_lines - (1 : Int32)) N v1 c_line)
theorem cw_X2_drops {R : Room} {s : State} {args : Array Value} {own : String} {index lev mc ms : Nat} (hts : ∀ w ∈ lw_all, w.before args s = true) (hl : Cond.methodLink own index yX2_drops ∈ lw_all) (hR : (rmL lev mc ms).frames + 1 ≤ R.frames ∧ 8 + (3 + 11) + (rmL lev mc ms).locals ≤ R.locals) : CallW R s args own RX2 index yX2_drops cX2_drops 3 none (ws_ yX2_drops cX2_drops 3 none) (rmL lev mc ms) mc ms 1 := cwV 1 hts (lw_V hl q805 q806 q155 q807) rfl rfl rfl (by decide +kernel) hR
set_option maxHeartbeats 4000000 in
theorem M_X2_drops {l : Launch} {G : GE} (hG : GC G) {N : Nat} {h0 : Nat} {ad : Nat → Nat} {c_points : Int32} {c_x : (Nat → Int32)} {c_y : (Nat → Int32)} {v1 : Int32} {c_line : (Nat → Int32)} {c_lines : Int32} {ρ : ((Nat → Int32) × Int32)} (h : F_X2_drops N v1 c_line c_lines = some ρ) : MW l G yX2_drops cX2_drops 3 none 1 (sW h0 ad G.2.2 c_points c_lines c_line c_x c_y) [.ref h0, .int v1] none (sW h0 ad G.2.2 c_points ρ.2 ρ.1 c_x c_y) := by
  rw [F_X2_drops] at h
  refine MW.start hG (by decide) (Nat.le_of_ble_eq_true rfl) ?_
  intro p e s m args below meth c Q A S hW0 hK hP hD hA hreti hretv ls hl
  have hS : va_S A s.heap s.heap [] := va_S.rf
  obtain ⟨hx, hb, hml, hown, hts⟩ := id S
  have hl : lv_has ls 3 [(0, .ref h0), (1, .int v1)] := hl
  have S_X2_drops_12 : ∀ (n : Nat) (v2 : Int32) (c_line : (Nat → Int32)) (c_lines : Int32), F_X2_drops_12 N c_lines n v2 c_line = some ρ → ∀ (H : Heap) (locs : List Loc), va_P G.2.1 vwCl (sW h0 ad G.2.2 c_points c_lines c_line c_x c_y) H → va_D A (sW h0 ad G.2.2 c_points c_lines c_line c_x c_y) → va_S A s.heap H locs → ∀ (ls : Array Slot), lv_has ls 3 [(0, .ref h0), (2, .int v2)] → W p l e (rmL 1 0 0) s m args below meth c H locs 0 0 Q (F0 m 12 ls []) := by
    intro n
    induction n with
    | zero =>
      intro v2 c_line c_lines h
      exact absurd h (by simp [F_X2_drops_12])
    | succ n ih =>
      intro v2 c_line c_lines h H locs hP hD hS ls hl
      rw [F_X2_drops_12] at h
      refine lv_iload_n hx hb dX2_drops_12 rfl (lv_at hl 1 rfl) ?_
      refine lv_aload_n hx hb dX2_drops_13 rfl (lv_at hl 0 rfl) ?_
      refine va_get (ci := 1) (v := .int c_lines) (C := RX2) (T := TX2) (N := 5) hx hb hts in_X2 hown hK hP 0 rfl rfl 1 (by decide) (hts _ q229) (fun _ h9 => h9) rfl dX2_drops_14 ?_
      refine lv_icmp_ge (tgt := 40) hx hb dX2_drops_17 (by decide) (fun c1 => ?_) (fun c1 => ?_)
      · rw [if_pos c1] at h
        obtain rfl := Option.some.inj h
        exact hretv rfl dX2_drops_40 rfl hP hD hS
      · rw [if_neg c1] at h
        refine lv_aload_n hx hb dX2_drops_20 rfl (lv_at hl 0 rfl) ?_
        refine va_get (ci := 1) (v := .ref (ad 2)) (C := RX2) (T := TX2) (N := 5) hx hb hts in_X2 hown hK hP 0 rfl rfl 2 (by decide) (hts _ q232) (fun _ h9 => h9) rfl dX2_drops_21 ?_
        refine lv_iload_n hx hb dX2_drops_24 rfl (lv_at hl 1 rfl) ?_
        refine lv_aload_n hx hb dX2_drops_25 rfl (lv_at hl 0 rfl) ?_
        refine va_get (ci := 1) (v := .ref (ad 2)) (C := RX2) (T := TX2) (N := 5) hx hb hts in_X2 hown hK hP 0 rfl rfl 2 (by decide) (hts _ q232) (fun _ h9 => h9) rfl dX2_drops_26 ?_
        refine lv_iload_n hx hb dX2_drops_29 rfl (lv_at hl 1 rfl) ?_
        refine lv_iconst (v := 1) hx hb dX2_drops_30 (by decide) ?_
        refine lv_iadd hx hb dX2_drops_31 ?_
        obtain ⟨i3, h⟩ := ckI_s h
        refine va_iald (f := c_line) hx hb hK hP 1 0 rfl rfl i3 dX2_drops_32 ?_
        obtain ⟨i4, h⟩ := ckI_s h
        refine va_iast (f := c_line) hx hb hK hP hD hS 1 0 rfl rfl i4 dX2_drops_33 (fun H locs hP hD hS => ?_)
        have hP : va_P G.2.1 vwCl (sW h0 ad G.2.2 c_points c_lines (upd c_line (Int32.toNatClampNeg v2) (c_line (Int32.toNatClampNeg (v2 + (1 : Int32))))) c_x c_y) H := hP
        have hD : va_D A (sW h0 ad G.2.2 c_points c_lines (upd c_line (Int32.toNatClampNeg v2) (c_line (Int32.toNatClampNeg (v2 + (1 : Int32))))) c_x c_y) := hD
        refine lv_iinc (v := (v2 + 1)) (lv' := [(2, .int (v2 + 1)), (0, .ref h0)]) hx hb dX2_drops_34 hl (k := 1) rfl rfl (by decide) rfl (fun ls hl => ?_)
        refine lv_goto (tgt := 12) hx hb dX2_drops_37 (by decide) ?_
        exact ih (v2 + 1) (upd c_line (Int32.toNatClampNeg v2) (c_line (Int32.toNatClampNeg (v2 + (1 : Int32))))) c_lines h _ _ hP hD hS _ (lv_sub hl [1, 0] rfl)
  refine lv_aload_n hx hb dX2_drops_0 rfl (lv_at hl 0 rfl) ?_
  refine lv_dup hx hb dX2_drops_1 rfl ?_
  refine va_get (ci := 1) (v := .int c_lines) (C := RX2) (T := TX2) (N := 5) hx hb hts in_X2 hown hK hP 0 rfl rfl 1 (by decide) (hts _ q229) (fun _ h9 => h9) rfl dX2_drops_2 ?_
  refine lv_iconst (v := 1) hx hb dX2_drops_5 (by decide) ?_
  refine lv_isub hx hb dX2_drops_6 ?_
  refine va_put (ci := 1) (v := .int (c_lines - (1 : Int32))) (ty := .int) (C := RX2) (T := TX2) (N := 5) hx hb hts in_X2 tyX2 tyX2_ok nmX2 hown hK hP hD hS 0 rfl rfl 1 (by decide) (hts _ q229) (fun _ h9 => h9) rfl (by decide +kernel) rfl rfl (Nat.le_of_ble_eq_true rfl) dX2_drops_7 (fun H locs hP hD hS => ?_)
  have hP : va_P G.2.1 vwCl (sW h0 ad G.2.2 c_points (c_lines - (1 : Int32)) c_line c_x c_y) H := hP
  have hD : va_D A (sW h0 ad G.2.2 c_points (c_lines - (1 : Int32)) c_line c_x c_y) := hD
  refine lv_iload_n hx hb dX2_drops_10 rfl (lv_at hl 1 rfl) ?_
  refine lv_istore_n (lv' := [(2, .int v1), (0, .ref h0), (1, .int v1)]) hx hb dX2_drops_11 rfl hl (by decide) rfl (fun ls hl => ?_)
  refine S_X2_drops_12 N v1 c_line (c_lines - (1 : Int32)) h  _ _ hP hD hS _ (lv_sub hl [1, 0] rfl)
def F_X2_swapped (N : Nat) (v0 : Int32) (v1 : Int32) (v2 : Int32) : Option (Int32) := (some ((((v0 &&& ((((1 : Int32) <<< (v1 &&& 31)) ||| ((1 : Int32) <<< (v2 &&& 31))) ^^^ (-1 : Int32))) ||| (((v0 >>> (v1 &&& 31)) &&& (1 : Int32)) <<< (v2 &&& 31))) ||| (((v0 >>> (v2 &&& 31)) &&& (1 : Int32)) <<< (v1 &&& 31)))))
theorem cw_X2_swapped {R : Room} {s : State} {args : Array Value} {own : String} {index lev mc ms : Nat} (hts : ∀ w ∈ lw_all, w.before args s = true) (hl : Cond.methodLink own index yX2_swapped ∈ lw_all) (hR : (rmL lev mc ms).frames + 1 ≤ R.frames ∧ 8 + (4 + 11) + (rmL lev mc ms).locals ≤ R.locals) : CallB R s args own index yX2_swapped cX2_swapped 4 (some .int) (ws_ yX2_swapped cX2_swapped 4 (some .int)) (rmL lev mc ms) mc ms 3 ∧ (Cond.static yX2_swapped).before args s = true := va_cwS 3 hts (lw_S hl q824 q155 q825) rfl rfl rfl (by decide +kernel) hR
set_option maxHeartbeats 4000000 in
theorem M_X2_swapped {l : Launch} {G : GE} (hG : GC G) {N : Nat} {v0 : Int32} {v1 : Int32} {v2 : Int32} {ρ : (Int32)} (h : F_X2_swapped N v0 v1 v2 = some ρ) : MR l G yX2_swapped cX2_swapped 4 (some .int) 1 [] [.int v0, .int v1, .int v2] ρ := by
  rw [F_X2_swapped] at h
  refine MR.start (rt := .int) hG (by decide) (Nat.le_of_ble_eq_true rfl) ?_
  intro p e s m args below meth c Q S hW0 hK hP hret ls hl
  obtain ⟨hx, hb, hml, hown, hts⟩ := id S
  have hl : lv_has ls 4 [(0, .int v0), (1, .int v1), (2, .int v2)] := hl
  refine lv_iload_n hx hb dX2_swapped_0 rfl (lv_at hl 0 rfl) ?_
  refine lv_iconst (v := 1) hx hb dX2_swapped_1 (by decide) ?_
  refine lv_iload_n hx hb dX2_swapped_2 rfl (lv_at hl 1 rfl) ?_
  refine lv_ishl hx hb dX2_swapped_3 ?_
  refine lv_iconst (v := 1) hx hb dX2_swapped_4 (by decide) ?_
  refine lv_iload_n hx hb dX2_swapped_5 rfl (lv_at hl 2 rfl) ?_
  refine lv_ishl hx hb dX2_swapped_6 ?_
  refine lv_ior hx hb dX2_swapped_7 ?_
  refine lv_iconst (v := (-1)) hx hb dX2_swapped_8 (by decide) ?_
  refine lv_ixor hx hb dX2_swapped_9 ?_
  refine lv_iand hx hb dX2_swapped_10 ?_
  refine lv_istore_n (lv' := [(3, .int (v0 &&& ((((1 : Int32) <<< (v1 &&& 31)) ||| ((1 : Int32) <<< (v2 &&& 31))) ^^^ (-1 : Int32)))), (0, .int v0), (1, .int v1), (2, .int v2)]) hx hb dX2_swapped_11 rfl hl (by decide) rfl (fun ls hl => ?_)
  refine lv_iload_n hx hb dX2_swapped_12 rfl (lv_at hl 0 rfl) ?_
  refine lv_iload_n hx hb dX2_swapped_13 rfl (lv_at hl 1 rfl) ?_
  refine lv_iload_n hx hb dX2_swapped_14 rfl (lv_at hl 2 rfl) ?_
  refine lv_ishr hx hb dX2_swapped_15 ?_
  refine lv_iconst (v := 1) hx hb dX2_swapped_16 (by decide) ?_
  refine lv_iand hx hb dX2_swapped_17 ?_
  refine lv_iload_n hx hb dX2_swapped_18 rfl (lv_at hl 3 rfl) ?_
  refine lv_ishl hx hb dX2_swapped_19 ?_
  refine lv_ior hx hb dX2_swapped_20 ?_
  refine lv_iload_n hx hb dX2_swapped_21 rfl (lv_at hl 1 rfl) ?_
  refine lv_iload_n hx hb dX2_swapped_22 rfl (lv_at hl 3 rfl) ?_
  refine lv_ishr hx hb dX2_swapped_23 ?_
  refine lv_iconst (v := 1) hx hb dX2_swapped_24 (by decide) ?_
  refine lv_iand hx hb dX2_swapped_25 ?_
  refine lv_iload_n hx hb dX2_swapped_26 rfl (lv_at hl 2 rfl) ?_
  refine lv_ishl hx hb dX2_swapped_27 ?_
  refine lv_ior hx hb dX2_swapped_28 ?_
  obtain rfl := Option.some.inj h
  exact hret dX2_swapped_29 rfl
def F_X2_swaps_2 (N : Nat) (v1 : Int32) (v2 : Int32) (c_lines : Int32) : Nat → Int32 → (Nat → Int32) → ((Nat → Int32) → Option ((Nat → Int32) × (Nat → Int32) × (Nat → Int32))) → Option ((Nat → Int32) × (Nat → Int32) × (Nat → Int32))
  | 0, _, _, _ => none
  | n + 1, v3, c_line, k33 => (if c_lines ≤ v3 then (k33 c_line) else (ckI v3 12 ((F_X2_swapped N (c_line (Int32.toNatClampNeg v3)) v1 v2).bind fun y3 => (ckI v3 12 (F_X2_swaps_2 N v1 v2 c_lines n (v3 + 1) (upd c_line (Int32.toNatClampNeg v3) y3) k33)))))
def F_X2_swaps (N : Nat) (v1 : Int32) (v2 : Int32) (c_line : (Nat → Int32)) (c_x : (Nat → Int32)) (c_y : (Nat → Int32)) (c_lines : Int32) : Option ((Nat → Int32) × (Nat → Int32) × (Nat → Int32)) := (F_X2_swaps_2 N v1 v2 c_lines N 0 c_line (fun c_line_5 => (ckI v1 8 (ckI v1 8 (ckI v2 8 (ckI v1 8 (ckI v2 8 (ckI v1 8 (ckI v2 8 (ckI v2 8 (some (c_line_5, (upd (upd c_x (Int32.toNatClampNeg v1) (c_x (Int32.toNatClampNeg v2))) (Int32.toNatClampNeg v2) (c_x (Int32.toNatClampNeg v1))), (upd (upd c_y (Int32.toNatClampNeg v1) (c_y (Int32.toNatClampNeg v2))) (Int32.toNatClampNeg v2) (c_y (Int32.toNatClampNeg v1)))))))))))))))
theorem cw_X2_swaps {R : Room} {s : State} {args : Array Value} {own : String} {index lev mc ms : Nat} (hts : ∀ w ∈ lw_all, w.before args s = true) (hl : Cond.methodLink own index yX2_swaps ∈ lw_all) (hR : (rmL lev mc ms).frames + 1 ≤ R.frames ∧ 8 + (5 + 11) + (rmL lev mc ms).locals ≤ R.locals) : CallW R s args own RX2 index yX2_swaps cX2_swaps 5 none (ws_ yX2_swaps cX2_swaps 5 none) (rmL lev mc ms) mc ms 2 := cwV 2 hts (lw_V hl q820 q821 q155 q822) rfl rfl rfl (by decide +kernel) hR
set_option maxHeartbeats 4000000 in
theorem M_X2_swaps {l : Launch} {G : GE} (hG : GC G) {N : Nat} {h0 : Nat} {ad : Nat → Nat} {c_points : Int32} {v1 : Int32} {v2 : Int32} {c_line : (Nat → Int32)} {c_x : (Nat → Int32)} {c_y : (Nat → Int32)} {c_lines : Int32} {ρ : ((Nat → Int32) × (Nat → Int32) × (Nat → Int32))} (h : F_X2_swaps N v1 v2 c_line c_x c_y c_lines = some ρ) : MW l G yX2_swaps cX2_swaps 5 none 2 (sW h0 ad G.2.2 c_points c_lines c_line c_x c_y) [.ref h0, .int v1, .int v2] none (sW h0 ad G.2.2 c_points c_lines ρ.1 ρ.2.1 ρ.2.2) := by
  rw [F_X2_swaps] at h
  refine MW.start hG (by decide) (Nat.le_of_ble_eq_true rfl) ?_
  intro p e s m args below meth c Q A S hW0 hK hP hD hA hreti hretv ls hl
  have hS : va_S A s.heap s.heap [] := va_S.rf
  obtain ⟨hx, hb, hml, hown, hts⟩ := id S
  have hl : lv_has ls 5 [(0, .ref h0), (1, .int v1), (2, .int v2)] := hl
  have S_X2_swaps_2 : ∀ (n : Nat) (v1 : Int32) (v2 : Int32) (v3 : Int32) (c_line : (Nat → Int32)) (c_x : (Nat → Int32)) (c_y : (Nat → Int32)) (k33 : (Nat → Int32) → Option ((Nat → Int32) × (Nat → Int32) × (Nat → Int32))), F_X2_swaps_2 N v1 v2 c_lines n v3 c_line k33 = some ρ → (∀ (z_c_line : (Nat → Int32)) (H : Heap) (locs : List Loc) (ls : Array Slot), k33 z_c_line = some ρ → va_P G.2.1 vwCl (sW h0 ad G.2.2 c_points c_lines z_c_line c_x c_y) H → va_D A (sW h0 ad G.2.2 c_points c_lines z_c_line c_x c_y) → va_S A s.heap H locs → lv_has ls 5 [(0, .ref h0), (1, .int v1), (2, .int v2)] → W p l e (rmL 2 0 0) s m args below meth c H locs 0 0 Q (F0 m 33 ls [])) → ∀ (H : Heap) (locs : List Loc), va_P G.2.1 vwCl (sW h0 ad G.2.2 c_points c_lines c_line c_x c_y) H → va_D A (sW h0 ad G.2.2 c_points c_lines c_line c_x c_y) → va_S A s.heap H locs → ∀ (ls : Array Slot), lv_has ls 5 [(0, .ref h0), (1, .int v1), (2, .int v2), (3, .int v3)] → W p l e (rmL 2 0 0) s m args below meth c H locs 0 0 Q (F0 m 2 ls []) := by
    intro n
    induction n with
    | zero =>
      intro v1 v2 v3 c_line c_x c_y k33 h
      exact absurd h (by simp [F_X2_swaps_2])
    | succ n ih =>
      intro v1 v2 v3 c_line c_x c_y k33 h hk33 H locs hP hD hS ls hl
      rw [F_X2_swaps_2] at h
      refine lv_iload_n hx hb dX2_swaps_2 rfl (lv_at hl 3 rfl) ?_
      refine lv_aload_n hx hb dX2_swaps_3 rfl (lv_at hl 0 rfl) ?_
      refine va_get (ci := 1) (v := .int c_lines) (C := RX2) (T := TX2) (N := 5) hx hb hts in_X2 hown hK hP 0 rfl rfl 1 (by decide) (hts _ q229) (fun _ h9 => h9) rfl dX2_swaps_4 ?_
      refine lv_icmp_ge (tgt := 33) hx hb dX2_swaps_7 (by decide) (fun c1 => ?_) (fun c1 => ?_)
      · rw [if_pos c1] at h
        exact hk33 c_line _ _ _ h hP hD hS (lv_sub hl [0, 1, 2] rfl)
      · rw [if_neg c1] at h
        refine lv_aload_n hx hb dX2_swaps_10 rfl (lv_at hl 0 rfl) ?_
        refine va_get (ci := 1) (v := .ref (ad 2)) (C := RX2) (T := TX2) (N := 5) hx hb hts in_X2 hown hK hP 0 rfl rfl 2 (by decide) (hts _ q232) (fun _ h9 => h9) rfl dX2_swaps_11 ?_
        refine lv_iload_n hx hb dX2_swaps_14 rfl (lv_at hl 3 rfl) ?_
        refine lv_aload_n hx hb dX2_swaps_15 rfl (lv_at hl 0 rfl) ?_
        refine va_get (ci := 1) (v := .ref (ad 2)) (C := RX2) (T := TX2) (N := 5) hx hb hts in_X2 hown hK hP 0 rfl rfl 2 (by decide) (hts _ q232) (fun _ h9 => h9) rfl dX2_swaps_16 ?_
        refine lv_iload_n hx hb dX2_swaps_19 rfl (lv_at hl 3 rfl) ?_
        obtain ⟨i2, h⟩ := ckI_s h
        refine va_iald (f := c_line) hx hb hK hP 1 0 rfl rfl i2 dX2_swaps_20 ?_
        refine lv_iload_n hx hb dX2_swaps_21 rfl (lv_at hl 1 rfl) ?_
        refine lv_iload_n hx hb dX2_swaps_22 rfl (lv_at hl 2 rfl) ?_
        obtain ⟨y3, e3, h⟩ := ob_s h
        refine MR.callS (M_X2_swapped hG e3) S (cw_X2_swapped hts q823 ⟨Nat.le_of_ble_eq_true rfl, Nat.le_of_ble_eq_true rfl⟩) hW0 vaP0 rfl hl.1 rfl (Nat.le_of_ble_eq_true rfl) dX2_swaps_23 ⟨Nat.zero_le _, Nat.zero_le _⟩ ?_
        obtain ⟨i4, h⟩ := ckI_s h
        refine va_iast (f := c_line) hx hb hK hP hD hS 1 0 rfl rfl i4 dX2_swaps_26 (fun H locs hP hD hS => ?_)
        have hP : va_P G.2.1 vwCl (sW h0 ad G.2.2 c_points c_lines (upd c_line (Int32.toNatClampNeg v3) y3) c_x c_y) H := hP
        have hD : va_D A (sW h0 ad G.2.2 c_points c_lines (upd c_line (Int32.toNatClampNeg v3) y3) c_x c_y) := hD
        refine lv_iinc (v := (v3 + 1)) (lv' := [(3, .int (v3 + 1)), (0, .ref h0), (1, .int v1), (2, .int v2)]) hx hb dX2_swaps_27 hl (k := 3) rfl rfl (by decide) rfl (fun ls hl => ?_)
        refine lv_goto (tgt := 2) hx hb dX2_swaps_30 (by decide) ?_
        exact ih v1 v2 (v3 + 1) (upd c_line (Int32.toNatClampNeg v3) y3) c_x c_y _ h hk33 _ _ hP hD hS _ (lv_sub hl [1, 2, 3, 0] rfl)
  refine lv_iconst (v := 0) hx hb dX2_swaps_0 (by decide) ?_
  refine lv_istore_n (lv' := [(3, .int 0), (0, .ref h0), (1, .int v1), (2, .int v2)]) hx hb dX2_swaps_1 rfl hl (by decide) rfl (fun ls hl => ?_)
  refine S_X2_swaps_2 N v1 v2 0 c_line c_x c_y _ h ?_ _ _ hP hD hS _ (lv_sub hl [1, 2, 3, 0] rfl)
  · intro c_line_5 H locs ls h hP hD hS hl
    refine lv_aload_n hx hb dX2_swaps_33 rfl (lv_at hl 0 rfl) ?_
    refine va_get (ci := 1) (v := .ref (ad 3)) (C := RX2) (T := TX2) (N := 5) hx hb hts in_X2 hown hK hP 0 rfl rfl 3 (by decide) (hts _ q235) (fun _ h9 => h9) rfl dX2_swaps_34 ?_
    refine lv_iload_n hx hb dX2_swaps_37 rfl (lv_at hl 1 rfl) ?_
    obtain ⟨i6, h⟩ := ckI_s h
    refine va_iald (f := c_x) hx hb hK hP 2 0 rfl rfl i6 dX2_swaps_38 ?_
    refine lv_istore_n (lv' := [(3, .int (c_x (Int32.toNatClampNeg v1))), (0, .ref h0), (1, .int v1), (2, .int v2)]) hx hb dX2_swaps_39 rfl hl (by decide) rfl (fun ls hl => ?_)
    refine lv_aload_n hx hb dX2_swaps_40 rfl (lv_at hl 1 rfl) ?_
    refine va_get (ci := 1) (v := .ref (ad 4)) (C := RX2) (T := TX2) (N := 5) hx hb hts in_X2 hown hK hP 0 rfl rfl 4 (by decide) (hts _ q238) (fun _ h9 => h9) rfl dX2_swaps_41 ?_
    refine lv_iload_n hx hb dX2_swaps_44 rfl (lv_at hl 2 rfl) ?_
    obtain ⟨i7, h⟩ := ckI_s h
    refine va_iald (f := c_y) hx hb hK hP 3 0 rfl rfl i7 dX2_swaps_45 ?_
    refine lv_istore (lv' := [(4, .int (c_y (Int32.toNatClampNeg v1))), (3, .int (c_x (Int32.toNatClampNeg v1))), (0, .ref h0), (1, .int v1), (2, .int v2)]) hx hb dX2_swaps_46 hl (by decide) rfl (fun ls hl => ?_)
    refine lv_aload_n hx hb dX2_swaps_48 rfl (lv_at hl 2 rfl) ?_
    refine va_get (ci := 1) (v := .ref (ad 3)) (C := RX2) (T := TX2) (N := 5) hx hb hts in_X2 hown hK hP 0 rfl rfl 3 (by decide) (hts _ q235) (fun _ h9 => h9) rfl dX2_swaps_49 ?_
    refine lv_iload_n hx hb dX2_swaps_52 rfl (lv_at hl 3 rfl) ?_
    refine lv_aload_n hx hb dX2_swaps_53 rfl (lv_at hl 2 rfl) ?_
    refine va_get (ci := 1) (v := .ref (ad 3)) (C := RX2) (T := TX2) (N := 5) hx hb hts in_X2 hown hK hP 0 rfl rfl 3 (by decide) (hts _ q235) (fun _ h9 => h9) rfl dX2_swaps_54 ?_
    refine lv_iload_n hx hb dX2_swaps_57 rfl (lv_at hl 4 rfl) ?_
    obtain ⟨i8, h⟩ := ckI_s h
    refine va_iald (f := c_x) hx hb hK hP 2 0 rfl rfl i8 dX2_swaps_58 ?_
    obtain ⟨i9, h⟩ := ckI_s h
    refine va_iast (f := c_x) hx hb hK hP hD hS 2 0 rfl rfl i9 dX2_swaps_59 (fun H locs hP hD hS => ?_)
    have hP : va_P G.2.1 vwCl (sW h0 ad G.2.2 c_points c_lines c_line_5 (upd c_x (Int32.toNatClampNeg v1) (c_x (Int32.toNatClampNeg v2))) c_y) H := hP
    have hD : va_D A (sW h0 ad G.2.2 c_points c_lines c_line_5 (upd c_x (Int32.toNatClampNeg v1) (c_x (Int32.toNatClampNeg v2))) c_y) := hD
    refine lv_aload_n hx hb dX2_swaps_60 rfl (lv_at hl 2 rfl) ?_
    refine va_get (ci := 1) (v := .ref (ad 4)) (C := RX2) (T := TX2) (N := 5) hx hb hts in_X2 hown hK hP 0 rfl rfl 4 (by decide) (hts _ q238) (fun _ h9 => h9) rfl dX2_swaps_61 ?_
    refine lv_iload_n hx hb dX2_swaps_64 rfl (lv_at hl 3 rfl) ?_
    refine lv_aload_n hx hb dX2_swaps_65 rfl (lv_at hl 2 rfl) ?_
    refine va_get (ci := 1) (v := .ref (ad 4)) (C := RX2) (T := TX2) (N := 5) hx hb hts in_X2 hown hK hP 0 rfl rfl 4 (by decide) (hts _ q238) (fun _ h9 => h9) rfl dX2_swaps_66 ?_
    refine lv_iload_n hx hb dX2_swaps_69 rfl (lv_at hl 4 rfl) ?_
    obtain ⟨i10, h⟩ := ckI_s h
    refine va_iald (f := c_y) hx hb hK hP 3 0 rfl rfl i10 dX2_swaps_70 ?_
    obtain ⟨i11, h⟩ := ckI_s h
    refine va_iast (f := c_y) hx hb hK hP hD hS 3 0 rfl rfl i11 dX2_swaps_71 (fun H locs hP hD hS => ?_)
    have hP : va_P G.2.1 vwCl (sW h0 ad G.2.2 c_points c_lines c_line_5 (upd c_x (Int32.toNatClampNeg v1) (c_x (Int32.toNatClampNeg v2))) (upd c_y (Int32.toNatClampNeg v1) (c_y (Int32.toNatClampNeg v2)))) H := hP
    have hD : va_D A (sW h0 ad G.2.2 c_points c_lines c_line_5 (upd c_x (Int32.toNatClampNeg v1) (c_x (Int32.toNatClampNeg v2))) (upd c_y (Int32.toNatClampNeg v1) (c_y (Int32.toNatClampNeg v2)))) := hD
    refine lv_aload_n hx hb dX2_swaps_72 rfl (lv_at hl 2 rfl) ?_
    refine va_get (ci := 1) (v := .ref (ad 3)) (C := RX2) (T := TX2) (N := 5) hx hb hts in_X2 hown hK hP 0 rfl rfl 3 (by decide) (hts _ q235) (fun _ h9 => h9) rfl dX2_swaps_73 ?_
    refine lv_iload_n hx hb dX2_swaps_76 rfl (lv_at hl 4 rfl) ?_
    refine lv_iload_n hx hb dX2_swaps_77 rfl (lv_at hl 1 rfl) ?_
    obtain ⟨i12, h⟩ := ckI_s h
    refine va_iast (f := (upd c_x (Int32.toNatClampNeg v1) (c_x (Int32.toNatClampNeg v2)))) hx hb hK hP hD hS 2 0 rfl rfl i12 dX2_swaps_78 (fun H locs hP hD hS => ?_)
    have hP : va_P G.2.1 vwCl (sW h0 ad G.2.2 c_points c_lines c_line_5 (upd (upd c_x (Int32.toNatClampNeg v1) (c_x (Int32.toNatClampNeg v2))) (Int32.toNatClampNeg v2) (c_x (Int32.toNatClampNeg v1))) (upd c_y (Int32.toNatClampNeg v1) (c_y (Int32.toNatClampNeg v2)))) H := hP
    have hD : va_D A (sW h0 ad G.2.2 c_points c_lines c_line_5 (upd (upd c_x (Int32.toNatClampNeg v1) (c_x (Int32.toNatClampNeg v2))) (Int32.toNatClampNeg v2) (c_x (Int32.toNatClampNeg v1))) (upd c_y (Int32.toNatClampNeg v1) (c_y (Int32.toNatClampNeg v2)))) := hD
    refine lv_aload_n hx hb dX2_swaps_79 rfl (lv_at hl 2 rfl) ?_
    refine va_get (ci := 1) (v := .ref (ad 4)) (C := RX2) (T := TX2) (N := 5) hx hb hts in_X2 hown hK hP 0 rfl rfl 4 (by decide) (hts _ q238) (fun _ h9 => h9) rfl dX2_swaps_80 ?_
    refine lv_iload_n hx hb dX2_swaps_83 rfl (lv_at hl 4 rfl) ?_
    refine lv_iload hx hb dX2_swaps_84 (lv_at hl 0 rfl) ?_
    obtain ⟨i13, h⟩ := ckI_s h
    refine va_iast (f := (upd c_y (Int32.toNatClampNeg v1) (c_y (Int32.toNatClampNeg v2)))) hx hb hK hP hD hS 3 0 rfl rfl i13 dX2_swaps_86 (fun H locs hP hD hS => ?_)
    have hP : va_P G.2.1 vwCl (sW h0 ad G.2.2 c_points c_lines c_line_5 (upd (upd c_x (Int32.toNatClampNeg v1) (c_x (Int32.toNatClampNeg v2))) (Int32.toNatClampNeg v2) (c_x (Int32.toNatClampNeg v1))) (upd (upd c_y (Int32.toNatClampNeg v1) (c_y (Int32.toNatClampNeg v2))) (Int32.toNatClampNeg v2) (c_y (Int32.toNatClampNeg v1)))) H := hP
    have hD : va_D A (sW h0 ad G.2.2 c_points c_lines c_line_5 (upd (upd c_x (Int32.toNatClampNeg v1) (c_x (Int32.toNatClampNeg v2))) (Int32.toNatClampNeg v2) (c_x (Int32.toNatClampNeg v1))) (upd (upd c_y (Int32.toNatClampNeg v1) (c_y (Int32.toNatClampNeg v2))) (Int32.toNatClampNeg v2) (c_y (Int32.toNatClampNeg v1)))) := hD
    obtain rfl := Option.some.inj h
    exact hretv rfl dX2_swaps_87 rfl hP hD hS
def F_X2_grows (N : Nat) (c_x : (Nat → Int32)) (c_y : (Nat → Int32)) (c_points : Int32) : Option ((Nat → Int32) × (Nat → Int32) × Int32) := (ckI c_points 8 (ckI c_points 8 (some ((upd c_x (Int32.toNatClampNeg c_points) 0), (upd c_y (Int32.toNatClampNeg c_points) 0), (c_points + (1 : Int32))))))
theorem cw_X2_grows {R : Room} {s : State} {args : Array Value} {own : String} {index lev mc ms : Nat} (hts : ∀ w ∈ lw_all, w.before args s = true) (hl : Cond.methodLink own index yX2_grows ∈ lw_all) (hR : (rmL lev mc ms).frames + 1 ≤ R.frames ∧ 8 + (1 + 11) + (rmL lev mc ms).locals ≤ R.locals) : CallW R s args own RX2 index yX2_grows cX2_grows 1 none (ws_ yX2_grows cX2_grows 1 none) (rmL lev mc ms) mc ms 0 := cwV 0 hts (lw_V hl q866 q867 q155 q868) rfl rfl rfl (by decide +kernel) hR
set_option maxHeartbeats 4000000 in
theorem M_X2_grows {l : Launch} {G : GE} (hG : GC G) {N : Nat} {h0 : Nat} {ad : Nat → Nat} {c_lines : Int32} {c_line : (Nat → Int32)} {c_x : (Nat → Int32)} {c_y : (Nat → Int32)} {c_points : Int32} {ρ : ((Nat → Int32) × (Nat → Int32) × Int32)} (h : F_X2_grows N c_x c_y c_points = some ρ) : MW l G yX2_grows cX2_grows 1 none 1 (sW h0 ad G.2.2 c_points c_lines c_line c_x c_y) [.ref h0] none (sW h0 ad G.2.2 ρ.2.2 c_lines c_line ρ.1 ρ.2.1) := by
  rw [F_X2_grows] at h
  refine MW.start hG (by decide) (Nat.le_of_ble_eq_true rfl) ?_
  intro p e s m args below meth c Q A S hW0 hK hP hD hA hreti hretv ls hl
  have hS : va_S A s.heap s.heap [] := va_S.rf
  obtain ⟨hx, hb, hml, hown, hts⟩ := id S
  have hl : lv_has ls 1 [(0, .ref h0)] := hl
  refine lv_aload_n hx hb dX2_grows_0 rfl (lv_at hl 0 rfl) ?_
  refine va_get (ci := 1) (v := .ref (ad 3)) (C := RX2) (T := TX2) (N := 5) hx hb hts in_X2 hown hK hP 0 rfl rfl 3 (by decide) (hts _ q235) (fun _ h9 => h9) rfl dX2_grows_1 ?_
  refine lv_aload_n hx hb dX2_grows_4 rfl (lv_at hl 0 rfl) ?_
  refine va_get (ci := 1) (v := .int c_points) (C := RX2) (T := TX2) (N := 5) hx hb hts in_X2 hown hK hP 0 rfl rfl 0 (by decide) (hts _ q225) (fun _ h9 => h9) rfl dX2_grows_5 ?_
  refine lv_iconst (v := 0) hx hb dX2_grows_8 (by decide) ?_
  obtain ⟨i1, h⟩ := ckI_s h
  refine va_iast (f := c_x) hx hb hK hP hD hS 2 0 rfl rfl i1 dX2_grows_9 (fun H locs hP hD hS => ?_)
  have hP : va_P G.2.1 vwCl (sW h0 ad G.2.2 c_points c_lines c_line (upd c_x (Int32.toNatClampNeg c_points) 0) c_y) H := hP
  have hD : va_D A (sW h0 ad G.2.2 c_points c_lines c_line (upd c_x (Int32.toNatClampNeg c_points) 0) c_y) := hD
  refine lv_aload_n hx hb dX2_grows_10 rfl (lv_at hl 0 rfl) ?_
  refine va_get (ci := 1) (v := .ref (ad 4)) (C := RX2) (T := TX2) (N := 5) hx hb hts in_X2 hown hK hP 0 rfl rfl 4 (by decide) (hts _ q238) (fun _ h9 => h9) rfl dX2_grows_11 ?_
  refine lv_aload_n hx hb dX2_grows_14 rfl (lv_at hl 0 rfl) ?_
  refine va_get (ci := 1) (v := .int c_points) (C := RX2) (T := TX2) (N := 5) hx hb hts in_X2 hown hK hP 0 rfl rfl 0 (by decide) (hts _ q225) (fun _ h9 => h9) rfl dX2_grows_15 ?_
  refine lv_iconst (v := 0) hx hb dX2_grows_18 (by decide) ?_
  obtain ⟨i2, h⟩ := ckI_s h
  refine va_iast (f := c_y) hx hb hK hP hD hS 3 0 rfl rfl i2 dX2_grows_19 (fun H locs hP hD hS => ?_)
  have hP : va_P G.2.1 vwCl (sW h0 ad G.2.2 c_points c_lines c_line (upd c_x (Int32.toNatClampNeg c_points) 0) (upd c_y (Int32.toNatClampNeg c_points) 0)) H := hP
  have hD : va_D A (sW h0 ad G.2.2 c_points c_lines c_line (upd c_x (Int32.toNatClampNeg c_points) 0) (upd c_y (Int32.toNatClampNeg c_points) 0)) := hD
  refine lv_aload_n hx hb dX2_grows_20 rfl (lv_at hl 0 rfl) ?_
  refine lv_dup hx hb dX2_grows_21 rfl ?_
  refine va_get (ci := 1) (v := .int c_points) (C := RX2) (T := TX2) (N := 5) hx hb hts in_X2 hown hK hP 0 rfl rfl 0 (by decide) (hts _ q225) (fun _ h9 => h9) rfl dX2_grows_22 ?_
  refine lv_iconst (v := 1) hx hb dX2_grows_25 (by decide) ?_
  refine lv_iadd hx hb dX2_grows_26 ?_
  refine va_put (ci := 1) (v := .int (c_points + (1 : Int32))) (ty := .int) (C := RX2) (T := TX2) (N := 5) hx hb hts in_X2 tyX2 tyX2_ok nmX2 hown hK hP hD hS 0 rfl rfl 0 (by decide) (hts _ q225) (fun _ h9 => h9) rfl (by decide +kernel) rfl rfl (Nat.le_of_ble_eq_true rfl) dX2_grows_27 (fun H locs hP hD hS => ?_)
  have hP : va_P G.2.1 vwCl (sW h0 ad G.2.2 (c_points + (1 : Int32)) c_lines c_line (upd c_x (Int32.toNatClampNeg c_points) 0) (upd c_y (Int32.toNatClampNeg c_points) 0)) H := hP
  have hD : va_D A (sW h0 ad G.2.2 (c_points + (1 : Int32)) c_lines c_line (upd c_x (Int32.toNatClampNeg c_points) 0) (upd c_y (Int32.toNatClampNeg c_points) 0)) := hD
  obtain rfl := Option.some.inj h
  exact hretv rfl dX2_grows_30 rfl hP hD hS
def F_X2_shrinks_17 (N : Nat) (c_points : Int32) : Nat → Int32 → (Nat → Int32) → Int32 → Option ((Nat → Int32) × Int32 × Int32)
  | 0, _, _, _ => none
  | n + 1, v1, c_line, c_lines => (if v1 < 0 then (some (c_line, c_points, c_lines)) else ((F_X2_isOn N c_points v1 c_line).bind fun y3 => (if y3 = 0 then (F_X2_shrinks_17 N c_points n (v1 + (-1)) c_line c_lines) else ((F_X2_drops N v1 c_line c_lines).bind fun y5 => (F_X2_shrinks_17 N c_points n (v1 + (-1)) y5.1 y5.2)))))
def F_X2_shrinks (N : Nat) (c_line : (Nat → Int32)) (c_points : Int32) (c_lines : Int32) : Option ((Nat → Int32) × Int32 × Int32) := (F_X2_shrinks_17 N (c_points - (1 : Int32)) N (c_lines - (1 : Int32)) c_line c_lines)
theorem cw_X2_shrinks {R : Room} {s : State} {args : Array Value} {own : String} {index lev mc ms : Nat} (hts : ∀ w ∈ lw_all, w.before args s = true) (hl : Cond.methodLink own index yX2_shrinks ∈ lw_all) (hR : (rmL lev mc ms).frames + 1 ≤ R.frames ∧ 8 + (2 + 11) + (rmL lev mc ms).locals ≤ R.locals) : CallW R s args own RX2 index yX2_shrinks cX2_shrinks 2 none (ws_ yX2_shrinks cX2_shrinks 2 none) (rmL lev mc ms) mc ms 0 := cwV 0 hts (lw_V hl q870 q871 q155 q872) rfl rfl rfl (by decide +kernel) hR
set_option maxHeartbeats 4000000 in
theorem M_X2_shrinks {l : Launch} {G : GE} (hG : GC G) {N : Nat} {h0 : Nat} {ad : Nat → Nat} {c_x : (Nat → Int32)} {c_y : (Nat → Int32)} {c_line : (Nat → Int32)} {c_points : Int32} {c_lines : Int32} {ρ : ((Nat → Int32) × Int32 × Int32)} (h : F_X2_shrinks N c_line c_points c_lines = some ρ) : MW l G yX2_shrinks cX2_shrinks 2 none 2 (sW h0 ad G.2.2 c_points c_lines c_line c_x c_y) [.ref h0] none (sW h0 ad G.2.2 ρ.2.1 ρ.2.2 ρ.1 c_x c_y) := by
  rw [F_X2_shrinks] at h
  refine MW.start hG (by decide) (Nat.le_of_ble_eq_true rfl) ?_
  intro p e s m args below meth c Q A S hW0 hK hP hD hA hreti hretv ls hl
  have hS : va_S A s.heap s.heap [] := va_S.rf
  obtain ⟨hx, hb, hml, hown, hts⟩ := id S
  have hl : lv_has ls 2 [(0, .ref h0)] := hl
  have S_X2_shrinks_17 : ∀ (n : Nat) (v1 : Int32) (c_line : (Nat → Int32)) (c_points : Int32) (c_lines : Int32), F_X2_shrinks_17 N c_points n v1 c_line c_lines = some ρ → ∀ (H : Heap) (locs : List Loc), va_P G.2.1 vwCl (sW h0 ad G.2.2 c_points c_lines c_line c_x c_y) H → va_D A (sW h0 ad G.2.2 c_points c_lines c_line c_x c_y) → va_S A s.heap H locs → ∀ (ls : Array Slot), lv_has ls 2 [(0, .ref h0), (1, .int v1)] → W p l e (rmL 2 0 0) s m args below meth c H locs 0 0 Q (F0 m 17 ls []) := by
    intro n
    induction n with
    | zero =>
      intro v1 c_line c_points c_lines h
      exact absurd h (by simp [F_X2_shrinks_17])
    | succ n ih =>
      intro v1 c_line c_points c_lines h H locs hP hD hS ls hl
      rw [F_X2_shrinks_17] at h
      refine lv_iload_n hx hb dX2_shrinks_17 rfl (lv_at hl 1 rfl) ?_
      refine lv_if_lt (tgt := 44) hx hb dX2_shrinks_18 (by decide) (fun c1 => ?_) (fun c1 => ?_)
      · rw [if_pos c1] at h
        obtain rfl := Option.some.inj h
        exact hretv rfl dX2_shrinks_44 rfl hP hD hS
      · rw [if_neg c1] at h
        refine lv_aload_n hx hb dX2_shrinks_21 rfl (lv_at hl 0 rfl) ?_
        refine lv_aload_n hx hb dX2_shrinks_22 rfl (lv_at hl 0 rfl) ?_
        refine va_get (ci := 1) (v := .int c_points) (C := RX2) (T := TX2) (N := 5) hx hb hts in_X2 hown hK hP 0 rfl rfl 0 (by decide) (hts _ q225) (fun _ h9 => h9) rfl dX2_shrinks_23 ?_
        refine lv_iload_n hx hb dX2_shrinks_26 rfl (lv_at hl 1 rfl) ?_
        obtain ⟨y3, e3, h⟩ := ob_s h
        refine MR.callV (q0 := 0) (M_X2_isOn hG e3) S (cw_X2_isOn hts q855 ⟨Nat.le_of_ble_eq_true rfl, Nat.le_of_ble_eq_true rfl⟩) hW0 hK hP rfl rfl rfl hl.1 rfl (Nat.le_of_ble_eq_true rfl) dX2_shrinks_27 ⟨Nat.zero_le _, Nat.zero_le _⟩ ?_
        refine lv_if_eq (tgt := 38) hx hb dX2_shrinks_30 (by decide) (fun c4 => ?_) (fun c4 => ?_)
        · rw [if_pos c4] at h
          refine lv_iinc (v := (v1 + (-1))) (lv' := [(1, .int (v1 + (-1))), (0, .ref h0)]) hx hb dX2_shrinks_38 hl (k := 1) rfl rfl (by decide) rfl (fun ls hl => ?_)
          refine lv_goto (tgt := 17) hx hb dX2_shrinks_41 (by decide) ?_
          exact ih (v1 + (-1)) c_line c_points c_lines h _ _ hP hD hS _ (lv_sub hl [1, 0] rfl)
        · rw [if_neg c4] at h
          refine lv_aload_n hx hb dX2_shrinks_33 rfl (lv_at hl 0 rfl) ?_
          refine lv_iload_n hx hb dX2_shrinks_34 rfl (lv_at hl 1 rfl) ?_
          obtain ⟨y5, e5, h⟩ := ob_s h
          refine MW.callV (q0 := 0) (M_X2_drops hG e5) S (cw_X2_drops hts q873 ⟨Nat.le_of_ble_eq_true rfl, Nat.le_of_ble_eq_true rfl⟩) hW0 hK hP hD hS hA rfl rfl rfl hl.1 rfl (Nat.le_of_ble_eq_true rfl) dX2_shrinks_35 ⟨Nat.zero_le _, Nat.zero_le _⟩ (fun H locs hP hD hS => ?_)
          have hP : va_P G.2.1 vwCl (sW h0 ad G.2.2 c_points y5.2 y5.1 c_x c_y) H := hP
          have hD : va_D A (sW h0 ad G.2.2 c_points y5.2 y5.1 c_x c_y) := hD
          refine W.eq (g2 := F0 m 38 ls []) rfl ?_
          refine lv_iinc (v := (v1 + (-1))) (lv' := [(1, .int (v1 + (-1))), (0, .ref h0)]) hx hb dX2_shrinks_38 hl (k := 1) rfl rfl (by decide) rfl (fun ls hl => ?_)
          refine lv_goto (tgt := 17) hx hb dX2_shrinks_41 (by decide) ?_
          exact ih (v1 + (-1)) y5.1 c_points y5.2 h _ _ hP hD hS _ (lv_sub hl [1, 0] rfl)
  refine lv_aload_n hx hb dX2_shrinks_0 rfl (lv_at hl 0 rfl) ?_
  refine lv_dup hx hb dX2_shrinks_1 rfl ?_
  refine va_get (ci := 1) (v := .int c_points) (C := RX2) (T := TX2) (N := 5) hx hb hts in_X2 hown hK hP 0 rfl rfl 0 (by decide) (hts _ q225) (fun _ h9 => h9) rfl dX2_shrinks_2 ?_
  refine lv_iconst (v := 1) hx hb dX2_shrinks_5 (by decide) ?_
  refine lv_isub hx hb dX2_shrinks_6 ?_
  refine va_put (ci := 1) (v := .int (c_points - (1 : Int32))) (ty := .int) (C := RX2) (T := TX2) (N := 5) hx hb hts in_X2 tyX2 tyX2_ok nmX2 hown hK hP hD hS 0 rfl rfl 0 (by decide) (hts _ q225) (fun _ h9 => h9) rfl (by decide +kernel) rfl rfl (Nat.le_of_ble_eq_true rfl) dX2_shrinks_7 (fun H locs hP hD hS => ?_)
  have hP : va_P G.2.1 vwCl (sW h0 ad G.2.2 (c_points - (1 : Int32)) c_lines c_line c_x c_y) H := hP
  have hD : va_D A (sW h0 ad G.2.2 (c_points - (1 : Int32)) c_lines c_line c_x c_y) := hD
  refine lv_aload_n hx hb dX2_shrinks_10 rfl (lv_at hl 0 rfl) ?_
  refine va_get (ci := 1) (v := .int c_lines) (C := RX2) (T := TX2) (N := 5) hx hb hts in_X2 hown hK hP 0 rfl rfl 1 (by decide) (hts _ q229) (fun _ h9 => h9) rfl dX2_shrinks_11 ?_
  refine lv_iconst (v := 1) hx hb dX2_shrinks_14 (by decide) ?_
  refine lv_isub hx hb dX2_shrinks_15 ?_
  refine lv_istore_n (lv' := [(1, .int (c_lines - (1 : Int32))), (0, .ref h0)]) hx hb dX2_shrinks_16 rfl hl (by decide) rfl (fun ls hl => ?_)
  refine S_X2_shrinks_17 N (c_lines - (1 : Int32)) c_line (c_points - (1 : Int32)) c_lines h  _ _ hP hD hS _ (lv_sub hl [1, 0] rfl)
