set_option maxRecDepth 100000
set_option linter.unusedVariables false
def F_X1_comesTo (N : Nat) (rc : Int32 → Int32 → (Nat → Int32) → (Nat → Int32) → Int32 → Int32 → Option (Int32 × (Nat → Int32))) (v1 : Int32) (v2 : Int32) (c_worth : (Nat → Int32)) (c_now_line : (Nat → Int32)) (c_now_points : Int32) (c_now_lines : Int32) : Option (Int32 × (Nat → Int32)) := ((F_X1_hasNone N v1 c_now_line c_now_lines).bind fun y1 => (if y1 = 0 then (some (1, c_worth)) else ((rc v2 v1 c_worth c_now_line c_now_points c_now_lines).bind fun y4 => (some ((-y4.1), y4.2)))))
theorem cw_X1_plays {R : Room} {s : State} {args : Array Value} {own : String} {index lev mc ms : Nat} (hts : ∀ w ∈ lw_all, w.before args s = true) (hl : Cond.methodLink own index yX1_plays ∈ lw_all) (hR : (rmL lev mc ms).frames + 1 ≤ R.frames ∧ 8 + (6 + 11) + (rmL lev mc ms).locals ≤ R.locals) : CallW R s args own RX1 index yX1_plays cX1_plays 6 (some .int) (ws_ yX1_plays cX1_plays 6 (some .int)) (rmL lev mc ms) mc ms 2 := cwV 2 hts (lw_V hl q1628 qs67 q151 q1629) rfl rfl rfl (by decide +kernel) hR
theorem cw_X1_comesTo {R : Room} {s : State} {args : Array Value} {own : String} {index lev mc ms : Nat} (hts : ∀ w ∈ lw_all, w.before args s = true) (hl : Cond.methodLink own index yX1_comesTo ∈ lw_all) (hR : (rmL lev mc ms).frames + 1 ≤ R.frames ∧ 8 + (3 + 11) + (rmL lev mc ms).locals ≤ R.locals) : CallW R s args own RX1 index yX1_comesTo cX1_comesTo 3 (some .int) (ws_ yX1_comesTo cX1_comesTo 3 (some .int)) (rmL lev mc ms) mc ms 2 := cwV 2 hts (lw_V hl q1632 qs68 q151 q1633) rfl rfl rfl (by decide +kernel) hR
set_option maxHeartbeats 4000000 in
theorem M_X1_comesTo {l : Launch} {G : GE} (hG : GC G) {N : Nat} {h0 : Nat} {ad : Nat → Nat} {c_listPoints : Int32} {c_listLines : Int32} {c_refused : (Nat → Int32)} {c_imageRefused : (Nat → Int32)} {c_hasImage : Int32} {c_tape : (Nat → Int32)} {c_taped : Int32} {c_faultPlace : Int32} {c_orbit : (Nat → Int32)} {c_lineFor : (Nat → Int32)} {c_dualities : Int32} {c_polarities : Int32} {c_shortest : Int32} {c_placeX : (Nat → Int32)} {c_placeY : (Nat → Int32)} {c_placeZ : (Nat → Int32)} {c_lies : (Nat → Int32)} {c_firstLies : (Nat → Int32)} {c_its : Int32} {c_now_x : (Nat → Int32)} {c_now_y : (Nat → Int32)} {c_tried_points : Int32} {c_tried_lines : Int32} {c_tried_line : (Nat → Int32)} {c_tried_x : (Nat → Int32)} {c_tried_y : (Nat → Int32)} {c_imageNow_points : Int32} {c_imageNow_lines : Int32} {c_imageNow_line : (Nat → Int32)} {c_imageNow_x : (Nat → Int32)} {c_imageNow_y : (Nat → Int32)} {d : Nat} {rc : Int32 → Int32 → (Nat → Int32) → (Nat → Int32) → Int32 → Int32 → Option (Int32 × (Nat → Int32))} (hrc : ∀ {v1 : Int32} {v2 : Int32} {c_worth : (Nat → Int32)} {c_now_line : (Nat → Int32)} {c_now_points : Int32} {c_now_lines : Int32} {ρ : (Int32 × (Nat → Int32))}, rc v1 v2 c_worth c_now_line c_now_points c_now_lines = some ρ → MW l G yX1_plays cX1_plays 6 (some .int) (2 + 2 * d) (cW h0 ad G.2.2 c_listPoints c_listLines c_refused c_imageRefused c_hasImage c_tape c_taped c_faultPlace c_orbit c_lineFor c_dualities c_polarities c_shortest c_placeX c_placeY c_placeZ c_lies c_firstLies c_worth c_its c_now_points c_now_lines c_now_line c_now_x c_now_y c_tried_points c_tried_lines c_tried_line c_tried_x c_tried_y c_imageNow_points c_imageNow_lines c_imageNow_line c_imageNow_x c_imageNow_y) [.ref h0, .int v1, .int v2] (some (.int ρ.1)) (cW h0 ad G.2.2 c_listPoints c_listLines c_refused c_imageRefused c_hasImage c_tape c_taped c_faultPlace c_orbit c_lineFor c_dualities c_polarities c_shortest c_placeX c_placeY c_placeZ c_lies c_firstLies ρ.2 c_its c_now_points c_now_lines c_now_line c_now_x c_now_y c_tried_points c_tried_lines c_tried_line c_tried_x c_tried_y c_imageNow_points c_imageNow_lines c_imageNow_line c_imageNow_x c_imageNow_y)) {v1 : Int32} {v2 : Int32} {c_worth : (Nat → Int32)} {c_now_line : (Nat → Int32)} {c_now_points : Int32} {c_now_lines : Int32} {ρ : (Int32 × (Nat → Int32))} (h : F_X1_comesTo N rc v1 v2 c_worth c_now_line c_now_points c_now_lines = some ρ) : MW l G yX1_comesTo cX1_comesTo 3 (some .int) (2 + 2 * d + 1) (cW h0 ad G.2.2 c_listPoints c_listLines c_refused c_imageRefused c_hasImage c_tape c_taped c_faultPlace c_orbit c_lineFor c_dualities c_polarities c_shortest c_placeX c_placeY c_placeZ c_lies c_firstLies c_worth c_its c_now_points c_now_lines c_now_line c_now_x c_now_y c_tried_points c_tried_lines c_tried_line c_tried_x c_tried_y c_imageNow_points c_imageNow_lines c_imageNow_line c_imageNow_x c_imageNow_y) [.ref h0, .int v1, .int v2] (some (.int ρ.1)) (cW h0 ad G.2.2 c_listPoints c_listLines c_refused c_imageRefused c_hasImage c_tape c_taped c_faultPlace c_orbit c_lineFor c_dualities c_polarities c_shortest c_placeX c_placeY c_placeZ c_lies c_firstLies ρ.2 c_its c_now_points c_now_lines c_now_line c_now_x c_now_y c_tried_points c_tried_lines c_tried_line c_tried_x c_tried_y c_imageNow_points c_imageNow_lines c_imageNow_line c_imageNow_x c_imageNow_y) := by
  rw [F_X1_comesTo] at h
  refine MW.start hG (by decide) (Nat.le_of_ble_eq_true rfl) ?_
  intro p e s m args below meth c Q A S hW0 hK hP hD hA hreti hretv ls hl
  have hS : va_S A s.heap s.heap [] := va_S.rf
  obtain ⟨hx, hb, hml, hown, hts⟩ := id S
  have hl : lv_has ls 3 [(0, .ref h0), (1, .int v1), (2, .int v2)] := hl
  refine lv_aload_n hx hb dX1_comesTo_0 rfl (lv_at hl 0 rfl) ?_
  refine lv_iload_n hx hb dX1_comesTo_1 rfl (lv_at hl 1 rfl) ?_
  obtain ⟨y1, e1, h⟩ := ob_s h
  refine MR.callV (q0 := 0) (M_X1_hasNone hG e1) S (cw_X1_hasNone hts q1596 ⟨by dsimp only; omega, by dsimp only; omega⟩) hW0 hK hP rfl rfl rfl hl.1 rfl (Nat.le_of_ble_eq_true rfl) dX1_comesTo_2 ⟨Nat.zero_le _, Nat.zero_le _⟩ ?_
  refine lv_if_eq (tgt := 18) hx hb dX1_comesTo_5 (by decide) (fun c2 => ?_) (fun c2 => ?_)
  · rw [if_pos c2] at h
    refine lv_iconst (v := 1) hx hb dX1_comesTo_18 (by decide) ?_
    obtain rfl := Option.some.inj h
    exact hreti rfl dX1_comesTo_19 rfl rfl hP hD hS
  · rw [if_neg c2] at h
    refine lv_aload_n hx hb dX1_comesTo_8 rfl (lv_at hl 0 rfl) ?_
    refine lv_iload_n hx hb dX1_comesTo_9 rfl (lv_at hl 2 rfl) ?_
    refine lv_iload_n hx hb dX1_comesTo_10 rfl (lv_at hl 1 rfl) ?_
    obtain ⟨y4, e4, h⟩ := ob_s h
    refine MW.callV (q0 := 0) (hrc e4) S (cw_X1_plays hts q1626 ⟨by dsimp only; omega, by dsimp only; omega⟩) hW0 hK hP hD hS hA rfl rfl rfl hl.1 rfl (Nat.le_of_ble_eq_true rfl) dX1_comesTo_11 ⟨Nat.zero_le _, Nat.zero_le _⟩ (fun H locs hP hD hS => ?_)
    have hP : va_P G.2.1 vwCl (cW h0 ad G.2.2 c_listPoints c_listLines c_refused c_imageRefused c_hasImage c_tape c_taped c_faultPlace c_orbit c_lineFor c_dualities c_polarities c_shortest c_placeX c_placeY c_placeZ c_lies c_firstLies y4.2 c_its c_now_points c_now_lines c_now_line c_now_x c_now_y c_tried_points c_tried_lines c_tried_line c_tried_x c_tried_y c_imageNow_points c_imageNow_lines c_imageNow_line c_imageNow_x c_imageNow_y) H := hP
    have hD : va_D A (cW h0 ad G.2.2 c_listPoints c_listLines c_refused c_imageRefused c_hasImage c_tape c_taped c_faultPlace c_orbit c_lineFor c_dualities c_polarities c_shortest c_placeX c_placeY c_placeZ c_lies c_firstLies y4.2 c_its c_now_points c_now_lines c_now_line c_now_x c_now_y c_tried_points c_tried_lines c_tried_line c_tried_x c_tried_y c_imageNow_points c_imageNow_lines c_imageNow_line c_imageNow_x c_imageNow_y) := hD
    refine W.eq (g2 := F0 m 14 ls [.int y4.1]) rfl ?_
    refine lv_ineg hx hb dX1_comesTo_14 ?_
    refine lv_goto (tgt := 19) hx hb dX1_comesTo_15 (by decide) ?_
    obtain rfl := Option.some.inj h
    exact hreti rfl dX1_comesTo_19 rfl rfl hP hD hS
def F_X1_plays_53 (N : Nat) (rc : Int32 → Int32 → (Nat → Int32) → (Nat → Int32) → Int32 → Int32 → Option (Int32 × (Nat → Int32))) (v1 : Int32) (v2 : Int32) (v3 : Int32) (c_now_line : (Nat → Int32)) (c_now_points : Int32) (c_now_lines : Int32) : Nat → Int32 → Int32 → (Nat → Int32) → Option (Int32 × (Nat → Int32))
  | 0, _, _, _ => none
  | n + 1, v4, v5, c_worth => (if c_now_points ≤ v5 then (ckI v3 65536 (some (v4, (upd c_worth (Int32.toNatClampNeg v3) v4)))) else (if 1 ≤ v4 then (ckI v3 65536 (some (v4, (upd c_worth (Int32.toNatClampNeg v3) v4)))) else (if (((v1 ||| v2) >>> (v5 &&& 31)) &&& (1 : Int32)) = 1 then (F_X1_plays_53 N rc v1 v2 v3 c_now_line c_now_points c_now_lines n v4 (v5 + 1) c_worth) else ((F_X1_comesTo N rc (v1 ||| ((1 : Int32) <<< (v5 &&& 31))) v2 c_worth c_now_line c_now_points c_now_lines).bind fun y11 => (F_X1_plays_53 N rc v1 v2 v3 c_now_line c_now_points c_now_lines n (if v4 < y11.1 then y11.1 else v4) (v5 + 1) y11.2)))))
def F_X1_plays_48 (N : Nat) (rc : Int32 → Int32 → (Nat → Int32) → (Nat → Int32) → Int32 → Int32 → Option (Int32 × (Nat → Int32))) (c_now_line : (Nat → Int32)) (c_now_points : Int32) (c_now_lines : Int32) (s0 : Int32) (v1 : Int32) (v2 : Int32) (v3 : Int32) (c_worth : (Nat → Int32)) : Option (Int32 × (Nat → Int32)) := (F_X1_plays_53 N rc v1 v2 v3 c_now_line c_now_points c_now_lines N s0 0 c_worth)
def F_X1_plays (N : Nat) : Nat → (v1 : Int32) → (v2 : Int32) → (c_worth : (Nat → Int32)) → (c_now_line : (Nat → Int32)) → (c_now_points : Int32) → (c_now_lines : Int32) → Option (Int32 × (Nat → Int32))
  | 0, _, _, _, _, _, _ => none
  | d + 1, v1, v2, c_worth, c_now_line, c_now_points, c_now_lines => (ckI ((v1 <<< ((8 : Int32) &&& 31)) ||| v2) 65536 (if (c_worth (Int32.toNatClampNeg ((v1 <<< ((8 : Int32) &&& 31)) ||| v2))) = 999 then (if (v1 + v2) = (((1 : Int32) <<< (c_now_points &&& 31)) - (1 : Int32)) then (F_X1_plays_48 N (F_X1_plays N d) c_now_line c_now_points c_now_lines 0 v1 v2 ((v1 <<< ((8 : Int32) &&& 31)) ||| v2) c_worth) else (F_X1_plays_48 N (F_X1_plays N d) c_now_line c_now_points c_now_lines (-1) v1 v2 ((v1 <<< ((8 : Int32) &&& 31)) ||| v2) c_worth)) else (ckI ((v1 <<< ((8 : Int32) &&& 31)) ||| v2) 65536 (some ((c_worth (Int32.toNatClampNeg ((v1 <<< ((8 : Int32) &&& 31)) ||| v2))), c_worth)))))
set_option maxHeartbeats 4000000 in
theorem M_X1_plays {l : Launch} {G : GE} (hG : GC G) {N : Nat} {h0 : Nat} {ad : Nat → Nat} {c_listPoints : Int32} {c_listLines : Int32} {c_refused : (Nat → Int32)} {c_imageRefused : (Nat → Int32)} {c_hasImage : Int32} {c_tape : (Nat → Int32)} {c_taped : Int32} {c_faultPlace : Int32} {c_orbit : (Nat → Int32)} {c_lineFor : (Nat → Int32)} {c_dualities : Int32} {c_polarities : Int32} {c_shortest : Int32} {c_placeX : (Nat → Int32)} {c_placeY : (Nat → Int32)} {c_placeZ : (Nat → Int32)} {c_lies : (Nat → Int32)} {c_firstLies : (Nat → Int32)} {c_its : Int32} {c_now_x : (Nat → Int32)} {c_now_y : (Nat → Int32)} {c_tried_points : Int32} {c_tried_lines : Int32} {c_tried_line : (Nat → Int32)} {c_tried_x : (Nat → Int32)} {c_tried_y : (Nat → Int32)} {c_imageNow_points : Int32} {c_imageNow_lines : Int32} {c_imageNow_line : (Nat → Int32)} {c_imageNow_x : (Nat → Int32)} {c_imageNow_y : (Nat → Int32)} : ∀ (d : Nat) {v1 : Int32} {v2 : Int32} {c_worth : (Nat → Int32)} {c_now_line : (Nat → Int32)} {c_now_points : Int32} {c_now_lines : Int32} {ρ : (Int32 × (Nat → Int32))} (h : F_X1_plays N d v1 v2 c_worth c_now_line c_now_points c_now_lines = some ρ), MW l G yX1_plays cX1_plays 6 (some .int) (2 + 2 * d) (cW h0 ad G.2.2 c_listPoints c_listLines c_refused c_imageRefused c_hasImage c_tape c_taped c_faultPlace c_orbit c_lineFor c_dualities c_polarities c_shortest c_placeX c_placeY c_placeZ c_lies c_firstLies c_worth c_its c_now_points c_now_lines c_now_line c_now_x c_now_y c_tried_points c_tried_lines c_tried_line c_tried_x c_tried_y c_imageNow_points c_imageNow_lines c_imageNow_line c_imageNow_x c_imageNow_y) [.ref h0, .int v1, .int v2] (some (.int ρ.1)) (cW h0 ad G.2.2 c_listPoints c_listLines c_refused c_imageRefused c_hasImage c_tape c_taped c_faultPlace c_orbit c_lineFor c_dualities c_polarities c_shortest c_placeX c_placeY c_placeZ c_lies c_firstLies ρ.2 c_its c_now_points c_now_lines c_now_line c_now_x c_now_y c_tried_points c_tried_lines c_tried_line c_tried_x c_tried_y c_imageNow_points c_imageNow_lines c_imageNow_line c_imageNow_x c_imageNow_y) := by
  intro d
  induction d with
  | zero =>
    intro v1 v2 c_worth c_now_line c_now_points c_now_lines ρ h
    exact absurd h (by simp [F_X1_plays])
  | succ d ihd =>
    intro v1 v2 c_worth c_now_line c_now_points c_now_lines ρ h
    rw [F_X1_plays] at h
    refine MW.start hG (by decide) (Nat.le_of_ble_eq_true rfl) ?_
    intro p e s m args below meth c Q A S hW0 hK hP hD hA hreti hretv ls hl
    have hS : va_S A s.heap s.heap [] := va_S.rf
    obtain ⟨hx, hb, hml, hown, hts⟩ := id S
    have hl : lv_has ls 6 [(0, .ref h0), (1, .int v1), (2, .int v2)] := hl
    have S_X1_plays_53 : ∀ (n : Nat) (v1 : Int32) (v2 : Int32) (v3 : Int32) (v4 : Int32) (v5 : Int32) (c_worth : (Nat → Int32)), F_X1_plays_53 N (F_X1_plays N d) v1 v2 v3 c_now_line c_now_points c_now_lines n v4 v5 c_worth = some ρ → ∀ (H : Heap) (locs : List Loc), va_P G.2.1 vwCl (cW h0 ad G.2.2 c_listPoints c_listLines c_refused c_imageRefused c_hasImage c_tape c_taped c_faultPlace c_orbit c_lineFor c_dualities c_polarities c_shortest c_placeX c_placeY c_placeZ c_lies c_firstLies c_worth c_its c_now_points c_now_lines c_now_line c_now_x c_now_y c_tried_points c_tried_lines c_tried_line c_tried_x c_tried_y c_imageNow_points c_imageNow_lines c_imageNow_line c_imageNow_x c_imageNow_y) H → va_D A (cW h0 ad G.2.2 c_listPoints c_listLines c_refused c_imageRefused c_hasImage c_tape c_taped c_faultPlace c_orbit c_lineFor c_dualities c_polarities c_shortest c_placeX c_placeY c_placeZ c_lies c_firstLies c_worth c_its c_now_points c_now_lines c_now_line c_now_x c_now_y c_tried_points c_tried_lines c_tried_line c_tried_x c_tried_y c_imageNow_points c_imageNow_lines c_imageNow_line c_imageNow_x c_imageNow_y) → va_S A s.heap H locs → ∀ (ls : Array Slot), lv_has ls 6 [(0, .ref h0), (1, .int v1), (2, .int v2), (3, .int v3), (4, .int v4), (5, .int v5)] → W p l e (rmL (2 + 2 * (d + 1)) 0 0) s m args below meth c H locs 0 0 Q (F0 m 53 ls []) := by
      intro n
      induction n with
      | zero =>
        intro v1 v2 v3 v4 v5 c_worth h
        exact absurd h (by simp [F_X1_plays_53])
      | succ n ih =>
        intro v1 v2 v3 v4 v5 c_worth h H locs hP hD hS ls hl
        rw [F_X1_plays_53] at h
        refine lv_iload hx hb dX1_plays_53 (lv_at hl 5 rfl) ?_
        refine lv_aload_n hx hb dX1_plays_55 rfl (lv_at hl 0 rfl) ?_
        refine va_get (ci := 0) (v := .ref (ad 3)) (C := RX1) (T := TX1) (N := 28) hx hb hts in_X1 hown hK hP 0 rfl rfl 3 (by decide) (hts _ q580) (fun _ h9 => h9) rfl dX1_plays_56 ?_
        refine va_getN (ci := 1) (v := .int c_now_points) (C := RX2) (T := TX2) (N := 5) hx hb hts in_X2 hown hK hP 1 rfl rfl 0 (by decide) (hG.nf hW0 q224) (fun _ h9 => h9) rfl dX1_plays_59 ?_
        refine lv_icmp_ge (tgt := 110) hx hb dX1_plays_62 (by decide) (fun c4 => ?_) (fun c4 => ?_)
        · rw [if_pos c4] at h
          refine lv_aload_n hx hb dX1_plays_110 rfl (lv_at hl 0 rfl) ?_
          refine va_get (ci := 0) (v := .ref (ad 26)) (C := RX1) (T := TX1) (N := 28) hx hb hts in_X1 hown hK hP 0 rfl rfl 26 (by decide) (hts _ q603) (fun _ h9 => h9) rfl dX1_plays_111 ?_
          refine lv_iload_n hx hb dX1_plays_114 rfl (lv_at hl 3 rfl) ?_
          refine lv_iload hx hb dX1_plays_115 (lv_at hl 4 rfl) ?_
          obtain ⟨i5, h⟩ := ckI_s h
          refine va_iast (f := c_worth) hx hb hK hP hD hS 23 0 rfl rfl i5 dX1_plays_117 (fun H locs hP hD hS => ?_)
          have hP : va_P G.2.1 vwCl (cW h0 ad G.2.2 c_listPoints c_listLines c_refused c_imageRefused c_hasImage c_tape c_taped c_faultPlace c_orbit c_lineFor c_dualities c_polarities c_shortest c_placeX c_placeY c_placeZ c_lies c_firstLies (upd c_worth (Int32.toNatClampNeg v3) v4) c_its c_now_points c_now_lines c_now_line c_now_x c_now_y c_tried_points c_tried_lines c_tried_line c_tried_x c_tried_y c_imageNow_points c_imageNow_lines c_imageNow_line c_imageNow_x c_imageNow_y) H := hP
          have hD : va_D A (cW h0 ad G.2.2 c_listPoints c_listLines c_refused c_imageRefused c_hasImage c_tape c_taped c_faultPlace c_orbit c_lineFor c_dualities c_polarities c_shortest c_placeX c_placeY c_placeZ c_lies c_firstLies (upd c_worth (Int32.toNatClampNeg v3) v4) c_its c_now_points c_now_lines c_now_line c_now_x c_now_y c_tried_points c_tried_lines c_tried_line c_tried_x c_tried_y c_imageNow_points c_imageNow_lines c_imageNow_line c_imageNow_x c_imageNow_y) := hD
          refine lv_iload hx hb dX1_plays_118 (lv_at hl 4 rfl) ?_
          obtain rfl := Option.some.inj h
          exact hreti rfl dX1_plays_120 rfl rfl hP hD hS
        · rw [if_neg c4] at h
          refine lv_iload hx hb dX1_plays_65 (lv_at hl 4 rfl) ?_
          refine lv_iconst (v := 1) hx hb dX1_plays_67 (by decide) ?_
          refine lv_icmp_ge (tgt := 110) hx hb dX1_plays_68 (by decide) (fun c7 => ?_) (fun c7 => ?_)
          · rw [if_pos c7] at h
            refine lv_aload_n hx hb dX1_plays_110 rfl (lv_at hl 0 rfl) ?_
            refine va_get (ci := 0) (v := .ref (ad 26)) (C := RX1) (T := TX1) (N := 28) hx hb hts in_X1 hown hK hP 0 rfl rfl 26 (by decide) (hts _ q603) (fun _ h9 => h9) rfl dX1_plays_111 ?_
            refine lv_iload_n hx hb dX1_plays_114 rfl (lv_at hl 3 rfl) ?_
            refine lv_iload hx hb dX1_plays_115 (lv_at hl 4 rfl) ?_
            obtain ⟨i8, h⟩ := ckI_s h
            refine va_iast (f := c_worth) hx hb hK hP hD hS 23 0 rfl rfl i8 dX1_plays_117 (fun H locs hP hD hS => ?_)
            have hP : va_P G.2.1 vwCl (cW h0 ad G.2.2 c_listPoints c_listLines c_refused c_imageRefused c_hasImage c_tape c_taped c_faultPlace c_orbit c_lineFor c_dualities c_polarities c_shortest c_placeX c_placeY c_placeZ c_lies c_firstLies (upd c_worth (Int32.toNatClampNeg v3) v4) c_its c_now_points c_now_lines c_now_line c_now_x c_now_y c_tried_points c_tried_lines c_tried_line c_tried_x c_tried_y c_imageNow_points c_imageNow_lines c_imageNow_line c_imageNow_x c_imageNow_y) H := hP
            have hD : va_D A (cW h0 ad G.2.2 c_listPoints c_listLines c_refused c_imageRefused c_hasImage c_tape c_taped c_faultPlace c_orbit c_lineFor c_dualities c_polarities c_shortest c_placeX c_placeY c_placeZ c_lies c_firstLies (upd c_worth (Int32.toNatClampNeg v3) v4) c_its c_now_points c_now_lines c_now_line c_now_x c_now_y c_tried_points c_tried_lines c_tried_line c_tried_x c_tried_y c_imageNow_points c_imageNow_lines c_imageNow_line c_imageNow_x c_imageNow_y) := hD
            refine lv_iload hx hb dX1_plays_118 (lv_at hl 4 rfl) ?_
            obtain rfl := Option.some.inj h
            exact hreti rfl dX1_plays_120 rfl rfl hP hD hS
          · rw [if_neg c7] at h
            refine lv_iload_n hx hb dX1_plays_71 rfl (lv_at hl 1 rfl) ?_
            refine lv_iload_n hx hb dX1_plays_72 rfl (lv_at hl 2 rfl) ?_
            refine lv_ior hx hb dX1_plays_73 ?_
            refine lv_iload hx hb dX1_plays_74 (lv_at hl 5 rfl) ?_
            refine lv_ishr hx hb dX1_plays_76 ?_
            refine lv_iconst (v := 1) hx hb dX1_plays_77 (by decide) ?_
            refine lv_iand hx hb dX1_plays_78 ?_
            refine lv_iconst (v := 1) hx hb dX1_plays_79 (by decide) ?_
            refine lv_icmp_ne (tgt := 86) hx hb dX1_plays_80 (by decide) (fun c10 => ?_) (fun c10 => ?_)
            · rw [if_neg c10] at h
              refine lv_iload hx hb dX1_plays_86 (lv_at hl 4 rfl) ?_
              refine lv_aload_n hx hb dX1_plays_88 rfl (lv_at hl 0 rfl) ?_
              refine lv_iload_n hx hb dX1_plays_89 rfl (lv_at hl 1 rfl) ?_
              refine lv_iconst (v := 1) hx hb dX1_plays_90 (by decide) ?_
              refine lv_iload hx hb dX1_plays_91 (lv_at hl 5 rfl) ?_
              refine lv_ishl hx hb dX1_plays_93 ?_
              refine lv_ior hx hb dX1_plays_94 ?_
              refine lv_iload_n hx hb dX1_plays_95 rfl (lv_at hl 2 rfl) ?_
              obtain ⟨y11, e11, h⟩ := ob_s h
              refine MW.callV (q0 := 0) (M_X1_comesTo hG (d := d) (fun h => ihd h) e11) S (cw_X1_comesTo hts q1630 ⟨by dsimp only; omega, by dsimp only; omega⟩) hW0 hK hP hD hS hA rfl rfl rfl hl.1 rfl (Nat.le_of_ble_eq_true rfl) dX1_plays_96 ⟨Nat.zero_le _, Nat.zero_le _⟩ (fun H locs hP hD hS => ?_)
              have hP : va_P G.2.1 vwCl (cW h0 ad G.2.2 c_listPoints c_listLines c_refused c_imageRefused c_hasImage c_tape c_taped c_faultPlace c_orbit c_lineFor c_dualities c_polarities c_shortest c_placeX c_placeY c_placeZ c_lies c_firstLies y11.2 c_its c_now_points c_now_lines c_now_line c_now_x c_now_y c_tried_points c_tried_lines c_tried_line c_tried_x c_tried_y c_imageNow_points c_imageNow_lines c_imageNow_line c_imageNow_x c_imageNow_y) H := hP
              have hD : va_D A (cW h0 ad G.2.2 c_listPoints c_listLines c_refused c_imageRefused c_hasImage c_tape c_taped c_faultPlace c_orbit c_lineFor c_dualities c_polarities c_shortest c_placeX c_placeY c_placeZ c_lies c_firstLies y11.2 c_its c_now_points c_now_lines c_now_line c_now_x c_now_y c_tried_points c_tried_lines c_tried_line c_tried_x c_tried_y c_imageNow_points c_imageNow_lines c_imageNow_line c_imageNow_x c_imageNow_y) := hD
              refine W.eq (g2 := F0 m 99 ls [.int y11.1, .int v4]) rfl ?_
              refine va_mmax hx hb (hml.trans hl.1.symm) hown (hts _ q1634) (hts _ q359) (hts _ q165) (hts _ q360) (Nat.le_of_ble_eq_true rfl) (Nat.le_of_ble_eq_true rfl) (Nat.zero_le _) (Nat.zero_le _) dX1_plays_99 ?_
              refine lv_istore (lv' := [(4, .int (if v4 < y11.1 then y11.1 else v4)), (0, .ref h0), (1, .int v1), (2, .int v2), (3, .int v3), (5, .int v5)]) hx hb dX1_plays_102 hl (by decide) rfl (fun ls hl => ?_)
              refine lv_iinc (v := (v5 + 1)) (lv' := [(5, .int (v5 + 1)), (4, .int (if v4 < y11.1 then y11.1 else v4)), (0, .ref h0), (1, .int v1), (2, .int v2), (3, .int v3)]) hx hb dX1_plays_104 hl (k := 5) rfl rfl (by decide) rfl (fun ls hl => ?_)
              refine lv_goto (tgt := 53) hx hb dX1_plays_107 (by decide) ?_
              exact ih v1 v2 v3 (if v4 < y11.1 then y11.1 else v4) (v5 + 1) y11.2 h _ _ hP hD hS _ (lv_sub hl [2, 3, 4, 5, 1, 0] rfl)
            · rw [if_pos c10] at h
              refine lv_goto (tgt := 104) hx hb dX1_plays_83 (by decide) ?_
              refine lv_iinc (v := (v5 + 1)) (lv' := [(5, .int (v5 + 1)), (0, .ref h0), (1, .int v1), (2, .int v2), (3, .int v3), (4, .int v4)]) hx hb dX1_plays_104 hl (k := 5) rfl rfl (by decide) rfl (fun ls hl => ?_)
              refine lv_goto (tgt := 53) hx hb dX1_plays_107 (by decide) ?_
              exact ih v1 v2 v3 v4 (v5 + 1) c_worth h _ _ hP hD hS _ (lv_sub hl [1, 2, 3, 4, 5, 0] rfl)
    have S_X1_plays_48 : ∀ (s0 : Int32) (v1 : Int32) (v2 : Int32) (v3 : Int32) (c_worth : (Nat → Int32)), F_X1_plays_48 N (F_X1_plays N d) c_now_line c_now_points c_now_lines s0 v1 v2 v3 c_worth = some ρ → ∀ (H : Heap) (locs : List Loc), va_P G.2.1 vwCl (cW h0 ad G.2.2 c_listPoints c_listLines c_refused c_imageRefused c_hasImage c_tape c_taped c_faultPlace c_orbit c_lineFor c_dualities c_polarities c_shortest c_placeX c_placeY c_placeZ c_lies c_firstLies c_worth c_its c_now_points c_now_lines c_now_line c_now_x c_now_y c_tried_points c_tried_lines c_tried_line c_tried_x c_tried_y c_imageNow_points c_imageNow_lines c_imageNow_line c_imageNow_x c_imageNow_y) H → va_D A (cW h0 ad G.2.2 c_listPoints c_listLines c_refused c_imageRefused c_hasImage c_tape c_taped c_faultPlace c_orbit c_lineFor c_dualities c_polarities c_shortest c_placeX c_placeY c_placeZ c_lies c_firstLies c_worth c_its c_now_points c_now_lines c_now_line c_now_x c_now_y c_tried_points c_tried_lines c_tried_line c_tried_x c_tried_y c_imageNow_points c_imageNow_lines c_imageNow_line c_imageNow_x c_imageNow_y) → va_S A s.heap H locs → ∀ (ls : Array Slot), lv_has ls 6 [(0, .ref h0), (1, .int v1), (2, .int v2), (3, .int v3)] → W p l e (rmL (2 + 2 * (d + 1)) 0 0) s m args below meth c H locs 0 0 Q (F0 m 48 ls [.int s0]) := by
      intro s0 v1 v2 v3 c_worth h H locs hP hD hS ls hl
      rw [F_X1_plays_48] at h
      refine lv_istore (lv' := [(4, .int s0), (0, .ref h0), (1, .int v1), (2, .int v2), (3, .int v3)]) hx hb dX1_plays_48 hl (by decide) rfl (fun ls hl => ?_)
      refine lv_iconst (v := 0) hx hb dX1_plays_50 (by decide) ?_
      refine lv_istore (lv' := [(5, .int 0), (4, .int s0), (0, .ref h0), (1, .int v1), (2, .int v2), (3, .int v3)]) hx hb dX1_plays_51 hl (by decide) rfl (fun ls hl => ?_)
      refine S_X1_plays_53 N v1 v2 v3 s0 0 c_worth h  _ _ hP hD hS _ (lv_sub hl [2, 3, 4, 5, 1, 0] rfl)
    refine lv_iload_n hx hb dX1_plays_0 rfl (lv_at hl 1 rfl) ?_
    refine lv_bipush (v := 8) hx hb dX1_plays_1 (by decide) ?_
    refine lv_ishl hx hb dX1_plays_3 ?_
    refine lv_iload_n hx hb dX1_plays_4 rfl (lv_at hl 2 rfl) ?_
    refine lv_ior hx hb dX1_plays_5 ?_
    refine lv_istore_n (lv' := [(3, .int ((v1 <<< ((8 : Int32) &&& 31)) ||| v2)), (0, .ref h0), (1, .int v1), (2, .int v2)]) hx hb dX1_plays_6 rfl hl (by decide) rfl (fun ls hl => ?_)
    refine lv_aload_n hx hb dX1_plays_7 rfl (lv_at hl 1 rfl) ?_
    refine va_get (ci := 0) (v := .ref (ad 26)) (C := RX1) (T := TX1) (N := 28) hx hb hts in_X1 hown hK hP 0 rfl rfl 26 (by decide) (hts _ q603) (fun _ h9 => h9) rfl dX1_plays_8 ?_
    refine lv_iload_n hx hb dX1_plays_11 rfl (lv_at hl 0 rfl) ?_
    obtain ⟨i1, h⟩ := ckI_s h
    refine va_iald (f := c_worth) hx hb hK hP 23 0 rfl rfl i1 dX1_plays_12 ?_
    refine lv_sipush (v := 999) hx hb dX1_plays_13 (by decide) ?_
    refine lv_icmp_eq (tgt := 26) hx hb dX1_plays_16 (by decide) (fun c2 => ?_) (fun c2 => ?_)
    · rw [if_pos c2] at h
      refine lv_iload_n hx hb dX1_plays_26 rfl (lv_at hl 2 rfl) ?_
      refine lv_iload_n hx hb dX1_plays_27 rfl (lv_at hl 3 rfl) ?_
      refine lv_iadd hx hb dX1_plays_28 ?_
      refine lv_iconst (v := 1) hx hb dX1_plays_29 (by decide) ?_
      refine lv_aload_n hx hb dX1_plays_30 rfl (lv_at hl 1 rfl) ?_
      refine va_get (ci := 0) (v := .ref (ad 3)) (C := RX1) (T := TX1) (N := 28) hx hb hts in_X1 hown hK hP 0 rfl rfl 3 (by decide) (hts _ q580) (fun _ h9 => h9) rfl dX1_plays_31 ?_
      refine va_getN (ci := 1) (v := .int c_now_points) (C := RX2) (T := TX2) (N := 5) hx hb hts in_X2 hown hK hP 1 rfl rfl 0 (by decide) (hG.nf hW0 q224) (fun _ h9 => h9) rfl dX1_plays_34 ?_
      refine lv_ishl hx hb dX1_plays_37 ?_
      refine lv_iconst (v := 1) hx hb dX1_plays_38 (by decide) ?_
      refine lv_isub hx hb dX1_plays_39 ?_
      refine lv_icmp_ne (tgt := 47) hx hb dX1_plays_40 (by decide) (fun c3 => ?_) (fun c3 => ?_)
      · rw [if_neg c3] at h
        refine lv_iconst (v := (-1)) hx hb dX1_plays_47 (by decide) ?_
        refine S_X1_plays_48 (-1) v1 v2 ((v1 <<< ((8 : Int32) &&& 31)) ||| v2) c_worth h  _ _ hP hD hS _ (lv_sub hl [1, 2, 3, 0] rfl)
      · rw [if_pos c3] at h
        refine lv_iconst (v := 0) hx hb dX1_plays_43 (by decide) ?_
        refine lv_goto (tgt := 48) hx hb dX1_plays_44 (by decide) ?_
        refine S_X1_plays_48 0 v1 v2 ((v1 <<< ((8 : Int32) &&& 31)) ||| v2) c_worth h  _ _ hP hD hS _ (lv_sub hl [1, 2, 3, 0] rfl)
    · rw [if_neg c2] at h
      refine lv_aload_n hx hb dX1_plays_19 rfl (lv_at hl 1 rfl) ?_
      refine va_get (ci := 0) (v := .ref (ad 26)) (C := RX1) (T := TX1) (N := 28) hx hb hts in_X1 hown hK hP 0 rfl rfl 26 (by decide) (hts _ q603) (fun _ h9 => h9) rfl dX1_plays_20 ?_
      refine lv_iload_n hx hb dX1_plays_23 rfl (lv_at hl 0 rfl) ?_
      obtain ⟨i12, h⟩ := ckI_s h
      refine va_iald (f := c_worth) hx hb hK hP 23 0 rfl rfl i12 dX1_plays_24 ?_
      obtain rfl := Option.some.inj h
      exact hreti rfl dX1_plays_25 rfl rfl hP hD hS
def F_X1_game_11 (N : Nat) : Nat → Int32 → (Nat → Int32) → ((Nat → Int32) → Option (Int32 × (Nat → Int32))) → Option (Int32 × (Nat → Int32))
  | 0, _, _, _ => none
  | n + 1, v2, c_worth, k35 => (if (Int32.ofNat 65536) ≤ v2 then (k35 c_worth) else (ckI v2 65536 (F_X1_game_11 N n (v2 + 1) (upd c_worth (Int32.toNatClampNeg v2) 999) k35)))
def F_X1_game_50 (N : Nat) (v2 : Int32) (c_now_line : (Nat → Int32)) (c_now_points : Int32) (c_now_lines : Int32) : Nat → Int32 → (Nat → Int32) → Option (Int32 × (Nat → Int32))
  | 0, _, _ => none
  | n + 1, v3, c_worth => ((F_X1_comesTo N (F_X1_plays N 16) ((1 : Int32) <<< (v3 &&& 31)) 0 c_worth c_now_line c_now_points c_now_lines).bind fun y8 => (if y8.1 = v2 then (some (v3, y8.2)) else (F_X1_game_50 N v2 c_now_line c_now_points c_now_lines n (v3 + 1) y8.2)))
def F_X1_game (N : Nat) (v1 : Int32) (c_worth : (Nat → Int32)) (c_now_line : (Nat → Int32)) (c_now_points : Int32) (c_now_lines : Int32) : Option (Int32 × (Nat → Int32)) := ((F_X1_within N v1 0 1).bind fun y1 => ((F_X1_there N y1).bind fun y2 => (F_X1_game_11 N N 0 c_worth (fun c_worth_5 => ((F_X1_plays N 16 0 0 c_worth_5 c_now_line c_now_points c_now_lines).bind fun y6 => (if v1 = 0 then (some (y6.1, y6.2)) else (F_X1_game_50 N y6.1 c_now_line c_now_points c_now_lines N 0 y6.2)))))))
theorem cw_X1_game {R : Room} {s : State} {args : Array Value} {own : String} {index lev mc ms : Nat} (hts : ∀ w ∈ lw_all, w.before args s = true) (hl : Cond.methodLink own index yX1_game ∈ lw_all) (hR : (rmL lev mc ms).frames + 1 ≤ R.frames ∧ 8 + (4 + 11) + (rmL lev mc ms).locals ≤ R.locals) : CallW R s args own RX1 index yX1_game cX1_game 4 (some .int) (ws_ yX1_game cX1_game 4 (some .int)) (rmL lev mc ms) mc ms 1 := cwV 1 hts (lw_V hl q1623 q1624 q151 q1625) rfl rfl rfl (by decide +kernel) hR
set_option maxHeartbeats 4000000 in
theorem M_X1_game {l : Launch} {G : GE} (hG : GC G) {N : Nat} {h0 : Nat} {ad : Nat → Nat} {c_listPoints : Int32} {c_listLines : Int32} {c_refused : (Nat → Int32)} {c_imageRefused : (Nat → Int32)} {c_hasImage : Int32} {c_tape : (Nat → Int32)} {c_taped : Int32} {c_faultPlace : Int32} {c_orbit : (Nat → Int32)} {c_lineFor : (Nat → Int32)} {c_dualities : Int32} {c_polarities : Int32} {c_shortest : Int32} {c_placeX : (Nat → Int32)} {c_placeY : (Nat → Int32)} {c_placeZ : (Nat → Int32)} {c_lies : (Nat → Int32)} {c_firstLies : (Nat → Int32)} {c_its : Int32} {c_now_x : (Nat → Int32)} {c_now_y : (Nat → Int32)} {c_tried_points : Int32} {c_tried_lines : Int32} {c_tried_line : (Nat → Int32)} {c_tried_x : (Nat → Int32)} {c_tried_y : (Nat → Int32)} {c_imageNow_points : Int32} {c_imageNow_lines : Int32} {c_imageNow_line : (Nat → Int32)} {c_imageNow_x : (Nat → Int32)} {c_imageNow_y : (Nat → Int32)} {v1 : Int32} {c_worth : (Nat → Int32)} {c_now_line : (Nat → Int32)} {c_now_points : Int32} {c_now_lines : Int32} {ρ : (Int32 × (Nat → Int32))} (h : F_X1_game N v1 c_worth c_now_line c_now_points c_now_lines = some ρ) : MW l G yX1_game cX1_game 4 (some .int) 38 (cW h0 ad G.2.2 c_listPoints c_listLines c_refused c_imageRefused c_hasImage c_tape c_taped c_faultPlace c_orbit c_lineFor c_dualities c_polarities c_shortest c_placeX c_placeY c_placeZ c_lies c_firstLies c_worth c_its c_now_points c_now_lines c_now_line c_now_x c_now_y c_tried_points c_tried_lines c_tried_line c_tried_x c_tried_y c_imageNow_points c_imageNow_lines c_imageNow_line c_imageNow_x c_imageNow_y) [.ref h0, .int v1] (some (.int ρ.1)) (cW h0 ad G.2.2 c_listPoints c_listLines c_refused c_imageRefused c_hasImage c_tape c_taped c_faultPlace c_orbit c_lineFor c_dualities c_polarities c_shortest c_placeX c_placeY c_placeZ c_lies c_firstLies ρ.2 c_its c_now_points c_now_lines c_now_line c_now_x c_now_y c_tried_points c_tried_lines c_tried_line c_tried_x c_tried_y c_imageNow_points c_imageNow_lines c_imageNow_line c_imageNow_x c_imageNow_y) := by
  rw [F_X1_game] at h
  refine MW.start hG (by decide) (Nat.le_of_ble_eq_true rfl) ?_
  intro p e s m args below meth c Q A S hW0 hK hP hD hA hreti hretv ls hl
  have hS : va_S A s.heap s.heap [] := va_S.rf
  obtain ⟨hx, hb, hml, hown, hts⟩ := id S
  have hl : lv_has ls 4 [(0, .ref h0), (1, .int v1)] := hl
  have S_X1_game_11 : ∀ (n : Nat) (v1 : Int32) (v2 : Int32) (c_worth : (Nat → Int32)) (k35 : (Nat → Int32) → Option (Int32 × (Nat → Int32))), F_X1_game_11 N n v2 c_worth k35 = some ρ → (∀ (z_c_worth : (Nat → Int32)) (H : Heap) (locs : List Loc) (ls : Array Slot), k35 z_c_worth = some ρ → va_P G.2.1 vwCl (cW h0 ad G.2.2 c_listPoints c_listLines c_refused c_imageRefused c_hasImage c_tape c_taped c_faultPlace c_orbit c_lineFor c_dualities c_polarities c_shortest c_placeX c_placeY c_placeZ c_lies c_firstLies z_c_worth c_its c_now_points c_now_lines c_now_line c_now_x c_now_y c_tried_points c_tried_lines c_tried_line c_tried_x c_tried_y c_imageNow_points c_imageNow_lines c_imageNow_line c_imageNow_x c_imageNow_y) H → va_D A (cW h0 ad G.2.2 c_listPoints c_listLines c_refused c_imageRefused c_hasImage c_tape c_taped c_faultPlace c_orbit c_lineFor c_dualities c_polarities c_shortest c_placeX c_placeY c_placeZ c_lies c_firstLies z_c_worth c_its c_now_points c_now_lines c_now_line c_now_x c_now_y c_tried_points c_tried_lines c_tried_line c_tried_x c_tried_y c_imageNow_points c_imageNow_lines c_imageNow_line c_imageNow_x c_imageNow_y) → va_S A s.heap H locs → lv_has ls 4 [(0, .ref h0), (1, .int v1)] → W p l e (rmL 38 0 0) s m args below meth c H locs 0 0 Q (F0 m 35 ls [])) → ∀ (H : Heap) (locs : List Loc), va_P G.2.1 vwCl (cW h0 ad G.2.2 c_listPoints c_listLines c_refused c_imageRefused c_hasImage c_tape c_taped c_faultPlace c_orbit c_lineFor c_dualities c_polarities c_shortest c_placeX c_placeY c_placeZ c_lies c_firstLies c_worth c_its c_now_points c_now_lines c_now_line c_now_x c_now_y c_tried_points c_tried_lines c_tried_line c_tried_x c_tried_y c_imageNow_points c_imageNow_lines c_imageNow_line c_imageNow_x c_imageNow_y) H → va_D A (cW h0 ad G.2.2 c_listPoints c_listLines c_refused c_imageRefused c_hasImage c_tape c_taped c_faultPlace c_orbit c_lineFor c_dualities c_polarities c_shortest c_placeX c_placeY c_placeZ c_lies c_firstLies c_worth c_its c_now_points c_now_lines c_now_line c_now_x c_now_y c_tried_points c_tried_lines c_tried_line c_tried_x c_tried_y c_imageNow_points c_imageNow_lines c_imageNow_line c_imageNow_x c_imageNow_y) → va_S A s.heap H locs → ∀ (ls : Array Slot), lv_has ls 4 [(0, .ref h0), (1, .int v1), (2, .int v2)] → W p l e (rmL 38 0 0) s m args below meth c H locs 0 0 Q (F0 m 11 ls []) := by
    intro n
    induction n with
    | zero =>
      intro v1 v2 c_worth k35 h
      exact absurd h (by simp [F_X1_game_11])
    | succ n ih =>
      intro v1 v2 c_worth k35 h hk35 H locs hP hD hS ls hl
      rw [F_X1_game_11] at h
      refine lv_iload_n hx hb dX1_game_11 rfl (lv_at hl 2 rfl) ?_
      refine lv_aload_n hx hb dX1_game_12 rfl (lv_at hl 0 rfl) ?_
      refine va_get (ci := 0) (v := .ref (ad 26)) (C := RX1) (T := TX1) (N := 28) hx hb hts in_X1 hown hK hP 0 rfl rfl 26 (by decide) (hts _ q603) (fun _ h9 => h9) rfl dX1_game_13 ?_
      refine va_alen (v := (Int32.ofNat 65536)) hx hb hK hP 23 0 rfl rfl rfl dX1_game_16 ?_
      refine lv_icmp_ge (tgt := 35) hx hb dX1_game_17 (by decide) (fun c3 => ?_) (fun c3 => ?_)
      · rw [if_pos c3] at h
        exact hk35 c_worth _ _ _ h hP hD hS (lv_sub hl [0, 1] rfl)
      · rw [if_neg c3] at h
        refine lv_aload_n hx hb dX1_game_20 rfl (lv_at hl 0 rfl) ?_
        refine va_get (ci := 0) (v := .ref (ad 26)) (C := RX1) (T := TX1) (N := 28) hx hb hts in_X1 hown hK hP 0 rfl rfl 26 (by decide) (hts _ q603) (fun _ h9 => h9) rfl dX1_game_21 ?_
        refine lv_iload_n hx hb dX1_game_24 rfl (lv_at hl 2 rfl) ?_
        refine lv_sipush (v := 999) hx hb dX1_game_25 (by decide) ?_
        obtain ⟨i4, h⟩ := ckI_s h
        refine va_iast (f := c_worth) hx hb hK hP hD hS 23 0 rfl rfl i4 dX1_game_28 (fun H locs hP hD hS => ?_)
        have hP : va_P G.2.1 vwCl (cW h0 ad G.2.2 c_listPoints c_listLines c_refused c_imageRefused c_hasImage c_tape c_taped c_faultPlace c_orbit c_lineFor c_dualities c_polarities c_shortest c_placeX c_placeY c_placeZ c_lies c_firstLies (upd c_worth (Int32.toNatClampNeg v2) 999) c_its c_now_points c_now_lines c_now_line c_now_x c_now_y c_tried_points c_tried_lines c_tried_line c_tried_x c_tried_y c_imageNow_points c_imageNow_lines c_imageNow_line c_imageNow_x c_imageNow_y) H := hP
        have hD : va_D A (cW h0 ad G.2.2 c_listPoints c_listLines c_refused c_imageRefused c_hasImage c_tape c_taped c_faultPlace c_orbit c_lineFor c_dualities c_polarities c_shortest c_placeX c_placeY c_placeZ c_lies c_firstLies (upd c_worth (Int32.toNatClampNeg v2) 999) c_its c_now_points c_now_lines c_now_line c_now_x c_now_y c_tried_points c_tried_lines c_tried_line c_tried_x c_tried_y c_imageNow_points c_imageNow_lines c_imageNow_line c_imageNow_x c_imageNow_y) := hD
        refine lv_iinc (v := (v2 + 1)) (lv' := [(2, .int (v2 + 1)), (0, .ref h0), (1, .int v1)]) hx hb dX1_game_29 hl (k := 2) rfl rfl (by decide) rfl (fun ls hl => ?_)
        refine lv_goto (tgt := 11) hx hb dX1_game_32 (by decide) ?_
        exact ih v1 (v2 + 1) (upd c_worth (Int32.toNatClampNeg v2) 999) _ h hk35 _ _ hP hD hS _ (lv_sub hl [1, 2, 0] rfl)
  have S_X1_game_50 : ∀ (n : Nat) (v2 : Int32) (v3 : Int32) (c_worth : (Nat → Int32)), F_X1_game_50 N v2 c_now_line c_now_points c_now_lines n v3 c_worth = some ρ → ∀ (H : Heap) (locs : List Loc), va_P G.2.1 vwCl (cW h0 ad G.2.2 c_listPoints c_listLines c_refused c_imageRefused c_hasImage c_tape c_taped c_faultPlace c_orbit c_lineFor c_dualities c_polarities c_shortest c_placeX c_placeY c_placeZ c_lies c_firstLies c_worth c_its c_now_points c_now_lines c_now_line c_now_x c_now_y c_tried_points c_tried_lines c_tried_line c_tried_x c_tried_y c_imageNow_points c_imageNow_lines c_imageNow_line c_imageNow_x c_imageNow_y) H → va_D A (cW h0 ad G.2.2 c_listPoints c_listLines c_refused c_imageRefused c_hasImage c_tape c_taped c_faultPlace c_orbit c_lineFor c_dualities c_polarities c_shortest c_placeX c_placeY c_placeZ c_lies c_firstLies c_worth c_its c_now_points c_now_lines c_now_line c_now_x c_now_y c_tried_points c_tried_lines c_tried_line c_tried_x c_tried_y c_imageNow_points c_imageNow_lines c_imageNow_line c_imageNow_x c_imageNow_y) → va_S A s.heap H locs → ∀ (ls : Array Slot), lv_has ls 4 [(0, .ref h0), (2, .int v2), (3, .int v3)] → W p l e (rmL 38 0 0) s m args below meth c H locs 0 0 Q (F0 m 50 ls []) := by
    intro n
    induction n with
    | zero =>
      intro v2 v3 c_worth h
      exact absurd h (by simp [F_X1_game_50])
    | succ n ih =>
      intro v2 v3 c_worth h H locs hP hD hS ls hl
      rw [F_X1_game_50] at h
      refine lv_aload_n hx hb dX1_game_50 rfl (lv_at hl 0 rfl) ?_
      refine lv_iconst (v := 1) hx hb dX1_game_51 (by decide) ?_
      refine lv_iload_n hx hb dX1_game_52 rfl (lv_at hl 2 rfl) ?_
      refine lv_ishl hx hb dX1_game_53 ?_
      refine lv_iconst (v := 0) hx hb dX1_game_54 (by decide) ?_
      obtain ⟨y8, e8, h⟩ := ob_s h
      refine MW.callV (q0 := 0) (M_X1_comesTo hG (d := 16) (fun h => M_X1_plays hG 16 h) e8) S (cw_X1_comesTo hts q1630 ⟨Nat.le_of_ble_eq_true rfl, Nat.le_of_ble_eq_true rfl⟩) hW0 hK hP hD hS hA rfl rfl rfl hl.1 rfl (Nat.le_of_ble_eq_true rfl) dX1_game_55 ⟨Nat.zero_le _, Nat.zero_le _⟩ (fun H locs hP hD hS => ?_)
      have hP : va_P G.2.1 vwCl (cW h0 ad G.2.2 c_listPoints c_listLines c_refused c_imageRefused c_hasImage c_tape c_taped c_faultPlace c_orbit c_lineFor c_dualities c_polarities c_shortest c_placeX c_placeY c_placeZ c_lies c_firstLies y8.2 c_its c_now_points c_now_lines c_now_line c_now_x c_now_y c_tried_points c_tried_lines c_tried_line c_tried_x c_tried_y c_imageNow_points c_imageNow_lines c_imageNow_line c_imageNow_x c_imageNow_y) H := hP
      have hD : va_D A (cW h0 ad G.2.2 c_listPoints c_listLines c_refused c_imageRefused c_hasImage c_tape c_taped c_faultPlace c_orbit c_lineFor c_dualities c_polarities c_shortest c_placeX c_placeY c_placeZ c_lies c_firstLies y8.2 c_its c_now_points c_now_lines c_now_line c_now_x c_now_y c_tried_points c_tried_lines c_tried_line c_tried_x c_tried_y c_imageNow_points c_imageNow_lines c_imageNow_line c_imageNow_x c_imageNow_y) := hD
      refine W.eq (g2 := F0 m 58 ls [.int y8.1]) rfl ?_
      refine lv_iload_n hx hb dX1_game_58 rfl (lv_at hl 1 rfl) ?_
      refine lv_icmp_eq (tgt := 68) hx hb dX1_game_59 (by decide) (fun c9 => ?_) (fun c9 => ?_)
      · rw [if_pos c9] at h
        refine lv_iload_n hx hb dX1_game_68 rfl (lv_at hl 2 rfl) ?_
        obtain rfl := Option.some.inj h
        exact hreti rfl dX1_game_69 rfl rfl hP hD hS
      · rw [if_neg c9] at h
        refine lv_iinc (v := (v3 + 1)) (lv' := [(3, .int (v3 + 1)), (0, .ref h0), (2, .int v2)]) hx hb dX1_game_62 hl (k := 2) rfl rfl (by decide) rfl (fun ls hl => ?_)
        refine lv_goto (tgt := 50) hx hb dX1_game_65 (by decide) ?_
        exact ih v2 (v3 + 1) y8.2 h _ _ hP hD hS _ (lv_sub hl [1, 2, 0] rfl)
  refine lv_iload_n hx hb dX1_game_0 rfl (lv_at hl 1 rfl) ?_
  refine lv_iconst (v := 0) hx hb dX1_game_1 (by decide) ?_
  refine lv_iconst (v := 1) hx hb dX1_game_2 (by decide) ?_
  obtain ⟨y1, e1, h⟩ := ob_s h
  refine MR.callS (M_X1_within hG e1) S (cw_X1_within hts q878 ⟨Nat.le_of_ble_eq_true rfl, Nat.le_of_ble_eq_true rfl⟩) hW0 vaP0 rfl hl.1 rfl (Nat.le_of_ble_eq_true rfl) dX1_game_3 ⟨Nat.zero_le _, Nat.zero_le _⟩ ?_
  obtain ⟨y2, e2, h⟩ := ob_s h
  refine MV.callS (M_X1_there hG e2) S (cw_X1_there hts q1182 ⟨Nat.le_of_ble_eq_true rfl, Nat.le_of_ble_eq_true rfl⟩) hW0 vaP0 rfl hl.1 rfl (Nat.le_of_ble_eq_true rfl) dX1_game_6 ⟨Nat.zero_le _, Nat.zero_le _⟩ ?_
  refine lv_iconst (v := 0) hx hb dX1_game_9 (by decide) ?_
  refine lv_istore_n (lv' := [(2, .int 0), (0, .ref h0), (1, .int v1)]) hx hb dX1_game_10 rfl hl (by decide) rfl (fun ls hl => ?_)
  refine S_X1_game_11 N v1 0 c_worth _ h ?_ _ _ hP hD hS _ (lv_sub hl [1, 2, 0] rfl)
  · intro c_worth_5 H locs ls h hP hD hS hl
    refine lv_aload_n hx hb dX1_game_35 rfl (lv_at hl 0 rfl) ?_
    refine lv_iconst (v := 0) hx hb dX1_game_36 (by decide) ?_
    refine lv_iconst (v := 0) hx hb dX1_game_37 (by decide) ?_
    obtain ⟨y6, e6, h⟩ := ob_s h
    refine MW.callV (q0 := 0) (M_X1_plays hG 16 e6) S (cw_X1_plays hts q1626 ⟨Nat.le_of_ble_eq_true rfl, Nat.le_of_ble_eq_true rfl⟩) hW0 hK hP hD hS hA rfl rfl rfl hl.1 rfl (Nat.le_of_ble_eq_true rfl) dX1_game_38 ⟨Nat.zero_le _, Nat.zero_le _⟩ (fun H locs hP hD hS => ?_)
    have hP : va_P G.2.1 vwCl (cW h0 ad G.2.2 c_listPoints c_listLines c_refused c_imageRefused c_hasImage c_tape c_taped c_faultPlace c_orbit c_lineFor c_dualities c_polarities c_shortest c_placeX c_placeY c_placeZ c_lies c_firstLies y6.2 c_its c_now_points c_now_lines c_now_line c_now_x c_now_y c_tried_points c_tried_lines c_tried_line c_tried_x c_tried_y c_imageNow_points c_imageNow_lines c_imageNow_line c_imageNow_x c_imageNow_y) H := hP
    have hD : va_D A (cW h0 ad G.2.2 c_listPoints c_listLines c_refused c_imageRefused c_hasImage c_tape c_taped c_faultPlace c_orbit c_lineFor c_dualities c_polarities c_shortest c_placeX c_placeY c_placeZ c_lies c_firstLies y6.2 c_its c_now_points c_now_lines c_now_line c_now_x c_now_y c_tried_points c_tried_lines c_tried_line c_tried_x c_tried_y c_imageNow_points c_imageNow_lines c_imageNow_line c_imageNow_x c_imageNow_y) := hD
    refine W.eq (g2 := F0 m 41 ls [.int y6.1]) rfl ?_
    refine lv_istore_n (lv' := [(2, .int y6.1), (0, .ref h0), (1, .int v1)]) hx hb dX1_game_41 rfl hl (by decide) rfl (fun ls hl => ?_)
    refine lv_iload_n hx hb dX1_game_42 rfl (lv_at hl 2 rfl) ?_
    refine lv_if_ne (tgt := 48) hx hb dX1_game_43 (by decide) (fun c7 => ?_) (fun c7 => ?_)
    · rw [if_neg c7] at h
      refine lv_iconst (v := 0) hx hb dX1_game_48 (by decide) ?_
      refine lv_istore_n (lv' := [(3, .int 0), (2, .int y6.1), (0, .ref h0), (1, .int v1)]) hx hb dX1_game_49 rfl hl (by decide) rfl (fun ls hl => ?_)
      refine S_X1_game_50 N y6.1 0 y6.2 h  _ _ hP hD hS _ (lv_sub hl [2, 1, 0] rfl)
    · rw [if_pos c7] at h
      refine lv_iload_n hx hb dX1_game_46 rfl (lv_at hl 0 rfl) ?_
      obtain rfl := Option.some.inj h
      exact hreti rfl dX1_game_47 rfl rfl hP hD hS
