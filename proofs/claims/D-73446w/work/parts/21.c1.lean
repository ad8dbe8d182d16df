set_option maxRecDepth 100000
set_option linter.unusedVariables false
def F_X1_lay_3 (N : Nat) (v1 : Int32) : Nat → Int32 → (Nat → Int32) → Int32 → Option ((Nat → Int32) × Int32)
  | 0, _, _, _ => none
  | n + 1, v2, c_tape, c_taped => (if v2 < 0 then (some (c_tape, c_taped)) else (ckI c_taped 400 (F_X1_lay_3 N v1 n (v2 + (-8)) (upd c_tape (Int32.toNatClampNeg c_taped) (vp_nar .byte (Int32.toInt8 (v1 >>> (v2 &&& 31))).toInt32)) (c_taped + (1 : Int32)))))
def F_X1_lay (N : Nat) (v1 : Int32) (c_tape : (Nat → Int32)) (c_taped : Int32) : Option ((Nat → Int32) × Int32) := (F_X1_lay_3 N v1 N 24 c_tape c_taped)
theorem cw_X1_lay {R : Room} {s : State} {args : Array Value} {own : String} {index lev mc ms : Nat} (hts : ∀ w ∈ lw_all, w.before args s = true) (hl : Cond.methodLink own index yX1_lay ∈ lw_all) (hR : (rmL lev mc ms).frames + 1 ≤ R.frames ∧ 8 + (3 + 11) + (rmL lev mc ms).locals ≤ R.locals) : CallW R s args own RX1 index yX1_lay cX1_lay 3 none (ws_ yX1_lay cX1_lay 3 none) (rmL lev mc ms) mc ms 1 := cwV 1 hts (lw_V hl q668 qs1 q151 q669) rfl rfl rfl (by decide +kernel) hR
set_option maxHeartbeats 4000000 in
theorem M_X1_lay {l : Launch} {G : GE} (hG : GC G) {N : Nat} {h0 : Nat} {ad : Nat → Nat} {c_listPoints : Int32} {c_listLines : Int32} {c_refused : (Nat → Int32)} {c_imageRefused : (Nat → Int32)} {c_hasImage : Int32} {c_faultPlace : Int32} {c_orbit : (Nat → Int32)} {c_lineFor : (Nat → Int32)} {c_dualities : Int32} {c_polarities : Int32} {c_shortest : Int32} {c_placeX : (Nat → Int32)} {c_placeY : (Nat → Int32)} {c_placeZ : (Nat → Int32)} {c_lies : (Nat → Int32)} {c_firstLies : (Nat → Int32)} {c_worth : (Nat → Int32)} {c_its : Int32} {c_now_points : Int32} {c_now_lines : Int32} {c_now_line : (Nat → Int32)} {c_now_x : (Nat → Int32)} {c_now_y : (Nat → Int32)} {c_tried_points : Int32} {c_tried_lines : Int32} {c_tried_line : (Nat → Int32)} {c_tried_x : (Nat → Int32)} {c_tried_y : (Nat → Int32)} {c_imageNow_points : Int32} {c_imageNow_lines : Int32} {c_imageNow_line : (Nat → Int32)} {c_imageNow_x : (Nat → Int32)} {c_imageNow_y : (Nat → Int32)} {v1 : Int32} {c_tape : (Nat → Int32)} {c_taped : Int32} {ρ : ((Nat → Int32) × Int32)} (h : F_X1_lay N v1 c_tape c_taped = some ρ) : MW l G yX1_lay cX1_lay 3 none 1 (cW h0 ad G.2.2 c_listPoints c_listLines c_refused c_imageRefused c_hasImage c_tape c_taped c_faultPlace c_orbit c_lineFor c_dualities c_polarities c_shortest c_placeX c_placeY c_placeZ c_lies c_firstLies c_worth c_its c_now_points c_now_lines c_now_line c_now_x c_now_y c_tried_points c_tried_lines c_tried_line c_tried_x c_tried_y c_imageNow_points c_imageNow_lines c_imageNow_line c_imageNow_x c_imageNow_y) [.ref h0, .int v1] none (cW h0 ad G.2.2 c_listPoints c_listLines c_refused c_imageRefused c_hasImage ρ.1 ρ.2 c_faultPlace c_orbit c_lineFor c_dualities c_polarities c_shortest c_placeX c_placeY c_placeZ c_lies c_firstLies c_worth c_its c_now_points c_now_lines c_now_line c_now_x c_now_y c_tried_points c_tried_lines c_tried_line c_tried_x c_tried_y c_imageNow_points c_imageNow_lines c_imageNow_line c_imageNow_x c_imageNow_y) := by
  rw [F_X1_lay] at h
  refine MW.start hG (by decide) (Nat.le_of_ble_eq_true rfl) ?_
  intro p e s m args below meth c Q A S hW0 hK hP hD hA hreti hretv ls hl
  have hS : va_S A s.heap s.heap [] := va_S.rf
  obtain ⟨hx, hb, hml, hown, hts⟩ := id S
  have hl : lv_has ls 3 [(0, .ref h0), (1, .int v1)] := hl
  have S_X1_lay_3 : ∀ (n : Nat) (v1 : Int32) (v2 : Int32) (c_tape : (Nat → Int32)) (c_taped : Int32), F_X1_lay_3 N v1 n v2 c_tape c_taped = some ρ → ∀ (H : Heap) (locs : List Loc), va_P G.2.1 vwCl (cW h0 ad G.2.2 c_listPoints c_listLines c_refused c_imageRefused c_hasImage c_tape c_taped c_faultPlace c_orbit c_lineFor c_dualities c_polarities c_shortest c_placeX c_placeY c_placeZ c_lies c_firstLies c_worth c_its c_now_points c_now_lines c_now_line c_now_x c_now_y c_tried_points c_tried_lines c_tried_line c_tried_x c_tried_y c_imageNow_points c_imageNow_lines c_imageNow_line c_imageNow_x c_imageNow_y) H → va_D A (cW h0 ad G.2.2 c_listPoints c_listLines c_refused c_imageRefused c_hasImage c_tape c_taped c_faultPlace c_orbit c_lineFor c_dualities c_polarities c_shortest c_placeX c_placeY c_placeZ c_lies c_firstLies c_worth c_its c_now_points c_now_lines c_now_line c_now_x c_now_y c_tried_points c_tried_lines c_tried_line c_tried_x c_tried_y c_imageNow_points c_imageNow_lines c_imageNow_line c_imageNow_x c_imageNow_y) → va_S A s.heap H locs → ∀ (ls : Array Slot), lv_has ls 3 [(0, .ref h0), (1, .int v1), (2, .int v2)] → W p l e (rmL 1 0 0) s m args below meth c H locs 0 0 Q (F0 m 3 ls []) := by
    intro n
    induction n with
    | zero =>
      intro v1 v2 c_tape c_taped h
      exact absurd h (by simp [F_X1_lay_3])
    | succ n ih =>
      intro v1 v2 c_tape c_taped h H locs hP hD hS ls hl
      rw [F_X1_lay_3] at h
      refine lv_iload_n hx hb dX1_lay_3 rfl (lv_at hl 2 rfl) ?_
      refine lv_if_lt (tgt := 36) hx hb dX1_lay_4 (by decide) (fun c1 => ?_) (fun c1 => ?_)
      · rw [if_pos c1] at h
        obtain rfl := Option.some.inj h
        exact hretv rfl dX1_lay_36 rfl hP hD hS
      · rw [if_neg c1] at h
        refine lv_aload_n hx hb dX1_lay_7 rfl (lv_at hl 0 rfl) ?_
        refine va_get (ci := 0) (v := .ref (ad 13)) (C := RX1) (T := TX1) (N := 28) hx hb hts in_X1 hown hK hP 0 rfl rfl 13 (by decide) (hts _ q590) (fun _ h9 => h9) rfl dX1_lay_8 ?_
        refine lv_aload_n hx hb dX1_lay_11 rfl (lv_at hl 0 rfl) ?_
        refine va_get (ci := 0) (v := .int c_taped) (C := RX1) (T := TX1) (N := 28) hx hb hts in_X1 hown hK hP 0 rfl rfl 14 (by decide) (hts _ q591) (fun _ h9 => h9) rfl dX1_lay_12 ?_
        refine lv_iload_n hx hb dX1_lay_15 rfl (lv_at hl 1 rfl) ?_
        refine lv_iload_n hx hb dX1_lay_16 rfl (lv_at hl 2 rfl) ?_
        refine lv_ishr hx hb dX1_lay_17 ?_
        refine lv_i2b hx hb dX1_lay_18 rfl ?_
        obtain ⟨i3, h⟩ := ckI_s h
        refine va_bast (f := c_tape) hx hb hK hP hD hS 15 1 rfl rfl i3 dX1_lay_19 (fun H locs hP hD hS => ?_)
        have hP : va_P G.2.1 vwCl (cW h0 ad G.2.2 c_listPoints c_listLines c_refused c_imageRefused c_hasImage (upd c_tape (Int32.toNatClampNeg c_taped) (vp_nar .byte (Int32.toInt8 (v1 >>> (v2 &&& 31))).toInt32)) c_taped c_faultPlace c_orbit c_lineFor c_dualities c_polarities c_shortest c_placeX c_placeY c_placeZ c_lies c_firstLies c_worth c_its c_now_points c_now_lines c_now_line c_now_x c_now_y c_tried_points c_tried_lines c_tried_line c_tried_x c_tried_y c_imageNow_points c_imageNow_lines c_imageNow_line c_imageNow_x c_imageNow_y) H := hP
        have hD : va_D A (cW h0 ad G.2.2 c_listPoints c_listLines c_refused c_imageRefused c_hasImage (upd c_tape (Int32.toNatClampNeg c_taped) (vp_nar .byte (Int32.toInt8 (v1 >>> (v2 &&& 31))).toInt32)) c_taped c_faultPlace c_orbit c_lineFor c_dualities c_polarities c_shortest c_placeX c_placeY c_placeZ c_lies c_firstLies c_worth c_its c_now_points c_now_lines c_now_line c_now_x c_now_y c_tried_points c_tried_lines c_tried_line c_tried_x c_tried_y c_imageNow_points c_imageNow_lines c_imageNow_line c_imageNow_x c_imageNow_y) := hD
        refine lv_aload_n hx hb dX1_lay_20 rfl (lv_at hl 0 rfl) ?_
        refine lv_dup hx hb dX1_lay_21 rfl ?_
        refine va_get (ci := 0) (v := .int c_taped) (C := RX1) (T := TX1) (N := 28) hx hb hts in_X1 hown hK hP 0 rfl rfl 14 (by decide) (hts _ q591) (fun _ h9 => h9) rfl dX1_lay_22 ?_
        refine lv_iconst (v := 1) hx hb dX1_lay_25 (by decide) ?_
        refine lv_iadd hx hb dX1_lay_26 ?_
        refine va_put (ci := 0) (v := .int (c_taped + (1 : Int32))) (ty := .int) (C := RX1) (T := TX1) (N := 28) hx hb hts in_X1 tyX1 tyX1_ok nmX1 hown hK hP hD hS 0 rfl rfl 14 (by decide) (hts _ q591) (fun _ h9 => h9) rfl (by decide +kernel) rfl rfl (Nat.le_of_ble_eq_true rfl) dX1_lay_27 (fun H locs hP hD hS => ?_)
        have hP : va_P G.2.1 vwCl (cW h0 ad G.2.2 c_listPoints c_listLines c_refused c_imageRefused c_hasImage (upd c_tape (Int32.toNatClampNeg c_taped) (vp_nar .byte (Int32.toInt8 (v1 >>> (v2 &&& 31))).toInt32)) (c_taped + (1 : Int32)) c_faultPlace c_orbit c_lineFor c_dualities c_polarities c_shortest c_placeX c_placeY c_placeZ c_lies c_firstLies c_worth c_its c_now_points c_now_lines c_now_line c_now_x c_now_y c_tried_points c_tried_lines c_tried_line c_tried_x c_tried_y c_imageNow_points c_imageNow_lines c_imageNow_line c_imageNow_x c_imageNow_y) H := hP
        have hD : va_D A (cW h0 ad G.2.2 c_listPoints c_listLines c_refused c_imageRefused c_hasImage (upd c_tape (Int32.toNatClampNeg c_taped) (vp_nar .byte (Int32.toInt8 (v1 >>> (v2 &&& 31))).toInt32)) (c_taped + (1 : Int32)) c_faultPlace c_orbit c_lineFor c_dualities c_polarities c_shortest c_placeX c_placeY c_placeZ c_lies c_firstLies c_worth c_its c_now_points c_now_lines c_now_line c_now_x c_now_y c_tried_points c_tried_lines c_tried_line c_tried_x c_tried_y c_imageNow_points c_imageNow_lines c_imageNow_line c_imageNow_x c_imageNow_y) := hD
        refine lv_iinc (v := (v2 + (-8))) (lv' := [(2, .int (v2 + (-8))), (0, .ref h0), (1, .int v1)]) hx hb dX1_lay_30 hl (k := 2) rfl rfl (by decide) rfl (fun ls hl => ?_)
        refine lv_goto (tgt := 3) hx hb dX1_lay_33 (by decide) ?_
        exact ih v1 (v2 + (-8)) (upd c_tape (Int32.toNatClampNeg c_taped) (vp_nar .byte (Int32.toInt8 (v1 >>> (v2 &&& 31))).toInt32)) (c_taped + (1 : Int32)) h _ _ hP hD hS _ (lv_sub hl [1, 2, 0] rfl)
  refine lv_bipush (v := 24) hx hb dX1_lay_0 (by decide) ?_
  refine lv_istore_n (lv' := [(2, .int 24), (0, .ref h0), (1, .int v1)]) hx hb dX1_lay_2 rfl hl (by decide) rfl (fun ls hl => ?_)
  refine S_X1_lay_3 N v1 24 c_tape c_taped h  _ _ hP hD hS _ (lv_sub hl [1, 2, 0] rfl)
def F_X1_feed (N : Nat) (v1 : Int32) (v2 : Int32) (v3 : Int32) (v4 : Int32) (v5 : Int32) (c_tape : (Nat → Int32)) (c_taped : Int32) : Option (Int32 × (Nat → Int32) × Int32) := (if (c_taped + (20 : Int32)) ≤ 400 then ((F_X1_lay N v1 c_tape c_taped).bind fun y2 => ((F_X1_lay N v2 y2.1 y2.2).bind fun y3 => ((F_X1_lay N v3 y3.1 y3.2).bind fun y4 => ((F_X1_lay N v4 y4.1 y4.2).bind fun y5 => ((F_X1_lay N v5 y5.1 y5.2).bind fun y6 => (some (y6.2, y6.1, y6.2))))))) else (some ((-1), c_tape, c_taped)))
theorem cw_X1_feed {R : Room} {s : State} {args : Array Value} {own : String} {index lev mc ms : Nat} (hts : ∀ w ∈ lw_all, w.before args s = true) (hl : Cond.methodLink own index yX1_feed ∈ lw_all) (hR : (rmL lev mc ms).frames + 1 ≤ R.frames ∧ 8 + (6 + 11) + (rmL lev mc ms).locals ≤ R.locals) : CallW R s args own RX1 index yX1_feed cX1_feed 6 (some .int) (ws_ yX1_feed cX1_feed 6 (some .int)) (rmL lev mc ms) mc ms 5 := cwV 5 hts (lw_V hl q663 q664 q151 q665) rfl rfl rfl (by decide +kernel) hR
set_option maxHeartbeats 4000000 in
theorem M_X1_feed {l : Launch} {G : GE} (hG : GC G) {N : Nat} {h0 : Nat} {ad : Nat → Nat} {c_listPoints : Int32} {c_listLines : Int32} {c_refused : (Nat → Int32)} {c_imageRefused : (Nat → Int32)} {c_hasImage : Int32} {c_faultPlace : Int32} {c_orbit : (Nat → Int32)} {c_lineFor : (Nat → Int32)} {c_dualities : Int32} {c_polarities : Int32} {c_shortest : Int32} {c_placeX : (Nat → Int32)} {c_placeY : (Nat → Int32)} {c_placeZ : (Nat → Int32)} {c_lies : (Nat → Int32)} {c_firstLies : (Nat → Int32)} {c_worth : (Nat → Int32)} {c_its : Int32} {c_now_points : Int32} {c_now_lines : Int32} {c_now_line : (Nat → Int32)} {c_now_x : (Nat → Int32)} {c_now_y : (Nat → Int32)} {c_tried_points : Int32} {c_tried_lines : Int32} {c_tried_line : (Nat → Int32)} {c_tried_x : (Nat → Int32)} {c_tried_y : (Nat → Int32)} {c_imageNow_points : Int32} {c_imageNow_lines : Int32} {c_imageNow_line : (Nat → Int32)} {c_imageNow_x : (Nat → Int32)} {c_imageNow_y : (Nat → Int32)} {v1 : Int32} {v2 : Int32} {v3 : Int32} {v4 : Int32} {v5 : Int32} {c_tape : (Nat → Int32)} {c_taped : Int32} {ρ : (Int32 × (Nat → Int32) × Int32)} (h : F_X1_feed N v1 v2 v3 v4 v5 c_tape c_taped = some ρ) : MW l G yX1_feed cX1_feed 6 (some .int) 2 (cW h0 ad G.2.2 c_listPoints c_listLines c_refused c_imageRefused c_hasImage c_tape c_taped c_faultPlace c_orbit c_lineFor c_dualities c_polarities c_shortest c_placeX c_placeY c_placeZ c_lies c_firstLies c_worth c_its c_now_points c_now_lines c_now_line c_now_x c_now_y c_tried_points c_tried_lines c_tried_line c_tried_x c_tried_y c_imageNow_points c_imageNow_lines c_imageNow_line c_imageNow_x c_imageNow_y) [.ref h0, .int v1, .int v2, .int v3, .int v4, .int v5] (some (.int ρ.1)) (cW h0 ad G.2.2 c_listPoints c_listLines c_refused c_imageRefused c_hasImage ρ.2.1 ρ.2.2 c_faultPlace c_orbit c_lineFor c_dualities c_polarities c_shortest c_placeX c_placeY c_placeZ c_lies c_firstLies c_worth c_its c_now_points c_now_lines c_now_line c_now_x c_now_y c_tried_points c_tried_lines c_tried_line c_tried_x c_tried_y c_imageNow_points c_imageNow_lines c_imageNow_line c_imageNow_x c_imageNow_y) := by
  rw [F_X1_feed] at h
  refine MW.start hG (by decide) (Nat.le_of_ble_eq_true rfl) ?_
  intro p e s m args below meth c Q A S hW0 hK hP hD hA hreti hretv ls hl
  have hS : va_S A s.heap s.heap [] := va_S.rf
  obtain ⟨hx, hb, hml, hown, hts⟩ := id S
  have hl : lv_has ls 6 [(0, .ref h0), (1, .int v1), (2, .int v2), (3, .int v3), (4, .int v4), (5, .int v5)] := hl
  refine lv_aload_n hx hb dX1_feed_0 rfl (lv_at hl 0 rfl) ?_
  refine va_get (ci := 0) (v := .int c_taped) (C := RX1) (T := TX1) (N := 28) hx hb hts in_X1 hown hK hP 0 rfl rfl 14 (by decide) (hts _ q591) (fun _ h9 => h9) rfl dX1_feed_1 ?_
  refine lv_bipush (v := 20) hx hb dX1_feed_4 (by decide) ?_
  refine lv_iadd hx hb dX1_feed_6 ?_
  refine lv_sipush (v := 400) hx hb dX1_feed_7 (by decide) ?_
  refine lv_icmp_le (tgt := 15) hx hb dX1_feed_10 (by decide) (fun c1 => ?_) (fun c1 => ?_)
  · rw [if_pos c1] at h
    refine lv_aload_n hx hb dX1_feed_15 rfl (lv_at hl 0 rfl) ?_
    refine lv_iload_n hx hb dX1_feed_16 rfl (lv_at hl 1 rfl) ?_
    obtain ⟨y2, e2, h⟩ := ob_s h
    refine MW.callV (q0 := 0) (M_X1_lay hG e2) S (cw_X1_lay hts q666 ⟨Nat.le_of_ble_eq_true rfl, Nat.le_of_ble_eq_true rfl⟩) hW0 hK hP hD hS hA rfl rfl rfl hl.1 rfl (Nat.le_of_ble_eq_true rfl) dX1_feed_17 ⟨Nat.zero_le _, Nat.zero_le _⟩ (fun H locs hP hD hS => ?_)
    have hP : va_P G.2.1 vwCl (cW h0 ad G.2.2 c_listPoints c_listLines c_refused c_imageRefused c_hasImage y2.1 y2.2 c_faultPlace c_orbit c_lineFor c_dualities c_polarities c_shortest c_placeX c_placeY c_placeZ c_lies c_firstLies c_worth c_its c_now_points c_now_lines c_now_line c_now_x c_now_y c_tried_points c_tried_lines c_tried_line c_tried_x c_tried_y c_imageNow_points c_imageNow_lines c_imageNow_line c_imageNow_x c_imageNow_y) H := hP
    have hD : va_D A (cW h0 ad G.2.2 c_listPoints c_listLines c_refused c_imageRefused c_hasImage y2.1 y2.2 c_faultPlace c_orbit c_lineFor c_dualities c_polarities c_shortest c_placeX c_placeY c_placeZ c_lies c_firstLies c_worth c_its c_now_points c_now_lines c_now_line c_now_x c_now_y c_tried_points c_tried_lines c_tried_line c_tried_x c_tried_y c_imageNow_points c_imageNow_lines c_imageNow_line c_imageNow_x c_imageNow_y) := hD
    refine W.eq (g2 := F0 m 20 ls []) rfl ?_
    refine lv_aload_n hx hb dX1_feed_20 rfl (lv_at hl 0 rfl) ?_
    refine lv_iload_n hx hb dX1_feed_21 rfl (lv_at hl 2 rfl) ?_
    obtain ⟨y3, e3, h⟩ := ob_s h
    refine MW.callV (q0 := 0) (M_X1_lay hG e3) S (cw_X1_lay hts q666 ⟨Nat.le_of_ble_eq_true rfl, Nat.le_of_ble_eq_true rfl⟩) hW0 hK hP hD hS hA rfl rfl rfl hl.1 rfl (Nat.le_of_ble_eq_true rfl) dX1_feed_22 ⟨Nat.zero_le _, Nat.zero_le _⟩ (fun H locs hP hD hS => ?_)
    have hP : va_P G.2.1 vwCl (cW h0 ad G.2.2 c_listPoints c_listLines c_refused c_imageRefused c_hasImage y3.1 y3.2 c_faultPlace c_orbit c_lineFor c_dualities c_polarities c_shortest c_placeX c_placeY c_placeZ c_lies c_firstLies c_worth c_its c_now_points c_now_lines c_now_line c_now_x c_now_y c_tried_points c_tried_lines c_tried_line c_tried_x c_tried_y c_imageNow_points c_imageNow_lines c_imageNow_line c_imageNow_x c_imageNow_y) H := hP
    have hD : va_D A (cW h0 ad G.2.2 c_listPoints c_listLines c_refused c_imageRefused c_hasImage y3.1 y3.2 c_faultPlace c_orbit c_lineFor c_dualities c_polarities c_shortest c_placeX c_placeY c_placeZ c_lies c_firstLies c_worth c_its c_now_points c_now_lines c_now_line c_now_x c_now_y c_tried_points c_tried_lines c_tried_line c_tried_x c_tried_y c_imageNow_points c_imageNow_lines c_imageNow_line c_imageNow_x c_imageNow_y) := hD
    refine W.eq (g2 := F0 m 25 ls []) rfl ?_
    refine lv_aload_n hx hb dX1_feed_25 rfl (lv_at hl 0 rfl) ?_
    refine lv_iload_n hx hb dX1_feed_26 rfl (lv_at hl 3 rfl) ?_
    obtain ⟨y4, e4, h⟩ := ob_s h
    refine MW.callV (q0 := 0) (M_X1_lay hG e4) S (cw_X1_lay hts q666 ⟨Nat.le_of_ble_eq_true rfl, Nat.le_of_ble_eq_true rfl⟩) hW0 hK hP hD hS hA rfl rfl rfl hl.1 rfl (Nat.le_of_ble_eq_true rfl) dX1_feed_27 ⟨Nat.zero_le _, Nat.zero_le _⟩ (fun H locs hP hD hS => ?_)
    have hP : va_P G.2.1 vwCl (cW h0 ad G.2.2 c_listPoints c_listLines c_refused c_imageRefused c_hasImage y4.1 y4.2 c_faultPlace c_orbit c_lineFor c_dualities c_polarities c_shortest c_placeX c_placeY c_placeZ c_lies c_firstLies c_worth c_its c_now_points c_now_lines c_now_line c_now_x c_now_y c_tried_points c_tried_lines c_tried_line c_tried_x c_tried_y c_imageNow_points c_imageNow_lines c_imageNow_line c_imageNow_x c_imageNow_y) H := hP
    have hD : va_D A (cW h0 ad G.2.2 c_listPoints c_listLines c_refused c_imageRefused c_hasImage y4.1 y4.2 c_faultPlace c_orbit c_lineFor c_dualities c_polarities c_shortest c_placeX c_placeY c_placeZ c_lies c_firstLies c_worth c_its c_now_points c_now_lines c_now_line c_now_x c_now_y c_tried_points c_tried_lines c_tried_line c_tried_x c_tried_y c_imageNow_points c_imageNow_lines c_imageNow_line c_imageNow_x c_imageNow_y) := hD
    refine W.eq (g2 := F0 m 30 ls []) rfl ?_
    refine lv_aload_n hx hb dX1_feed_30 rfl (lv_at hl 0 rfl) ?_
    refine lv_iload hx hb dX1_feed_31 (lv_at hl 4 rfl) ?_
    obtain ⟨y5, e5, h⟩ := ob_s h
    refine MW.callV (q0 := 0) (M_X1_lay hG e5) S (cw_X1_lay hts q666 ⟨Nat.le_of_ble_eq_true rfl, Nat.le_of_ble_eq_true rfl⟩) hW0 hK hP hD hS hA rfl rfl rfl hl.1 rfl (Nat.le_of_ble_eq_true rfl) dX1_feed_33 ⟨Nat.zero_le _, Nat.zero_le _⟩ (fun H locs hP hD hS => ?_)
    have hP : va_P G.2.1 vwCl (cW h0 ad G.2.2 c_listPoints c_listLines c_refused c_imageRefused c_hasImage y5.1 y5.2 c_faultPlace c_orbit c_lineFor c_dualities c_polarities c_shortest c_placeX c_placeY c_placeZ c_lies c_firstLies c_worth c_its c_now_points c_now_lines c_now_line c_now_x c_now_y c_tried_points c_tried_lines c_tried_line c_tried_x c_tried_y c_imageNow_points c_imageNow_lines c_imageNow_line c_imageNow_x c_imageNow_y) H := hP
    have hD : va_D A (cW h0 ad G.2.2 c_listPoints c_listLines c_refused c_imageRefused c_hasImage y5.1 y5.2 c_faultPlace c_orbit c_lineFor c_dualities c_polarities c_shortest c_placeX c_placeY c_placeZ c_lies c_firstLies c_worth c_its c_now_points c_now_lines c_now_line c_now_x c_now_y c_tried_points c_tried_lines c_tried_line c_tried_x c_tried_y c_imageNow_points c_imageNow_lines c_imageNow_line c_imageNow_x c_imageNow_y) := hD
    refine W.eq (g2 := F0 m 36 ls []) rfl ?_
    refine lv_aload_n hx hb dX1_feed_36 rfl (lv_at hl 0 rfl) ?_
    refine lv_iload hx hb dX1_feed_37 (lv_at hl 5 rfl) ?_
    obtain ⟨y6, e6, h⟩ := ob_s h
    refine MW.callV (q0 := 0) (M_X1_lay hG e6) S (cw_X1_lay hts q666 ⟨Nat.le_of_ble_eq_true rfl, Nat.le_of_ble_eq_true rfl⟩) hW0 hK hP hD hS hA rfl rfl rfl hl.1 rfl (Nat.le_of_ble_eq_true rfl) dX1_feed_39 ⟨Nat.zero_le _, Nat.zero_le _⟩ (fun H locs hP hD hS => ?_)
    have hP : va_P G.2.1 vwCl (cW h0 ad G.2.2 c_listPoints c_listLines c_refused c_imageRefused c_hasImage y6.1 y6.2 c_faultPlace c_orbit c_lineFor c_dualities c_polarities c_shortest c_placeX c_placeY c_placeZ c_lies c_firstLies c_worth c_its c_now_points c_now_lines c_now_line c_now_x c_now_y c_tried_points c_tried_lines c_tried_line c_tried_x c_tried_y c_imageNow_points c_imageNow_lines c_imageNow_line c_imageNow_x c_imageNow_y) H := hP
    have hD : va_D A (cW h0 ad G.2.2 c_listPoints c_listLines c_refused c_imageRefused c_hasImage y6.1 y6.2 c_faultPlace c_orbit c_lineFor c_dualities c_polarities c_shortest c_placeX c_placeY c_placeZ c_lies c_firstLies c_worth c_its c_now_points c_now_lines c_now_line c_now_x c_now_y c_tried_points c_tried_lines c_tried_line c_tried_x c_tried_y c_imageNow_points c_imageNow_lines c_imageNow_line c_imageNow_x c_imageNow_y) := hD
    refine W.eq (g2 := F0 m 42 ls []) rfl ?_
    refine lv_aload_n hx hb dX1_feed_42 rfl (lv_at hl 0 rfl) ?_
    refine va_get (ci := 0) (v := .int y6.2) (C := RX1) (T := TX1) (N := 28) hx hb hts in_X1 hown hK hP 0 rfl rfl 14 (by decide) (hts _ q591) (fun _ h9 => h9) rfl dX1_feed_43 ?_
    obtain rfl := Option.some.inj h
    exact hreti rfl dX1_feed_46 rfl rfl hP hD hS
  · rw [if_neg c1] at h
    refine lv_iconst (v := (-1)) hx hb dX1_feed_13 (by decide) ?_
    obtain rfl := Option.some.inj h
    exact hreti rfl dX1_feed_14 rfl rfl hP hD hS
def F_X1_fault (N : Nat) (c_faultPlace : Int32) : Option (Int32) := (some (c_faultPlace))
theorem cw_X1_fault {R : Room} {s : State} {args : Array Value} {own : String} {index lev mc ms : Nat} (hts : ∀ w ∈ lw_all, w.before args s = true) (hl : Cond.methodLink own index yX1_fault ∈ lw_all) (hR : (rmL lev mc ms).frames + 1 ≤ R.frames ∧ 8 + (1 + 11) + (rmL lev mc ms).locals ≤ R.locals) : CallW R s args own RX1 index yX1_fault cX1_fault 1 (some .int) (ws_ yX1_fault cX1_fault 1 (some .int)) (rmL lev mc ms) mc ms 0 := cwV 0 hts (lw_V hl q671 q672 q151 q673) rfl rfl rfl (by decide +kernel) hR
set_option maxHeartbeats 4000000 in
theorem M_X1_fault {l : Launch} {G : GE} (hG : GC G) {N : Nat} {h0 : Nat} {ad : Nat → Nat} {c_listPoints : Int32} {c_listLines : Int32} {c_refused : (Nat → Int32)} {c_imageRefused : (Nat → Int32)} {c_hasImage : Int32} {c_tape : (Nat → Int32)} {c_taped : Int32} {c_orbit : (Nat → Int32)} {c_lineFor : (Nat → Int32)} {c_dualities : Int32} {c_polarities : Int32} {c_shortest : Int32} {c_placeX : (Nat → Int32)} {c_placeY : (Nat → Int32)} {c_placeZ : (Nat → Int32)} {c_lies : (Nat → Int32)} {c_firstLies : (Nat → Int32)} {c_worth : (Nat → Int32)} {c_its : Int32} {c_now_points : Int32} {c_now_lines : Int32} {c_now_line : (Nat → Int32)} {c_now_x : (Nat → Int32)} {c_now_y : (Nat → Int32)} {c_tried_points : Int32} {c_tried_lines : Int32} {c_tried_line : (Nat → Int32)} {c_tried_x : (Nat → Int32)} {c_tried_y : (Nat → Int32)} {c_imageNow_points : Int32} {c_imageNow_lines : Int32} {c_imageNow_line : (Nat → Int32)} {c_imageNow_x : (Nat → Int32)} {c_imageNow_y : (Nat → Int32)} {c_faultPlace : Int32} {ρ : (Int32)} (h : F_X1_fault N c_faultPlace = some ρ) : MR l G yX1_fault cX1_fault 1 (some .int) 1 (cW h0 ad G.2.2 c_listPoints c_listLines c_refused c_imageRefused c_hasImage c_tape c_taped c_faultPlace c_orbit c_lineFor c_dualities c_polarities c_shortest c_placeX c_placeY c_placeZ c_lies c_firstLies c_worth c_its c_now_points c_now_lines c_now_line c_now_x c_now_y c_tried_points c_tried_lines c_tried_line c_tried_x c_tried_y c_imageNow_points c_imageNow_lines c_imageNow_line c_imageNow_x c_imageNow_y) [.ref h0] ρ := by
  rw [F_X1_fault] at h
  refine MR.start (rt := .int) hG (by decide) (Nat.le_of_ble_eq_true rfl) ?_
  intro p e s m args below meth c Q S hW0 hK hP hret ls hl
  obtain ⟨hx, hb, hml, hown, hts⟩ := id S
  have hl : lv_has ls 1 [(0, .ref h0)] := hl
  refine lv_aload_n hx hb dX1_fault_0 rfl (lv_at hl 0 rfl) ?_
  refine va_get (ci := 0) (v := .int c_faultPlace) (C := RX1) (T := TX1) (N := 28) hx hb hts in_X1 hown hK hP 0 rfl rfl 15 (by decide) (hts _ q592) (fun _ h9 => h9) rfl dX1_fault_1 ?_
  obtain rfl := Option.some.inj h
  exact hret dX1_fault_4 rfl
def F_X1_refuses (N : Nat) (c_refused : (Nat → Int32)) : Option (Int32 × (Nat → Int32)) := (ckI 1 2 (ckI 1 2 (some ((-1), (upd c_refused (Int32.toNatClampNeg 1) ((c_refused (Int32.toNatClampNeg 1)) + (1 : Int32)))))))
theorem cw_X1_refuses {R : Room} {s : State} {args : Array Value} {own : String} {index lev mc ms : Nat} (hts : ∀ w ∈ lw_all, w.before args s = true) (hl : Cond.methodLink own index yX1_refuses ∈ lw_all) (hR : (rmL lev mc ms).frames + 1 ≤ R.frames ∧ 8 + (1 + 11) + (rmL lev mc ms).locals ≤ R.locals) : CallW R s args own RX1 index yX1_refuses cX1_refuses 1 (some .int) (ws_ yX1_refuses cX1_refuses 1 (some .int)) (rmL lev mc ms) mc ms 0 := cwV 0 hts (lw_V hl q694 qs2 q151 q695) rfl rfl rfl (by decide +kernel) hR
set_option maxHeartbeats 4000000 in
theorem M_X1_refuses {l : Launch} {G : GE} (hG : GC G) {N : Nat} {h0 : Nat} {ad : Nat → Nat} {c_listPoints : Int32} {c_listLines : Int32} {c_imageRefused : (Nat → Int32)} {c_hasImage : Int32} {c_tape : (Nat → Int32)} {c_taped : Int32} {c_faultPlace : Int32} {c_orbit : (Nat → Int32)} {c_lineFor : (Nat → Int32)} {c_dualities : Int32} {c_polarities : Int32} {c_shortest : Int32} {c_placeX : (Nat → Int32)} {c_placeY : (Nat → Int32)} {c_placeZ : (Nat → Int32)} {c_lies : (Nat → Int32)} {c_firstLies : (Nat → Int32)} {c_worth : (Nat → Int32)} {c_its : Int32} {c_now_points : Int32} {c_now_lines : Int32} {c_now_line : (Nat → Int32)} {c_now_x : (Nat → Int32)} {c_now_y : (Nat → Int32)} {c_tried_points : Int32} {c_tried_lines : Int32} {c_tried_line : (Nat → Int32)} {c_tried_x : (Nat → Int32)} {c_tried_y : (Nat → Int32)} {c_imageNow_points : Int32} {c_imageNow_lines : Int32} {c_imageNow_line : (Nat → Int32)} {c_imageNow_x : (Nat → Int32)} {c_imageNow_y : (Nat → Int32)} {c_refused : (Nat → Int32)} {ρ : (Int32 × (Nat → Int32))} (h : F_X1_refuses N c_refused = some ρ) : MW l G yX1_refuses cX1_refuses 1 (some .int) 1 (cW h0 ad G.2.2 c_listPoints c_listLines c_refused c_imageRefused c_hasImage c_tape c_taped c_faultPlace c_orbit c_lineFor c_dualities c_polarities c_shortest c_placeX c_placeY c_placeZ c_lies c_firstLies c_worth c_its c_now_points c_now_lines c_now_line c_now_x c_now_y c_tried_points c_tried_lines c_tried_line c_tried_x c_tried_y c_imageNow_points c_imageNow_lines c_imageNow_line c_imageNow_x c_imageNow_y) [.ref h0] (some (.int ρ.1)) (cW h0 ad G.2.2 c_listPoints c_listLines ρ.2 c_imageRefused c_hasImage c_tape c_taped c_faultPlace c_orbit c_lineFor c_dualities c_polarities c_shortest c_placeX c_placeY c_placeZ c_lies c_firstLies c_worth c_its c_now_points c_now_lines c_now_line c_now_x c_now_y c_tried_points c_tried_lines c_tried_line c_tried_x c_tried_y c_imageNow_points c_imageNow_lines c_imageNow_line c_imageNow_x c_imageNow_y) := by
  rw [F_X1_refuses] at h
  refine MW.start hG (by decide) (Nat.le_of_ble_eq_true rfl) ?_
  intro p e s m args below meth c Q A S hW0 hK hP hD hA hreti hretv ls hl
  have hS : va_S A s.heap s.heap [] := va_S.rf
  obtain ⟨hx, hb, hml, hown, hts⟩ := id S
  have hl : lv_has ls 1 [(0, .ref h0)] := hl
  refine lv_aload_n hx hb dX1_refuses_0 rfl (lv_at hl 0 rfl) ?_
  refine va_get (ci := 0) (v := .ref (ad 10)) (C := RX1) (T := TX1) (N := 28) hx hb hts in_X1 hown hK hP 0 rfl rfl 10 (by decide) (hts _ q587) (fun _ h9 => h9) rfl dX1_refuses_1 ?_
  refine lv_iconst (v := 1) hx hb dX1_refuses_4 (by decide) ?_
  refine lv_dup2_11 hx hb dX1_refuses_5 rfl rfl ?_
  obtain ⟨i1, h⟩ := ckI_s h
  refine va_iald (f := c_refused) hx hb hK hP 13 0 rfl rfl i1 dX1_refuses_6 ?_
  refine lv_iconst (v := 1) hx hb dX1_refuses_7 (by decide) ?_
  refine lv_iadd hx hb dX1_refuses_8 ?_
  obtain ⟨i2, h⟩ := ckI_s h
  refine va_iast (f := c_refused) hx hb hK hP hD hS 13 0 rfl rfl i2 dX1_refuses_9 (fun H locs hP hD hS => ?_)
  have hP : va_P G.2.1 vwCl (cW h0 ad G.2.2 c_listPoints c_listLines (upd c_refused (Int32.toNatClampNeg 1) ((c_refused (Int32.toNatClampNeg 1)) + (1 : Int32))) c_imageRefused c_hasImage c_tape c_taped c_faultPlace c_orbit c_lineFor c_dualities c_polarities c_shortest c_placeX c_placeY c_placeZ c_lies c_firstLies c_worth c_its c_now_points c_now_lines c_now_line c_now_x c_now_y c_tried_points c_tried_lines c_tried_line c_tried_x c_tried_y c_imageNow_points c_imageNow_lines c_imageNow_line c_imageNow_x c_imageNow_y) H := hP
  have hD : va_D A (cW h0 ad G.2.2 c_listPoints c_listLines (upd c_refused (Int32.toNatClampNeg 1) ((c_refused (Int32.toNatClampNeg 1)) + (1 : Int32))) c_imageRefused c_hasImage c_tape c_taped c_faultPlace c_orbit c_lineFor c_dualities c_polarities c_shortest c_placeX c_placeY c_placeZ c_lies c_firstLies c_worth c_its c_now_points c_now_lines c_now_line c_now_x c_now_y c_tried_points c_tried_lines c_tried_line c_tried_x c_tried_y c_imageNow_points c_imageNow_lines c_imageNow_line c_imageNow_x c_imageNow_y) := hD
  refine lv_iconst (v := (-1)) hx hb dX1_refuses_10 (by decide) ?_
  obtain rfl := Option.some.inj h
  exact hreti rfl dX1_refuses_11 rfl rfl hP hD hS
def F_X1_lambda_swap_4 (N : Nat) (v1 : Int32) (v2 : Int32) (c_now_line : (Nat → Int32)) (c_now_x : (Nat → Int32)) (c_now_y : (Nat → Int32)) (c_now_lines : Int32) : Option ((Nat → Int32) × (Nat → Int32) × (Nat → Int32)) := ((F_X2_swaps N v1 v2 c_now_line c_now_x c_now_y c_now_lines).bind fun y1 => (some (y1.1, y1.2.1, y1.2.2)))
theorem cw_X1_lambda_swap_4 {R : Room} {s : State} {args : Array Value} {own : String} {index lev mc ms : Nat} (hts : ∀ w ∈ lw_all, w.before args s = true) (hl : Cond.methodLink own index yX1_lambda_swap_4 ∈ lw_all) (hR : (rmL lev mc ms).frames + 1 ≤ R.frames ∧ 8 + (3 + 11) + (rmL lev mc ms).locals ≤ R.locals) : CallW R s args own RX1 index yX1_lambda_swap_4 cX1_lambda_swap_4 3 none (ws_ yX1_lambda_swap_4 cX1_lambda_swap_4 3 none) (rmL lev mc ms) mc ms 2 := cwV 2 hts (lw_V hl q817 qs10 q151 q818) rfl rfl rfl (by decide +kernel) hR
set_option maxHeartbeats 4000000 in
theorem M_X1_lambda_swap_4 {l : Launch} {G : GE} (hG : GC G) {N : Nat} {h0 : Nat} {ad : Nat → Nat} {c_listPoints : Int32} {c_listLines : Int32} {c_refused : (Nat → Int32)} {c_imageRefused : (Nat → Int32)} {c_hasImage : Int32} {c_tape : (Nat → Int32)} {c_taped : Int32} {c_faultPlace : Int32} {c_orbit : (Nat → Int32)} {c_lineFor : (Nat → Int32)} {c_dualities : Int32} {c_polarities : Int32} {c_shortest : Int32} {c_placeX : (Nat → Int32)} {c_placeY : (Nat → Int32)} {c_placeZ : (Nat → Int32)} {c_lies : (Nat → Int32)} {c_firstLies : (Nat → Int32)} {c_worth : (Nat → Int32)} {c_its : Int32} {c_now_points : Int32} {c_tried_points : Int32} {c_tried_lines : Int32} {c_tried_line : (Nat → Int32)} {c_tried_x : (Nat → Int32)} {c_tried_y : (Nat → Int32)} {c_imageNow_points : Int32} {c_imageNow_lines : Int32} {c_imageNow_line : (Nat → Int32)} {c_imageNow_x : (Nat → Int32)} {c_imageNow_y : (Nat → Int32)} {v1 : Int32} {v2 : Int32} {c_now_line : (Nat → Int32)} {c_now_x : (Nat → Int32)} {c_now_y : (Nat → Int32)} {c_now_lines : Int32} {ρ : ((Nat → Int32) × (Nat → Int32) × (Nat → Int32))} (h : F_X1_lambda_swap_4 N v1 v2 c_now_line c_now_x c_now_y c_now_lines = some ρ) : MW l G yX1_lambda_swap_4 cX1_lambda_swap_4 3 none 3 (cW h0 ad G.2.2 c_listPoints c_listLines c_refused c_imageRefused c_hasImage c_tape c_taped c_faultPlace c_orbit c_lineFor c_dualities c_polarities c_shortest c_placeX c_placeY c_placeZ c_lies c_firstLies c_worth c_its c_now_points c_now_lines c_now_line c_now_x c_now_y c_tried_points c_tried_lines c_tried_line c_tried_x c_tried_y c_imageNow_points c_imageNow_lines c_imageNow_line c_imageNow_x c_imageNow_y) [.ref h0, .int v1, .int v2] none (cW h0 ad G.2.2 c_listPoints c_listLines c_refused c_imageRefused c_hasImage c_tape c_taped c_faultPlace c_orbit c_lineFor c_dualities c_polarities c_shortest c_placeX c_placeY c_placeZ c_lies c_firstLies c_worth c_its c_now_points c_now_lines ρ.1 ρ.2.1 ρ.2.2 c_tried_points c_tried_lines c_tried_line c_tried_x c_tried_y c_imageNow_points c_imageNow_lines c_imageNow_line c_imageNow_x c_imageNow_y) := by
  rw [F_X1_lambda_swap_4] at h
  refine MW.start hG (by decide) (Nat.le_of_ble_eq_true rfl) ?_
  intro p e s m args below meth c Q A S hW0 hK hP hD hA hreti hretv ls hl
  have hS : va_S A s.heap s.heap [] := va_S.rf
  obtain ⟨hx, hb, hml, hown, hts⟩ := id S
  have hl : lv_has ls 3 [(0, .ref h0), (1, .int v1), (2, .int v2)] := hl
  refine lv_aload_n hx hb dX1_lambda_swap_4_0 rfl (lv_at hl 0 rfl) ?_
  refine va_get (ci := 0) (v := .ref (ad 3)) (C := RX1) (T := TX1) (N := 28) hx hb hts in_X1 hown hK hP 0 rfl rfl 3 (by decide) (hts _ q580) (fun _ h9 => h9) rfl dX1_lambda_swap_4_1 ?_
  refine lv_iload_n hx hb dX1_lambda_swap_4_4 rfl (lv_at hl 1 rfl) ?_
  refine lv_iload_n hx hb dX1_lambda_swap_4_5 rfl (lv_at hl 2 rfl) ?_
  obtain ⟨y1, e1, h⟩ := ob_s h
  refine MW.callVs (q0 := 0) (wc := (sW (ad 3) (fun k => ad (30 + k)) G.2.2 c_now_points c_now_lines c_now_line c_now_x c_now_y)) (M_X2_swaps hG e1) S (cw_X2_swaps hts q819 ⟨Nat.le_of_ble_eq_true rfl, Nat.le_of_ble_eq_true rfl⟩) hW0 hK hP hD hS hA [1, 2, 3, 4] [0, 5, 6, 7, 8, 9, 10, 11, 12, 13, 14, 15, 16, 17, 18, 19, 20, 21, 22, 23] (wr := [(h0, .inr (0, [.ref (ad 0), .int c_listPoints, .int c_listLines, .ref (ad 3), .ref (ad 4), .ref (ad 5), .ref (ad 6), .ref (ad 7), .ref (ad 8), .ref (ad 9), .ref (ad 10), .ref (ad 11), .int c_hasImage, .ref (ad 13), .int c_taped, .int c_faultPlace, .ref (ad 16), .ref (ad 17), .int c_dualities, .int c_polarities, .int c_shortest, .ref (ad 21), .ref (ad 22), .ref (ad 23), .ref (ad 24), .ref (ad 25), .ref (ad 26), .int c_its])), ((ad 4), .inr (1, [.int c_tried_points, .int c_tried_lines, .ref (ad 42), .ref (ad 43), .ref (ad 44)])), ((ad 42), .inl (G.2.2 0, 12, .inl c_tried_line)), ((ad 43), .inl (G.2.2 0, 8, .inl c_tried_x)), ((ad 44), .inl (G.2.2 0, 8, .inl c_tried_y)), ((ad 5), .inr (1, [.int c_imageNow_points, .int c_imageNow_lines, .ref (ad 52), .ref (ad 53), .ref (ad 54)])), ((ad 52), .inl (G.2.2 0, 12, .inl c_imageNow_line)), ((ad 53), .inl (G.2.2 0, 8, .inl c_imageNow_x)), ((ad 54), .inl (G.2.2 0, 8, .inl c_imageNow_y)), ((ad 10), .inl (G.2.2 0, 2, .inl c_refused)), ((ad 11), .inl (G.2.2 0, 2, .inl c_imageRefused)), ((ad 13), .inl (G.2.2 1, 400, .inl c_tape)), ((ad 16), .inl (G.2.2 0, 8, .inl c_orbit)), ((ad 17), .inl (G.2.2 0, 8, .inl c_lineFor)), ((ad 21), .inl (G.2.2 0, 16, .inl c_placeX)), ((ad 22), .inl (G.2.2 0, 16, .inl c_placeY)), ((ad 23), .inl (G.2.2 0, 16, .inl c_placeZ)), ((ad 24), .inl (G.2.2 0, 8, .inl c_lies)), ((ad 25), .inl (G.2.2 0, 8, .inl c_firstLies)), ((ad 26), .inl (G.2.2 0, 65536, .inl c_worth))]) rfl rfl (by decide) (by decide) (by decide) rfl rfl rfl hl.1 rfl (Nat.le_of_ble_eq_true rfl) dX1_lambda_swap_4_6 ⟨Nat.zero_le _, Nat.zero_le _⟩ (fun H locs hP hD hS => ?_)
  have hP := hP.sub (ws' := (cW h0 ad G.2.2 c_listPoints c_listLines c_refused c_imageRefused c_hasImage c_tape c_taped c_faultPlace c_orbit c_lineFor c_dualities c_polarities c_shortest c_placeX c_placeY c_placeZ c_lies c_firstLies c_worth c_its c_now_points c_now_lines y1.1 y1.2.1 y1.2.2 c_tried_points c_tried_lines c_tried_line c_tried_x c_tried_y c_imageNow_points c_imageNow_lines c_imageNow_line c_imageNow_x c_imageNow_y)) [0, 20, 21, 22, 23, 1, 2, 3, 4, 5, 6, 7, 8, 9, 10, 11, 12, 13, 14, 15, 16, 17, 18, 19] rfl
  have hD := hD.sub (ws' := (cW h0 ad G.2.2 c_listPoints c_listLines c_refused c_imageRefused c_hasImage c_tape c_taped c_faultPlace c_orbit c_lineFor c_dualities c_polarities c_shortest c_placeX c_placeY c_placeZ c_lies c_firstLies c_worth c_its c_now_points c_now_lines y1.1 y1.2.1 y1.2.2 c_tried_points c_tried_lines c_tried_line c_tried_x c_tried_y c_imageNow_points c_imageNow_lines c_imageNow_line c_imageNow_x c_imageNow_y)) [0, 20, 21, 22, 23, 1, 2, 3, 4, 5, 6, 7, 8, 9, 10, 11, 12, 13, 14, 15, 16, 17, 18, 19] (by decide) rfl
  refine W.eq (g2 := F0 m 9 ls []) rfl ?_
  obtain rfl := Option.some.inj h
  exact hretv rfl dX1_lambda_swap_4_9 rfl hP hD hS
def F_X1_within (N : Nat) (v0 : Int32) (v1 : Int32) (v2 : Int32) : Option (Int32) := (if v0 < v1 then (some (0)) else (if v2 < v0 then (some (0)) else (some (1))))
theorem cw_X1_within {R : Room} {s : State} {args : Array Value} {own : String} {index lev mc ms : Nat} (hts : ∀ w ∈ lw_all, w.before args s = true) (hl : Cond.methodLink own index yX1_within ∈ lw_all) (hR : (rmL lev mc ms).frames + 1 ≤ R.frames ∧ 8 + (3 + 11) + (rmL lev mc ms).locals ≤ R.locals) : CallB R s args own index yX1_within cX1_within 3 (some .boolean) (ws_ yX1_within cX1_within 3 (some .boolean)) (rmL lev mc ms) mc ms 3 ∧ (Cond.static yX1_within).before args s = true := va_cwS 3 hts (lw_S hl q879 q151 q880) rfl rfl rfl (by decide +kernel) hR
set_option maxHeartbeats 4000000 in
theorem M_X1_within {l : Launch} {G : GE} (hG : GC G) {N : Nat} {v0 : Int32} {v1 : Int32} {v2 : Int32} {ρ : (Int32)} (h : F_X1_within N v0 v1 v2 = some ρ) : MR l G yX1_within cX1_within 3 (some .boolean) 1 [] [.int v0, .int v1, .int v2] ρ := by
  rw [F_X1_within] at h
  refine MR.start (rt := .boolean) hG (by decide) (Nat.le_of_ble_eq_true rfl) ?_
  intro p e s m args below meth c Q S hW0 hK hP hret ls hl
  obtain ⟨hx, hb, hml, hown, hts⟩ := id S
  have hl : lv_has ls 3 [(0, .int v0), (1, .int v1), (2, .int v2)] := hl
  refine lv_iload_n hx hb dX1_within_0 rfl (lv_at hl 0 rfl) ?_
  refine lv_iload_n hx hb dX1_within_1 rfl (lv_at hl 1 rfl) ?_
  refine lv_icmp_lt (tgt := 14) hx hb dX1_within_2 (by decide) (fun c1 => ?_) (fun c1 => ?_)
  · rw [if_pos c1] at h
    refine lv_iconst (v := 0) hx hb dX1_within_14 (by decide) ?_
    obtain rfl := Option.some.inj h
    exact hret dX1_within_15 rfl
  · rw [if_neg c1] at h
    refine lv_iload_n hx hb dX1_within_5 rfl (lv_at hl 0 rfl) ?_
    refine lv_iload_n hx hb dX1_within_6 rfl (lv_at hl 2 rfl) ?_
    refine lv_icmp_gt (tgt := 14) hx hb dX1_within_7 (by decide) (fun c3 => ?_) (fun c3 => ?_)
    · rw [if_pos c3] at h
      refine lv_iconst (v := 0) hx hb dX1_within_14 (by decide) ?_
      obtain rfl := Option.some.inj h
      exact hret dX1_within_15 rfl
    · rw [if_neg c3] at h
      refine lv_iconst (v := 1) hx hb dX1_within_10 (by decide) ?_
      refine lv_goto (tgt := 15) hx hb dX1_within_11 (by decide) ?_
      obtain rfl := Option.some.inj h
      exact hret dX1_within_15 rfl
def F_X1_lies (N : Nat) (v1 : Int32) (v2 : Int32) (v3 : Int32) (c_now_x : (Nat → Int32)) (c_now_y : (Nat → Int32)) : Option ((Nat → Int32) × (Nat → Int32)) := (ckI v1 8 (ckI v1 8 (some ((upd c_now_x (Int32.toNatClampNeg v1) v2), (upd c_now_y (Int32.toNatClampNeg v1) v3)))))
theorem cw_X1_lies {R : Room} {s : State} {args : Array Value} {own : String} {index lev mc ms : Nat} (hts : ∀ w ∈ lw_all, w.before args s = true) (hl : Cond.methodLink own index yX1_lies ∈ lw_all) (hR : (rmL lev mc ms).frames + 1 ≤ R.frames ∧ 8 + (4 + 11) + (rmL lev mc ms).locals ≤ R.locals) : CallW R s args own RX1 index yX1_lies cX1_lies 4 none (ws_ yX1_lies cX1_lies 4 none) (rmL lev mc ms) mc ms 3 := cwV 3 hts (lw_V hl q886 qs12 q151 q887) rfl rfl rfl (by decide +kernel) hR
set_option maxHeartbeats 4000000 in
theorem M_X1_lies {l : Launch} {G : GE} (hG : GC G) {N : Nat} {h0 : Nat} {ad : Nat → Nat} {c_listPoints : Int32} {c_listLines : Int32} {c_refused : (Nat → Int32)} {c_imageRefused : (Nat → Int32)} {c_hasImage : Int32} {c_tape : (Nat → Int32)} {c_taped : Int32} {c_faultPlace : Int32} {c_orbit : (Nat → Int32)} {c_lineFor : (Nat → Int32)} {c_dualities : Int32} {c_polarities : Int32} {c_shortest : Int32} {c_placeX : (Nat → Int32)} {c_placeY : (Nat → Int32)} {c_placeZ : (Nat → Int32)} {c_lies : (Nat → Int32)} {c_firstLies : (Nat → Int32)} {c_worth : (Nat → Int32)} {c_its : Int32} {c_now_points : Int32} {c_now_lines : Int32} {c_now_line : (Nat → Int32)} {c_tried_points : Int32} {c_tried_lines : Int32} {c_tried_line : (Nat → Int32)} {c_tried_x : (Nat → Int32)} {c_tried_y : (Nat → Int32)} {c_imageNow_points : Int32} {c_imageNow_lines : Int32} {c_imageNow_line : (Nat → Int32)} {c_imageNow_x : (Nat → Int32)} {c_imageNow_y : (Nat → Int32)} {v1 : Int32} {v2 : Int32} {v3 : Int32} {c_now_x : (Nat → Int32)} {c_now_y : (Nat → Int32)} {ρ : ((Nat → Int32) × (Nat → Int32))} (h : F_X1_lies N v1 v2 v3 c_now_x c_now_y = some ρ) : MW l G yX1_lies cX1_lies 4 none 1 (cW h0 ad G.2.2 c_listPoints c_listLines c_refused c_imageRefused c_hasImage c_tape c_taped c_faultPlace c_orbit c_lineFor c_dualities c_polarities c_shortest c_placeX c_placeY c_placeZ c_lies c_firstLies c_worth c_its c_now_points c_now_lines c_now_line c_now_x c_now_y c_tried_points c_tried_lines c_tried_line c_tried_x c_tried_y c_imageNow_points c_imageNow_lines c_imageNow_line c_imageNow_x c_imageNow_y) [.ref h0, .int v1, .int v2, .int v3] none (cW h0 ad G.2.2 c_listPoints c_listLines c_refused c_imageRefused c_hasImage c_tape c_taped c_faultPlace c_orbit c_lineFor c_dualities c_polarities c_shortest c_placeX c_placeY c_placeZ c_lies c_firstLies c_worth c_its c_now_points c_now_lines c_now_line ρ.1 ρ.2 c_tried_points c_tried_lines c_tried_line c_tried_x c_tried_y c_imageNow_points c_imageNow_lines c_imageNow_line c_imageNow_x c_imageNow_y) := by
  rw [F_X1_lies] at h
  refine MW.start hG (by decide) (Nat.le_of_ble_eq_true rfl) ?_
  intro p e s m args below meth c Q A S hW0 hK hP hD hA hreti hretv ls hl
  have hS : va_S A s.heap s.heap [] := va_S.rf
  obtain ⟨hx, hb, hml, hown, hts⟩ := id S
  have hl : lv_has ls 4 [(0, .ref h0), (1, .int v1), (2, .int v2), (3, .int v3)] := hl
  refine lv_aload_n hx hb dX1_lies_0 rfl (lv_at hl 0 rfl) ?_
  refine va_get (ci := 0) (v := .ref (ad 3)) (C := RX1) (T := TX1) (N := 28) hx hb hts in_X1 hown hK hP 0 rfl rfl 3 (by decide) (hts _ q580) (fun _ h9 => h9) rfl dX1_lies_1 ?_
  refine va_getN (ci := 1) (v := .ref (ad 33)) (C := RX2) (T := TX2) (N := 5) hx hb hts in_X2 hown hK hP 1 rfl rfl 3 (by decide) (hG.nf hW0 q237) (fun _ h9 => h9) rfl dX1_lies_4 ?_
  refine lv_iload_n hx hb dX1_lies_7 rfl (lv_at hl 1 rfl) ?_
  refine lv_iload_n hx hb dX1_lies_8 rfl (lv_at hl 2 rfl) ?_
  obtain ⟨i1, h⟩ := ckI_s h
  refine va_iast (f := c_now_x) hx hb hK hP hD hS 3 0 rfl rfl i1 dX1_lies_9 (fun H locs hP hD hS => ?_)
  have hP : va_P G.2.1 vwCl (cW h0 ad G.2.2 c_listPoints c_listLines c_refused c_imageRefused c_hasImage c_tape c_taped c_faultPlace c_orbit c_lineFor c_dualities c_polarities c_shortest c_placeX c_placeY c_placeZ c_lies c_firstLies c_worth c_its c_now_points c_now_lines c_now_line (upd c_now_x (Int32.toNatClampNeg v1) v2) c_now_y c_tried_points c_tried_lines c_tried_line c_tried_x c_tried_y c_imageNow_points c_imageNow_lines c_imageNow_line c_imageNow_x c_imageNow_y) H := hP
  have hD : va_D A (cW h0 ad G.2.2 c_listPoints c_listLines c_refused c_imageRefused c_hasImage c_tape c_taped c_faultPlace c_orbit c_lineFor c_dualities c_polarities c_shortest c_placeX c_placeY c_placeZ c_lies c_firstLies c_worth c_its c_now_points c_now_lines c_now_line (upd c_now_x (Int32.toNatClampNeg v1) v2) c_now_y c_tried_points c_tried_lines c_tried_line c_tried_x c_tried_y c_imageNow_points c_imageNow_lines c_imageNow_line c_imageNow_x c_imageNow_y) := hD
  refine lv_aload_n hx hb dX1_lies_10 rfl (lv_at hl 0 rfl) ?_
  refine va_get (ci := 0) (v := .ref (ad 3)) (C := RX1) (T := TX1) (N := 28) hx hb hts in_X1 hown hK hP 0 rfl rfl 3 (by decide) (hts _ q580) (fun _ h9 => h9) rfl dX1_lies_11 ?_
  refine va_getN (ci := 1) (v := .ref (ad 34)) (C := RX2) (T := TX2) (N := 5) hx hb hts in_X2 hown hK hP 1 rfl rfl 4 (by decide) (hG.nf hW0 q240) (fun _ h9 => h9) rfl dX1_lies_14 ?_
  refine lv_iload_n hx hb dX1_lies_17 rfl (lv_at hl 1 rfl) ?_
  refine lv_iload_n hx hb dX1_lies_18 rfl (lv_at hl 3 rfl) ?_
  obtain ⟨i2, h⟩ := ckI_s h
  refine va_iast (f := c_now_y) hx hb hK hP hD hS 4 0 rfl rfl i2 dX1_lies_19 (fun H locs hP hD hS => ?_)
  have hP : va_P G.2.1 vwCl (cW h0 ad G.2.2 c_listPoints c_listLines c_refused c_imageRefused c_hasImage c_tape c_taped c_faultPlace c_orbit c_lineFor c_dualities c_polarities c_shortest c_placeX c_placeY c_placeZ c_lies c_firstLies c_worth c_its c_now_points c_now_lines c_now_line (upd c_now_x (Int32.toNatClampNeg v1) v2) (upd c_now_y (Int32.toNatClampNeg v1) v3) c_tried_points c_tried_lines c_tried_line c_tried_x c_tried_y c_imageNow_points c_imageNow_lines c_imageNow_line c_imageNow_x c_imageNow_y) H := hP
  have hD : va_D A (cW h0 ad G.2.2 c_listPoints c_listLines c_refused c_imageRefused c_hasImage c_tape c_taped c_faultPlace c_orbit c_lineFor c_dualities c_polarities c_shortest c_placeX c_placeY c_placeZ c_lies c_firstLies c_worth c_its c_now_points c_now_lines c_now_line (upd c_now_x (Int32.toNatClampNeg v1) v2) (upd c_now_y (Int32.toNatClampNeg v1) v3) c_tried_points c_tried_lines c_tried_line c_tried_x c_tried_y c_imageNow_points c_imageNow_lines c_imageNow_line c_imageNow_x c_imageNow_y) := hD
  obtain rfl := Option.some.inj h
  exact hretv rfl dX1_lies_20 rfl hP hD hS
def F_X1_lambda_place_5 (N : Nat) (v1 : Int32) (v2 : Int32) (v3 : Int32) (c_now_x : (Nat → Int32)) (c_now_y : (Nat → Int32)) : Option ((Nat → Int32) × (Nat → Int32)) := ((F_X1_lies N v1 v2 v3 c_now_x c_now_y).bind fun y1 => (some (y1.1, y1.2)))
theorem cw_X1_lambda_place_5 {R : Room} {s : State} {args : Array Value} {own : String} {index lev mc ms : Nat} (hts : ∀ w ∈ lw_all, w.before args s = true) (hl : Cond.methodLink own index yX1_lambda_place_5 ∈ lw_all) (hR : (rmL lev mc ms).frames + 1 ≤ R.frames ∧ 8 + (4 + 11) + (rmL lev mc ms).locals ≤ R.locals) : CallW R s args own RX1 index yX1_lambda_place_5 cX1_lambda_place_5 4 none (ws_ yX1_lambda_place_5 cX1_lambda_place_5 4 none) (rmL lev mc ms) mc ms 3 := cwV 3 hts (lw_V hl q882 qs11 q151 q883) rfl rfl rfl (by decide +kernel) hR
set_option maxHeartbeats 4000000 in
theorem M_X1_lambda_place_5 {l : Launch} {G : GE} (hG : GC G) {N : Nat} {h0 : Nat} {ad : Nat → Nat} {c_listPoints : Int32} {c_listLines : Int32} {c_refused : (Nat → Int32)} {c_imageRefused : (Nat → Int32)} {c_hasImage : Int32} {c_tape : (Nat → Int32)} {c_taped : Int32} {c_faultPlace : Int32} {c_orbit : (Nat → Int32)} {c_lineFor : (Nat → Int32)} {c_dualities : Int32} {c_polarities : Int32} {c_shortest : Int32} {c_placeX : (Nat → Int32)} {c_placeY : (Nat → Int32)} {c_placeZ : (Nat → Int32)} {c_lies : (Nat → Int32)} {c_firstLies : (Nat → Int32)} {c_worth : (Nat → Int32)} {c_its : Int32} {c_now_points : Int32} {c_now_lines : Int32} {c_now_line : (Nat → Int32)} {c_tried_points : Int32} {c_tried_lines : Int32} {c_tried_line : (Nat → Int32)} {c_tried_x : (Nat → Int32)} {c_tried_y : (Nat → Int32)} {c_imageNow_points : Int32} {c_imageNow_lines : Int32} {c_imageNow_line : (Nat → Int32)} {c_imageNow_x : (Nat → Int32)} {c_imageNow_y : (Nat → Int32)} {v1 : Int32} {v2 : Int32} {v3 : Int32} {c_now_x : (Nat → Int32)} {c_now_y : (Nat → Int32)} {ρ : ((Nat → Int32) × (Nat → Int32))} (h : F_X1_lambda_place_5 N v1 v2 v3 c_now_x c_now_y = some ρ) : MW l G yX1_lambda_place_5 cX1_lambda_place_5 4 none 2 (cW h0 ad G.2.2 c_listPoints c_listLines c_refused c_imageRefused c_hasImage c_tape c_taped c_faultPlace c_orbit c_lineFor c_dualities c_polarities c_shortest c_placeX c_placeY c_placeZ c_lies c_firstLies c_worth c_its c_now_points c_now_lines c_now_line c_now_x c_now_y c_tried_points c_tried_lines c_tried_line c_tried_x c_tried_y c_imageNow_points c_imageNow_lines c_imageNow_line c_imageNow_x c_imageNow_y) [.ref h0, .int v1, .int v2, .int v3] none (cW h0 ad G.2.2 c_listPoints c_listLines c_refused c_imageRefused c_hasImage c_tape c_taped c_faultPlace c_orbit c_lineFor c_dualities c_polarities c_shortest c_placeX c_placeY c_placeZ c_lies c_firstLies c_worth c_its c_now_points c_now_lines c_now_line ρ.1 ρ.2 c_tried_points c_tried_lines c_tried_line c_tried_x c_tried_y c_imageNow_points c_imageNow_lines c_imageNow_line c_imageNow_x c_imageNow_y) := by
  rw [F_X1_lambda_place_5] at h
  refine MW.start hG (by decide) (Nat.le_of_ble_eq_true rfl) ?_
  intro p e s m args below meth c Q A S hW0 hK hP hD hA hreti hretv ls hl
  have hS : va_S A s.heap s.heap [] := va_S.rf
  obtain ⟨hx, hb, hml, hown, hts⟩ := id S
  have hl : lv_has ls 4 [(0, .ref h0), (1, .int v1), (2, .int v2), (3, .int v3)] := hl
  refine lv_aload_n hx hb dX1_lambda_place_5_0 rfl (lv_at hl 0 rfl) ?_
  refine lv_iload_n hx hb dX1_lambda_place_5_1 rfl (lv_at hl 1 rfl) ?_
  refine lv_iload_n hx hb dX1_lambda_place_5_2 rfl (lv_at hl 2 rfl) ?_
  refine lv_iload_n hx hb dX1_lambda_place_5_3 rfl (lv_at hl 3 rfl) ?_
  obtain ⟨y1, e1, h⟩ := ob_s h
  refine MW.callV (q0 := 0) (M_X1_lies hG e1) S (cw_X1_lies hts q884 ⟨Nat.le_of_ble_eq_true rfl, Nat.le_of_ble_eq_true rfl⟩) hW0 hK hP hD hS hA rfl rfl rfl hl.1 rfl (Nat.le_of_ble_eq_true rfl) dX1_lambda_place_5_4 ⟨Nat.zero_le _, Nat.zero_le _⟩ (fun H locs hP hD hS => ?_)
  have hP : va_P G.2.1 vwCl (cW h0 ad G.2.2 c_listPoints c_listLines c_refused c_imageRefused c_hasImage c_tape c_taped c_faultPlace c_orbit c_lineFor c_dualities c_polarities c_shortest c_placeX c_placeY c_placeZ c_lies c_firstLies c_worth c_its c_now_points c_now_lines c_now_line y1.1 y1.2 c_tried_points c_tried_lines c_tried_line c_tried_x c_tried_y c_imageNow_points c_imageNow_lines c_imageNow_line c_imageNow_x c_imageNow_y) H := hP
  have hD : va_D A (cW h0 ad G.2.2 c_listPoints c_listLines c_refused c_imageRefused c_hasImage c_tape c_taped c_faultPlace c_orbit c_lineFor c_dualities c_polarities c_shortest c_placeX c_placeY c_placeZ c_lies c_firstLies c_worth c_its c_now_points c_now_lines c_now_line y1.1 y1.2 c_tried_points c_tried_lines c_tried_line c_tried_x c_tried_y c_imageNow_points c_imageNow_lines c_imageNow_line c_imageNow_x c_imageNow_y) := hD
  refine W.eq (g2 := F0 m 7 ls []) rfl ?_
  obtain rfl := Option.some.inj h
  exact hretv rfl dX1_lambda_place_5_7 rfl hP hD hS
def F_X1_right (N : Nat) (v0 : Int32) : Option Unit := (if v0 = 0 then none else (some ()))
theorem cw_X1_right {R : Room} {s : State} {args : Array Value} {own : String} {index lev mc ms : Nat} (hts : ∀ w ∈ lw_all, w.before args s = true) (hl : Cond.methodLink own index yX1_right ∈ lw_all) (hR : (rmL lev mc ms).frames + 1 ≤ R.frames ∧ 8 + (1 + 11) + (rmL lev mc ms).locals ≤ R.locals) : CallB R s args own index yX1_right cX1_right 1 none (ws_ yX1_right cX1_right 1 none) (rmL lev mc ms) mc ms 1 ∧ (Cond.static yX1_right).before args s = true := va_cwS 1 hts (lw_S hl q949 q151 q950) rfl rfl rfl (by decide +kernel) hR
set_option maxHeartbeats 4000000 in
theorem M_X1_right {l : Launch} {G : GE} (hG : GC G) {N : Nat} {v0 : Int32} {ρ : Unit} (h : F_X1_right N v0 = some ρ) : MV l G yX1_right cX1_right 1 none 1 [] [.int v0] := by
  rw [F_X1_right] at h
  refine MV.start hG (by decide) (Nat.le_of_ble_eq_true rfl) ?_
  intro p e s m args below meth c Q S hW0 hK hP hret ls hl
  obtain ⟨hx, hb, hml, hown, hts⟩ := id S
  have hl : lv_has ls 1 [(0, .int v0)] := hl
  refine lv_iload_n hx hb dX1_right_0 rfl (lv_at hl 0 rfl) ?_
  refine lv_if_ne (tgt := 12) hx hb dX1_right_1 (by decide) (fun c1 => ?_) (fun c1 => ?_)
  · rw [if_neg c1] at h
    obtain rfl := Option.some.inj h
    exact hret dX1_right_12
  · rw [if_pos c1] at h
    exact absurd h (by simp)
def F_X4_isLetter (N : Nat) (v0 : Int32) : Option (Int32) := (if v0 < 97 then (some (0)) else (if 122 < v0 then (some (0)) else (some (1))))
theorem cw_X4_isLetter {R : Room} {s : State} {args : Array Value} {own : String} {index lev mc ms : Nat} (hts : ∀ w ∈ lw_all, w.before args s = true) (hl : Cond.methodLink own index yX4_isLetter ∈ lw_all) (hR : (rmL lev mc ms).frames + 1 ≤ R.frames ∧ 8 + (1 + 11) + (rmL lev mc ms).locals ≤ R.locals) : CallB R s args own index yX4_isLetter cX4_isLetter 1 (some .boolean) (ws_ yX4_isLetter cX4_isLetter 1 (some .boolean)) (rmL lev mc ms) mc ms 1 ∧ (Cond.static yX4_isLetter).before args s = true := va_cwS 1 hts (lw_S hl q982 q173 q983) rfl rfl rfl (by decide +kernel) hR
set_option maxHeartbeats 4000000 in
theorem M_X4_isLetter {l : Launch} {G : GE} (hG : GC G) {N : Nat} {v0 : Int32} {ρ : (Int32)} (h : F_X4_isLetter N v0 = some ρ) : MR l G yX4_isLetter cX4_isLetter 1 (some .boolean) 1 [] [.int v0] ρ := by
  rw [F_X4_isLetter] at h
  refine MR.start (rt := .boolean) hG (by decide) (Nat.le_of_ble_eq_true rfl) ?_
  intro p e s m args below meth c Q S hW0 hK hP hret ls hl
  obtain ⟨hx, hb, hml, hown, hts⟩ := id S
  have hl : lv_has ls 1 [(0, .int v0)] := hl
  refine lv_iload_n hx hb dX4_isLetter_0 rfl (lv_at hl 0 rfl) ?_
  refine lv_bipush (v := 97) hx hb dX4_isLetter_1 (by decide) ?_
  refine lv_icmp_lt (tgt := 16) hx hb dX4_isLetter_3 (by decide) (fun c1 => ?_) (fun c1 => ?_)
  · rw [if_pos c1] at h
    refine lv_iconst (v := 0) hx hb dX4_isLetter_16 (by decide) ?_
    obtain rfl := Option.some.inj h
    exact hret dX4_isLetter_17 rfl
  · rw [if_neg c1] at h
    refine lv_iload_n hx hb dX4_isLetter_6 rfl (lv_at hl 0 rfl) ?_
    refine lv_bipush (v := 122) hx hb dX4_isLetter_7 (by decide) ?_
    refine lv_icmp_gt (tgt := 16) hx hb dX4_isLetter_9 (by decide) (fun c3 => ?_) (fun c3 => ?_)
    · rw [if_pos c3] at h
      refine lv_iconst (v := 0) hx hb dX4_isLetter_16 (by decide) ?_
      obtain rfl := Option.some.inj h
      exact hret dX4_isLetter_17 rfl
    · rw [if_neg c3] at h
      refine lv_iconst (v := 1) hx hb dX4_isLetter_12 (by decide) ?_
      refine lv_goto (tgt := 17) hx hb dX4_isLetter_13 (by decide) ?_
      obtain rfl := Option.some.inj h
      exact hret dX4_isLetter_17 rfl
def F_X4_isDigit (N : Nat) (v0 : Int32) : Option (Int32) := (if v0 < 48 then (some (0)) else (if 57 < v0 then (some (0)) else (some (1))))
theorem cw_X4_isDigit {R : Room} {s : State} {args : Array Value} {own : String} {index lev mc ms : Nat} (hts : ∀ w ∈ lw_all, w.before args s = true) (hl : Cond.methodLink own index yX4_isDigit ∈ lw_all) (hR : (rmL lev mc ms).frames + 1 ≤ R.frames ∧ 8 + (1 + 11) + (rmL lev mc ms).locals ≤ R.locals) : CallB R s args own index yX4_isDigit cX4_isDigit 1 (some .boolean) (ws_ yX4_isDigit cX4_isDigit 1 (some .boolean)) (rmL lev mc ms) mc ms 1 ∧ (Cond.static yX4_isDigit).before args s = true := va_cwS 1 hts (lw_S hl q1013 q173 q1014) rfl rfl rfl (by decide +kernel) hR
set_option maxHeartbeats 4000000 in
theorem M_X4_isDigit {l : Launch} {G : GE} (hG : GC G) {N : Nat} {v0 : Int32} {ρ : (Int32)} (h : F_X4_isDigit N v0 = some ρ) : MR l G yX4_isDigit cX4_isDigit 1 (some .boolean) 1 [] [.int v0] ρ := by
  rw [F_X4_isDigit] at h
  refine MR.start (rt := .boolean) hG (by decide) (Nat.le_of_ble_eq_true rfl) ?_
  intro p e s m args below meth c Q S hW0 hK hP hret ls hl
  obtain ⟨hx, hb, hml, hown, hts⟩ := id S
  have hl : lv_has ls 1 [(0, .int v0)] := hl
  refine lv_iload_n hx hb dX4_isDigit_0 rfl (lv_at hl 0 rfl) ?_
  refine lv_bipush (v := 48) hx hb dX4_isDigit_1 (by decide) ?_
  refine lv_icmp_lt (tgt := 16) hx hb dX4_isDigit_3 (by decide) (fun c1 => ?_) (fun c1 => ?_)
  · rw [if_pos c1] at h
    refine lv_iconst (v := 0) hx hb dX4_isDigit_16 (by decide) ?_
    obtain rfl := Option.some.inj h
    exact hret dX4_isDigit_17 rfl
  · rw [if_neg c1] at h
    refine lv_iload_n hx hb dX4_isDigit_6 rfl (lv_at hl 0 rfl) ?_
    refine lv_bipush (v := 57) hx hb dX4_isDigit_7 (by decide) ?_
    refine lv_icmp_gt (tgt := 16) hx hb dX4_isDigit_9 (by decide) (fun c3 => ?_) (fun c3 => ?_)
    · rw [if_pos c3] at h
      refine lv_iconst (v := 0) hx hb dX4_isDigit_16 (by decide) ?_
      obtain rfl := Option.some.inj h
      exact hret dX4_isDigit_17 rfl
    · rw [if_neg c3] at h
      refine lv_iconst (v := 1) hx hb dX4_isDigit_12 (by decide) ?_
      refine lv_goto (tgt := 17) hx hb dX4_isDigit_13 (by decide) ?_
      obtain rfl := Option.some.inj h
      exact hret dX4_isDigit_17 rfl
def F_X1_there (N : Nat) (v0 : Int32) : Option Unit := (if v0 = 0 then none else (some ()))
theorem cw_X1_there {R : Room} {s : State} {args : Array Value} {own : String} {index lev mc ms : Nat} (hts : ∀ w ∈ lw_all, w.before args s = true) (hl : Cond.methodLink own index yX1_there ∈ lw_all) (hR : (rmL lev mc ms).frames + 1 ≤ R.frames ∧ 8 + (1 + 11) + (rmL lev mc ms).locals ≤ R.locals) : CallB R s args own index yX1_there cX1_there 1 none (ws_ yX1_there cX1_there 1 none) (rmL lev mc ms) mc ms 1 ∧ (Cond.static yX1_there).before args s = true := va_cwS 1 hts (lw_S hl q1183 q151 q1184) rfl rfl rfl (by decide +kernel) hR
set_option maxHeartbeats 4000000 in
theorem M_X1_there {l : Launch} {G : GE} (hG : GC G) {N : Nat} {v0 : Int32} {ρ : Unit} (h : F_X1_there N v0 = some ρ) : MV l G yX1_there cX1_there 1 none 1 [] [.int v0] := by
  rw [F_X1_there] at h
  refine MV.start hG (by decide) (Nat.le_of_ble_eq_true rfl) ?_
  intro p e s m args below meth c Q S hW0 hK hP hret ls hl
  obtain ⟨hx, hb, hml, hown, hts⟩ := id S
  have hl : lv_has ls 1 [(0, .int v0)] := hl
  refine lv_iload_n hx hb dX1_there_0 rfl (lv_at hl 0 rfl) ?_
  refine lv_if_ne (tgt := 12) hx hb dX1_there_1 (by decide) (fun c1 => ?_) (fun c1 => ?_)
  · rw [if_neg c1] at h
    obtain rfl := Option.some.inj h
    exact hret dX1_there_12
  · rw [if_pos c1] at h
    exact absurd h (by simp)
def F_X1_flags_4 (N : Nat) (c_now_line : (Nat → Int32)) (c_now_lines : Int32) : Nat → Int32 → Int32 → Option (Int32)
  | 0, _, _ => none
  | n + 1, v1, v2 => (if c_now_lines ≤ v2 then (some (v1)) else (ckI v2 12 ((F_J16_bitCount N (c_now_line (Int32.toNatClampNeg v2))).bind fun y4 => (F_X1_flags_4 N c_now_line c_now_lines n (v1 + y4) (v2 + 1)))))
def F_X1_flags (N : Nat) (c_now_line : (Nat → Int32)) (c_now_lines : Int32) : Option (Int32) := (F_X1_flags_4 N c_now_line c_now_lines N 0 0)
theorem cw_X1_flags {R : Room} {s : State} {args : Array Value} {own : String} {index lev mc ms : Nat} (hts : ∀ w ∈ lw_all, w.before args s = true) (hl : Cond.methodLink own index yX1_flags ∈ lw_all) (hR : (rmL lev mc ms).frames + 1 ≤ R.frames ∧ 8 + (3 + 11) + (rmL lev mc ms).locals ≤ R.locals) : CallW R s args own RX1 index yX1_flags cX1_flags 3 (some .int) (ws_ yX1_flags cX1_flags 3 (some .int)) (rmL lev mc ms) mc ms 0 := cwV 0 hts (lw_V hl q1202 qs23 q151 q1203) rfl rfl rfl (by decide +kernel) hR
set_option maxHeartbeats 4000000 in
theorem M_X1_flags {l : Launch} {G : GE} (hG : GC G) {N : Nat} {h0 : Nat} {ad : Nat → Nat} {c_listPoints : Int32} {c_listLines : Int32} {c_refused : (Nat → Int32)} {c_imageRefused : (Nat → Int32)} {c_hasImage : Int32} {c_tape : (Nat → Int32)} {c_taped : Int32} {c_faultPlace : Int32} {c_orbit : (Nat → Int32)} {c_lineFor : (Nat → Int32)} {c_dualities : Int32} {c_polarities : Int32} {c_shortest : Int32} {c_placeX : (Nat → Int32)} {c_placeY : (Nat → Int32)} {c_placeZ : (Nat → Int32)} {c_lies : (Nat → Int32)} {c_firstLies : (Nat → Int32)} {c_worth : (Nat → Int32)} {c_its : Int32} {c_now_points : Int32} {c_now_x : (Nat → Int32)} {c_now_y : (Nat → Int32)} {c_tried_points : Int32} {c_tried_lines : Int32} {c_tried_line : (Nat → Int32)} {c_tried_x : (Nat → Int32)} {c_tried_y : (Nat → Int32)} {c_imageNow_points : Int32} {c_imageNow_lines : Int32} {c_imageNow_line : (Nat → Int32)} {c_imageNow_x : (Nat → Int32)} {c_imageNow_y : (Nat → Int32)} {c_now_line : (Nat → Int32)} {c_now_lines : Int32} {ρ : (Int32)} (h : F_X1_flags N c_now_line c_now_lines = some ρ) : MR l G yX1_flags cX1_flags 3 (some .int) 2 (cW h0 ad G.2.2 c_listPoints c_listLines c_refused c_imageRefused c_hasImage c_tape c_taped c_faultPlace c_orbit c_lineFor c_dualities c_polarities c_shortest c_placeX c_placeY c_placeZ c_lies c_firstLies c_worth c_its c_now_points c_now_lines c_now_line c_now_x c_now_y c_tried_points c_tried_lines c_tried_line c_tried_x c_tried_y c_imageNow_points c_imageNow_lines c_imageNow_line c_imageNow_x c_imageNow_y) [.ref h0] ρ := by
  rw [F_X1_flags] at h
  refine MR.start (rt := .int) hG (by decide) (Nat.le_of_ble_eq_true rfl) ?_
  intro p e s m args below meth c Q S hW0 hK hP hret ls hl
  obtain ⟨hx, hb, hml, hown, hts⟩ := id S
  have hl : lv_has ls 3 [(0, .ref h0)] := hl
  have S_X1_flags_4 : ∀ (n : Nat) (v1 : Int32) (v2 : Int32), F_X1_flags_4 N c_now_line c_now_lines n v1 v2 = some ρ → ∀ (ls : Array Slot), lv_has ls 3 [(0, .ref h0), (1, .int v1), (2, .int v2)] → W p l e (rmL 2 0 0) s m args below meth c s.heap [] 0 0 Q (F0 m 4 ls []) := by
    intro n
    induction n with
    | zero =>
      intro v1 v2 h
      exact absurd h (by simp [F_X1_flags_4])
    | succ n ih =>
      intro v1 v2 h ls hl
      rw [F_X1_flags_4] at h
      refine lv_iload_n hx hb dX1_flags_4 rfl (lv_at hl 2 rfl) ?_
      refine lv_aload_n hx hb dX1_flags_5 rfl (lv_at hl 0 rfl) ?_
      refine va_get (ci := 0) (v := .ref (ad 3)) (C := RX1) (T := TX1) (N := 28) hx hb hts in_X1 hown hK hP 0 rfl rfl 3 (by decide) (hts _ q580) (fun _ h9 => h9) rfl dX1_flags_6 ?_
      refine va_getN (ci := 1) (v := .int c_now_lines) (C := RX2) (T := TX2) (N := 5) hx hb hts in_X2 hown hK hP 1 rfl rfl 1 (by decide) (hG.nf hW0 q228) (fun _ h9 => h9) rfl dX1_flags_9 ?_
      refine lv_icmp_ge (tgt := 36) hx hb dX1_flags_12 (by decide) (fun c1 => ?_) (fun c1 => ?_)
      · rw [if_pos c1] at h
        refine lv_iload_n hx hb dX1_flags_36 rfl (lv_at hl 1 rfl) ?_
        obtain rfl := Option.some.inj h
        exact hret dX1_flags_37 rfl
      · rw [if_neg c1] at h
        refine lv_iload_n hx hb dX1_flags_15 rfl (lv_at hl 1 rfl) ?_
        refine lv_aload_n hx hb dX1_flags_16 rfl (lv_at hl 0 rfl) ?_
        refine va_get (ci := 0) (v := .ref (ad 3)) (C := RX1) (T := TX1) (N := 28) hx hb hts in_X1 hown hK hP 0 rfl rfl 3 (by decide) (hts _ q580) (fun _ h9 => h9) rfl dX1_flags_17 ?_
        refine va_getN (ci := 1) (v := .ref (ad 32)) (C := RX2) (T := TX2) (N := 5) hx hb hts in_X2 hown hK hP 1 rfl rfl 2 (by decide) (hG.nf hW0 q234) (fun _ h9 => h9) rfl dX1_flags_20 ?_
        refine lv_iload_n hx hb dX1_flags_23 rfl (lv_at hl 2 rfl) ?_
        obtain ⟨i3, h⟩ := ckI_s h
        refine va_iald (f := c_now_line) hx hb hK hP 2 0 rfl rfl i3 dX1_flags_24 ?_
        obtain ⟨y4, e4, h⟩ := ob_s h
        refine MR.callS (M_J16_bitCount hG e4) S (cw_J16_bitCount hts q1204 ⟨Nat.le_of_ble_eq_true rfl, Nat.le_of_ble_eq_true rfl⟩) hW0 vaP0 rfl hl.1 rfl (Nat.le_of_ble_eq_true rfl) dX1_flags_25 ⟨Nat.zero_le _, Nat.zero_le _⟩ ?_
        refine lv_iadd hx hb dX1_flags_28 ?_
        refine lv_istore_n (lv' := [(1, .int (v1 + y4)), (0, .ref h0), (2, .int v2)]) hx hb dX1_flags_29 rfl hl (by decide) rfl (fun ls hl => ?_)
        refine lv_iinc (v := (v2 + 1)) (lv' := [(2, .int (v2 + 1)), (1, .int (v1 + y4)), (0, .ref h0)]) hx hb dX1_flags_30 hl (k := 2) rfl rfl (by decide) rfl (fun ls hl => ?_)
        refine lv_goto (tgt := 4) hx hb dX1_flags_33 (by decide) ?_
        exact ih (v1 + y4) (v2 + 1) h _ (lv_sub hl [2, 1, 0] rfl)
  refine lv_iconst (v := 0) hx hb dX1_flags_0 (by decide) ?_
  refine lv_istore_n (lv' := [(1, .int 0), (0, .ref h0)]) hx hb dX1_flags_1 rfl hl (by decide) rfl (fun ls hl => ?_)
  refine lv_iconst (v := 0) hx hb dX1_flags_2 (by decide) ?_
  refine lv_istore_n (lv' := [(2, .int 0), (1, .int 0), (0, .ref h0)]) hx hb dX1_flags_3 rfl hl (by decide) rfl (fun ls hl => ?_)
  refine S_X1_flags_4 N 0 0 h  _ (lv_sub hl [2, 1, 0] rfl)
def F_X1_linesThrough (N : Nat) (v1 : Int32) (c_now_line : (Nat → Int32)) (c_now_lines : Int32) : Option (Int32) := ((F_X2_through N v1 c_now_line c_now_lines).bind fun y1 => ((F_J16_bitCount N y1).bind fun y2 => (some (y2))))
theorem cw_X1_linesThrough {R : Room} {s : State} {args : Array Value} {own : String} {index lev mc ms : Nat} (hts : ∀ w ∈ lw_all, w.before args s = true) (hl : Cond.methodLink own index yX1_linesThrough ∈ lw_all) (hR : (rmL lev mc ms).frames + 1 ≤ R.frames ∧ 8 + (2 + 11) + (rmL lev mc ms).locals ≤ R.locals) : CallW R s args own RX1 index yX1_linesThrough cX1_linesThrough 2 (some .int) (ws_ yX1_linesThrough cX1_linesThrough 2 (some .int)) (rmL lev mc ms) mc ms 1 := cwV 1 hts (lw_V hl q1211 qs25 q151 q1212) rfl rfl rfl (by decide +kernel) hR
set_option maxHeartbeats 4000000 in
theorem M_X1_linesThrough {l : Launch} {G : GE} (hG : GC G) {N : Nat} {h0 : Nat} {ad : Nat → Nat} {c_listPoints : Int32} {c_listLines : Int32} {c_refused : (Nat → Int32)} {c_imageRefused : (Nat → Int32)} {c_hasImage : Int32} {c_tape : (Nat → Int32)} {c_taped : Int32} {c_faultPlace : Int32} {c_orbit : (Nat → Int32)} {c_lineFor : (Nat → Int32)} {c_dualities : Int32} {c_polarities : Int32} {c_shortest : Int32} {c_placeX : (Nat → Int32)} {c_placeY : (Nat → Int32)} {c_placeZ : (Nat → Int32)} {c_lies : (Nat → Int32)} {c_firstLies : (Nat → Int32)} {c_worth : (Nat → Int32)} {c_its : Int32} {c_now_points : Int32} {c_now_x : (Nat → Int32)} {c_now_y : (Nat → Int32)} {c_tried_points : Int32} {c_tried_lines : Int32} {c_tried_line : (Nat → Int32)} {c_tried_x : (Nat → Int32)} {c_tried_y : (Nat → Int32)} {c_imageNow_points : Int32} {c_imageNow_lines : Int32} {c_imageNow_line : (Nat → Int32)} {c_imageNow_x : (Nat → Int32)} {c_imageNow_y : (Nat → Int32)} {v1 : Int32} {c_now_line : (Nat → Int32)} {c_now_lines : Int32} {ρ : (Int32)} (h : F_X1_linesThrough N v1 c_now_line c_now_lines = some ρ) : MR l G yX1_linesThrough cX1_linesThrough 2 (some .int) 3 (cW h0 ad G.2.2 c_listPoints c_listLines c_refused c_imageRefused c_hasImage c_tape c_taped c_faultPlace c_orbit c_lineFor c_dualities c_polarities c_shortest c_placeX c_placeY c_placeZ c_lies c_firstLies c_worth c_its c_now_points c_now_lines c_now_line c_now_x c_now_y c_tried_points c_tried_lines c_tried_line c_tried_x c_tried_y c_imageNow_points c_imageNow_lines c_imageNow_line c_imageNow_x c_imageNow_y) [.ref h0, .int v1] ρ := by
  rw [F_X1_linesThrough] at h
  refine MR.start (rt := .int) hG (by decide) (Nat.le_of_ble_eq_true rfl) ?_
  intro p e s m args below meth c Q S hW0 hK hP hret ls hl
  obtain ⟨hx, hb, hml, hown, hts⟩ := id S
  have hl : lv_has ls 2 [(0, .ref h0), (1, .int v1)] := hl
  refine lv_aload_n hx hb dX1_linesThrough_0 rfl (lv_at hl 0 rfl) ?_
  refine va_get (ci := 0) (v := .ref (ad 3)) (C := RX1) (T := TX1) (N := 28) hx hb hts in_X1 hown hK hP 0 rfl rfl 3 (by decide) (hts _ q580) (fun _ h9 => h9) rfl dX1_linesThrough_1 ?_
  refine lv_iload_n hx hb dX1_linesThrough_4 rfl (lv_at hl 1 rfl) ?_
  obtain ⟨y1, e1, h⟩ := ob_s h
  refine MR.callV (q0 := 0) (M_X2_through hG e1) S (cw_X2_through hts q1213 ⟨Nat.le_of_ble_eq_true rfl, Nat.le_of_ble_eq_true rfl⟩) hW0 hK (hP.sub (ws' := (sW (ad 3) (fun k => ad (30 + k)) G.2.2 c_now_points c_now_lines c_now_line c_now_x c_now_y)) [1, 2, 3, 4] rfl) rfl rfl rfl hl.1 rfl (Nat.le_of_ble_eq_true rfl) dX1_linesThrough_5 ⟨Nat.zero_le _, Nat.zero_le _⟩ ?_
  obtain ⟨y2, e2, h⟩ := ob_s h
  refine MR.callS (M_J16_bitCount hG e2) S (cw_J16_bitCount hts q1204 ⟨Nat.le_of_ble_eq_true rfl, Nat.le_of_ble_eq_true rfl⟩) hW0 vaP0 rfl hl.1 rfl (Nat.le_of_ble_eq_true rfl) dX1_linesThrough_8 ⟨Nat.zero_le _, Nat.zero_le _⟩ ?_
  obtain rfl := Option.some.inj h
  exact hret dX1_linesThrough_11 rfl
def F_X1_isRegular_2 (N : Nat) (c_now_line : (Nat → Int32)) (c_now_points : Int32) (c_now_lines : Int32) : Nat → Int32 → (Unit → Option (Int32)) → Option (Int32)
  | 0, _, _ => none
  | n + 1, v1, k34 => (if c_now_points ≤ v1 then (k34 ()) else ((F_X1_linesThrough N v1 c_now_line c_now_lines).bind fun y2 => ((F_X1_linesThrough N 0 c_now_line c_now_lines).bind fun y3 => (if y2 = y3 then (F_X1_isRegular_2 N c_now_line c_now_points c_now_lines n (v1 + 1) k34) else (some (0))))))
def F_X1_isRegular_36 (N : Nat) (c_now_line : (Nat → Int32)) (c_now_lines : Int32) : Nat → Int32 → Option (Int32)
  | 0, _ => none
  | n + 1, v1 => (if c_now_lines ≤ v1 then (some (1)) else (ckI v1 12 ((F_J16_bitCount N (c_now_line (Int32.toNatClampNeg v1))).bind fun y10 => (ckI 0 12 ((F_J16_bitCount N (c_now_line (Int32.toNatClampNeg 0))).bind fun y12 => (if y10 = y12 then (F_X1_isRegular_36 N c_now_line c_now_lines n (v1 + 1)) else (some (0))))))))
def F_X1_isRegular (N : Nat) (c_now_line : (Nat → Int32)) (c_now_points : Int32) (c_now_lines : Int32) : Option (Int32) := (F_X1_isRegular_2 N c_now_line c_now_points c_now_lines N 1 (fun _u => (F_X1_isRegular_36 N c_now_line c_now_lines N 1)))
theorem cw_X1_isRegular {R : Room} {s : State} {args : Array Value} {own : String} {index lev mc ms : Nat} (hts : ∀ w ∈ lw_all, w.before args s = true) (hl : Cond.methodLink own index yX1_isRegular ∈ lw_all) (hR : (rmL lev mc ms).frames + 1 ≤ R.frames ∧ 8 + (2 + 11) + (rmL lev mc ms).locals ≤ R.locals) : CallW R s args own RX1 index yX1_isRegular cX1_isRegular 2 (some .boolean) (ws_ yX1_isRegular cX1_isRegular 2 (some .boolean)) (rmL lev mc ms) mc ms 0 := cwV 0 hts (lw_V hl q1207 qs24 q151 q1208) rfl rfl rfl (by decide +kernel) hR
set_option maxHeartbeats 4000000 in
theorem M_X1_isRegular {l : Launch} {G : GE} (hG : GC G) {N : Nat} {h0 : Nat} {ad : Nat → Nat} {c_listPoints : Int32} {c_listLines : Int32} {c_refused : (Nat → Int32)} {c_imageRefused : (Nat → Int32)} {c_hasImage : Int32} {c_tape : (Nat → Int32)} {c_taped : Int32} {c_faultPlace : Int32} {c_orbit : (Nat → Int32)} {c_lineFor : (Nat → Int32)} {c_dualities : Int32} {c_polarities : Int32} {c_shortest : Int32} {c_placeX : (Nat → Int32)} {c_placeY : (Nat → Int32)} {c_placeZ : (Nat → Int32)} {c_lies : (Nat → Int32)} {c_firstLies : (Nat → Int32)} {c_worth : (Nat → Int32)} {c_its : Int32} {c_now_x : (Nat → Int32)} {c_now_y : (Nat → Int32)} {c_tried_points : Int32} {c_tried_lines : Int32} {c_tried_line : (Nat → Int32)} {c_tried_x : (Nat → Int32)} {c_tried_y : (Nat → Int32)} {c_imageNow_points : Int32} {c_imageNow_lines : Int32} {c_imageNow_line : (Nat → Int32)} {c_imageNow_x : (Nat → Int32)} {c_imageNow_y : (Nat → Int32)} {c_now_line : (Nat → Int32)} {c_now_points : Int32} {c_now_lines : Int32} {ρ : (Int32)} (h : F_X1_isRegular N c_now_line c_now_points c_now_lines = some ρ) : MR l G yX1_isRegular cX1_isRegular 2 (some .boolean) 4 (cW h0 ad G.2.2 c_listPoints c_listLines c_refused c_imageRefused c_hasImage c_tape c_taped c_faultPlace c_orbit c_lineFor c_dualities c_polarities c_shortest c_placeX c_placeY c_placeZ c_lies c_firstLies c_worth c_its c_now_points c_now_lines c_now_line c_now_x c_now_y c_tried_points c_tried_lines c_tried_line c_tried_x c_tried_y c_imageNow_points c_imageNow_lines c_imageNow_line c_imageNow_x c_imageNow_y) [.ref h0] ρ := by
  rw [F_X1_isRegular] at h
  refine MR.start (rt := .boolean) hG (by decide) (Nat.le_of_ble_eq_true rfl) ?_
  intro p e s m args below meth c Q S hW0 hK hP hret ls hl
  obtain ⟨hx, hb, hml, hown, hts⟩ := id S
  have hl : lv_has ls 2 [(0, .ref h0)] := hl
  have S_X1_isRegular_2 : ∀ (n : Nat) (v1 : Int32) (k34 : Unit → Option (Int32)), F_X1_isRegular_2 N c_now_line c_now_points c_now_lines n v1 k34 = some ρ → (∀ (ls : Array Slot), k34 () = some ρ → lv_has ls 2 [(0, .ref h0)] → W p l e (rmL 4 0 0) s m args below meth c s.heap [] 0 0 Q (F0 m 34 ls [])) → ∀ (ls : Array Slot), lv_has ls 2 [(0, .ref h0), (1, .int v1)] → W p l e (rmL 4 0 0) s m args below meth c s.heap [] 0 0 Q (F0 m 2 ls []) := by
    intro n
    induction n with
    | zero =>
      intro v1 k34 h
      exact absurd h (by simp [F_X1_isRegular_2])
    | succ n ih =>
      intro v1 k34 h hk34 ls hl
      rw [F_X1_isRegular_2] at h
      refine lv_iload_n hx hb dX1_isRegular_2 rfl (lv_at hl 1 rfl) ?_
      refine lv_aload_n hx hb dX1_isRegular_3 rfl (lv_at hl 0 rfl) ?_
      refine va_get (ci := 0) (v := .ref (ad 3)) (C := RX1) (T := TX1) (N := 28) hx hb hts in_X1 hown hK hP 0 rfl rfl 3 (by decide) (hts _ q580) (fun _ h9 => h9) rfl dX1_isRegular_4 ?_
      refine va_getN (ci := 1) (v := .int c_now_points) (C := RX2) (T := TX2) (N := 5) hx hb hts in_X2 hown hK hP 1 rfl rfl 0 (by decide) (hG.nf hW0 q224) (fun _ h9 => h9) rfl dX1_isRegular_7 ?_
      refine lv_icmp_ge (tgt := 34) hx hb dX1_isRegular_10 (by decide) (fun c1 => ?_) (fun c1 => ?_)
      · rw [if_pos c1] at h
        exact hk34 _ h (lv_sub hl [0] rfl)
      · rw [if_neg c1] at h
        refine lv_aload_n hx hb dX1_isRegular_13 rfl (lv_at hl 0 rfl) ?_
        refine lv_iload_n hx hb dX1_isRegular_14 rfl (lv_at hl 1 rfl) ?_
        obtain ⟨y2, e2, h⟩ := ob_s h
        refine MR.callV (q0 := 0) (M_X1_linesThrough hG e2) S (cw_X1_linesThrough hts q1209 ⟨Nat.le_of_ble_eq_true rfl, Nat.le_of_ble_eq_true rfl⟩) hW0 hK hP rfl rfl rfl hl.1 rfl (Nat.le_of_ble_eq_true rfl) dX1_isRegular_15 ⟨Nat.zero_le _, Nat.zero_le _⟩ ?_
        refine lv_aload_n hx hb dX1_isRegular_18 rfl (lv_at hl 0 rfl) ?_
        refine lv_iconst (v := 0) hx hb dX1_isRegular_19 (by decide) ?_
        obtain ⟨y3, e3, h⟩ := ob_s h
        refine MR.callV (q0 := 0) (M_X1_linesThrough hG e3) S (cw_X1_linesThrough hts q1209 ⟨Nat.le_of_ble_eq_true rfl, Nat.le_of_ble_eq_true rfl⟩) hW0 hK hP rfl rfl rfl hl.1 rfl (Nat.le_of_ble_eq_true rfl) dX1_isRegular_20 ⟨Nat.zero_le _, Nat.zero_le _⟩ ?_
        refine lv_icmp_eq (tgt := 28) hx hb dX1_isRegular_23 (by decide) (fun c4 => ?_) (fun c4 => ?_)
        · rw [if_pos c4] at h
          refine lv_iinc (v := (v1 + 1)) (lv' := [(1, .int (v1 + 1)), (0, .ref h0)]) hx hb dX1_isRegular_28 hl (k := 1) rfl rfl (by decide) rfl (fun ls hl => ?_)
          refine lv_goto (tgt := 2) hx hb dX1_isRegular_31 (by decide) ?_
          exact ih (v1 + 1) _ h hk34 _ (lv_sub hl [1, 0] rfl)
        · rw [if_neg c4] at h
          refine lv_iconst (v := 0) hx hb dX1_isRegular_26 (by decide) ?_
          obtain rfl := Option.some.inj h
          exact hret dX1_isRegular_27 rfl
  have S_X1_isRegular_36 : ∀ (n : Nat) (v1 : Int32), F_X1_isRegular_36 N c_now_line c_now_lines n v1 = some ρ → ∀ (ls : Array Slot), lv_has ls 2 [(0, .ref h0), (1, .int v1)] → W p l e (rmL 4 0 0) s m args below meth c s.heap [] 0 0 Q (F0 m 36 ls []) := by
    intro n
    induction n with
    | zero =>
      intro v1 h
      exact absurd h (by simp [F_X1_isRegular_36])
    | succ n ih =>
      intro v1 h ls hl
      rw [F_X1_isRegular_36] at h
      refine lv_iload_n hx hb dX1_isRegular_36 rfl (lv_at hl 1 rfl) ?_
      refine lv_aload_n hx hb dX1_isRegular_37 rfl (lv_at hl 0 rfl) ?_
      refine va_get (ci := 0) (v := .ref (ad 3)) (C := RX1) (T := TX1) (N := 28) hx hb hts in_X1 hown hK hP 0 rfl rfl 3 (by decide) (hts _ q580) (fun _ h9 => h9) rfl dX1_isRegular_38 ?_
      refine va_getN (ci := 1) (v := .int c_now_lines) (C := RX2) (T := TX2) (N := 5) hx hb hts in_X2 hown hK hP 1 rfl rfl 1 (by decide) (hG.nf hW0 q228) (fun _ h9 => h9) rfl dX1_isRegular_41 ?_
      refine lv_icmp_ge (tgt := 82) hx hb dX1_isRegular_44 (by decide) (fun c7 => ?_) (fun c7 => ?_)
      · rw [if_pos c7] at h
        refine lv_iconst (v := 1) hx hb dX1_isRegular_82 (by decide) ?_
        obtain rfl := Option.some.inj h
        exact hret dX1_isRegular_83 rfl
      · rw [if_neg c7] at h
        refine lv_aload_n hx hb dX1_isRegular_47 rfl (lv_at hl 0 rfl) ?_
        refine va_get (ci := 0) (v := .ref (ad 3)) (C := RX1) (T := TX1) (N := 28) hx hb hts in_X1 hown hK hP 0 rfl rfl 3 (by decide) (hts _ q580) (fun _ h9 => h9) rfl dX1_isRegular_48 ?_
        refine va_getN (ci := 1) (v := .ref (ad 32)) (C := RX2) (T := TX2) (N := 5) hx hb hts in_X2 hown hK hP 1 rfl rfl 2 (by decide) (hG.nf hW0 q234) (fun _ h9 => h9) rfl dX1_isRegular_51 ?_
        refine lv_iload_n hx hb dX1_isRegular_54 rfl (lv_at hl 1 rfl) ?_
        obtain ⟨i9, h⟩ := ckI_s h
        refine va_iald (f := c_now_line) hx hb hK hP 2 0 rfl rfl i9 dX1_isRegular_55 ?_
        obtain ⟨y10, e10, h⟩ := ob_s h
        refine MR.callS (M_J16_bitCount hG e10) S (cw_J16_bitCount hts q1204 ⟨Nat.le_of_ble_eq_true rfl, Nat.le_of_ble_eq_true rfl⟩) hW0 vaP0 rfl hl.1 rfl (Nat.le_of_ble_eq_true rfl) dX1_isRegular_56 ⟨Nat.zero_le _, Nat.zero_le _⟩ ?_
        refine lv_aload_n hx hb dX1_isRegular_59 rfl (lv_at hl 0 rfl) ?_
        refine va_get (ci := 0) (v := .ref (ad 3)) (C := RX1) (T := TX1) (N := 28) hx hb hts in_X1 hown hK hP 0 rfl rfl 3 (by decide) (hts _ q580) (fun _ h9 => h9) rfl dX1_isRegular_60 ?_
        refine va_getN (ci := 1) (v := .ref (ad 32)) (C := RX2) (T := TX2) (N := 5) hx hb hts in_X2 hown hK hP 1 rfl rfl 2 (by decide) (hG.nf hW0 q234) (fun _ h9 => h9) rfl dX1_isRegular_63 ?_
        refine lv_iconst (v := 0) hx hb dX1_isRegular_66 (by decide) ?_
        obtain ⟨i11, h⟩ := ckI_s h
        refine va_iald (f := c_now_line) hx hb hK hP 2 0 rfl rfl i11 dX1_isRegular_67 ?_
        obtain ⟨y12, e12, h⟩ := ob_s h
        refine MR.callS (M_J16_bitCount hG e12) S (cw_J16_bitCount hts q1204 ⟨Nat.le_of_ble_eq_true rfl, Nat.le_of_ble_eq_true rfl⟩) hW0 vaP0 rfl hl.1 rfl (Nat.le_of_ble_eq_true rfl) dX1_isRegular_68 ⟨Nat.zero_le _, Nat.zero_le _⟩ ?_
        refine lv_icmp_eq (tgt := 76) hx hb dX1_isRegular_71 (by decide) (fun c13 => ?_) (fun c13 => ?_)
        · rw [if_pos c13] at h
          refine lv_iinc (v := (v1 + 1)) (lv' := [(1, .int (v1 + 1)), (0, .ref h0)]) hx hb dX1_isRegular_76 hl (k := 1) rfl rfl (by decide) rfl (fun ls hl => ?_)
          refine lv_goto (tgt := 36) hx hb dX1_isRegular_79 (by decide) ?_
          exact ih (v1 + 1) h _ (lv_sub hl [1, 0] rfl)
        · rw [if_neg c13] at h
          refine lv_iconst (v := 0) hx hb dX1_isRegular_74 (by decide) ?_
          obtain rfl := Option.some.inj h
          exact hret dX1_isRegular_75 rfl
  refine lv_iconst (v := 1) hx hb dX1_isRegular_0 (by decide) ?_
  refine lv_istore_n (lv' := [(1, .int 1), (0, .ref h0)]) hx hb dX1_isRegular_1 rfl hl (by decide) rfl (fun ls hl => ?_)
  refine S_X1_isRegular_2 N 1 _ h ?_ _ (lv_sub hl [1, 0] rfl)
  · intro  ls h hl
    refine lv_iconst (v := 1) hx hb dX1_isRegular_34 (by decide) ?_
    refine lv_istore_n (lv' := [(1, .int 1), (0, .ref h0)]) hx hb dX1_isRegular_35 rfl hl (by decide) rfl (fun ls hl => ?_)
    refine S_X1_isRegular_36 N 1 h  _ (lv_sub hl [1, 0] rfl)
def F_X1_joinedPairs_17 (N : Nat) (v2 : Int32) (c_now_line : (Nat → Int32)) (c_now_lines : Int32) : Nat → Int32 → Int32 → (Int32 → Option (Int32)) → Option (Int32)
  | 0, _, _, _ => none
  | n + 1, v1, v3, k49 => (if v2 ≤ v3 then (k49 v1) else ((F_X2_lineOf N (((1 : Int32) <<< (v2 &&& 31)) ||| ((1 : Int32) <<< (v3 &&& 31))) c_now_line c_now_lines).bind fun y4 => (if y4 = (-1) then (F_X1_joinedPairs_17 N v2 c_now_line c_now_lines n v1 (v3 + 1) k49) else (F_X1_joinedPairs_17 N v2 c_now_line c_now_lines n (v1 + 1) (v3 + 1) k49))))
def F_X1_joinedPairs_4 (N : Nat) (c_now_line : (Nat → Int32)) (c_now_points : Int32) (c_now_lines : Int32) : Nat → Int32 → Int32 → Option (Int32)
  | 0, _, _ => none
  | n + 1, v1, v2 => (if c_now_points ≤ v2 then (some (v1)) else (F_X1_joinedPairs_17 N v2 c_now_line c_now_lines N v1 0 (fun u1_6 => (F_X1_joinedPairs_4 N c_now_line c_now_points c_now_lines n u1_6 (v2 + 1)))))
def F_X1_joinedPairs (N : Nat) (c_now_line : (Nat → Int32)) (c_now_points : Int32) (c_now_lines : Int32) : Option (Int32) := (F_X1_joinedPairs_4 N c_now_line c_now_points c_now_lines N 0 0)
theorem cw_X1_joinedPairs {R : Room} {s : State} {args : Array Value} {own : String} {index lev mc ms : Nat} (hts : ∀ w ∈ lw_all, w.before args s = true) (hl : Cond.methodLink own index yX1_joinedPairs ∈ lw_all) (hR : (rmL lev mc ms).frames + 1 ≤ R.frames ∧ 8 + (4 + 11) + (rmL lev mc ms).locals ≤ R.locals) : CallW R s args own RX1 index yX1_joinedPairs cX1_joinedPairs 4 (some .int) (ws_ yX1_joinedPairs cX1_joinedPairs 4 (some .int)) (rmL lev mc ms) mc ms 0 := cwV 0 hts (lw_V hl q1216 qs26 q151 q1217) rfl rfl rfl (by decide +kernel) hR
set_option maxHeartbeats 4000000 in
theorem M_X1_joinedPairs {l : Launch} {G : GE} (hG : GC G) {N : Nat} {h0 : Nat} {ad : Nat → Nat} {c_listPoints : Int32} {c_listLines : Int32} {c_refused : (Nat → Int32)} {c_imageRefused : (Nat → Int32)} {c_hasImage : Int32} {c_tape : (Nat → Int32)} {c_taped : Int32} {c_faultPlace : Int32} {c_orbit : (Nat → Int32)} {c_lineFor : (Nat → Int32)} {c_dualities : Int32} {c_polarities : Int32} {c_shortest : Int32} {c_placeX : (Nat → Int32)} {c_placeY : (Nat → Int32)} {c_placeZ : (Nat → Int32)} {c_lies : (Nat → Int32)} {c_firstLies : (Nat → Int32)} {c_worth : (Nat → Int32)} {c_its : Int32} {c_now_x : (Nat → Int32)} {c_now_y : (Nat → Int32)} {c_tried_points : Int32} {c_tried_lines : Int32} {c_tried_line : (Nat → Int32)} {c_tried_x : (Nat → Int32)} {c_tried_y : (Nat → Int32)} {c_imageNow_points : Int32} {c_imageNow_lines : Int32} {c_imageNow_line : (Nat → Int32)} {c_imageNow_x : (Nat → Int32)} {c_imageNow_y : (Nat → Int32)} {c_now_line : (Nat → Int32)} {c_now_points : Int32} {c_now_lines : Int32} {ρ : (Int32)} (h : F_X1_joinedPairs N c_now_line c_now_points c_now_lines = some ρ) : MR l G yX1_joinedPairs cX1_joinedPairs 4 (some .int) 2 (cW h0 ad G.2.2 c_listPoints c_listLines c_refused c_imageRefused c_hasImage c_tape c_taped c_faultPlace c_orbit c_lineFor c_dualities c_polarities c_shortest c_placeX c_placeY c_placeZ c_lies c_firstLies c_worth c_its c_now_points c_now_lines c_now_line c_now_x c_now_y c_tried_points c_tried_lines c_tried_line c_tried_x c_tried_y c_imageNow_points c_imageNow_lines c_imageNow_line c_imageNow_x c_imageNow_y) [.ref h0] ρ := by
  rw [F_X1_joinedPairs] at h
  refine MR.start (rt := .int) hG (by decide) (Nat.le_of_ble_eq_true rfl) ?_
  intro p e s m args below meth c Q S hW0 hK hP hret ls hl
  obtain ⟨hx, hb, hml, hown, hts⟩ := id S
  have hl : lv_has ls 4 [(0, .ref h0)] := hl
  have S_X1_joinedPairs_17 : ∀ (n : Nat) (v1 : Int32) (v2 : Int32) (v3 : Int32) (k49 : Int32 → Option (Int32)), F_X1_joinedPairs_17 N v2 c_now_line c_now_lines n v1 v3 k49 = some ρ → (∀ (u1 : Int32) (ls : Array Slot), k49 u1 = some ρ → lv_has ls 4 [(0, .ref h0), (1, .int u1), (2, .int v2)] → W p l e (rmL 2 0 0) s m args below meth c s.heap [] 0 0 Q (F0 m 49 ls [])) → ∀ (ls : Array Slot), lv_has ls 4 [(0, .ref h0), (1, .int v1), (2, .int v2), (3, .int v3)] → W p l e (rmL 2 0 0) s m args below meth c s.heap [] 0 0 Q (F0 m 17 ls []) := by
    intro n
    induction n with
    | zero =>
      intro v1 v2 v3 k49 h
      exact absurd h (by simp [F_X1_joinedPairs_17])
    | succ n ih =>
      intro v1 v2 v3 k49 h hk49 ls hl
      rw [F_X1_joinedPairs_17] at h
      refine lv_iload_n hx hb dX1_joinedPairs_17 rfl (lv_at hl 3 rfl) ?_
      refine lv_iload_n hx hb dX1_joinedPairs_18 rfl (lv_at hl 2 rfl) ?_
      refine lv_icmp_ge (tgt := 49) hx hb dX1_joinedPairs_19 (by decide) (fun c3 => ?_) (fun c3 => ?_)
      · rw [if_pos c3] at h
        exact hk49 v1 _ h (lv_sub hl [0, 1, 2] rfl)
      · rw [if_neg c3] at h
        refine lv_aload_n hx hb dX1_joinedPairs_22 rfl (lv_at hl 0 rfl) ?_
        refine va_get (ci := 0) (v := .ref (ad 3)) (C := RX1) (T := TX1) (N := 28) hx hb hts in_X1 hown hK hP 0 rfl rfl 3 (by decide) (hts _ q580) (fun _ h9 => h9) rfl dX1_joinedPairs_23 ?_
        refine lv_iconst (v := 1) hx hb dX1_joinedPairs_26 (by decide) ?_
        refine lv_iload_n hx hb dX1_joinedPairs_27 rfl (lv_at hl 2 rfl) ?_
        refine lv_ishl hx hb dX1_joinedPairs_28 ?_
        refine lv_iconst (v := 1) hx hb dX1_joinedPairs_29 (by decide) ?_
        refine lv_iload_n hx hb dX1_joinedPairs_30 rfl (lv_at hl 3 rfl) ?_
        refine lv_ishl hx hb dX1_joinedPairs_31 ?_
        refine lv_ior hx hb dX1_joinedPairs_32 ?_
        obtain ⟨y4, e4, h⟩ := ob_s h
        refine MR.callV (q0 := 0) (M_X2_lineOf hG e4) S (cw_X2_lineOf hts q1218 ⟨Nat.le_of_ble_eq_true rfl, Nat.le_of_ble_eq_true rfl⟩) hW0 hK (hP.sub (ws' := (sW (ad 3) (fun k => ad (30 + k)) G.2.2 c_now_points c_now_lines c_now_line c_now_x c_now_y)) [1, 2, 3, 4] rfl) rfl rfl rfl hl.1 rfl (Nat.le_of_ble_eq_true rfl) dX1_joinedPairs_33 ⟨Nat.zero_le _, Nat.zero_le _⟩ ?_
        refine lv_iconst (v := (-1)) hx hb dX1_joinedPairs_36 (by decide) ?_
        refine lv_icmp_eq (tgt := 43) hx hb dX1_joinedPairs_37 (by decide) (fun c5 => ?_) (fun c5 => ?_)
        · rw [if_pos c5] at h
          refine lv_iinc (v := (v3 + 1)) (lv' := [(3, .int (v3 + 1)), (0, .ref h0), (1, .int v1), (2, .int v2)]) hx hb dX1_joinedPairs_43 hl (k := 3) rfl rfl (by decide) rfl (fun ls hl => ?_)
          refine lv_goto (tgt := 17) hx hb dX1_joinedPairs_46 (by decide) ?_
          exact ih v1 v2 (v3 + 1) _ h hk49 _ (lv_sub hl [1, 2, 3, 0] rfl)
        · rw [if_neg c5] at h
          refine lv_iinc (v := (v1 + 1)) (lv' := [(1, .int (v1 + 1)), (0, .ref h0), (2, .int v2), (3, .int v3)]) hx hb dX1_joinedPairs_40 hl (k := 1) rfl rfl (by decide) rfl (fun ls hl => ?_)
          refine lv_iinc (v := (v3 + 1)) (lv' := [(3, .int (v3 + 1)), (1, .int (v1 + 1)), (0, .ref h0), (2, .int v2)]) hx hb dX1_joinedPairs_43 hl (k := 3) rfl rfl (by decide) rfl (fun ls hl => ?_)
          refine lv_goto (tgt := 17) hx hb dX1_joinedPairs_46 (by decide) ?_
          exact ih (v1 + 1) v2 (v3 + 1) _ h hk49 _ (lv_sub hl [2, 1, 3, 0] rfl)
  have S_X1_joinedPairs_4 : ∀ (n : Nat) (v1 : Int32) (v2 : Int32), F_X1_joinedPairs_4 N c_now_line c_now_points c_now_lines n v1 v2 = some ρ → ∀ (ls : Array Slot), lv_has ls 4 [(0, .ref h0), (1, .int v1), (2, .int v2)] → W p l e (rmL 2 0 0) s m args below meth c s.heap [] 0 0 Q (F0 m 4 ls []) := by
    intro n
    induction n with
    | zero =>
      intro v1 v2 h
      exact absurd h (by simp [F_X1_joinedPairs_4])
    | succ n ih =>
      intro v1 v2 h ls hl
      rw [F_X1_joinedPairs_4] at h
      refine lv_iload_n hx hb dX1_joinedPairs_4 rfl (lv_at hl 2 rfl) ?_
      refine lv_aload_n hx hb dX1_joinedPairs_5 rfl (lv_at hl 0 rfl) ?_
      refine va_get (ci := 0) (v := .ref (ad 3)) (C := RX1) (T := TX1) (N := 28) hx hb hts in_X1 hown hK hP 0 rfl rfl 3 (by decide) (hts _ q580) (fun _ h9 => h9) rfl dX1_joinedPairs_6 ?_
      refine va_getN (ci := 1) (v := .int c_now_points) (C := RX2) (T := TX2) (N := 5) hx hb hts in_X2 hown hK hP 1 rfl rfl 0 (by decide) (hG.nf hW0 q224) (fun _ h9 => h9) rfl dX1_joinedPairs_9 ?_
      refine lv_icmp_ge (tgt := 55) hx hb dX1_joinedPairs_12 (by decide) (fun c1 => ?_) (fun c1 => ?_)
      · rw [if_pos c1] at h
        refine lv_iload_n hx hb dX1_joinedPairs_55 rfl (lv_at hl 1 rfl) ?_
        obtain rfl := Option.some.inj h
        exact hret dX1_joinedPairs_56 rfl
      · rw [if_neg c1] at h
        refine lv_iconst (v := 0) hx hb dX1_joinedPairs_15 (by decide) ?_
        refine lv_istore_n (lv' := [(3, .int 0), (0, .ref h0), (1, .int v1), (2, .int v2)]) hx hb dX1_joinedPairs_16 rfl hl (by decide) rfl (fun ls hl => ?_)
        refine S_X1_joinedPairs_17 N v1 v2 0 _ h ?_ _ (lv_sub hl [1, 2, 3, 0] rfl)
        · intro u1_6 ls h hl
          refine lv_iinc (v := (v2 + 1)) (lv' := [(2, .int (v2 + 1)), (0, .ref h0), (1, .int u1_6)]) hx hb dX1_joinedPairs_49 hl (k := 2) rfl rfl (by decide) rfl (fun ls hl => ?_)
          refine lv_goto (tgt := 4) hx hb dX1_joinedPairs_52 (by decide) ?_
          exact ih u1_6 (v2 + 1) h _ (lv_sub hl [1, 2, 0] rfl)
  refine lv_iconst (v := 0) hx hb dX1_joinedPairs_0 (by decide) ?_
  refine lv_istore_n (lv' := [(1, .int 0), (0, .ref h0)]) hx hb dX1_joinedPairs_1 rfl hl (by decide) rfl (fun ls hl => ?_)
  refine lv_iconst (v := 0) hx hb dX1_joinedPairs_2 (by decide) ?_
  refine lv_istore_n (lv' := [(2, .int 0), (1, .int 0), (0, .ref h0)]) hx hb dX1_joinedPairs_3 rfl hl (by decide) rfl (fun ls hl => ?_)
  refine S_X1_joinedPairs_4 N 0 0 h  _ (lv_sub hl [2, 1, 0] rfl)
def F_X1_trianglesOf_22 (N : Nat) (v2 : Int32) (v3 : Int32) (c_p0_line : (Nat → Int32)) : Nat → Int32 → Int32 → (Int32 → Option (Int32)) → Option (Int32)
  | 0, _, _, _ => none
  | n + 1, v1, v4, k106 => (if v3 ≤ v4 then (k106 v1) else (ckI v2 12 (ckI v3 12 (ckI v3 12 (ckI v4 12 (ckI v2 12 (ckI v4 12 (if ((c_p0_line (Int32.toNatClampNeg v2)) &&& (c_p0_line (Int32.toNatClampNeg v3))) = 0 then (F_X1_trianglesOf_22 N v2 v3 c_p0_line n v1 (v4 + 1) k106) else (if ((c_p0_line (Int32.toNatClampNeg v3)) &&& (c_p0_line (Int32.toNatClampNeg v4))) = 0 then (F_X1_trianglesOf_22 N v2 v3 c_p0_line n v1 (v4 + 1) k106) else (if ((c_p0_line (Int32.toNatClampNeg v2)) &&& (c_p0_line (Int32.toNatClampNeg v4))) = 0 then (F_X1_trianglesOf_22 N v2 v3 c_p0_line n v1 (v4 + 1) k106) else (if ((c_p0_line (Int32.toNatClampNeg v2)) &&& (c_p0_line (Int32.toNatClampNeg v3))) = ((c_p0_line (Int32.toNatClampNeg v3)) &&& (c_p0_line (Int32.toNatClampNeg v4))) then (F_X1_trianglesOf_22 N v2 v3 c_p0_line n v1 (v4 + 1) k106) else (F_X1_trianglesOf_22 N v2 v3 c_p0_line n (v1 + 1) (v4 + 1) k106))))))))))))
def F_X1_trianglesOf_14 (N : Nat) (v2 : Int32) (c_p0_line : (Nat → Int32)) : Nat → Int32 → Int32 → (Int32 → Option (Int32)) → Option (Int32)
  | 0, _, _, _ => none
  | n + 1, v1, v3, k112 => (if v2 ≤ v3 then (k112 v1) else (F_X1_trianglesOf_22 N v2 v3 c_p0_line N v1 0 (fun u1_15 => (F_X1_trianglesOf_14 N v2 c_p0_line n u1_15 (v3 + 1) k112))))
def F_X1_trianglesOf_4 (N : Nat) (c_p0_line : (Nat → Int32)) (c_p0_lines : Int32) : Nat → Int32 → Int32 → Option (Int32)
  | 0, _, _ => none
  | n + 1, v1, v2 => (if c_p0_lines ≤ v2 then (some (v1)) else (F_X1_trianglesOf_14 N v2 c_p0_line N v1 0 (fun u1_16 => (F_X1_trianglesOf_4 N c_p0_line c_p0_lines n u1_16 (v2 + 1)))))
def F_X1_trianglesOf (N : Nat) (c_p0_line : (Nat → Int32)) (c_p0_lines : Int32) : Option (Int32) := (F_X1_trianglesOf_4 N c_p0_line c_p0_lines N 0 0)
theorem cw_X1_trianglesOf {R : Room} {s : State} {args : Array Value} {own : String} {index lev mc ms : Nat} (hts : ∀ w ∈ lw_all, w.before args s = true) (hl : Cond.methodLink own index yX1_trianglesOf ∈ lw_all) (hR : (rmL lev mc ms).frames + 1 ≤ R.frames ∧ 8 + (8 + 11) + (rmL lev mc ms).locals ≤ R.locals) : CallB R s args own index yX1_trianglesOf cX1_trianglesOf 8 (some .int) (ws_ yX1_trianglesOf cX1_trianglesOf 8 (some .int)) (rmL lev mc ms) mc ms 1 ∧ (Cond.static yX1_trianglesOf).before args s = true := va_cwS 1 hts (lw_S hl q1223 q151 q1224) rfl rfl rfl (by decide +kernel) hR
set_option maxHeartbeats 4000000 in
theorem M_X1_trianglesOf {l : Launch} {G : GE} (hG : GC G) {N : Nat} {b0 : Nat} {ad0 : Nat → Nat} {c_p0_points : Int32} {c_p0_x : (Nat → Int32)} {c_p0_y : (Nat → Int32)} {c_p0_line : (Nat → Int32)} {c_p0_lines : Int32} {ρ : (Int32)} (h : F_X1_trianglesOf N c_p0_line c_p0_lines = some ρ) : MR l G yX1_trianglesOf cX1_trianglesOf 8 (some .int) 1 [(b0, .inr (1, [.int c_p0_points, .int c_p0_lines, .ref (ad0 2), .ref (ad0 3), .ref (ad0 4)])), ((ad0 2), .inl (G.2.2 0, 12, .inl c_p0_line)), ((ad0 3), .inl (G.2.2 0, 8, .inl c_p0_x)), ((ad0 4), .inl (G.2.2 0, 8, .inl c_p0_y))] [.ref b0] ρ := by
  rw [F_X1_trianglesOf] at h
  refine MR.start (rt := .int) hG (by decide) (Nat.le_of_ble_eq_true rfl) ?_
  intro p e s m args below meth c Q S hW0 hK hP hret ls hl
  obtain ⟨hx, hb, hml, hown, hts⟩ := id S
  have hl : lv_has ls 8 [(0, .ref b0)] := hl
  have S_X1_trianglesOf_22 : ∀ (n : Nat) (v1 : Int32) (v2 : Int32) (v3 : Int32) (v4 : Int32) (k106 : Int32 → Option (Int32)), F_X1_trianglesOf_22 N v2 v3 c_p0_line n v1 v4 k106 = some ρ → (∀ (u1 : Int32) (ls : Array Slot), k106 u1 = some ρ → lv_has ls 8 [(0, .ref b0), (1, .int u1), (2, .int v2), (3, .int v3)] → W p l e (rmL 1 0 0) s m args below meth c s.heap [] 0 0 Q (F0 m 106 ls [])) → ∀ (ls : Array Slot), lv_has ls 8 [(0, .ref b0), (1, .int v1), (2, .int v2), (3, .int v3), (4, .int v4)] → W p l e (rmL 1 0 0) s m args below meth c s.heap [] 0 0 Q (F0 m 22 ls []) := by
    intro n
    induction n with
    | zero =>
      intro v1 v2 v3 v4 k106 h
      exact absurd h (by simp [F_X1_trianglesOf_22])
    | succ n ih =>
      intro v1 v2 v3 v4 k106 h hk106 ls hl
      rw [F_X1_trianglesOf_22] at h
      refine lv_iload hx hb dX1_trianglesOf_22 (lv_at hl 4 rfl) ?_
      refine lv_iload_n hx hb dX1_trianglesOf_24 rfl (lv_at hl 3 rfl) ?_
      refine lv_icmp_ge (tgt := 106) hx hb dX1_trianglesOf_25 (by decide) (fun c4 => ?_) (fun c4 => ?_)
      · rw [if_pos c4] at h
        exact hk106 v1 _ h (lv_sub hl [0, 1, 2, 3] rfl)
      · rw [if_neg c4] at h
        refine lv_aload_n hx hb dX1_trianglesOf_28 rfl (lv_at hl 0 rfl) ?_
        refine va_getN (ci := 1) (v := .ref (ad0 2)) (C := RX2) (T := TX2) (N := 5) hx hb hts in_X2 hown hK hP 0 rfl rfl 2 (by decide) (hG.nf hW0 q234) (fun _ h9 => h9) rfl dX1_trianglesOf_29 ?_
        refine lv_iload_n hx hb dX1_trianglesOf_32 rfl (lv_at hl 2 rfl) ?_
        obtain ⟨i5, h⟩ := ckI_s h
        refine va_iald (f := c_p0_line) hx hb hK hP 1 0 rfl rfl i5 dX1_trianglesOf_33 ?_
        refine lv_aload_n hx hb dX1_trianglesOf_34 rfl (lv_at hl 0 rfl) ?_
        refine va_getN (ci := 1) (v := .ref (ad0 2)) (C := RX2) (T := TX2) (N := 5) hx hb hts in_X2 hown hK hP 0 rfl rfl 2 (by decide) (hG.nf hW0 q234) (fun _ h9 => h9) rfl dX1_trianglesOf_35 ?_
        refine lv_iload_n hx hb dX1_trianglesOf_38 rfl (lv_at hl 3 rfl) ?_
        obtain ⟨i6, h⟩ := ckI_s h
        refine va_iald (f := c_p0_line) hx hb hK hP 1 0 rfl rfl i6 dX1_trianglesOf_39 ?_
        refine lv_iand hx hb dX1_trianglesOf_40 ?_
        refine lv_istore (lv' := [(5, .int ((c_p0_line (Int32.toNatClampNeg v2)) &&& (c_p0_line (Int32.toNatClampNeg v3)))), (0, .ref b0), (1, .int v1), (2, .int v2), (3, .int v3), (4, .int v4)]) hx hb dX1_trianglesOf_41 hl (by decide) rfl (fun ls hl => ?_)
        refine lv_aload_n hx hb dX1_trianglesOf_43 rfl (lv_at hl 1 rfl) ?_
        refine va_getN (ci := 1) (v := .ref (ad0 2)) (C := RX2) (T := TX2) (N := 5) hx hb hts in_X2 hown hK hP 0 rfl rfl 2 (by decide) (hG.nf hW0 q234) (fun _ h9 => h9) rfl dX1_trianglesOf_44 ?_
        refine lv_iload_n hx hb dX1_trianglesOf_47 rfl (lv_at hl 4 rfl) ?_
        obtain ⟨i7, h⟩ := ckI_s h
        refine va_iald (f := c_p0_line) hx hb hK hP 1 0 rfl rfl i7 dX1_trianglesOf_48 ?_
        refine lv_aload_n hx hb dX1_trianglesOf_49 rfl (lv_at hl 1 rfl) ?_
        refine va_getN (ci := 1) (v := .ref (ad0 2)) (C := RX2) (T := TX2) (N := 5) hx hb hts in_X2 hown hK hP 0 rfl rfl 2 (by decide) (hG.nf hW0 q234) (fun _ h9 => h9) rfl dX1_trianglesOf_50 ?_
        refine lv_iload hx hb dX1_trianglesOf_53 (lv_at hl 5 rfl) ?_
        obtain ⟨i8, h⟩ := ckI_s h
        refine va_iald (f := c_p0_line) hx hb hK hP 1 0 rfl rfl i8 dX1_trianglesOf_55 ?_
        refine lv_iand hx hb dX1_trianglesOf_56 ?_
        refine lv_istore (lv' := [(6, .int ((c_p0_line (Int32.toNatClampNeg v3)) &&& (c_p0_line (Int32.toNatClampNeg v4)))), (5, .int ((c_p0_line (Int32.toNatClampNeg v2)) &&& (c_p0_line (Int32.toNatClampNeg v3)))), (0, .ref b0), (1, .int v1), (2, .int v2), (3, .int v3), (4, .int v4)]) hx hb dX1_trianglesOf_57 hl (by decide) rfl (fun ls hl => ?_)
        refine lv_aload_n hx hb dX1_trianglesOf_59 rfl (lv_at hl 2 rfl) ?_
        refine va_getN (ci := 1) (v := .ref (ad0 2)) (C := RX2) (T := TX2) (N := 5) hx hb hts in_X2 hown hK hP 0 rfl rfl 2 (by decide) (hG.nf hW0 q234) (fun _ h9 => h9) rfl dX1_trianglesOf_60 ?_
        refine lv_iload_n hx hb dX1_trianglesOf_63 rfl (lv_at hl 4 rfl) ?_
        obtain ⟨i9, h⟩ := ckI_s h
        refine va_iald (f := c_p0_line) hx hb hK hP 1 0 rfl rfl i9 dX1_trianglesOf_64 ?_
        refine lv_aload_n hx hb dX1_trianglesOf_65 rfl (lv_at hl 2 rfl) ?_
        refine va_getN (ci := 1) (v := .ref (ad0 2)) (C := RX2) (T := TX2) (N := 5) hx hb hts in_X2 hown hK hP 0 rfl rfl 2 (by decide) (hG.nf hW0 q234) (fun _ h9 => h9) rfl dX1_trianglesOf_66 ?_
        refine lv_iload hx hb dX1_trianglesOf_69 (lv_at hl 6 rfl) ?_
        obtain ⟨i10, h⟩ := ckI_s h
        refine va_iald (f := c_p0_line) hx hb hK hP 1 0 rfl rfl i10 dX1_trianglesOf_71 ?_
        refine lv_iand hx hb dX1_trianglesOf_72 ?_
        refine lv_istore (lv' := [(7, .int ((c_p0_line (Int32.toNatClampNeg v2)) &&& (c_p0_line (Int32.toNatClampNeg v4)))), (6, .int ((c_p0_line (Int32.toNatClampNeg v3)) &&& (c_p0_line (Int32.toNatClampNeg v4)))), (5, .int ((c_p0_line (Int32.toNatClampNeg v2)) &&& (c_p0_line (Int32.toNatClampNeg v3)))), (0, .ref b0), (1, .int v1), (2, .int v2), (3, .int v3), (4, .int v4)]) hx hb dX1_trianglesOf_73 hl (by decide) rfl (fun ls hl => ?_)
        refine lv_iload hx hb dX1_trianglesOf_75 (lv_at hl 2 rfl) ?_
        refine lv_if_eq (tgt := 100) hx hb dX1_trianglesOf_77 (by decide) (fun c11 => ?_) (fun c11 => ?_)
        · rw [if_pos c11] at h
          refine lv_iinc (v := (v4 + 1)) (lv' := [(4, .int (v4 + 1)), (7, .int ((c_p0_line (Int32.toNatClampNeg v2)) &&& (c_p0_line (Int32.toNatClampNeg v4)))), (6, .int ((c_p0_line (Int32.toNatClampNeg v3)) &&& (c_p0_line (Int32.toNatClampNeg v4)))), (5, .int ((c_p0_line (Int32.toNatClampNeg v2)) &&& (c_p0_line (Int32.toNatClampNeg v3)))), (0, .ref b0), (1, .int v1), (2, .int v2), (3, .int v3)]) hx hb dX1_trianglesOf_100 hl (k := 7) rfl rfl (by decide) rfl (fun ls hl => ?_)
          refine lv_goto (tgt := 22) hx hb dX1_trianglesOf_103 (by decide) ?_
          exact ih v1 v2 v3 (v4 + 1) _ h hk106 _ (lv_sub hl [4, 5, 6, 7, 0] rfl)
        · rw [if_neg c11] at h
          refine lv_iload hx hb dX1_trianglesOf_80 (lv_at hl 1 rfl) ?_
          refine lv_if_eq (tgt := 100) hx hb dX1_trianglesOf_82 (by decide) (fun c12 => ?_) (fun c12 => ?_)
          · rw [if_pos c12] at h
            refine lv_iinc (v := (v4 + 1)) (lv' := [(4, .int (v4 + 1)), (7, .int ((c_p0_line (Int32.toNatClampNeg v2)) &&& (c_p0_line (Int32.toNatClampNeg v4)))), (6, .int ((c_p0_line (Int32.toNatClampNeg v3)) &&& (c_p0_line (Int32.toNatClampNeg v4)))), (5, .int ((c_p0_line (Int32.toNatClampNeg v2)) &&& (c_p0_line (Int32.toNatClampNeg v3)))), (0, .ref b0), (1, .int v1), (2, .int v2), (3, .int v3)]) hx hb dX1_trianglesOf_100 hl (k := 7) rfl rfl (by decide) rfl (fun ls hl => ?_)
            refine lv_goto (tgt := 22) hx hb dX1_trianglesOf_103 (by decide) ?_
            exact ih v1 v2 v3 (v4 + 1) _ h hk106 _ (lv_sub hl [4, 5, 6, 7, 0] rfl)
          · rw [if_neg c12] at h
            refine lv_iload hx hb dX1_trianglesOf_85 (lv_at hl 0 rfl) ?_
            refine lv_if_eq (tgt := 100) hx hb dX1_trianglesOf_87 (by decide) (fun c13 => ?_) (fun c13 => ?_)
            · rw [if_pos c13] at h
              refine lv_iinc (v := (v4 + 1)) (lv' := [(4, .int (v4 + 1)), (7, .int ((c_p0_line (Int32.toNatClampNeg v2)) &&& (c_p0_line (Int32.toNatClampNeg v4)))), (6, .int ((c_p0_line (Int32.toNatClampNeg v3)) &&& (c_p0_line (Int32.toNatClampNeg v4)))), (5, .int ((c_p0_line (Int32.toNatClampNeg v2)) &&& (c_p0_line (Int32.toNatClampNeg v3)))), (0, .ref b0), (1, .int v1), (2, .int v2), (3, .int v3)]) hx hb dX1_trianglesOf_100 hl (k := 7) rfl rfl (by decide) rfl (fun ls hl => ?_)
              refine lv_goto (tgt := 22) hx hb dX1_trianglesOf_103 (by decide) ?_
              exact ih v1 v2 v3 (v4 + 1) _ h hk106 _ (lv_sub hl [4, 5, 6, 7, 0] rfl)
            · rw [if_neg c13] at h
              refine lv_iload hx hb dX1_trianglesOf_90 (lv_at hl 2 rfl) ?_
              refine lv_iload hx hb dX1_trianglesOf_92 (lv_at hl 1 rfl) ?_
              refine lv_icmp_eq (tgt := 100) hx hb dX1_trianglesOf_94 (by decide) (fun c14 => ?_) (fun c14 => ?_)
              · rw [if_pos c14] at h
                refine lv_iinc (v := (v4 + 1)) (lv' := [(4, .int (v4 + 1)), (7, .int ((c_p0_line (Int32.toNatClampNeg v2)) &&& (c_p0_line (Int32.toNatClampNeg v4)))), (6, .int ((c_p0_line (Int32.toNatClampNeg v3)) &&& (c_p0_line (Int32.toNatClampNeg v4)))), (5, .int ((c_p0_line (Int32.toNatClampNeg v2)) &&& (c_p0_line (Int32.toNatClampNeg v3)))), (0, .ref b0), (1, .int v1), (2, .int v2), (3, .int v3)]) hx hb dX1_trianglesOf_100 hl (k := 7) rfl rfl (by decide) rfl (fun ls hl => ?_)
                refine lv_goto (tgt := 22) hx hb dX1_trianglesOf_103 (by decide) ?_
                exact ih v1 v2 v3 (v4 + 1) _ h hk106 _ (lv_sub hl [4, 5, 6, 7, 0] rfl)
              · rw [if_neg c14] at h
                refine lv_iinc (v := (v1 + 1)) (lv' := [(1, .int (v1 + 1)), (7, .int ((c_p0_line (Int32.toNatClampNeg v2)) &&& (c_p0_line (Int32.toNatClampNeg v4)))), (6, .int ((c_p0_line (Int32.toNatClampNeg v3)) &&& (c_p0_line (Int32.toNatClampNeg v4)))), (5, .int ((c_p0_line (Int32.toNatClampNeg v2)) &&& (c_p0_line (Int32.toNatClampNeg v3)))), (0, .ref b0), (2, .int v2), (3, .int v3), (4, .int v4)]) hx hb dX1_trianglesOf_97 hl (k := 4) rfl rfl (by decide) rfl (fun ls hl => ?_)
                refine lv_iinc (v := (v4 + 1)) (lv' := [(4, .int (v4 + 1)), (1, .int (v1 + 1)), (7, .int ((c_p0_line (Int32.toNatClampNeg v2)) &&& (c_p0_line (Int32.toNatClampNeg v4)))), (6, .int ((c_p0_line (Int32.toNatClampNeg v3)) &&& (c_p0_line (Int32.toNatClampNeg v4)))), (5, .int ((c_p0_line (Int32.toNatClampNeg v2)) &&& (c_p0_line (Int32.toNatClampNeg v3)))), (0, .ref b0), (2, .int v2), (3, .int v3)]) hx hb dX1_trianglesOf_100 hl (k := 7) rfl rfl (by decide) rfl (fun ls hl => ?_)
                refine lv_goto (tgt := 22) hx hb dX1_trianglesOf_103 (by decide) ?_
                exact ih (v1 + 1) v2 v3 (v4 + 1) _ h hk106 _ (lv_sub hl [5, 1, 6, 7, 0] rfl)
  have S_X1_trianglesOf_14 : ∀ (n : Nat) (v1 : Int32) (v2 : Int32) (v3 : Int32) (k112 : Int32 → Option (Int32)), F_X1_trianglesOf_14 N v2 c_p0_line n v1 v3 k112 = some ρ → (∀ (u1 : Int32) (ls : Array Slot), k112 u1 = some ρ → lv_has ls 8 [(0, .ref b0), (1, .int u1), (2, .int v2)] → W p l e (rmL 1 0 0) s m args below meth c s.heap [] 0 0 Q (F0 m 112 ls [])) → ∀ (ls : Array Slot), lv_has ls 8 [(0, .ref b0), (1, .int v1), (2, .int v2), (3, .int v3)] → W p l e (rmL 1 0 0) s m args below meth c s.heap [] 0 0 Q (F0 m 14 ls []) := by
    intro n
    induction n with
    | zero =>
      intro v1 v2 v3 k112 h
      exact absurd h (by simp [F_X1_trianglesOf_14])
    | succ n ih =>
      intro v1 v2 v3 k112 h hk112 ls hl
      rw [F_X1_trianglesOf_14] at h
      refine lv_iload_n hx hb dX1_trianglesOf_14 rfl (lv_at hl 3 rfl) ?_
      refine lv_iload_n hx hb dX1_trianglesOf_15 rfl (lv_at hl 2 rfl) ?_
      refine lv_icmp_ge (tgt := 112) hx hb dX1_trianglesOf_16 (by decide) (fun c3 => ?_) (fun c3 => ?_)
      · rw [if_pos c3] at h
        exact hk112 v1 _ h (lv_sub hl [0, 1, 2] rfl)
      · rw [if_neg c3] at h
        refine lv_iconst (v := 0) hx hb dX1_trianglesOf_19 (by decide) ?_
        refine lv_istore (lv' := [(4, .int 0), (0, .ref b0), (1, .int v1), (2, .int v2), (3, .int v3)]) hx hb dX1_trianglesOf_20 hl (by decide) rfl (fun ls hl => ?_)
        refine S_X1_trianglesOf_22 N v1 v2 v3 0 _ h ?_ _ (lv_sub hl [1, 2, 3, 4, 0] rfl)
        · intro u1_15 ls h hl
          refine lv_iinc (v := (v3 + 1)) (lv' := [(3, .int (v3 + 1)), (0, .ref b0), (1, .int u1_15), (2, .int v2)]) hx hb dX1_trianglesOf_106 hl (k := 3) rfl rfl (by decide) rfl (fun ls hl => ?_)
          refine lv_goto (tgt := 14) hx hb dX1_trianglesOf_109 (by decide) ?_
          exact ih u1_15 v2 (v3 + 1) _ h hk112 _ (lv_sub hl [1, 2, 3, 0] rfl)
  have S_X1_trianglesOf_4 : ∀ (n : Nat) (v1 : Int32) (v2 : Int32), F_X1_trianglesOf_4 N c_p0_line c_p0_lines n v1 v2 = some ρ → ∀ (ls : Array Slot), lv_has ls 8 [(0, .ref b0), (1, .int v1), (2, .int v2)] → W p l e (rmL 1 0 0) s m args below meth c s.heap [] 0 0 Q (F0 m 4 ls []) := by
    intro n
    induction n with
    | zero =>
      intro v1 v2 h
      exact absurd h (by simp [F_X1_trianglesOf_4])
    | succ n ih =>
      intro v1 v2 h ls hl
      rw [F_X1_trianglesOf_4] at h
      refine lv_iload_n hx hb dX1_trianglesOf_4 rfl (lv_at hl 2 rfl) ?_
      refine lv_aload_n hx hb dX1_trianglesOf_5 rfl (lv_at hl 0 rfl) ?_
      refine va_getN (ci := 1) (v := .int c_p0_lines) (C := RX2) (T := TX2) (N := 5) hx hb hts in_X2 hown hK hP 0 rfl rfl 1 (by decide) (hG.nf hW0 q228) (fun _ h9 => h9) rfl dX1_trianglesOf_6 ?_
      refine lv_icmp_ge (tgt := 118) hx hb dX1_trianglesOf_9 (by decide) (fun c1 => ?_) (fun c1 => ?_)
      · rw [if_pos c1] at h
        refine lv_iload_n hx hb dX1_trianglesOf_118 rfl (lv_at hl 1 rfl) ?_
        obtain rfl := Option.some.inj h
        exact hret dX1_trianglesOf_119 rfl
      · rw [if_neg c1] at h
        refine lv_iconst (v := 0) hx hb dX1_trianglesOf_12 (by decide) ?_
        refine lv_istore_n (lv' := [(3, .int 0), (0, .ref b0), (1, .int v1), (2, .int v2)]) hx hb dX1_trianglesOf_13 rfl hl (by decide) rfl (fun ls hl => ?_)
        refine S_X1_trianglesOf_14 N v1 v2 0 _ h ?_ _ (lv_sub hl [1, 2, 3, 0] rfl)
        · intro u1_16 ls h hl
          refine lv_iinc (v := (v2 + 1)) (lv' := [(2, .int (v2 + 1)), (0, .ref b0), (1, .int u1_16)]) hx hb dX1_trianglesOf_112 hl (k := 2) rfl rfl (by decide) rfl (fun ls hl => ?_)
          refine lv_goto (tgt := 4) hx hb dX1_trianglesOf_115 (by decide) ?_
          exact ih u1_16 (v2 + 1) h _ (lv_sub hl [1, 2, 0] rfl)
  refine lv_iconst (v := 0) hx hb dX1_trianglesOf_0 (by decide) ?_
  refine lv_istore_n (lv' := [(1, .int 0), (0, .ref b0)]) hx hb dX1_trianglesOf_1 rfl hl (by decide) rfl (fun ls hl => ?_)
  refine lv_iconst (v := 0) hx hb dX1_trianglesOf_2 (by decide) ?_
  refine lv_istore_n (lv' := [(2, .int 0), (1, .int 0), (0, .ref b0)]) hx hb dX1_trianglesOf_3 rfl hl (by decide) rfl (fun ls hl => ?_)
  refine S_X1_trianglesOf_4 N 0 0 h  _ (lv_sub hl [2, 1, 0] rfl)
def F_X1_piece_15 (N : Nat) (c_now_line : (Nat → Int32)) (c_now_lines : Int32) : Nat → Int32 → Int32 → (Int32 → Option (Int32)) → Option (Int32)
  | 0, _, _, _ => none
  | n + 1, v2, v4, k61 => (if c_now_lines ≤ v4 then (k61 v2) else (ckI v4 12 (if ((c_now_line (Int32.toNatClampNeg v4)) &&& v2) = 0 then (F_X1_piece_15 N c_now_line c_now_lines n v2 (v4 + 1) k61) else (ckI v4 12 (F_X1_piece_15 N c_now_line c_now_lines n (v2 ||| (c_now_line (Int32.toNatClampNeg v4))) (v4 + 1) k61)))))
def F_X1_piece_6 (N : Nat) (c_now_line : (Nat → Int32)) (c_now_lines : Int32) : Nat → Int32 → Int32 → Option (Int32)
  | 0, _, _ => none
  | n + 1, v2, v3 => (if 12 ≤ v3 then (some (v2)) else (F_X1_piece_15 N c_now_line c_now_lines N v2 0 (fun u2_7 => (F_X1_piece_6 N c_now_line c_now_lines n u2_7 (v3 + 1)))))
def F_X1_piece (N : Nat) (v1 : Int32) (c_now_line : (Nat → Int32)) (c_now_lines : Int32) : Option (Int32) := (F_X1_piece_6 N c_now_line c_now_lines N ((1 : Int32) <<< (v1 &&& 31)) 0)
theorem cw_X1_piece {R : Room} {s : State} {args : Array Value} {own : String} {index lev mc ms : Nat} (hts : ∀ w ∈ lw_all, w.before args s = true) (hl : Cond.methodLink own index yX1_piece ∈ lw_all) (hR : (rmL lev mc ms).frames + 1 ≤ R.frames ∧ 8 + (5 + 11) + (rmL lev mc ms).locals ≤ R.locals) : CallW R s args own RX1 index yX1_piece cX1_piece 5 (some .int) (ws_ yX1_piece cX1_piece 5 (some .int)) (rmL lev mc ms) mc ms 1 := cwV 1 hts (lw_V hl q1231 qs28 q151 q1232) rfl rfl rfl (by decide +kernel) hR
set_option maxHeartbeats 4000000 in
theorem M_X1_piece {l : Launch} {G : GE} (hG : GC G) {N : Nat} {h0 : Nat} {ad : Nat → Nat} {c_listPoints : Int32} {c_listLines : Int32} {c_refused : (Nat → Int32)} {c_imageRefused : (Nat → Int32)} {c_hasImage : Int32} {c_tape : (Nat → Int32)} {c_taped : Int32} {c_faultPlace : Int32} {c_orbit : (Nat → Int32)} {c_lineFor : (Nat → Int32)} {c_dualities : Int32} {c_polarities : Int32} {c_shortest : Int32} {c_placeX : (Nat → Int32)} {c_placeY : (Nat → Int32)} {c_placeZ : (Nat → Int32)} {c_lies : (Nat → Int32)} {c_firstLies : (Nat → Int32)} {c_worth : (Nat → Int32)} {c_its : Int32} {c_now_points : Int32} {c_now_x : (Nat → Int32)} {c_now_y : (Nat → Int32)} {c_tried_points : Int32} {c_tried_lines : Int32} {c_tried_line : (Nat → Int32)} {c_tried_x : (Nat → Int32)} {c_tried_y : (Nat → Int32)} {c_imageNow_points : Int32} {c_imageNow_lines : Int32} {c_imageNow_line : (Nat → Int32)} {c_imageNow_x : (Nat → Int32)} {c_imageNow_y : (Nat → Int32)} {v1 : Int32} {c_now_line : (Nat → Int32)} {c_now_lines : Int32} {ρ : (Int32)} (h : F_X1_piece N v1 c_now_line c_now_lines = some ρ) : MR l G yX1_piece cX1_piece 5 (some .int) 1 (cW h0 ad G.2.2 c_listPoints c_listLines c_refused c_imageRefused c_hasImage c_tape c_taped c_faultPlace c_orbit c_lineFor c_dualities c_polarities c_shortest c_placeX c_placeY c_placeZ c_lies c_firstLies c_worth c_its c_now_points c_now_lines c_now_line c_now_x c_now_y c_tried_points c_tried_lines c_tried_line c_tried_x c_tried_y c_imageNow_points c_imageNow_lines c_imageNow_line c_imageNow_x c_imageNow_y) [.ref h0, .int v1] ρ := by
  rw [F_X1_piece] at h
  refine MR.start (rt := .int) hG (by decide) (Nat.le_of_ble_eq_true rfl) ?_
  intro p e s m args below meth c Q S hW0 hK hP hret ls hl
  obtain ⟨hx, hb, hml, hown, hts⟩ := id S
  have hl : lv_has ls 5 [(0, .ref h0), (1, .int v1)] := hl
  have S_X1_piece_15 : ∀ (n : Nat) (v2 : Int32) (v3 : Int32) (v4 : Int32) (k61 : Int32 → Option (Int32)), F_X1_piece_15 N c_now_line c_now_lines n v2 v4 k61 = some ρ → (∀ (u2 : Int32) (ls : Array Slot), k61 u2 = some ρ → lv_has ls 5 [(0, .ref h0), (2, .int u2), (3, .int v3)] → W p l e (rmL 1 0 0) s m args below meth c s.heap [] 0 0 Q (F0 m 61 ls [])) → ∀ (ls : Array Slot), lv_has ls 5 [(0, .ref h0), (2, .int v2), (3, .int v3), (4, .int v4)] → W p l e (rmL 1 0 0) s m args below meth c s.heap [] 0 0 Q (F0 m 15 ls []) := by
    intro n
    induction n with
    | zero =>
      intro v2 v3 v4 k61 h
      exact absurd h (by simp [F_X1_piece_15])
    | succ n ih =>
      intro v2 v3 v4 k61 h hk61 ls hl
      rw [F_X1_piece_15] at h
      refine lv_iload hx hb dX1_piece_15 (lv_at hl 3 rfl) ?_
      refine lv_aload_n hx hb dX1_piece_17 rfl (lv_at hl 0 rfl) ?_
      refine va_get (ci := 0) (v := .ref (ad 3)) (C := RX1) (T := TX1) (N := 28) hx hb hts in_X1 hown hK hP 0 rfl rfl 3 (by decide) (hts _ q580) (fun _ h9 => h9) rfl dX1_piece_18 ?_
      refine va_getN (ci := 1) (v := .int c_now_lines) (C := RX2) (T := TX2) (N := 5) hx hb hts in_X2 hown hK hP 1 rfl rfl 1 (by decide) (hG.nf hW0 q228) (fun _ h9 => h9) rfl dX1_piece_21 ?_
      refine lv_icmp_ge (tgt := 61) hx hb dX1_piece_24 (by decide) (fun c3 => ?_) (fun c3 => ?_)
      · rw [if_pos c3] at h
        exact hk61 v2 _ h (lv_sub hl [0, 1, 2] rfl)
      · rw [if_neg c3] at h
        refine lv_aload_n hx hb dX1_piece_27 rfl (lv_at hl 0 rfl) ?_
        refine va_get (ci := 0) (v := .ref (ad 3)) (C := RX1) (T := TX1) (N := 28) hx hb hts in_X1 hown hK hP 0 rfl rfl 3 (by decide) (hts _ q580) (fun _ h9 => h9) rfl dX1_piece_28 ?_
        refine va_getN (ci := 1) (v := .ref (ad 32)) (C := RX2) (T := TX2) (N := 5) hx hb hts in_X2 hown hK hP 1 rfl rfl 2 (by decide) (hG.nf hW0 q234) (fun _ h9 => h9) rfl dX1_piece_31 ?_
        refine lv_iload hx hb dX1_piece_34 (lv_at hl 3 rfl) ?_
        obtain ⟨i4, h⟩ := ckI_s h
        refine va_iald (f := c_now_line) hx hb hK hP 2 0 rfl rfl i4 dX1_piece_36 ?_
        refine lv_iload_n hx hb dX1_piece_37 rfl (lv_at hl 1 rfl) ?_
        refine lv_iand hx hb dX1_piece_38 ?_
        refine lv_if_eq (tgt := 55) hx hb dX1_piece_39 (by decide) (fun c5 => ?_) (fun c5 => ?_)
        · rw [if_pos c5] at h
          refine lv_iinc (v := (v4 + 1)) (lv' := [(4, .int (v4 + 1)), (0, .ref h0), (2, .int v2), (3, .int v3)]) hx hb dX1_piece_55 hl (k := 3) rfl rfl (by decide) rfl (fun ls hl => ?_)
          refine lv_goto (tgt := 15) hx hb dX1_piece_58 (by decide) ?_
          exact ih v2 v3 (v4 + 1) _ h hk61 _ (lv_sub hl [1, 2, 3, 0] rfl)
        · rw [if_neg c5] at h
          refine lv_iload_n hx hb dX1_piece_42 rfl (lv_at hl 1 rfl) ?_
          refine lv_aload_n hx hb dX1_piece_43 rfl (lv_at hl 0 rfl) ?_
          refine va_get (ci := 0) (v := .ref (ad 3)) (C := RX1) (T := TX1) (N := 28) hx hb hts in_X1 hown hK hP 0 rfl rfl 3 (by decide) (hts _ q580) (fun _ h9 => h9) rfl dX1_piece_44 ?_
          refine va_getN (ci := 1) (v := .ref (ad 32)) (C := RX2) (T := TX2) (N := 5) hx hb hts in_X2 hown hK hP 1 rfl rfl 2 (by decide) (hG.nf hW0 q234) (fun _ h9 => h9) rfl dX1_piece_47 ?_
          refine lv_iload hx hb dX1_piece_50 (lv_at hl 3 rfl) ?_
          obtain ⟨i6, h⟩ := ckI_s h
          refine va_iald (f := c_now_line) hx hb hK hP 2 0 rfl rfl i6 dX1_piece_52 ?_
          refine lv_ior hx hb dX1_piece_53 ?_
          refine lv_istore_n (lv' := [(2, .int (v2 ||| (c_now_line (Int32.toNatClampNeg v4)))), (0, .ref h0), (3, .int v3), (4, .int v4)]) hx hb dX1_piece_54 rfl hl (by decide) rfl (fun ls hl => ?_)
          refine lv_iinc (v := (v4 + 1)) (lv' := [(4, .int (v4 + 1)), (2, .int (v2 ||| (c_now_line (Int32.toNatClampNeg v4)))), (0, .ref h0), (3, .int v3)]) hx hb dX1_piece_55 hl (k := 3) rfl rfl (by decide) rfl (fun ls hl => ?_)
          refine lv_goto (tgt := 15) hx hb dX1_piece_58 (by decide) ?_
          exact ih (v2 ||| (c_now_line (Int32.toNatClampNeg v4))) v3 (v4 + 1) _ h hk61 _ (lv_sub hl [2, 1, 3, 0] rfl)
  have S_X1_piece_6 : ∀ (n : Nat) (v2 : Int32) (v3 : Int32), F_X1_piece_6 N c_now_line c_now_lines n v2 v3 = some ρ → ∀ (ls : Array Slot), lv_has ls 5 [(0, .ref h0), (2, .int v2), (3, .int v3)] → W p l e (rmL 1 0 0) s m args below meth c s.heap [] 0 0 Q (F0 m 6 ls []) := by
    intro n
    induction n with
    | zero =>
      intro v2 v3 h
      exact absurd h (by simp [F_X1_piece_6])
    | succ n ih =>
      intro v2 v3 h ls hl
      rw [F_X1_piece_6] at h
      refine lv_iload_n hx hb dX1_piece_6 rfl (lv_at hl 2 rfl) ?_
      refine lv_bipush (v := 12) hx hb dX1_piece_7 (by decide) ?_
      refine lv_icmp_ge (tgt := 67) hx hb dX1_piece_9 (by decide) (fun c1 => ?_) (fun c1 => ?_)
      · rw [if_pos c1] at h
        refine lv_iload_n hx hb dX1_piece_67 rfl (lv_at hl 1 rfl) ?_
        obtain rfl := Option.some.inj h
        exact hret dX1_piece_68 rfl
      · rw [if_neg c1] at h
        refine lv_iconst (v := 0) hx hb dX1_piece_12 (by decide) ?_
        refine lv_istore (lv' := [(4, .int 0), (0, .ref h0), (2, .int v2), (3, .int v3)]) hx hb dX1_piece_13 hl (by decide) rfl (fun ls hl => ?_)
        refine S_X1_piece_15 N v2 v3 0 _ h ?_ _ (lv_sub hl [1, 2, 3, 0] rfl)
        · intro u2_7 ls h hl
          refine lv_iinc (v := (v3 + 1)) (lv' := [(3, .int (v3 + 1)), (0, .ref h0), (2, .int u2_7)]) hx hb dX1_piece_61 hl (k := 2) rfl rfl (by decide) rfl (fun ls hl => ?_)
          refine lv_goto (tgt := 6) hx hb dX1_piece_64 (by decide) ?_
          exact ih u2_7 (v3 + 1) h _ (lv_sub hl [1, 2, 0] rfl)
  refine lv_iconst (v := 1) hx hb dX1_piece_0 (by decide) ?_
  refine lv_iload_n hx hb dX1_piece_1 rfl (lv_at hl 1 rfl) ?_
  refine lv_ishl hx hb dX1_piece_2 ?_
  refine lv_istore_n (lv' := [(2, .int ((1 : Int32) <<< (v1 &&& 31))), (0, .ref h0), (1, .int v1)]) hx hb dX1_piece_3 rfl hl (by decide) rfl (fun ls hl => ?_)
  refine lv_iconst (v := 0) hx hb dX1_piece_4 (by decide) ?_
  refine lv_istore_n (lv' := [(3, .int 0), (2, .int ((1 : Int32) <<< (v1 &&& 31))), (0, .ref h0), (1, .int v1)]) hx hb dX1_piece_5 rfl hl (by decide) rfl (fun ls hl => ?_)
  refine S_X1_piece_6 N ((1 : Int32) <<< (v1 &&& 31)) 0 h  _ (lv_sub hl [2, 1, 0] rfl)
def F_X1_lowest (N : Nat) (v0 : Int32) : Option (Int32) := ((F_J16_numberOfTrailingZeros N v0).bind fun y1 => (some (y1)))
theorem cw_X1_lowest {R : Room} {s : State} {args : Array Value} {own : String} {index lev mc ms : Nat} (hts : ∀ w ∈ lw_all, w.before args s = true) (hl : Cond.methodLink own index yX1_lowest ∈ lw_all) (hR : (rmL lev mc ms).frames + 1 ≤ R.frames ∧ 8 + (1 + 11) + (rmL lev mc ms).locals ≤ R.locals) : CallB R s args own index yX1_lowest cX1_lowest 1 (some .int) (ws_ yX1_lowest cX1_lowest 1 (some .int)) (rmL lev mc ms) mc ms 1 ∧ (Cond.static yX1_lowest).before args s = true := va_cwS 1 hts (lw_S hl q1234 q151 q1235) rfl rfl rfl (by decide +kernel) hR
set_option maxHeartbeats 4000000 in
theorem M_X1_lowest {l : Launch} {G : GE} (hG : GC G) {N : Nat} {v0 : Int32} {ρ : (Int32)} (h : F_X1_lowest N v0 = some ρ) : MR l G yX1_lowest cX1_lowest 1 (some .int) 2 [] [.int v0] ρ := by
  rw [F_X1_lowest] at h
  refine MR.start (rt := .int) hG (by decide) (Nat.le_of_ble_eq_true rfl) ?_
  intro p e s m args below meth c Q S hW0 hK hP hret ls hl
  obtain ⟨hx, hb, hml, hown, hts⟩ := id S
  have hl : lv_has ls 1 [(0, .int v0)] := hl
  refine lv_iload_n hx hb dX1_lowest_0 rfl (lv_at hl 0 rfl) ?_
  obtain ⟨y1, e1, h⟩ := ob_s h
  refine MR.callS (M_J16_numberOfTrailingZeros hG e1) S (cw_J16_numberOfTrailingZeros hts q1236 ⟨Nat.le_of_ble_eq_true rfl, Nat.le_of_ble_eq_true rfl⟩) hW0 vaP0 rfl hl.1 rfl (Nat.le_of_ble_eq_true rfl) dX1_lowest_1 ⟨Nat.zero_le _, Nat.zero_le _⟩ ?_
  obtain rfl := Option.some.inj h
  exact hret dX1_lowest_4 rfl
def F_X1_pieces_4 (N : Nat) (c_now_line : (Nat → Int32)) (c_now_points : Int32) (c_now_lines : Int32) : Nat → Int32 → Int32 → Option (Int32)
  | 0, _, _ => none
  | n + 1, v1, v2 => (if c_now_points ≤ v2 then (some (v1)) else ((F_X1_piece N v2 c_now_line c_now_lines).bind fun y3 => ((F_X1_lowest N y3).bind fun y4 => (if y4 = v2 then (F_X1_pieces_4 N c_now_line c_now_points c_now_lines n (v1 + 1) (v2 + 1)) else (F_X1_pieces_4 N c_now_line c_now_points c_now_lines n v1 (v2 + 1))))))
def F_X1_pieces (N : Nat) (c_now_line : (Nat → Int32)) (c_now_points : Int32) (c_now_lines : Int32) : Option (Int32) := (F_X1_pieces_4 N c_now_line c_now_points c_now_lines N 0 0)
theorem cw_X1_pieces {R : Room} {s : State} {args : Array Value} {own : String} {index lev mc ms : Nat} (hts : ∀ w ∈ lw_all, w.before args s = true) (hl : Cond.methodLink own index yX1_pieces ∈ lw_all) (hR : (rmL lev mc ms).frames + 1 ≤ R.frames ∧ 8 + (3 + 11) + (rmL lev mc ms).locals ≤ R.locals) : CallW R s args own RX1 index yX1_pieces cX1_pieces 3 (some .int) (ws_ yX1_pieces cX1_pieces 3 (some .int)) (rmL lev mc ms) mc ms 0 := cwV 0 hts (lw_V hl q1227 qs27 q151 q1228) rfl rfl rfl (by decide +kernel) hR
set_option maxHeartbeats 4000000 in
theorem M_X1_pieces {l : Launch} {G : GE} (hG : GC G) {N : Nat} {h0 : Nat} {ad : Nat → Nat} {c_listPoints : Int32} {c_listLines : Int32} {c_refused : (Nat → Int32)} {c_imageRefused : (Nat → Int32)} {c_hasImage : Int32} {c_tape : (Nat → Int32)} {c_taped : Int32} {c_faultPlace : Int32} {c_orbit : (Nat → Int32)} {c_lineFor : (Nat → Int32)} {c_dualities : Int32} {c_polarities : Int32} {c_shortest : Int32} {c_placeX : (Nat → Int32)} {c_placeY : (Nat → Int32)} {c_placeZ : (Nat → Int32)} {c_lies : (Nat → Int32)} {c_firstLies : (Nat → Int32)} {c_worth : (Nat → Int32)} {c_its : Int32} {c_now_x : (Nat → Int32)} {c_now_y : (Nat → Int32)} {c_tried_points : Int32} {c_tried_lines : Int32} {c_tried_line : (Nat → Int32)} {c_tried_x : (Nat → Int32)} {c_tried_y : (Nat → Int32)} {c_imageNow_points : Int32} {c_imageNow_lines : Int32} {c_imageNow_line : (Nat → Int32)} {c_imageNow_x : (Nat → Int32)} {c_imageNow_y : (Nat → Int32)} {c_now_line : (Nat → Int32)} {c_now_points : Int32} {c_now_lines : Int32} {ρ : (Int32)} (h : F_X1_pieces N c_now_line c_now_points c_now_lines = some ρ) : MR l G yX1_pieces cX1_pieces 3 (some .int) 3 (cW h0 ad G.2.2 c_listPoints c_listLines c_refused c_imageRefused c_hasImage c_tape c_taped c_faultPlace c_orbit c_lineFor c_dualities c_polarities c_shortest c_placeX c_placeY c_placeZ c_lies c_firstLies c_worth c_its c_now_points c_now_lines c_now_line c_now_x c_now_y c_tried_points c_tried_lines c_tried_line c_tried_x c_tried_y c_imageNow_points c_imageNow_lines c_imageNow_line c_imageNow_x c_imageNow_y) [.ref h0] ρ := by
  rw [F_X1_pieces] at h
  refine MR.start (rt := .int) hG (by decide) (Nat.le_of_ble_eq_true rfl) ?_
  intro p e s m args below meth c Q S hW0 hK hP hret ls hl
  obtain ⟨hx, hb, hml, hown, hts⟩ := id S
  have hl : lv_has ls 3 [(0, .ref h0)] := hl
  have S_X1_pieces_4 : ∀ (n : Nat) (v1 : Int32) (v2 : Int32), F_X1_pieces_4 N c_now_line c_now_points c_now_lines n v1 v2 = some ρ → ∀ (ls : Array Slot), lv_has ls 3 [(0, .ref h0), (1, .int v1), (2, .int v2)] → W p l e (rmL 3 0 0) s m args below meth c s.heap [] 0 0 Q (F0 m 4 ls []) := by
    intro n
    induction n with
    | zero =>
      intro v1 v2 h
      exact absurd h (by simp [F_X1_pieces_4])
    | succ n ih =>
      intro v1 v2 h ls hl
      rw [F_X1_pieces_4] at h
      refine lv_iload_n hx hb dX1_pieces_4 rfl (lv_at hl 2 rfl) ?_
      refine lv_aload_n hx hb dX1_pieces_5 rfl (lv_at hl 0 rfl) ?_
      refine va_get (ci := 0) (v := .ref (ad 3)) (C := RX1) (T := TX1) (N := 28) hx hb hts in_X1 hown hK hP 0 rfl rfl 3 (by decide) (hts _ q580) (fun _ h9 => h9) rfl dX1_pieces_6 ?_
      refine va_getN (ci := 1) (v := .int c_now_points) (C := RX2) (T := TX2) (N := 5) hx hb hts in_X2 hown hK hP 1 rfl rfl 0 (by decide) (hG.nf hW0 q224) (fun _ h9 => h9) rfl dX1_pieces_9 ?_
      refine lv_icmp_ge (tgt := 36) hx hb dX1_pieces_12 (by decide) (fun c1 => ?_) (fun c1 => ?_)
      · rw [if_pos c1] at h
        refine lv_iload_n hx hb dX1_pieces_36 rfl (lv_at hl 1 rfl) ?_
        obtain rfl := Option.some.inj h
        exact hret dX1_pieces_37 rfl
      · rw [if_neg c1] at h
        refine lv_aload_n hx hb dX1_pieces_15 rfl (lv_at hl 0 rfl) ?_
        refine lv_iload_n hx hb dX1_pieces_16 rfl (lv_at hl 2 rfl) ?_
        obtain ⟨y3, e3, h⟩ := ob_s h
        refine MR.callV (q0 := 0) (M_X1_piece hG e3) S (cw_X1_piece hts q1229 ⟨Nat.le_of_ble_eq_true rfl, Nat.le_of_ble_eq_true rfl⟩) hW0 hK hP rfl rfl rfl hl.1 rfl (Nat.le_of_ble_eq_true rfl) dX1_pieces_17 ⟨Nat.zero_le _, Nat.zero_le _⟩ ?_
        obtain ⟨y4, e4, h⟩ := ob_s h
        refine MR.callS (M_X1_lowest hG e4) S (cw_X1_lowest hts q1233 ⟨Nat.le_of_ble_eq_true rfl, Nat.le_of_ble_eq_true rfl⟩) hW0 vaP0 rfl hl.1 rfl (Nat.le_of_ble_eq_true rfl) dX1_pieces_20 ⟨Nat.zero_le _, Nat.zero_le _⟩ ?_
        refine lv_iload_n hx hb dX1_pieces_23 rfl (lv_at hl 2 rfl) ?_
        refine lv_icmp_ne (tgt := 30) hx hb dX1_pieces_24 (by decide) (fun c5 => ?_) (fun c5 => ?_)
        · rw [if_neg c5] at h
          refine lv_iinc (v := (v2 + 1)) (lv' := [(2, .int (v2 + 1)), (0, .ref h0), (1, .int v1)]) hx hb dX1_pieces_30 hl (k := 2) rfl rfl (by decide) rfl (fun ls hl => ?_)
          refine lv_goto (tgt := 4) hx hb dX1_pieces_33 (by decide) ?_
          exact ih v1 (v2 + 1) h _ (lv_sub hl [1, 2, 0] rfl)
        · rw [if_pos c5] at h
          refine lv_iinc (v := (v1 + 1)) (lv' := [(1, .int (v1 + 1)), (0, .ref h0), (2, .int v2)]) hx hb dX1_pieces_27 hl (k := 1) rfl rfl (by decide) rfl (fun ls hl => ?_)
          refine lv_iinc (v := (v2 + 1)) (lv' := [(2, .int (v2 + 1)), (1, .int (v1 + 1)), (0, .ref h0)]) hx hb dX1_pieces_30 hl (k := 2) rfl rfl (by decide) rfl (fun ls hl => ?_)
          refine lv_goto (tgt := 4) hx hb dX1_pieces_33 (by decide) ?_
          exact ih (v1 + 1) (v2 + 1) h _ (lv_sub hl [2, 1, 0] rfl)
  refine lv_iconst (v := 0) hx hb dX1_pieces_0 (by decide) ?_
  refine lv_istore_n (lv' := [(1, .int 0), (0, .ref h0)]) hx hb dX1_pieces_1 rfl hl (by decide) rfl (fun ls hl => ?_)
  refine lv_iconst (v := 0) hx hb dX1_pieces_2 (by decide) ?_
  refine lv_istore_n (lv' := [(2, .int 0), (1, .int 0), (0, .ref h0)]) hx hb dX1_pieces_3 rfl hl (by decide) rfl (fun ls hl => ?_)
  refine S_X1_pieces_4 N 0 0 h  _ (lv_sub hl [2, 1, 0] rfl)
def F_X1_canBeLike (N : Nat) (c_p0_points : Int32) (c_p0_lines : Int32) (c_p1_points : Int32) (c_p1_lines : Int32) : Option (Int32) := (if c_p0_points = c_p1_points then (if c_p0_lines = c_p1_lines then (some (1)) else (some (0))) else (some (0)))
theorem cw_X1_canBeLike {R : Room} {s : State} {args : Array Value} {own : String} {index lev mc ms : Nat} (hts : ∀ w ∈ lw_all, w.before args s = true) (hl : Cond.methodLink own index yX1_canBeLike ∈ lw_all) (hR : (rmL lev mc ms).frames + 1 ≤ R.frames ∧ 8 + (2 + 11) + (rmL lev mc ms).locals ≤ R.locals) : CallB R s args own index yX1_canBeLike cX1_canBeLike 2 (some .boolean) (ws_ yX1_canBeLike cX1_canBeLike 2 (some .boolean)) (rmL lev mc ms) mc ms 2 ∧ (Cond.static yX1_canBeLike).before args s = true := va_cwS 2 hts (lw_S hl q1262 q151 q1263) rfl rfl rfl (by decide +kernel) hR
set_option maxHeartbeats 4000000 in
theorem M_X1_canBeLike {l : Launch} {G : GE} (hG : GC G) {N : Nat} {b0 : Nat} {ad0 : Nat → Nat} {b1 : Nat} {ad1 : Nat → Nat} {c_p0_line : (Nat → Int32)} {c_p0_x : (Nat → Int32)} {c_p0_y : (Nat → Int32)} {c_p1_line : (Nat → Int32)} {c_p1_x : (Nat → Int32)} {c_p1_y : (Nat → Int32)} {c_p0_points : Int32} {c_p0_lines : Int32} {c_p1_points : Int32} {c_p1_lines : Int32} {ρ : (Int32)} (h : F_X1_canBeLike N c_p0_points c_p0_lines c_p1_points c_p1_lines = some ρ) : MR l G yX1_canBeLike cX1_canBeLike 2 (some .boolean) 1 [(b0, .inr (1, [.int c_p0_points, .int c_p0_lines, .ref (ad0 2), .ref (ad0 3), .ref (ad0 4)])), ((ad0 2), .inl (G.2.2 0, 12, .inl c_p0_line)), ((ad0 3), .inl (G.2.2 0, 8, .inl c_p0_x)), ((ad0 4), .inl (G.2.2 0, 8, .inl c_p0_y)), (b1, .inr (1, [.int c_p1_points, .int c_p1_lines, .ref (ad1 2), .ref (ad1 3), .ref (ad1 4)])), ((ad1 2), .inl (G.2.2 0, 12, .inl c_p1_line)), ((ad1 3), .inl (G.2.2 0, 8, .inl c_p1_x)), ((ad1 4), .inl (G.2.2 0, 8, .inl c_p1_y))] [.ref b0, .ref b1] ρ := by
  rw [F_X1_canBeLike] at h
  refine MR.start (rt := .boolean) hG (by decide) (Nat.le_of_ble_eq_true rfl) ?_
  intro p e s m args below meth c Q S hW0 hK hP hret ls hl
  obtain ⟨hx, hb, hml, hown, hts⟩ := id S
  have hl : lv_has ls 2 [(0, .ref b0), (1, .ref b1)] := hl
  refine lv_aload_n hx hb dX1_canBeLike_0 rfl (lv_at hl 0 rfl) ?_
  refine va_getN (ci := 1) (v := .int c_p0_points) (C := RX2) (T := TX2) (N := 5) hx hb hts in_X2 hown hK hP 0 rfl rfl 0 (by decide) (hG.nf hW0 q224) (fun _ h9 => h9) rfl dX1_canBeLike_1 ?_
  refine lv_aload_n hx hb dX1_canBeLike_4 rfl (lv_at hl 1 rfl) ?_
  refine va_getN (ci := 1) (v := .int c_p1_points) (C := RX2) (T := TX2) (N := 5) hx hb hts in_X2 hown hK hP 4 rfl rfl 0 (by decide) (hG.nf hW0 q224) (fun _ h9 => h9) rfl dX1_canBeLike_5 ?_
  refine lv_icmp_ne (tgt := 26) hx hb dX1_canBeLike_8 (by decide) (fun c1 => ?_) (fun c1 => ?_)
  · rw [if_neg c1] at h
    refine lv_iconst (v := 0) hx hb dX1_canBeLike_26 (by decide) ?_
    obtain rfl := Option.some.inj h
    exact hret dX1_canBeLike_27 rfl
  · rw [if_pos c1] at h
    refine lv_aload_n hx hb dX1_canBeLike_11 rfl (lv_at hl 0 rfl) ?_
    refine va_getN (ci := 1) (v := .int c_p0_lines) (C := RX2) (T := TX2) (N := 5) hx hb hts in_X2 hown hK hP 0 rfl rfl 1 (by decide) (hG.nf hW0 q228) (fun _ h9 => h9) rfl dX1_canBeLike_12 ?_
    refine lv_aload_n hx hb dX1_canBeLike_15 rfl (lv_at hl 1 rfl) ?_
    refine va_getN (ci := 1) (v := .int c_p1_lines) (C := RX2) (T := TX2) (N := 5) hx hb hts in_X2 hown hK hP 4 rfl rfl 1 (by decide) (hG.nf hW0 q228) (fun _ h9 => h9) rfl dX1_canBeLike_16 ?_
    refine lv_icmp_ne (tgt := 26) hx hb dX1_canBeLike_19 (by decide) (fun c3 => ?_) (fun c3 => ?_)
    · rw [if_neg c3] at h
      refine lv_iconst (v := 0) hx hb dX1_canBeLike_26 (by decide) ?_
      obtain rfl := Option.some.inj h
      exact hret dX1_canBeLike_27 rfl
    · rw [if_pos c3] at h
      refine lv_iconst (v := 1) hx hb dX1_canBeLike_22 (by decide) ?_
      refine lv_goto (tgt := 27) hx hb dX1_canBeLike_23 (by decide) ?_
      obtain rfl := Option.some.inj h
      exact hret dX1_canBeLike_27 rfl
def F_X1_isPolarity_15 (N : Nat) (v1 : Int32) (c_lineFor : (Nat → Int32)) (c_now_line : (Nat → Int32)) : Nat → Int32 → (Unit → Option (Int32)) → Option (Int32)
  | 0, _, _ => none
  | n + 1, v2, k59 => (if v1 ≤ v2 then (k59 ()) else (ckI v2 8 ((F_X2_isOn N v1 (c_lineFor (Int32.toNatClampNeg v2)) c_now_line).bind fun y5 => (ckI v1 8 ((F_X2_isOn N v2 (c_lineFor (Int32.toNatClampNeg v1)) c_now_line).bind fun y7 => (if y5 = y7 then (F_X1_isPolarity_15 N v1 c_lineFor c_now_line n (v2 + 1) k59) else (some (0))))))))
def F_X1_isPolarity_2 (N : Nat) (c_lineFor : (Nat → Int32)) (c_now_line : (Nat → Int32)) (c_now_points : Int32) : Nat → Int32 → Option (Int32)
  | 0, _ => none
  | n + 1, v1 => (if c_now_points ≤ v1 then (some (1)) else (F_X1_isPolarity_15 N v1 c_lineFor c_now_line N 0 (fun _u => (F_X1_isPolarity_2 N c_lineFor c_now_line c_now_points n (v1 + 1)))))
def F_X1_isPolarity (N : Nat) (c_lineFor : (Nat → Int32)) (c_now_line : (Nat → Int32)) (c_now_points : Int32) : Option (Int32) := (F_X1_isPolarity_2 N c_lineFor c_now_line c_now_points N 0)
theorem cw_X1_isPolarity {R : Room} {s : State} {args : Array Value} {own : String} {index lev mc ms : Nat} (hts : ∀ w ∈ lw_all, w.before args s = true) (hl : Cond.methodLink own index yX1_isPolarity ∈ lw_all) (hR : (rmL lev mc ms).frames + 1 ≤ R.frames ∧ 8 + (3 + 11) + (rmL lev mc ms).locals ≤ R.locals) : CallW R s args own RX1 index yX1_isPolarity cX1_isPolarity 3 (some .boolean) (ws_ yX1_isPolarity cX1_isPolarity 3 (some .boolean)) (rmL lev mc ms) mc ms 0 := cwV 0 hts (lw_V hl q1340 qs37 q151 q1341) rfl rfl rfl (by decide +kernel) hR
set_option maxHeartbeats 4000000 in
theorem M_X1_isPolarity {l : Launch} {G : GE} (hG : GC G) {N : Nat} {h0 : Nat} {ad : Nat → Nat} {c_listPoints : Int32} {c_listLines : Int32} {c_refused : (Nat → Int32)} {c_imageRefused : (Nat → Int32)} {c_hasImage : Int32} {c_tape : (Nat → Int32)} {c_taped : Int32} {c_faultPlace : Int32} {c_orbit : (Nat → Int32)} {c_dualities : Int32} {c_polarities : Int32} {c_shortest : Int32} {c_placeX : (Nat → Int32)} {c_placeY : (Nat → Int32)} {c_placeZ : (Nat → Int32)} {c_lies : (Nat → Int32)} {c_firstLies : (Nat → Int32)} {c_worth : (Nat → Int32)} {c_its : Int32} {c_now_lines : Int32} {c_now_x : (Nat → Int32)} {c_now_y : (Nat → Int32)} {c_tried_points : Int32} {c_tried_lines : Int32} {c_tried_line : (Nat → Int32)} {c_tried_x : (Nat → Int32)} {c_tried_y : (Nat → Int32)} {c_imageNow_points : Int32} {c_imageNow_lines : Int32} {c_imageNow_line : (Nat → Int32)} {c_imageNow_x : (Nat → Int32)} {c_imageNow_y : (Nat → Int32)} {c_lineFor : (Nat → Int32)} {c_now_line : (Nat → Int32)} {c_now_points : Int32} {ρ : (Int32)} (h : F_X1_isPolarity N c_lineFor c_now_line c_now_points = some ρ) : MR l G yX1_isPolarity cX1_isPolarity 3 (some .boolean) 2 (cW h0 ad G.2.2 c_listPoints c_listLines c_refused c_imageRefused c_hasImage c_tape c_taped c_faultPlace c_orbit c_lineFor c_dualities c_polarities c_shortest c_placeX c_placeY c_placeZ c_lies c_firstLies c_worth c_its c_now_points c_now_lines c_now_line c_now_x c_now_y c_tried_points c_tried_lines c_tried_line c_tried_x c_tried_y c_imageNow_points c_imageNow_lines c_imageNow_line c_imageNow_x c_imageNow_y) [.ref h0] ρ := by
  rw [F_X1_isPolarity] at h
  refine MR.start (rt := .boolean) hG (by decide) (Nat.le_of_ble_eq_true rfl) ?_
  intro p e s m args below meth c Q S hW0 hK hP hret ls hl
  obtain ⟨hx, hb, hml, hown, hts⟩ := id S
  have hl : lv_has ls 3 [(0, .ref h0)] := hl
  have S_X1_isPolarity_15 : ∀ (n : Nat) (v1 : Int32) (v2 : Int32) (k59 : Unit → Option (Int32)), F_X1_isPolarity_15 N v1 c_lineFor c_now_line n v2 k59 = some ρ → (∀ (ls : Array Slot), k59 () = some ρ → lv_has ls 3 [(0, .ref h0), (1, .int v1)] → W p l e (rmL 2 0 0) s m args below meth c s.heap [] 0 0 Q (F0 m 59 ls [])) → ∀ (ls : Array Slot), lv_has ls 3 [(0, .ref h0), (1, .int v1), (2, .int v2)] → W p l e (rmL 2 0 0) s m args below meth c s.heap [] 0 0 Q (F0 m 15 ls []) := by
    intro n
    induction n with
    | zero =>
      intro v1 v2 k59 h
      exact absurd h (by simp [F_X1_isPolarity_15])
    | succ n ih =>
      intro v1 v2 k59 h hk59 ls hl
      rw [F_X1_isPolarity_15] at h
      refine lv_iload_n hx hb dX1_isPolarity_15 rfl (lv_at hl 2 rfl) ?_
      refine lv_iload_n hx hb dX1_isPolarity_16 rfl (lv_at hl 1 rfl) ?_
      refine lv_icmp_ge (tgt := 59) hx hb dX1_isPolarity_17 (by decide) (fun c3 => ?_) (fun c3 => ?_)
      · rw [if_pos c3] at h
        exact hk59 _ h (lv_sub hl [0, 1] rfl)
      · rw [if_neg c3] at h
        refine lv_aload_n hx hb dX1_isPolarity_20 rfl (lv_at hl 0 rfl) ?_
        refine va_get (ci := 0) (v := .ref (ad 3)) (C := RX1) (T := TX1) (N := 28) hx hb hts in_X1 hown hK hP 0 rfl rfl 3 (by decide) (hts _ q580) (fun _ h9 => h9) rfl dX1_isPolarity_21 ?_
        refine lv_iload_n hx hb dX1_isPolarity_24 rfl (lv_at hl 1 rfl) ?_
        refine lv_aload_n hx hb dX1_isPolarity_25 rfl (lv_at hl 0 rfl) ?_
        refine va_get (ci := 0) (v := .ref (ad 17)) (C := RX1) (T := TX1) (N := 28) hx hb hts in_X1 hown hK hP 0 rfl rfl 17 (by decide) (hts _ q594) (fun _ h9 => h9) rfl dX1_isPolarity_26 ?_
        refine lv_iload_n hx hb dX1_isPolarity_29 rfl (lv_at hl 2 rfl) ?_
        obtain ⟨i4, h⟩ := ckI_s h
        refine va_iald (f := c_lineFor) hx hb hK hP 17 0 rfl rfl i4 dX1_isPolarity_30 ?_
        obtain ⟨y5, e5, h⟩ := ob_s h
        refine MR.callV (q0 := 0) (M_X2_isOn hG e5) S (cw_X2_isOn hts q1342 ⟨Nat.le_of_ble_eq_true rfl, Nat.le_of_ble_eq_true rfl⟩) hW0 hK (hP.sub (ws' := (sW (ad 3) (fun k => ad (30 + k)) G.2.2 c_now_points c_now_lines c_now_line c_now_x c_now_y)) [1, 2, 3, 4] rfl) rfl rfl rfl hl.1 rfl (Nat.le_of_ble_eq_true rfl) dX1_isPolarity_31 ⟨Nat.zero_le _, Nat.zero_le _⟩ ?_
        refine lv_aload_n hx hb dX1_isPolarity_34 rfl (lv_at hl 0 rfl) ?_
        refine va_get (ci := 0) (v := .ref (ad 3)) (C := RX1) (T := TX1) (N := 28) hx hb hts in_X1 hown hK hP 0 rfl rfl 3 (by decide) (hts _ q580) (fun _ h9 => h9) rfl dX1_isPolarity_35 ?_
        refine lv_iload_n hx hb dX1_isPolarity_38 rfl (lv_at hl 2 rfl) ?_
        refine lv_aload_n hx hb dX1_isPolarity_39 rfl (lv_at hl 0 rfl) ?_
        refine va_get (ci := 0) (v := .ref (ad 17)) (C := RX1) (T := TX1) (N := 28) hx hb hts in_X1 hown hK hP 0 rfl rfl 17 (by decide) (hts _ q594) (fun _ h9 => h9) rfl dX1_isPolarity_40 ?_
        refine lv_iload_n hx hb dX1_isPolarity_43 rfl (lv_at hl 1 rfl) ?_
        obtain ⟨i6, h⟩ := ckI_s h
        refine va_iald (f := c_lineFor) hx hb hK hP 17 0 rfl rfl i6 dX1_isPolarity_44 ?_
        obtain ⟨y7, e7, h⟩ := ob_s h
        refine MR.callV (q0 := 0) (M_X2_isOn hG e7) S (cw_X2_isOn hts q1342 ⟨Nat.le_of_ble_eq_true rfl, Nat.le_of_ble_eq_true rfl⟩) hW0 hK (hP.sub (ws' := (sW (ad 3) (fun k => ad (30 + k)) G.2.2 c_now_points c_now_lines c_now_line c_now_x c_now_y)) [1, 2, 3, 4] rfl) rfl rfl rfl hl.1 rfl (Nat.le_of_ble_eq_true rfl) dX1_isPolarity_45 ⟨Nat.zero_le _, Nat.zero_le _⟩ ?_
        refine lv_icmp_eq (tgt := 53) hx hb dX1_isPolarity_48 (by decide) (fun c8 => ?_) (fun c8 => ?_)
        · rw [if_pos c8] at h
          refine lv_iinc (v := (v2 + 1)) (lv' := [(2, .int (v2 + 1)), (0, .ref h0), (1, .int v1)]) hx hb dX1_isPolarity_53 hl (k := 2) rfl rfl (by decide) rfl (fun ls hl => ?_)
          refine lv_goto (tgt := 15) hx hb dX1_isPolarity_56 (by decide) ?_
          exact ih v1 (v2 + 1) _ h hk59 _ (lv_sub hl [1, 2, 0] rfl)
        · rw [if_neg c8] at h
          refine lv_iconst (v := 0) hx hb dX1_isPolarity_51 (by decide) ?_
          obtain rfl := Option.some.inj h
          exact hret dX1_isPolarity_52 rfl
  have S_X1_isPolarity_2 : ∀ (n : Nat) (v1 : Int32), F_X1_isPolarity_2 N c_lineFor c_now_line c_now_points n v1 = some ρ → ∀ (ls : Array Slot), lv_has ls 3 [(0, .ref h0), (1, .int v1)] → W p l e (rmL 2 0 0) s m args below meth c s.heap [] 0 0 Q (F0 m 2 ls []) := by
    intro n
    induction n with
    | zero =>
      intro v1 h
      exact absurd h (by simp [F_X1_isPolarity_2])
    | succ n ih =>
      intro v1 h ls hl
      rw [F_X1_isPolarity_2] at h
      refine lv_iload_n hx hb dX1_isPolarity_2 rfl (lv_at hl 1 rfl) ?_
      refine lv_aload_n hx hb dX1_isPolarity_3 rfl (lv_at hl 0 rfl) ?_
      refine va_get (ci := 0) (v := .ref (ad 3)) (C := RX1) (T := TX1) (N := 28) hx hb hts in_X1 hown hK hP 0 rfl rfl 3 (by decide) (hts _ q580) (fun _ h9 => h9) rfl dX1_isPolarity_4 ?_
      refine va_getN (ci := 1) (v := .int c_now_points) (C := RX2) (T := TX2) (N := 5) hx hb hts in_X2 hown hK hP 1 rfl rfl 0 (by decide) (hG.nf hW0 q224) (fun _ h9 => h9) rfl dX1_isPolarity_7 ?_
      refine lv_icmp_ge (tgt := 65) hx hb dX1_isPolarity_10 (by decide) (fun c1 => ?_) (fun c1 => ?_)
      · rw [if_pos c1] at h
        refine lv_iconst (v := 1) hx hb dX1_isPolarity_65 (by decide) ?_
        obtain rfl := Option.some.inj h
        exact hret dX1_isPolarity_66 rfl
      · rw [if_neg c1] at h
        refine lv_iconst (v := 0) hx hb dX1_isPolarity_13 (by decide) ?_
        refine lv_istore_n (lv' := [(2, .int 0), (0, .ref h0), (1, .int v1)]) hx hb dX1_isPolarity_14 rfl hl (by decide) rfl (fun ls hl => ?_)
        refine S_X1_isPolarity_15 N v1 0 _ h ?_ _ (lv_sub hl [1, 2, 0] rfl)
        · intro  ls h hl
          refine lv_iinc (v := (v1 + 1)) (lv' := [(1, .int (v1 + 1)), (0, .ref h0)]) hx hb dX1_isPolarity_59 hl (k := 1) rfl rfl (by decide) rfl (fun ls hl => ?_)
          refine lv_goto (tgt := 2) hx hb dX1_isPolarity_62 (by decide) ?_
          exact ih (v1 + 1) h _ (lv_sub hl [1, 0] rfl)
  refine lv_iconst (v := 0) hx hb dX1_isPolarity_0 (by decide) ?_
  refine lv_istore_n (lv' := [(1, .int 0), (0, .ref h0)]) hx hb dX1_isPolarity_1 rfl hl (by decide) rfl (fun ls hl => ?_)
  refine S_X1_isPolarity_2 N 0 h  _ (lv_sub hl [1, 0] rfl)
def F_X1_pole_4 (N : Nat) (v1 : Int32) (c_lineFor : (Nat → Int32)) (c_now_line : (Nat → Int32)) (c_now_points : Int32) : Nat → Int32 → Int32 → (Int32 → Option (Int32)) → Option (Int32)
  | 0, _, _, _ => none
  | n + 1, v2, v3, k44 => (if c_now_points ≤ v3 then (k44 v2) else ((F_X2_isOn N v3 v1 c_now_line).bind fun y2 => (if y2 = 0 then (F_X1_pole_4 N v1 c_lineFor c_now_line c_now_points n v2 (v3 + 1) k44) else (ckI v3 8 (F_X1_pole_4 N v1 c_lineFor c_now_line c_now_points n (v2 ||| ((1 : Int32) <<< ((c_lineFor (Int32.toNatClampNeg v3)) &&& 31))) (v3 + 1) k44)))))
def F_X1_pole_46 (N : Nat) (v2 : Int32) (c_now_line : (Nat → Int32)) (c_now_points : Int32) (c_now_lines : Int32) : Nat → Int32 → Option (Int32)
  | 0, _ => none
  | n + 1, v3 => (if c_now_points ≤ v3 then (some ((-1))) else ((F_X2_through N v3 c_now_line c_now_lines).bind fun y8 => (if y8 = v2 then (some (v3)) else (F_X1_pole_46 N v2 c_now_line c_now_points c_now_lines n (v3 + 1)))))
def F_X1_pole (N : Nat) (v1 : Int32) (c_lineFor : (Nat → Int32)) (c_now_line : (Nat → Int32)) (c_now_points : Int32) (c_now_lines : Int32) : Option (Int32) := (F_X1_pole_4 N v1 c_lineFor c_now_line c_now_points N 0 0 (fun u2_5 => (F_X1_pole_46 N u2_5 c_now_line c_now_points c_now_lines N 0)))
theorem cw_X1_pole {R : Room} {s : State} {args : Array Value} {own : String} {index lev mc ms : Nat} (hts : ∀ w ∈ lw_all, w.before args s = true) (hl : Cond.methodLink own index yX1_pole ∈ lw_all) (hR : (rmL lev mc ms).frames + 1 ≤ R.frames ∧ 8 + (4 + 11) + (rmL lev mc ms).locals ≤ R.locals) : CallW R s args own RX1 index yX1_pole cX1_pole 4 (some .int) (ws_ yX1_pole cX1_pole 4 (some .int)) (rmL lev mc ms) mc ms 1 := cwV 1 hts (lw_V hl q1349 qs39 q151 q1350) rfl rfl rfl (by decide +kernel) hR
set_option maxHeartbeats 4000000 in
theorem M_X1_pole {l : Launch} {G : GE} (hG : GC G) {N : Nat} {h0 : Nat} {ad : Nat → Nat} {c_listPoints : Int32} {c_listLines : Int32} {c_refused : (Nat → Int32)} {c_imageRefused : (Nat → Int32)} {c_hasImage : Int32} {c_tape : (Nat → Int32)} {c_taped : Int32} {c_faultPlace : Int32} {c_orbit : (Nat → Int32)} {c_dualities : Int32} {c_polarities : Int32} {c_shortest : Int32} {c_placeX : (Nat → Int32)} {c_placeY : (Nat → Int32)} {c_placeZ : (Nat → Int32)} {c_lies : (Nat → Int32)} {c_firstLies : (Nat → Int32)} {c_worth : (Nat → Int32)} {c_its : Int32} {c_now_x : (Nat → Int32)} {c_now_y : (Nat → Int32)} {c_tried_points : Int32} {c_tried_lines : Int32} {c_tried_line : (Nat → Int32)} {c_tried_x : (Nat → Int32)} {c_tried_y : (Nat → Int32)} {c_imageNow_points : Int32} {c_imageNow_lines : Int32} {c_imageNow_line : (Nat → Int32)} {c_imageNow_x : (Nat → Int32)} {c_imageNow_y : (Nat → Int32)} {v1 : Int32} {c_lineFor : (Nat → Int32)} {c_now_line : (Nat → Int32)} {c_now_points : Int32} {c_now_lines : Int32} {ρ : (Int32)} (h : F_X1_pole N v1 c_lineFor c_now_line c_now_points c_now_lines = some ρ) : MR l G yX1_pole cX1_pole 4 (some .int) 3 (cW h0 ad G.2.2 c_listPoints c_listLines c_refused c_imageRefused c_hasImage c_tape c_taped c_faultPlace c_orbit c_lineFor c_dualities c_polarities c_shortest c_placeX c_placeY c_placeZ c_lies c_firstLies c_worth c_its c_now_points c_now_lines c_now_line c_now_x c_now_y c_tried_points c_tried_lines c_tried_line c_tried_x c_tried_y c_imageNow_points c_imageNow_lines c_imageNow_line c_imageNow_x c_imageNow_y) [.ref h0, .int v1] ρ := by
  rw [F_X1_pole] at h
  refine MR.start (rt := .int) hG (by decide) (Nat.le_of_ble_eq_true rfl) ?_
  intro p e s m args below meth c Q S hW0 hK hP hret ls hl
  obtain ⟨hx, hb, hml, hown, hts⟩ := id S
  have hl : lv_has ls 4 [(0, .ref h0), (1, .int v1)] := hl
  have S_X1_pole_4 : ∀ (n : Nat) (v1 : Int32) (v2 : Int32) (v3 : Int32) (k44 : Int32 → Option (Int32)), F_X1_pole_4 N v1 c_lineFor c_now_line c_now_points n v2 v3 k44 = some ρ → (∀ (u2 : Int32) (ls : Array Slot), k44 u2 = some ρ → lv_has ls 4 [(0, .ref h0), (2, .int u2)] → W p l e (rmL 3 0 0) s m args below meth c s.heap [] 0 0 Q (F0 m 44 ls [])) → ∀ (ls : Array Slot), lv_has ls 4 [(0, .ref h0), (1, .int v1), (2, .int v2), (3, .int v3)] → W p l e (rmL 3 0 0) s m args below meth c s.heap [] 0 0 Q (F0 m 4 ls []) := by
    intro n
    induction n with
    | zero =>
      intro v1 v2 v3 k44 h
      exact absurd h (by simp [F_X1_pole_4])
    | succ n ih =>
      intro v1 v2 v3 k44 h hk44 ls hl
      rw [F_X1_pole_4] at h
      refine lv_iload_n hx hb dX1_pole_4 rfl (lv_at hl 3 rfl) ?_
      refine lv_aload_n hx hb dX1_pole_5 rfl (lv_at hl 0 rfl) ?_
      refine va_get (ci := 0) (v := .ref (ad 3)) (C := RX1) (T := TX1) (N := 28) hx hb hts in_X1 hown hK hP 0 rfl rfl 3 (by decide) (hts _ q580) (fun _ h9 => h9) rfl dX1_pole_6 ?_
      refine va_getN (ci := 1) (v := .int c_now_points) (C := RX2) (T := TX2) (N := 5) hx hb hts in_X2 hown hK hP 1 rfl rfl 0 (by decide) (hG.nf hW0 q224) (fun _ h9 => h9) rfl dX1_pole_9 ?_
      refine lv_icmp_ge (tgt := 44) hx hb dX1_pole_12 (by decide) (fun c1 => ?_) (fun c1 => ?_)
      · rw [if_pos c1] at h
        exact hk44 v2 _ h (lv_sub hl [0, 2] rfl)
      · rw [if_neg c1] at h
        refine lv_aload_n hx hb dX1_pole_15 rfl (lv_at hl 0 rfl) ?_
        refine va_get (ci := 0) (v := .ref (ad 3)) (C := RX1) (T := TX1) (N := 28) hx hb hts in_X1 hown hK hP 0 rfl rfl 3 (by decide) (hts _ q580) (fun _ h9 => h9) rfl dX1_pole_16 ?_
        refine lv_iload_n hx hb dX1_pole_19 rfl (lv_at hl 3 rfl) ?_
        refine lv_iload_n hx hb dX1_pole_20 rfl (lv_at hl 1 rfl) ?_
        obtain ⟨y2, e2, h⟩ := ob_s h
        refine MR.callV (q0 := 0) (M_X2_isOn hG e2) S (cw_X2_isOn hts q1342 ⟨Nat.le_of_ble_eq_true rfl, Nat.le_of_ble_eq_true rfl⟩) hW0 hK (hP.sub (ws' := (sW (ad 3) (fun k => ad (30 + k)) G.2.2 c_now_points c_now_lines c_now_line c_now_x c_now_y)) [1, 2, 3, 4] rfl) rfl rfl rfl hl.1 rfl (Nat.le_of_ble_eq_true rfl) dX1_pole_21 ⟨Nat.zero_le _, Nat.zero_le _⟩ ?_
        refine lv_if_eq (tgt := 38) hx hb dX1_pole_24 (by decide) (fun c3 => ?_) (fun c3 => ?_)
        · rw [if_pos c3] at h
          refine lv_iinc (v := (v3 + 1)) (lv' := [(3, .int (v3 + 1)), (0, .ref h0), (1, .int v1), (2, .int v2)]) hx hb dX1_pole_38 hl (k := 3) rfl rfl (by decide) rfl (fun ls hl => ?_)
          refine lv_goto (tgt := 4) hx hb dX1_pole_41 (by decide) ?_
          exact ih v1 v2 (v3 + 1) _ h hk44 _ (lv_sub hl [1, 2, 3, 0] rfl)
        · rw [if_neg c3] at h
          refine lv_iload_n hx hb dX1_pole_27 rfl (lv_at hl 2 rfl) ?_
          refine lv_iconst (v := 1) hx hb dX1_pole_28 (by decide) ?_
          refine lv_aload_n hx hb dX1_pole_29 rfl (lv_at hl 0 rfl) ?_
          refine va_get (ci := 0) (v := .ref (ad 17)) (C := RX1) (T := TX1) (N := 28) hx hb hts in_X1 hown hK hP 0 rfl rfl 17 (by decide) (hts _ q594) (fun _ h9 => h9) rfl dX1_pole_30 ?_
          refine lv_iload_n hx hb dX1_pole_33 rfl (lv_at hl 3 rfl) ?_
          obtain ⟨i4, h⟩ := ckI_s h
          refine va_iald (f := c_lineFor) hx hb hK hP 17 0 rfl rfl i4 dX1_pole_34 ?_
          refine lv_ishl hx hb dX1_pole_35 ?_
          refine lv_ior hx hb dX1_pole_36 ?_
          refine lv_istore_n (lv' := [(2, .int (v2 ||| ((1 : Int32) <<< ((c_lineFor (Int32.toNatClampNeg v3)) &&& 31)))), (0, .ref h0), (1, .int v1), (3, .int v3)]) hx hb dX1_pole_37 rfl hl (by decide) rfl (fun ls hl => ?_)
          refine lv_iinc (v := (v3 + 1)) (lv' := [(3, .int (v3 + 1)), (2, .int (v2 ||| ((1 : Int32) <<< ((c_lineFor (Int32.toNatClampNeg v3)) &&& 31)))), (0, .ref h0), (1, .int v1)]) hx hb dX1_pole_38 hl (k := 3) rfl rfl (by decide) rfl (fun ls hl => ?_)
          refine lv_goto (tgt := 4) hx hb dX1_pole_41 (by decide) ?_
          exact ih v1 (v2 ||| ((1 : Int32) <<< ((c_lineFor (Int32.toNatClampNeg v3)) &&& 31))) (v3 + 1) _ h hk44 _ (lv_sub hl [2, 3, 1, 0] rfl)
  have S_X1_pole_46 : ∀ (n : Nat) (v2 : Int32) (v3 : Int32), F_X1_pole_46 N v2 c_now_line c_now_points c_now_lines n v3 = some ρ → ∀ (ls : Array Slot), lv_has ls 4 [(0, .ref h0), (2, .int v2), (3, .int v3)] → W p l e (rmL 3 0 0) s m args below meth c s.heap [] 0 0 Q (F0 m 46 ls []) := by
    intro n
    induction n with
    | zero =>
      intro v2 v3 h
      exact absurd h (by simp [F_X1_pole_46])
    | succ n ih =>
      intro v2 v3 h ls hl
      rw [F_X1_pole_46] at h
      refine lv_iload_n hx hb dX1_pole_46 rfl (lv_at hl 2 rfl) ?_
      refine lv_aload_n hx hb dX1_pole_47 rfl (lv_at hl 0 rfl) ?_
      refine va_get (ci := 0) (v := .ref (ad 3)) (C := RX1) (T := TX1) (N := 28) hx hb hts in_X1 hown hK hP 0 rfl rfl 3 (by decide) (hts _ q580) (fun _ h9 => h9) rfl dX1_pole_48 ?_
      refine va_getN (ci := 1) (v := .int c_now_points) (C := RX2) (T := TX2) (N := 5) hx hb hts in_X2 hown hK hP 1 rfl rfl 0 (by decide) (hG.nf hW0 q224) (fun _ h9 => h9) rfl dX1_pole_51 ?_
      refine lv_icmp_ge (tgt := 77) hx hb dX1_pole_54 (by decide) (fun c6 => ?_) (fun c6 => ?_)
      · rw [if_pos c6] at h
        refine lv_iconst (v := (-1)) hx hb dX1_pole_77 (by decide) ?_
        obtain rfl := Option.some.inj h
        exact hret dX1_pole_78 rfl
      · rw [if_neg c6] at h
        refine lv_aload_n hx hb dX1_pole_57 rfl (lv_at hl 0 rfl) ?_
        refine va_get (ci := 0) (v := .ref (ad 3)) (C := RX1) (T := TX1) (N := 28) hx hb hts in_X1 hown hK hP 0 rfl rfl 3 (by decide) (hts _ q580) (fun _ h9 => h9) rfl dX1_pole_58 ?_
        refine lv_iload_n hx hb dX1_pole_61 rfl (lv_at hl 2 rfl) ?_
        obtain ⟨y8, e8, h⟩ := ob_s h
        refine MR.callV (q0 := 0) (M_X2_through hG e8) S (cw_X2_through hts q1213 ⟨Nat.le_of_ble_eq_true rfl, Nat.le_of_ble_eq_true rfl⟩) hW0 hK (hP.sub (ws' := (sW (ad 3) (fun k => ad (30 + k)) G.2.2 c_now_points c_now_lines c_now_line c_now_x c_now_y)) [1, 2, 3, 4] rfl) rfl rfl rfl hl.1 rfl (Nat.le_of_ble_eq_true rfl) dX1_pole_62 ⟨Nat.zero_le _, Nat.zero_le _⟩ ?_
        refine lv_iload_n hx hb dX1_pole_65 rfl (lv_at hl 1 rfl) ?_
        refine lv_icmp_ne (tgt := 71) hx hb dX1_pole_66 (by decide) (fun c9 => ?_) (fun c9 => ?_)
        · rw [if_neg c9] at h
          refine lv_iinc (v := (v3 + 1)) (lv' := [(3, .int (v3 + 1)), (0, .ref h0), (2, .int v2)]) hx hb dX1_pole_71 hl (k := 2) rfl rfl (by decide) rfl (fun ls hl => ?_)
          refine lv_goto (tgt := 46) hx hb dX1_pole_74 (by decide) ?_
          exact ih v2 (v3 + 1) h _ (lv_sub hl [1, 2, 0] rfl)
        · rw [if_pos c9] at h
          refine lv_iload_n hx hb dX1_pole_69 rfl (lv_at hl 2 rfl) ?_
          obtain rfl := Option.some.inj h
          exact hret dX1_pole_70 rfl
  refine lv_iconst (v := 0) hx hb dX1_pole_0 (by decide) ?_
  refine lv_istore_n (lv' := [(2, .int 0), (0, .ref h0), (1, .int v1)]) hx hb dX1_pole_1 rfl hl (by decide) rfl (fun ls hl => ?_)
  refine lv_iconst (v := 0) hx hb dX1_pole_2 (by decide) ?_
  refine lv_istore_n (lv' := [(3, .int 0), (2, .int 0), (0, .ref h0), (1, .int v1)]) hx hb dX1_pole_3 rfl hl (by decide) rfl (fun ls hl => ?_)
  refine S_X1_pole_4 N v1 0 0 _ h ?_ _ (lv_sub hl [2, 3, 1, 0] rfl)
  · intro u2_5 ls h hl
    refine lv_iconst (v := 0) hx hb dX1_pole_44 (by decide) ?_
    refine lv_istore_n (lv' := [(3, .int 0), (0, .ref h0), (2, .int u2_5)]) hx hb dX1_pole_45 rfl hl (by decide) rfl (fun ls hl => ?_)
    refine S_X1_pole_46 N u2_5 0 h  _ (lv_sub hl [1, 2, 0] rfl)
def F_X1_isNamedWell_2 (N : Nat) (v1 : Int32) (c_lineFor : (Nat → Int32)) (c_now_line : (Nat → Int32)) (c_now_points : Int32) (c_now_lines : Int32) : Nat → Int32 → Option (Int32)
  | 0, _ => none
  | n + 1, v2 => (if c_now_lines ≤ v2 then (some (1)) else (ckI v2 12 (if ((c_now_line (Int32.toNatClampNeg v2)) >>> (v1 &&& 31)) = 1 then ((F_X1_pole N v2 c_lineFor c_now_line c_now_points c_now_lines).bind fun y5 => (if y5 = (-1) then (some (0)) else (F_X1_isNamedWell_2 N v1 c_lineFor c_now_line c_now_points c_now_lines n (v2 + 1)))) else (F_X1_isNamedWell_2 N v1 c_lineFor c_now_line c_now_points c_now_lines n (v2 + 1)))))
def F_X1_isNamedWell (N : Nat) (v1 : Int32) (c_lineFor : (Nat → Int32)) (c_now_line : (Nat → Int32)) (c_now_points : Int32) (c_now_lines : Int32) : Option (Int32) := (F_X1_isNamedWell_2 N v1 c_lineFor c_now_line c_now_points c_now_lines N 0)
theorem cw_X1_isNamedWell {R : Room} {s : State} {args : Array Value} {own : String} {index lev mc ms : Nat} (hts : ∀ w ∈ lw_all, w.before args s = true) (hl : Cond.methodLink own index yX1_isNamedWell ∈ lw_all) (hR : (rmL lev mc ms).frames + 1 ≤ R.frames ∧ 8 + (3 + 11) + (rmL lev mc ms).locals ≤ R.locals) : CallW R s args own RX1 index yX1_isNamedWell cX1_isNamedWell 3 (some .boolean) (ws_ yX1_isNamedWell cX1_isNamedWell 3 (some .boolean)) (rmL lev mc ms) mc ms 1 := cwV 1 hts (lw_V hl q1345 qs38 q151 q1346) rfl rfl rfl (by decide +kernel) hR
set_option maxHeartbeats 4000000 in
theorem M_X1_isNamedWell {l : Launch} {G : GE} (hG : GC G) {N : Nat} {h0 : Nat} {ad : Nat → Nat} {c_listPoints : Int32} {c_listLines : Int32} {c_refused : (Nat → Int32)} {c_imageRefused : (Nat → Int32)} {c_hasImage : Int32} {c_tape : (Nat → Int32)} {c_taped : Int32} {c_faultPlace : Int32} {c_orbit : (Nat → Int32)} {c_dualities : Int32} {c_polarities : Int32} {c_shortest : Int32} {c_placeX : (Nat → Int32)} {c_placeY : (Nat → Int32)} {c_placeZ : (Nat → Int32)} {c_lies : (Nat → Int32)} {c_firstLies : (Nat → Int32)} {c_worth : (Nat → Int32)} {c_its : Int32} {c_now_x : (Nat → Int32)} {c_now_y : (Nat → Int32)} {c_tried_points : Int32} {c_tried_lines : Int32} {c_tried_line : (Nat → Int32)} {c_tried_x : (Nat → Int32)} {c_tried_y : (Nat → Int32)} {c_imageNow_points : Int32} {c_imageNow_lines : Int32} {c_imageNow_line : (Nat → Int32)} {c_imageNow_x : (Nat → Int32)} {c_imageNow_y : (Nat → Int32)} {v1 : Int32} {c_lineFor : (Nat → Int32)} {c_now_line : (Nat → Int32)} {c_now_points : Int32} {c_now_lines : Int32} {ρ : (Int32)} (h : F_X1_isNamedWell N v1 c_lineFor c_now_line c_now_points c_now_lines = some ρ) : MR l G yX1_isNamedWell cX1_isNamedWell 3 (some .boolean) 4 (cW h0 ad G.2.2 c_listPoints c_listLines c_refused c_imageRefused c_hasImage c_tape c_taped c_faultPlace c_orbit c_lineFor c_dualities c_polarities c_shortest c_placeX c_placeY c_placeZ c_lies c_firstLies c_worth c_its c_now_points c_now_lines c_now_line c_now_x c_now_y c_tried_points c_tried_lines c_tried_line c_tried_x c_tried_y c_imageNow_points c_imageNow_lines c_imageNow_line c_imageNow_x c_imageNow_y) [.ref h0, .int v1] ρ := by
  rw [F_X1_isNamedWell] at h
  refine MR.start (rt := .boolean) hG (by decide) (Nat.le_of_ble_eq_true rfl) ?_
  intro p e s m args below meth c Q S hW0 hK hP hret ls hl
  obtain ⟨hx, hb, hml, hown, hts⟩ := id S
  have hl : lv_has ls 3 [(0, .ref h0), (1, .int v1)] := hl
  have S_X1_isNamedWell_2 : ∀ (n : Nat) (v1 : Int32) (v2 : Int32), F_X1_isNamedWell_2 N v1 c_lineFor c_now_line c_now_points c_now_lines n v2 = some ρ → ∀ (ls : Array Slot), lv_has ls 3 [(0, .ref h0), (1, .int v1), (2, .int v2)] → W p l e (rmL 4 0 0) s m args below meth c s.heap [] 0 0 Q (F0 m 2 ls []) := by
    intro n
    induction n with
    | zero =>
      intro v1 v2 h
      exact absurd h (by simp [F_X1_isNamedWell_2])
    | succ n ih =>
      intro v1 v2 h ls hl
      rw [F_X1_isNamedWell_2] at h
      refine lv_iload_n hx hb dX1_isNamedWell_2 rfl (lv_at hl 2 rfl) ?_
      refine lv_aload_n hx hb dX1_isNamedWell_3 rfl (lv_at hl 0 rfl) ?_
      refine va_get (ci := 0) (v := .ref (ad 3)) (C := RX1) (T := TX1) (N := 28) hx hb hts in_X1 hown hK hP 0 rfl rfl 3 (by decide) (hts _ q580) (fun _ h9 => h9) rfl dX1_isNamedWell_4 ?_
      refine va_getN (ci := 1) (v := .int c_now_lines) (C := RX2) (T := TX2) (N := 5) hx hb hts in_X2 hown hK hP 1 rfl rfl 1 (by decide) (hG.nf hW0 q228) (fun _ h9 => h9) rfl dX1_isNamedWell_7 ?_
      refine lv_icmp_ge (tgt := 45) hx hb dX1_isNamedWell_10 (by decide) (fun c1 => ?_) (fun c1 => ?_)
      · rw [if_pos c1] at h
        refine lv_iconst (v := 1) hx hb dX1_isNamedWell_45 (by decide) ?_
        obtain rfl := Option.some.inj h
        exact hret dX1_isNamedWell_46 rfl
      · rw [if_neg c1] at h
        refine lv_aload_n hx hb dX1_isNamedWell_13 rfl (lv_at hl 0 rfl) ?_
        refine va_get (ci := 0) (v := .ref (ad 3)) (C := RX1) (T := TX1) (N := 28) hx hb hts in_X1 hown hK hP 0 rfl rfl 3 (by decide) (hts _ q580) (fun _ h9 => h9) rfl dX1_isNamedWell_14 ?_
        refine va_getN (ci := 1) (v := .ref (ad 32)) (C := RX2) (T := TX2) (N := 5) hx hb hts in_X2 hown hK hP 1 rfl rfl 2 (by decide) (hG.nf hW0 q234) (fun _ h9 => h9) rfl dX1_isNamedWell_17 ?_
        refine lv_iload_n hx hb dX1_isNamedWell_20 rfl (lv_at hl 2 rfl) ?_
        obtain ⟨i3, h⟩ := ckI_s h
        refine va_iald (f := c_now_line) hx hb hK hP 2 0 rfl rfl i3 dX1_isNamedWell_21 ?_
        refine lv_iload_n hx hb dX1_isNamedWell_22 rfl (lv_at hl 1 rfl) ?_
        refine lv_ishr hx hb dX1_isNamedWell_23 ?_
        refine lv_iconst (v := 1) hx hb dX1_isNamedWell_24 (by decide) ?_
        refine lv_icmp_ne (tgt := 39) hx hb dX1_isNamedWell_25 (by decide) (fun c4 => ?_) (fun c4 => ?_)
        · rw [if_neg c4] at h
          refine lv_iinc (v := (v2 + 1)) (lv' := [(2, .int (v2 + 1)), (0, .ref h0), (1, .int v1)]) hx hb dX1_isNamedWell_39 hl (k := 2) rfl rfl (by decide) rfl (fun ls hl => ?_)
          refine lv_goto (tgt := 2) hx hb dX1_isNamedWell_42 (by decide) ?_
          exact ih v1 (v2 + 1) h _ (lv_sub hl [1, 2, 0] rfl)
        · rw [if_pos c4] at h
          refine lv_aload_n hx hb dX1_isNamedWell_28 rfl (lv_at hl 0 rfl) ?_
          refine lv_iload_n hx hb dX1_isNamedWell_29 rfl (lv_at hl 2 rfl) ?_
          obtain ⟨y5, e5, h⟩ := ob_s h
          refine MR.callV (q0 := 0) (M_X1_pole hG e5) S (cw_X1_pole hts q1347 ⟨Nat.le_of_ble_eq_true rfl, Nat.le_of_ble_eq_true rfl⟩) hW0 hK hP rfl rfl rfl hl.1 rfl (Nat.le_of_ble_eq_true rfl) dX1_isNamedWell_30 ⟨Nat.zero_le _, Nat.zero_le _⟩ ?_
          refine lv_iconst (v := (-1)) hx hb dX1_isNamedWell_33 (by decide) ?_
          refine lv_icmp_ne (tgt := 39) hx hb dX1_isNamedWell_34 (by decide) (fun c6 => ?_) (fun c6 => ?_)
          · rw [if_neg c6] at h
            refine lv_iinc (v := (v2 + 1)) (lv' := [(2, .int (v2 + 1)), (0, .ref h0), (1, .int v1)]) hx hb dX1_isNamedWell_39 hl (k := 2) rfl rfl (by decide) rfl (fun ls hl => ?_)
            refine lv_goto (tgt := 2) hx hb dX1_isNamedWell_42 (by decide) ?_
            exact ih v1 (v2 + 1) h _ (lv_sub hl [1, 2, 0] rfl)
          · rw [if_pos c6] at h
            refine lv_iconst (v := 0) hx hb dX1_isNamedWell_37 (by decide) ?_
            obtain rfl := Option.some.inj h
            exact hret dX1_isNamedWell_38 rfl
  refine lv_iconst (v := 0) hx hb dX1_isNamedWell_0 (by decide) ?_
  refine lv_istore_n (lv' := [(2, .int 0), (0, .ref h0), (1, .int v1)]) hx hb dX1_isNamedWell_1 rfl hl (by decide) rfl (fun ls hl => ?_)
  refine S_X1_isNamedWell_2 N v1 0 h  _ (lv_sub hl [1, 2, 0] rfl)
def F_X1_names_41 (N : Nat) (rc : Int32 → Int32 → (Nat → Int32) → (Nat → Int32) → Int32 → Int32 → Int32 → Int32 → Option ((Nat → Int32) × Int32 × Int32)) (v1 : Int32) (v2 : Int32) (c_now_line : (Nat → Int32)) (c_now_points : Int32) (c_now_lines : Int32) : Nat → Int32 → (Nat → Int32) → Int32 → Int32 → Option ((Nat → Int32) × Int32 × Int32)
  | 0, _, _, _, _ => none
  | n + 1, v3, c_lineFor, c_dualities, c_polarities => (if c_now_lines ≤ v3 then (some (c_lineFor, c_dualities, c_polarities)) else (if ((v2 >>> (v3 &&& 31)) &&& (1 : Int32)) = 1 then (F_X1_names_41 N rc v1 v2 c_now_line c_now_points c_now_lines n (v3 + 1) c_lineFor c_dualities c_polarities) else (ckI v1 8 ((F_X1_isNamedWell N v1 (upd c_lineFor (Int32.toNatClampNeg v1) v3) c_now_line c_now_points c_now_lines).bind fun y6 => (if y6 = 0 then (F_X1_names_41 N rc v1 v2 c_now_line c_now_points c_now_lines n (v3 + 1) (upd c_lineFor (Int32.toNatClampNeg v1) v3) c_dualities c_polarities) else ((rc (v1 + (1 : Int32)) (v2 ||| ((1 : Int32) <<< (v3 &&& 31))) (upd c_lineFor (Int32.toNatClampNeg v1) v3) c_now_line c_dualities c_polarities c_now_points c_now_lines).bind fun y8 => (F_X1_names_41 N rc v1 v2 c_now_line c_now_points c_now_lines n (v3 + 1) y8.1 y8.2.1 y8.2.2)))))))
def F_X1_names (N : Nat) : Nat → (v1 : Int32) → (v2 : Int32) → (c_lineFor : (Nat → Int32)) → (c_now_line : (Nat → Int32)) → (c_dualities : Int32) → (c_polarities : Int32) → (c_now_points : Int32) → (c_now_lines : Int32) → Option ((Nat → Int32) × Int32 × Int32)
  | 0, _, _, _, _, _, _, _, _ => none
  | d + 1, v1, v2, c_lineFor, c_now_line, c_dualities, c_polarities, c_now_points, c_now_lines => (if v1 = c_now_points then ((F_X1_isPolarity N c_lineFor c_now_line c_now_points).bind fun y9 => (if y9 = 0 then (some (c_lineFor, (c_dualities + (1 : Int32)), c_polarities)) else (some (c_lineFor, (c_dualities + (1 : Int32)), (c_polarities + (1 : Int32)))))) else (F_X1_names_41 N (F_X1_names N d) v1 v2 c_now_line c_now_points c_now_lines N 0 c_lineFor c_dualities c_polarities))
theorem cw_X1_names {R : Room} {s : State} {args : Array Value} {own : String} {index lev mc ms : Nat} (hts : ∀ w ∈ lw_all, w.before args s = true) (hl : Cond.methodLink own index yX1_names ∈ lw_all) (hR : (rmL lev mc ms).frames + 1 ≤ R.frames ∧ 8 + (4 + 11) + (rmL lev mc ms).locals ≤ R.locals) : CallW R s args own RX1 index yX1_names cX1_names 4 none (ws_ yX1_names cX1_names 4 none) (rmL lev mc ms) mc ms 2 := cwV 2 hts (lw_V hl q1336 qs36 q151 q1337) rfl rfl rfl (by decide +kernel) hR
set_option maxHeartbeats 4000000 in
theorem M_X1_names {l : Launch} {G : GE} (hG : GC G) {N : Nat} {h0 : Nat} {ad : Nat → Nat} {c_listPoints : Int32} {c_listLines : Int32} {c_refused : (Nat → Int32)} {c_imageRefused : (Nat → Int32)} {c_hasImage : Int32} {c_tape : (Nat → Int32)} {c_taped : Int32} {c_faultPlace : Int32} {c_orbit : (Nat → Int32)} {c_shortest : Int32} {c_placeX : (Nat → Int32)} {c_placeY : (Nat → Int32)} {c_placeZ : (Nat → Int32)} {c_lies : (Nat → Int32)} {c_firstLies : (Nat → Int32)} {c_worth : (Nat → Int32)} {c_its : Int32} {c_now_x : (Nat → Int32)} {c_now_y : (Nat → Int32)} {c_tried_points : Int32} {c_tried_lines : Int32} {c_tried_line : (Nat → Int32)} {c_tried_x : (Nat → Int32)} {c_tried_y : (Nat → Int32)} {c_imageNow_points : Int32} {c_imageNow_lines : Int32} {c_imageNow_line : (Nat → Int32)} {c_imageNow_x : (Nat → Int32)} {c_imageNow_y : (Nat → Int32)} : ∀ (d : Nat) {v1 : Int32} {v2 : Int32} {c_lineFor : (Nat → Int32)} {c_now_line : (Nat → Int32)} {c_dualities : Int32} {c_polarities : Int32} {c_now_points : Int32} {c_now_lines : Int32} {ρ : ((Nat → Int32) × Int32 × Int32)} (h : F_X1_names N d v1 v2 c_lineFor c_now_line c_dualities c_polarities c_now_points c_now_lines = some ρ), MW l G yX1_names cX1_names 4 none (5 + d) (cW h0 ad G.2.2 c_listPoints c_listLines c_refused c_imageRefused c_hasImage c_tape c_taped c_faultPlace c_orbit c_lineFor c_dualities c_polarities c_shortest c_placeX c_placeY c_placeZ c_lies c_firstLies c_worth c_its c_now_points c_now_lines c_now_line c_now_x c_now_y c_tried_points c_tried_lines c_tried_line c_tried_x c_tried_y c_imageNow_points c_imageNow_lines c_imageNow_line c_imageNow_x c_imageNow_y) [.ref h0, .int v1, .int v2] none (cW h0 ad G.2.2 c_listPoints c_listLines c_refused c_imageRefused c_hasImage c_tape c_taped c_faultPlace c_orbit ρ.1 ρ.2.1 ρ.2.2 c_shortest c_placeX c_placeY c_placeZ c_lies c_firstLies c_worth c_its c_now_points c_now_lines c_now_line c_now_x c_now_y c_tried_points c_tried_lines c_tried_line c_tried_x c_tried_y c_imageNow_points c_imageNow_lines c_imageNow_line c_imageNow_x c_imageNow_y) := by
  intro d
  induction d with
  | zero =>
    intro v1 v2 c_lineFor c_now_line c_dualities c_polarities c_now_points c_now_lines ρ h
    exact absurd h (by simp [F_X1_names])
  | succ d ihd =>
    intro v1 v2 c_lineFor c_now_line c_dualities c_polarities c_now_points c_now_lines ρ h
    rw [F_X1_names] at h
    refine MW.start hG (by decide) (Nat.le_of_ble_eq_true rfl) ?_
    intro p e s m args below meth c Q A S hW0 hK hP hD hA hreti hretv ls hl
    have hS : va_S A s.heap s.heap [] := va_S.rf
    obtain ⟨hx, hb, hml, hown, hts⟩ := id S
    have hl : lv_has ls 4 [(0, .ref h0), (1, .int v1), (2, .int v2)] := hl
    have S_X1_names_41 : ∀ (n : Nat) (v1 : Int32) (v2 : Int32) (v3 : Int32) (c_lineFor : (Nat → Int32)) (c_dualities : Int32) (c_polarities : Int32), F_X1_names_41 N (F_X1_names N d) v1 v2 c_now_line c_now_points c_now_lines n v3 c_lineFor c_dualities c_polarities = some ρ → ∀ (H : Heap) (locs : List Loc), va_P G.2.1 vwCl (cW h0 ad G.2.2 c_listPoints c_listLines c_refused c_imageRefused c_hasImage c_tape c_taped c_faultPlace c_orbit c_lineFor c_dualities c_polarities c_shortest c_placeX c_placeY c_placeZ c_lies c_firstLies c_worth c_its c_now_points c_now_lines c_now_line c_now_x c_now_y c_tried_points c_tried_lines c_tried_line c_tried_x c_tried_y c_imageNow_points c_imageNow_lines c_imageNow_line c_imageNow_x c_imageNow_y) H → va_D A (cW h0 ad G.2.2 c_listPoints c_listLines c_refused c_imageRefused c_hasImage c_tape c_taped c_faultPlace c_orbit c_lineFor c_dualities c_polarities c_shortest c_placeX c_placeY c_placeZ c_lies c_firstLies c_worth c_its c_now_points c_now_lines c_now_line c_now_x c_now_y c_tried_points c_tried_lines c_tried_line c_tried_x c_tried_y c_imageNow_points c_imageNow_lines c_imageNow_line c_imageNow_x c_imageNow_y) → va_S A s.heap H locs → ∀ (ls : Array Slot), lv_has ls 4 [(0, .ref h0), (1, .int v1), (2, .int v2), (3, .int v3)] → W p l e (rmL (5 + (d + 1)) 0 0) s m args below meth c H locs 0 0 Q (F0 m 41 ls []) := by
      intro n
      induction n with
      | zero =>
        intro v1 v2 v3 c_lineFor c_dualities c_polarities h
        exact absurd h (by simp [F_X1_names_41])
      | succ n ih =>
        intro v1 v2 v3 c_lineFor c_dualities c_polarities h H locs hP hD hS ls hl
        rw [F_X1_names_41] at h
        refine lv_iload_n hx hb dX1_names_41 rfl (lv_at hl 3 rfl) ?_
        refine lv_aload_n hx hb dX1_names_42 rfl (lv_at hl 0 rfl) ?_
        refine va_get (ci := 0) (v := .ref (ad 3)) (C := RX1) (T := TX1) (N := 28) hx hb hts in_X1 hown hK hP 0 rfl rfl 3 (by decide) (hts _ q580) (fun _ h9 => h9) rfl dX1_names_43 ?_
        refine va_getN (ci := 1) (v := .int c_now_lines) (C := RX2) (T := TX2) (N := 5) hx hb hts in_X2 hown hK hP 1 rfl rfl 1 (by decide) (hG.nf hW0 q228) (fun _ h9 => h9) rfl dX1_names_46 ?_
        refine lv_icmp_ge (tgt := 97) hx hb dX1_names_49 (by decide) (fun c2 => ?_) (fun c2 => ?_)
        · rw [if_pos c2] at h
          obtain rfl := Option.some.inj h
          exact hretv rfl dX1_names_97 rfl hP hD hS
        · rw [if_neg c2] at h
          refine lv_iload_n hx hb dX1_names_52 rfl (lv_at hl 2 rfl) ?_
          refine lv_iload_n hx hb dX1_names_53 rfl (lv_at hl 3 rfl) ?_
          refine lv_ishr hx hb dX1_names_54 ?_
          refine lv_iconst (v := 1) hx hb dX1_names_55 (by decide) ?_
          refine lv_iand hx hb dX1_names_56 ?_
          refine lv_iconst (v := 1) hx hb dX1_names_57 (by decide) ?_
          refine lv_icmp_ne (tgt := 64) hx hb dX1_names_58 (by decide) (fun c4 => ?_) (fun c4 => ?_)
          · rw [if_neg c4] at h
            refine lv_aload_n hx hb dX1_names_64 rfl (lv_at hl 0 rfl) ?_
            refine va_get (ci := 0) (v := .ref (ad 17)) (C := RX1) (T := TX1) (N := 28) hx hb hts in_X1 hown hK hP 0 rfl rfl 17 (by decide) (hts _ q594) (fun _ h9 => h9) rfl dX1_names_65 ?_
            refine lv_iload_n hx hb dX1_names_68 rfl (lv_at hl 1 rfl) ?_
            refine lv_iload_n hx hb dX1_names_69 rfl (lv_at hl 3 rfl) ?_
            obtain ⟨i5, h⟩ := ckI_s h
            refine va_iast (f := c_lineFor) hx hb hK hP hD hS 17 0 rfl rfl i5 dX1_names_70 (fun H locs hP hD hS => ?_)
            have hP : va_P G.2.1 vwCl (cW h0 ad G.2.2 c_listPoints c_listLines c_refused c_imageRefused c_hasImage c_tape c_taped c_faultPlace c_orbit (upd c_lineFor (Int32.toNatClampNeg v1) v3) c_dualities c_polarities c_shortest c_placeX c_placeY c_placeZ c_lies c_firstLies c_worth c_its c_now_points c_now_lines c_now_line c_now_x c_now_y c_tried_points c_tried_lines c_tried_line c_tried_x c_tried_y c_imageNow_points c_imageNow_lines c_imageNow_line c_imageNow_x c_imageNow_y) H := hP
            have hD : va_D A (cW h0 ad G.2.2 c_listPoints c_listLines c_refused c_imageRefused c_hasImage c_tape c_taped c_faultPlace c_orbit (upd c_lineFor (Int32.toNatClampNeg v1) v3) c_dualities c_polarities c_shortest c_placeX c_placeY c_placeZ c_lies c_firstLies c_worth c_its c_now_points c_now_lines c_now_line c_now_x c_now_y c_tried_points c_tried_lines c_tried_line c_tried_x c_tried_y c_imageNow_points c_imageNow_lines c_imageNow_line c_imageNow_x c_imageNow_y) := hD
            refine lv_aload_n hx hb dX1_names_71 rfl (lv_at hl 0 rfl) ?_
            refine lv_iload_n hx hb dX1_names_72 rfl (lv_at hl 1 rfl) ?_
            obtain ⟨y6, e6, h⟩ := ob_s h
            refine MR.callV (q0 := 0) (M_X1_isNamedWell hG e6) S (cw_X1_isNamedWell hts q1343 ⟨by dsimp only; omega, by dsimp only; omega⟩) hW0 hK hP rfl rfl rfl hl.1 rfl (Nat.le_of_ble_eq_true rfl) dX1_names_73 ⟨Nat.zero_le _, Nat.zero_le _⟩ ?_
            refine lv_if_eq (tgt := 91) hx hb dX1_names_76 (by decide) (fun c7 => ?_) (fun c7 => ?_)
            · rw [if_pos c7] at h
              refine lv_iinc (v := (v3 + 1)) (lv' := [(3, .int (v3 + 1)), (0, .ref h0), (1, .int v1), (2, .int v2)]) hx hb dX1_names_91 hl (k := 3) rfl rfl (by decide) rfl (fun ls hl => ?_)
              refine lv_goto (tgt := 41) hx hb dX1_names_94 (by decide) ?_
              exact ih v1 v2 (v3 + 1) (upd c_lineFor (Int32.toNatClampNeg v1) v3) c_dualities c_polarities h _ _ hP hD hS _ (lv_sub hl [1, 2, 3, 0] rfl)
            · rw [if_neg c7] at h
              refine lv_aload_n hx hb dX1_names_79 rfl (lv_at hl 0 rfl) ?_
              refine lv_iload_n hx hb dX1_names_80 rfl (lv_at hl 1 rfl) ?_
              refine lv_iconst (v := 1) hx hb dX1_names_81 (by decide) ?_
              refine lv_iadd hx hb dX1_names_82 ?_
              refine lv_iload_n hx hb dX1_names_83 rfl (lv_at hl 2 rfl) ?_
              refine lv_iconst (v := 1) hx hb dX1_names_84 (by decide) ?_
              refine lv_iload_n hx hb dX1_names_85 rfl (lv_at hl 3 rfl) ?_
              refine lv_ishl hx hb dX1_names_86 ?_
              refine lv_ior hx hb dX1_names_87 ?_
              obtain ⟨y8, e8, h⟩ := ob_s h
              refine MW.callV (q0 := 0) (ihd e8) S (cw_X1_names hts q1334 ⟨by dsimp only; omega, by dsimp only; omega⟩) hW0 hK hP hD hS hA rfl rfl rfl hl.1 rfl (Nat.le_of_ble_eq_true rfl) dX1_names_88 ⟨Nat.zero_le _, Nat.zero_le _⟩ (fun H locs hP hD hS => ?_)
              have hP : va_P G.2.1 vwCl (cW h0 ad G.2.2 c_listPoints c_listLines c_refused c_imageRefused c_hasImage c_tape c_taped c_faultPlace c_orbit y8.1 y8.2.1 y8.2.2 c_shortest c_placeX c_placeY c_placeZ c_lies c_firstLies c_worth c_its c_now_points c_now_lines c_now_line c_now_x c_now_y c_tried_points c_tried_lines c_tried_line c_tried_x c_tried_y c_imageNow_points c_imageNow_lines c_imageNow_line c_imageNow_x c_imageNow_y) H := hP
              have hD : va_D A (cW h0 ad G.2.2 c_listPoints c_listLines c_refused c_imageRefused c_hasImage c_tape c_taped c_faultPlace c_orbit y8.1 y8.2.1 y8.2.2 c_shortest c_placeX c_placeY c_placeZ c_lies c_firstLies c_worth c_its c_now_points c_now_lines c_now_line c_now_x c_now_y c_tried_points c_tried_lines c_tried_line c_tried_x c_tried_y c_imageNow_points c_imageNow_lines c_imageNow_line c_imageNow_x c_imageNow_y) := hD
              refine W.eq (g2 := F0 m 91 ls []) rfl ?_
              refine lv_iinc (v := (v3 + 1)) (lv' := [(3, .int (v3 + 1)), (0, .ref h0), (1, .int v1), (2, .int v2)]) hx hb dX1_names_91 hl (k := 3) rfl rfl (by decide) rfl (fun ls hl => ?_)
              refine lv_goto (tgt := 41) hx hb dX1_names_94 (by decide) ?_
              exact ih v1 v2 (v3 + 1) y8.1 y8.2.1 y8.2.2 h _ _ hP hD hS _ (lv_sub hl [1, 2, 3, 0] rfl)
          · rw [if_pos c4] at h
            refine lv_goto (tgt := 91) hx hb dX1_names_61 (by decide) ?_
            refine lv_iinc (v := (v3 + 1)) (lv' := [(3, .int (v3 + 1)), (0, .ref h0), (1, .int v1), (2, .int v2)]) hx hb dX1_names_91 hl (k := 3) rfl rfl (by decide) rfl (fun ls hl => ?_)
            refine lv_goto (tgt := 41) hx hb dX1_names_94 (by decide) ?_
            exact ih v1 v2 (v3 + 1) c_lineFor c_dualities c_polarities h _ _ hP hD hS _ (lv_sub hl [1, 2, 3, 0] rfl)
    refine lv_iload_n hx hb dX1_names_0 rfl (lv_at hl 1 rfl) ?_
    refine lv_aload_n hx hb dX1_names_1 rfl (lv_at hl 0 rfl) ?_
    refine va_get (ci := 0) (v := .ref (ad 3)) (C := RX1) (T := TX1) (N := 28) hx hb hts in_X1 hown hK hP 0 rfl rfl 3 (by decide) (hts _ q580) (fun _ h9 => h9) rfl dX1_names_2 ?_
    refine va_getN (ci := 1) (v := .int c_now_points) (C := RX2) (T := TX2) (N := 5) hx hb hts in_X2 hown hK hP 1 rfl rfl 0 (by decide) (hG.nf hW0 q224) (fun _ h9 => h9) rfl dX1_names_5 ?_
    refine lv_icmp_ne (tgt := 39) hx hb dX1_names_8 (by decide) (fun c1 => ?_) (fun c1 => ?_)
    · rw [if_neg c1] at h
      refine lv_iconst (v := 0) hx hb dX1_names_39 (by decide) ?_
      refine lv_istore_n (lv' := [(3, .int 0), (0, .ref h0), (1, .int v1), (2, .int v2)]) hx hb dX1_names_40 rfl hl (by decide) rfl (fun ls hl => ?_)
      refine S_X1_names_41 N v1 v2 0 c_lineFor c_dualities c_polarities h  _ _ hP hD hS _ (lv_sub hl [1, 2, 3, 0] rfl)
    · rw [if_pos c1] at h
      refine lv_aload_n hx hb dX1_names_11 rfl (lv_at hl 0 rfl) ?_
      refine lv_dup hx hb dX1_names_12 rfl ?_
      refine va_get (ci := 0) (v := .int c_dualities) (C := RX1) (T := TX1) (N := 28) hx hb hts in_X1 hown hK hP 0 rfl rfl 18 (by decide) (hts _ q595) (fun _ h9 => h9) rfl dX1_names_13 ?_
      refine lv_iconst (v := 1) hx hb dX1_names_16 (by decide) ?_
      refine lv_iadd hx hb dX1_names_17 ?_
      refine va_put (ci := 0) (v := .int (c_dualities + (1 : Int32))) (ty := .int) (C := RX1) (T := TX1) (N := 28) hx hb hts in_X1 tyX1 tyX1_ok nmX1 hown hK hP hD hS 0 rfl rfl 18 (by decide) (hts _ q595) (fun _ h9 => h9) rfl (by decide +kernel) rfl rfl (Nat.le_of_ble_eq_true rfl) dX1_names_18 (fun H locs hP hD hS => ?_)
      have hP : va_P G.2.1 vwCl (cW h0 ad G.2.2 c_listPoints c_listLines c_refused c_imageRefused c_hasImage c_tape c_taped c_faultPlace c_orbit c_lineFor (c_dualities + (1 : Int32)) c_polarities c_shortest c_placeX c_placeY c_placeZ c_lies c_firstLies c_worth c_its c_now_points c_now_lines c_now_line c_now_x c_now_y c_tried_points c_tried_lines c_tried_line c_tried_x c_tried_y c_imageNow_points c_imageNow_lines c_imageNow_line c_imageNow_x c_imageNow_y) H := hP
      have hD : va_D A (cW h0 ad G.2.2 c_listPoints c_listLines c_refused c_imageRefused c_hasImage c_tape c_taped c_faultPlace c_orbit c_lineFor (c_dualities + (1 : Int32)) c_polarities c_shortest c_placeX c_placeY c_placeZ c_lies c_firstLies c_worth c_its c_now_points c_now_lines c_now_line c_now_x c_now_y c_tried_points c_tried_lines c_tried_line c_tried_x c_tried_y c_imageNow_points c_imageNow_lines c_imageNow_line c_imageNow_x c_imageNow_y) := hD
      refine lv_aload_n hx hb dX1_names_21 rfl (lv_at hl 0 rfl) ?_
      obtain ⟨y9, e9, h⟩ := ob_s h
      refine MR.callV (q0 := 0) (M_X1_isPolarity hG e9) S (cw_X1_isPolarity hts q1338 ⟨by dsimp only; omega, by dsimp only; omega⟩) hW0 hK hP rfl rfl rfl hl.1 rfl (Nat.le_of_ble_eq_true rfl) dX1_names_22 ⟨Nat.zero_le _, Nat.zero_le _⟩ ?_
      refine lv_if_eq (tgt := 38) hx hb dX1_names_25 (by decide) (fun c10 => ?_) (fun c10 => ?_)
      · rw [if_pos c10] at h
        obtain rfl := Option.some.inj h
        exact hretv rfl dX1_names_38 rfl hP hD hS
      · rw [if_neg c10] at h
        refine lv_aload_n hx hb dX1_names_28 rfl (lv_at hl 0 rfl) ?_
        refine lv_dup hx hb dX1_names_29 rfl ?_
        refine va_get (ci := 0) (v := .int c_polarities) (C := RX1) (T := TX1) (N := 28) hx hb hts in_X1 hown hK hP 0 rfl rfl 19 (by decide) (hts _ q596) (fun _ h9 => h9) rfl dX1_names_30 ?_
        refine lv_iconst (v := 1) hx hb dX1_names_33 (by decide) ?_
        refine lv_iadd hx hb dX1_names_34 ?_
        refine va_put (ci := 0) (v := .int (c_polarities + (1 : Int32))) (ty := .int) (C := RX1) (T := TX1) (N := 28) hx hb hts in_X1 tyX1 tyX1_ok nmX1 hown hK hP hD hS 0 rfl rfl 19 (by decide) (hts _ q596) (fun _ h9 => h9) rfl (by decide +kernel) rfl rfl (Nat.le_of_ble_eq_true rfl) dX1_names_35 (fun H locs hP hD hS => ?_)
        have hP : va_P G.2.1 vwCl (cW h0 ad G.2.2 c_listPoints c_listLines c_refused c_imageRefused c_hasImage c_tape c_taped c_faultPlace c_orbit c_lineFor (c_dualities + (1 : Int32)) (c_polarities + (1 : Int32)) c_shortest c_placeX c_placeY c_placeZ c_lies c_firstLies c_worth c_its c_now_points c_now_lines c_now_line c_now_x c_now_y c_tried_points c_tried_lines c_tried_line c_tried_x c_tried_y c_imageNow_points c_imageNow_lines c_imageNow_line c_imageNow_x c_imageNow_y) H := hP
        have hD : va_D A (cW h0 ad G.2.2 c_listPoints c_listLines c_refused c_imageRefused c_hasImage c_tape c_taped c_faultPlace c_orbit c_lineFor (c_dualities + (1 : Int32)) (c_polarities + (1 : Int32)) c_shortest c_placeX c_placeY c_placeZ c_lies c_firstLies c_worth c_its c_now_points c_now_lines c_now_line c_now_x c_now_y c_tried_points c_tried_lines c_tried_line c_tried_x c_tried_y c_imageNow_points c_imageNow_lines c_imageNow_line c_imageNow_x c_imageNow_y) := hD
        obtain rfl := Option.some.inj h
        exact hretv rfl dX1_names_38 rfl hP hD hS
def F_X1_laysDualities (N : Nat) (c_lineFor : (Nat → Int32)) (c_now_line : (Nat → Int32)) (c_dualities : Int32) (c_polarities : Int32) (c_now_points : Int32) (c_now_lines : Int32) : Option ((Nat → Int32) × Int32 × Int32) := (if c_now_points = c_now_lines then ((F_X1_names N 16 0 0 c_lineFor c_now_line 0 0 c_now_points c_now_lines).bind fun y3 => (some (y3.1, y3.2.1, y3.2.2))) else (some (c_lineFor, 0, 0)))
theorem cw_X1_laysDualities {R : Room} {s : State} {args : Array Value} {own : String} {index lev mc ms : Nat} (hts : ∀ w ∈ lw_all, w.before args s = true) (hl : Cond.methodLink own index yX1_laysDualities ∈ lw_all) (hR : (rmL lev mc ms).frames + 1 ≤ R.frames ∧ 8 + (1 + 11) + (rmL lev mc ms).locals ≤ R.locals) : CallW R s args own RX1 index yX1_laysDualities cX1_laysDualities 1 none (ws_ yX1_laysDualities cX1_laysDualities 1 none) (rmL lev mc ms) mc ms 0 := cwV 0 hts (lw_V hl q1332 qs35 q151 q1333) rfl rfl rfl (by decide +kernel) hR
set_option maxHeartbeats 4000000 in
theorem M_X1_laysDualities {l : Launch} {G : GE} (hG : GC G) {N : Nat} {h0 : Nat} {ad : Nat → Nat} {c_listPoints : Int32} {c_listLines : Int32} {c_refused : (Nat → Int32)} {c_imageRefused : (Nat → Int32)} {c_hasImage : Int32} {c_tape : (Nat → Int32)} {c_taped : Int32} {c_faultPlace : Int32} {c_orbit : (Nat → Int32)} {c_shortest : Int32} {c_placeX : (Nat → Int32)} {c_placeY : (Nat → Int32)} {c_placeZ : (Nat → Int32)} {c_lies : (Nat → Int32)} {c_firstLies : (Nat → Int32)} {c_worth : (Nat → Int32)} {c_its : Int32} {c_now_x : (Nat → Int32)} {c_now_y : (Nat → Int32)} {c_tried_points : Int32} {c_tried_lines : Int32} {c_tried_line : (Nat → Int32)} {c_tried_x : (Nat → Int32)} {c_tried_y : (Nat → Int32)} {c_imageNow_points : Int32} {c_imageNow_lines : Int32} {c_imageNow_line : (Nat → Int32)} {c_imageNow_x : (Nat → Int32)} {c_imageNow_y : (Nat → Int32)} {c_lineFor : (Nat → Int32)} {c_now_line : (Nat → Int32)} {c_dualities : Int32} {c_polarities : Int32} {c_now_points : Int32} {c_now_lines : Int32} {ρ : ((Nat → Int32) × Int32 × Int32)} (h : F_X1_laysDualities N c_lineFor c_now_line c_dualities c_polarities c_now_points c_now_lines = some ρ) : MW l G yX1_laysDualities cX1_laysDualities 1 none 22 (cW h0 ad G.2.2 c_listPoints c_listLines c_refused c_imageRefused c_hasImage c_tape c_taped c_faultPlace c_orbit c_lineFor c_dualities c_polarities c_shortest c_placeX c_placeY c_placeZ c_lies c_firstLies c_worth c_its c_now_points c_now_lines c_now_line c_now_x c_now_y c_tried_points c_tried_lines c_tried_line c_tried_x c_tried_y c_imageNow_points c_imageNow_lines c_imageNow_line c_imageNow_x c_imageNow_y) [.ref h0] none (cW h0 ad G.2.2 c_listPoints c_listLines c_refused c_imageRefused c_hasImage c_tape c_taped c_faultPlace c_orbit ρ.1 ρ.2.1 ρ.2.2 c_shortest c_placeX c_placeY c_placeZ c_lies c_firstLies c_worth c_its c_now_points c_now_lines c_now_line c_now_x c_now_y c_tried_points c_tried_lines c_tried_line c_tried_x c_tried_y c_imageNow_points c_imageNow_lines c_imageNow_line c_imageNow_x c_imageNow_y) := by
  rw [F_X1_laysDualities] at h
  refine MW.start hG (by decide) (Nat.le_of_ble_eq_true rfl) ?_
  intro p e s m args below meth c Q A S hW0 hK hP hD hA hreti hretv ls hl
  have hS : va_S A s.heap s.heap [] := va_S.rf
  obtain ⟨hx, hb, hml, hown, hts⟩ := id S
  have hl : lv_has ls 1 [(0, .ref h0)] := hl
  refine lv_aload_n hx hb dX1_laysDualities_0 rfl (lv_at hl 0 rfl) ?_
  refine lv_iconst (v := 0) hx hb dX1_laysDualities_1 (by decide) ?_
  refine va_put (ci := 0) (v := .int 0) (ty := .int) (C := RX1) (T := TX1) (N := 28) hx hb hts in_X1 tyX1 tyX1_ok nmX1 hown hK hP hD hS 0 rfl rfl 18 (by decide) (hts _ q595) (fun _ h9 => h9) rfl (by decide +kernel) rfl rfl (Nat.le_of_ble_eq_true rfl) dX1_laysDualities_2 (fun H locs hP hD hS => ?_)
  have hP : va_P G.2.1 vwCl (cW h0 ad G.2.2 c_listPoints c_listLines c_refused c_imageRefused c_hasImage c_tape c_taped c_faultPlace c_orbit c_lineFor 0 c_polarities c_shortest c_placeX c_placeY c_placeZ c_lies c_firstLies c_worth c_its c_now_points c_now_lines c_now_line c_now_x c_now_y c_tried_points c_tried_lines c_tried_line c_tried_x c_tried_y c_imageNow_points c_imageNow_lines c_imageNow_line c_imageNow_x c_imageNow_y) H := hP
  have hD : va_D A (cW h0 ad G.2.2 c_listPoints c_listLines c_refused c_imageRefused c_hasImage c_tape c_taped c_faultPlace c_orbit c_lineFor 0 c_polarities c_shortest c_placeX c_placeY c_placeZ c_lies c_firstLies c_worth c_its c_now_points c_now_lines c_now_line c_now_x c_now_y c_tried_points c_tried_lines c_tried_line c_tried_x c_tried_y c_imageNow_points c_imageNow_lines c_imageNow_line c_imageNow_x c_imageNow_y) := hD
  refine lv_aload_n hx hb dX1_laysDualities_5 rfl (lv_at hl 0 rfl) ?_
  refine lv_iconst (v := 0) hx hb dX1_laysDualities_6 (by decide) ?_
  refine va_put (ci := 0) (v := .int 0) (ty := .int) (C := RX1) (T := TX1) (N := 28) hx hb hts in_X1 tyX1 tyX1_ok nmX1 hown hK hP hD hS 0 rfl rfl 19 (by decide) (hts _ q596) (fun _ h9 => h9) rfl (by decide +kernel) rfl rfl (Nat.le_of_ble_eq_true rfl) dX1_laysDualities_7 (fun H locs hP hD hS => ?_)
  have hP : va_P G.2.1 vwCl (cW h0 ad G.2.2 c_listPoints c_listLines c_refused c_imageRefused c_hasImage c_tape c_taped c_faultPlace c_orbit c_lineFor 0 0 c_shortest c_placeX c_placeY c_placeZ c_lies c_firstLies c_worth c_its c_now_points c_now_lines c_now_line c_now_x c_now_y c_tried_points c_tried_lines c_tried_line c_tried_x c_tried_y c_imageNow_points c_imageNow_lines c_imageNow_line c_imageNow_x c_imageNow_y) H := hP
  have hD : va_D A (cW h0 ad G.2.2 c_listPoints c_listLines c_refused c_imageRefused c_hasImage c_tape c_taped c_faultPlace c_orbit c_lineFor 0 0 c_shortest c_placeX c_placeY c_placeZ c_lies c_firstLies c_worth c_its c_now_points c_now_lines c_now_line c_now_x c_now_y c_tried_points c_tried_lines c_tried_line c_tried_x c_tried_y c_imageNow_points c_imageNow_lines c_imageNow_line c_imageNow_x c_imageNow_y) := hD
  refine lv_aload_n hx hb dX1_laysDualities_10 rfl (lv_at hl 0 rfl) ?_
  refine va_get (ci := 0) (v := .ref (ad 3)) (C := RX1) (T := TX1) (N := 28) hx hb hts in_X1 hown hK hP 0 rfl rfl 3 (by decide) (hts _ q580) (fun _ h9 => h9) rfl dX1_laysDualities_11 ?_
  refine va_getN (ci := 1) (v := .int c_now_points) (C := RX2) (T := TX2) (N := 5) hx hb hts in_X2 hown hK hP 1 rfl rfl 0 (by decide) (hG.nf hW0 q224) (fun _ h9 => h9) rfl dX1_laysDualities_14 ?_
  refine lv_aload_n hx hb dX1_laysDualities_17 rfl (lv_at hl 0 rfl) ?_
  refine va_get (ci := 0) (v := .ref (ad 3)) (C := RX1) (T := TX1) (N := 28) hx hb hts in_X1 hown hK hP 0 rfl rfl 3 (by decide) (hts _ q580) (fun _ h9 => h9) rfl dX1_laysDualities_18 ?_
  refine va_getN (ci := 1) (v := .int c_now_lines) (C := RX2) (T := TX2) (N := 5) hx hb hts in_X2 hown hK hP 1 rfl rfl 1 (by decide) (hG.nf hW0 q228) (fun _ h9 => h9) rfl dX1_laysDualities_21 ?_
  refine lv_icmp_ne (tgt := 33) hx hb dX1_laysDualities_24 (by decide) (fun c1 => ?_) (fun c1 => ?_)
  · rw [if_neg c1] at h
    obtain rfl := Option.some.inj h
    exact hretv rfl dX1_laysDualities_33 rfl hP hD hS
  · rw [if_pos c1] at h
    refine lv_aload_n hx hb dX1_laysDualities_27 rfl (lv_at hl 0 rfl) ?_
    refine lv_iconst (v := 0) hx hb dX1_laysDualities_28 (by decide) ?_
    refine lv_iconst (v := 0) hx hb dX1_laysDualities_29 (by decide) ?_
    obtain ⟨y3, e3, h⟩ := ob_s h
    refine MW.callV (q0 := 0) (M_X1_names hG 16 e3) S (cw_X1_names hts q1334 ⟨Nat.le_of_ble_eq_true rfl, Nat.le_of_ble_eq_true rfl⟩) hW0 hK hP hD hS hA rfl rfl rfl hl.1 rfl (Nat.le_of_ble_eq_true rfl) dX1_laysDualities_30 ⟨Nat.zero_le _, Nat.zero_le _⟩ (fun H locs hP hD hS => ?_)
    have hP : va_P G.2.1 vwCl (cW h0 ad G.2.2 c_listPoints c_listLines c_refused c_imageRefused c_hasImage c_tape c_taped c_faultPlace c_orbit y3.1 y3.2.1 y3.2.2 c_shortest c_placeX c_placeY c_placeZ c_lies c_firstLies c_worth c_its c_now_points c_now_lines c_now_line c_now_x c_now_y c_tried_points c_tried_lines c_tried_line c_tried_x c_tried_y c_imageNow_points c_imageNow_lines c_imageNow_line c_imageNow_x c_imageNow_y) H := hP
    have hD : va_D A (cW h0 ad G.2.2 c_listPoints c_listLines c_refused c_imageRefused c_hasImage c_tape c_taped c_faultPlace c_orbit y3.1 y3.2.1 y3.2.2 c_shortest c_placeX c_placeY c_placeZ c_lies c_firstLies c_worth c_its c_now_points c_now_lines c_now_line c_now_x c_now_y c_tried_points c_tried_lines c_tried_line c_tried_x c_tried_y c_imageNow_points c_imageNow_lines c_imageNow_line c_imageNow_x c_imageNow_y) := hD
    refine W.eq (g2 := F0 m 33 ls []) rfl ?_
    obtain rfl := Option.some.inj h
    exact hretv rfl dX1_laysDualities_33 rfl hP hD hS
def F_X1_areSame (N : Nat) (v1 : Int32) (v2 : Int32) (c_now_x : (Nat → Int32)) (c_now_y : (Nat → Int32)) : Option (Int32) := (ckI v1 8 (ckI v2 8 (if (c_now_x (Int32.toNatClampNeg v1)) = (c_now_x (Int32.toNatClampNeg v2)) then (ckI v1 8 (ckI v2 8 (if (c_now_y (Int32.toNatClampNeg v1)) = (c_now_y (Int32.toNatClampNeg v2)) then (some (1)) else (some (0))))) else (some (0)))))
theorem cw_X1_areSame {R : Room} {s : State} {args : Array Value} {own : String} {index lev mc ms : Nat} (hts : ∀ w ∈ lw_all, w.before args s = true) (hl : Cond.methodLink own index yX1_areSame ∈ lw_all) (hR : (rmL lev mc ms).frames + 1 ≤ R.frames ∧ 8 + (3 + 11) + (rmL lev mc ms).locals ≤ R.locals) : CallW R s args own RX1 index yX1_areSame cX1_areSame 3 (some .boolean) (ws_ yX1_areSame cX1_areSame 3 (some .boolean)) (rmL lev mc ms) mc ms 2 := cwV 2 hts (lw_V hl q1361 qs42 q151 q1362) rfl rfl rfl (by decide +kernel) hR
set_option maxHeartbeats 4000000 in
theorem M_X1_areSame {l : Launch} {G : GE} (hG : GC G) {N : Nat} {h0 : Nat} {ad : Nat → Nat} {c_listPoints : Int32} {c_listLines : Int32} {c_refused : (Nat → Int32)} {c_imageRefused : (Nat → Int32)} {c_hasImage : Int32} {c_tape : (Nat → Int32)} {c_taped : Int32} {c_faultPlace : Int32} {c_orbit : (Nat → Int32)} {c_lineFor : (Nat → Int32)} {c_dualities : Int32} {c_polarities : Int32} {c_shortest : Int32} {c_placeX : (Nat → Int32)} {c_placeY : (Nat → Int32)} {c_placeZ : (Nat → Int32)} {c_lies : (Nat → Int32)} {c_firstLies : (Nat → Int32)} {c_worth : (Nat → Int32)} {c_its : Int32} {c_now_points : Int32} {c_now_lines : Int32} {c_now_line : (Nat → Int32)} {c_tried_points : Int32} {c_tried_lines : Int32} {c_tried_line : (Nat → Int32)} {c_tried_x : (Nat → Int32)} {c_tried_y : (Nat → Int32)} {c_imageNow_points : Int32} {c_imageNow_lines : Int32} {c_imageNow_line : (Nat → Int32)} {c_imageNow_x : (Nat → Int32)} {c_imageNow_y : (Nat → Int32)} {v1 : Int32} {v2 : Int32} {c_now_x : (Nat → Int32)} {c_now_y : (Nat → Int32)} {ρ : (Int32)} (h : F_X1_areSame N v1 v2 c_now_x c_now_y = some ρ) : MR l G yX1_areSame cX1_areSame 3 (some .boolean) 1 (cW h0 ad G.2.2 c_listPoints c_listLines c_refused c_imageRefused c_hasImage c_tape c_taped c_faultPlace c_orbit c_lineFor c_dualities c_polarities c_shortest c_placeX c_placeY c_placeZ c_lies c_firstLies c_worth c_its c_now_points c_now_lines c_now_line c_now_x c_now_y c_tried_points c_tried_lines c_tried_line c_tried_x c_tried_y c_imageNow_points c_imageNow_lines c_imageNow_line c_imageNow_x c_imageNow_y) [.ref h0, .int v1, .int v2] ρ := by
  rw [F_X1_areSame] at h
  refine MR.start (rt := .boolean) hG (by decide) (Nat.le_of_ble_eq_true rfl) ?_
  intro p e s m args below meth c Q S hW0 hK hP hret ls hl
  obtain ⟨hx, hb, hml, hown, hts⟩ := id S
  have hl : lv_has ls 3 [(0, .ref h0), (1, .int v1), (2, .int v2)] := hl
  refine lv_aload_n hx hb dX1_areSame_0 rfl (lv_at hl 0 rfl) ?_
  refine va_get (ci := 0) (v := .ref (ad 3)) (C := RX1) (T := TX1) (N := 28) hx hb hts in_X1 hown hK hP 0 rfl rfl 3 (by decide) (hts _ q580) (fun _ h9 => h9) rfl dX1_areSame_1 ?_
  refine va_getN (ci := 1) (v := .ref (ad 33)) (C := RX2) (T := TX2) (N := 5) hx hb hts in_X2 hown hK hP 1 rfl rfl 3 (by decide) (hG.nf hW0 q237) (fun _ h9 => h9) rfl dX1_areSame_4 ?_
  refine lv_iload_n hx hb dX1_areSame_7 rfl (lv_at hl 1 rfl) ?_
  obtain ⟨i1, h⟩ := ckI_s h
  refine va_iald (f := c_now_x) hx hb hK hP 3 0 rfl rfl i1 dX1_areSame_8 ?_
  refine lv_aload_n hx hb dX1_areSame_9 rfl (lv_at hl 0 rfl) ?_
  refine va_get (ci := 0) (v := .ref (ad 3)) (C := RX1) (T := TX1) (N := 28) hx hb hts in_X1 hown hK hP 0 rfl rfl 3 (by decide) (hts _ q580) (fun _ h9 => h9) rfl dX1_areSame_10 ?_
  refine va_getN (ci := 1) (v := .ref (ad 33)) (C := RX2) (T := TX2) (N := 5) hx hb hts in_X2 hown hK hP 1 rfl rfl 3 (by decide) (hG.nf hW0 q237) (fun _ h9 => h9) rfl dX1_areSame_13 ?_
  refine lv_iload_n hx hb dX1_areSame_16 rfl (lv_at hl 2 rfl) ?_
  obtain ⟨i2, h⟩ := ckI_s h
  refine va_iald (f := c_now_x) hx hb hK hP 3 0 rfl rfl i2 dX1_areSame_17 ?_
  refine lv_icmp_ne (tgt := 46) hx hb dX1_areSame_18 (by decide) (fun c3 => ?_) (fun c3 => ?_)
  · rw [if_neg c3] at h
    refine lv_iconst (v := 0) hx hb dX1_areSame_46 (by decide) ?_
    obtain rfl := Option.some.inj h
    exact hret dX1_areSame_47 rfl
  · rw [if_pos c3] at h
    refine lv_aload_n hx hb dX1_areSame_21 rfl (lv_at hl 0 rfl) ?_
    refine va_get (ci := 0) (v := .ref (ad 3)) (C := RX1) (T := TX1) (N := 28) hx hb hts in_X1 hown hK hP 0 rfl rfl 3 (by decide) (hts _ q580) (fun _ h9 => h9) rfl dX1_areSame_22 ?_
    refine va_getN (ci := 1) (v := .ref (ad 34)) (C := RX2) (T := TX2) (N := 5) hx hb hts in_X2 hown hK hP 1 rfl rfl 4 (by decide) (hG.nf hW0 q240) (fun _ h9 => h9) rfl dX1_areSame_25 ?_
    refine lv_iload_n hx hb dX1_areSame_28 rfl (lv_at hl 1 rfl) ?_
    obtain ⟨i5, h⟩ := ckI_s h
    refine va_iald (f := c_now_y) hx hb hK hP 4 0 rfl rfl i5 dX1_areSame_29 ?_
    refine lv_aload_n hx hb dX1_areSame_30 rfl (lv_at hl 0 rfl) ?_
    refine va_get (ci := 0) (v := .ref (ad 3)) (C := RX1) (T := TX1) (N := 28) hx hb hts in_X1 hown hK hP 0 rfl rfl 3 (by decide) (hts _ q580) (fun _ h9 => h9) rfl dX1_areSame_31 ?_
    refine va_getN (ci := 1) (v := .ref (ad 34)) (C := RX2) (T := TX2) (N := 5) hx hb hts in_X2 hown hK hP 1 rfl rfl 4 (by decide) (hG.nf hW0 q240) (fun _ h9 => h9) rfl dX1_areSame_34 ?_
    refine lv_iload_n hx hb dX1_areSame_37 rfl (lv_at hl 2 rfl) ?_
    obtain ⟨i6, h⟩ := ckI_s h
    refine va_iald (f := c_now_y) hx hb hK hP 4 0 rfl rfl i6 dX1_areSame_38 ?_
    refine lv_icmp_ne (tgt := 46) hx hb dX1_areSame_39 (by decide) (fun c7 => ?_) (fun c7 => ?_)
    · rw [if_neg c7] at h
      refine lv_iconst (v := 0) hx hb dX1_areSame_46 (by decide) ?_
      obtain rfl := Option.some.inj h
      exact hret dX1_areSame_47 rfl
    · rw [if_pos c7] at h
      refine lv_iconst (v := 1) hx hb dX1_areSame_42 (by decide) ?_
      refine lv_goto (tgt := 47) hx hb dX1_areSame_43 (by decide) ?_
      obtain rfl := Option.some.inj h
      exact hret dX1_areSame_47 rfl
def F_X1_span (N : Nat) (v0 : Int32) (v1 : Int32) (v2 : Int32) (v3 : Int32) : Option (Int32) := (some (((v0 * v3) - (v2 * v1))))
theorem cw_X1_span {R : Room} {s : State} {args : Array Value} {own : String} {index lev mc ms : Nat} (hts : ∀ w ∈ lw_all, w.before args s = true) (hl : Cond.methodLink own index yX1_span ∈ lw_all) (hR : (rmL lev mc ms).frames + 1 ≤ R.frames ∧ 8 + (4 + 11) + (rmL lev mc ms).locals ≤ R.locals) : CallB R s args own index yX1_span cX1_span 4 (some .int) (ws_ yX1_span cX1_span 4 (some .int)) (rmL lev mc ms) mc ms 4 ∧ (Cond.static yX1_span).before args s = true := va_cwS 4 hts (lw_S hl q1368 q151 q1369) rfl rfl rfl (by decide +kernel) hR
set_option maxHeartbeats 4000000 in
theorem M_X1_span {l : Launch} {G : GE} (hG : GC G) {N : Nat} {v0 : Int32} {v1 : Int32} {v2 : Int32} {v3 : Int32} {ρ : (Int32)} (h : F_X1_span N v0 v1 v2 v3 = some ρ) : MR l G yX1_span cX1_span 4 (some .int) 1 [] [.int v0, .int v1, .int v2, .int v3] ρ := by
  rw [F_X1_span] at h
  refine MR.start (rt := .int) hG (by decide) (Nat.le_of_ble_eq_true rfl) ?_
  intro p e s m args below meth c Q S hW0 hK hP hret ls hl
  obtain ⟨hx, hb, hml, hown, hts⟩ := id S
  have hl : lv_has ls 4 [(0, .int v0), (1, .int v1), (2, .int v2), (3, .int v3)] := hl
  refine lv_iload_n hx hb dX1_span_0 rfl (lv_at hl 0 rfl) ?_
  refine lv_iload_n hx hb dX1_span_1 rfl (lv_at hl 3 rfl) ?_
  refine lv_imul hx hb dX1_span_2 ?_
  refine lv_iload_n hx hb dX1_span_3 rfl (lv_at hl 2 rfl) ?_
  refine lv_iload_n hx hb dX1_span_4 rfl (lv_at hl 1 rfl) ?_
  refine lv_imul hx hb dX1_span_5 ?_
  refine lv_isub hx hb dX1_span_6 ?_
  obtain rfl := Option.some.inj h
  exact hret dX1_span_7 rfl
def F_X1_isInLine (N : Nat) (v1 : Int32) (v2 : Int32) (v3 : Int32) (c_now_x : (Nat → Int32)) (c_now_y : (Nat → Int32)) : Option (Int32) := (ckI v2 8 (ckI v1 8 (ckI v2 8 (ckI v1 8 (ckI v3 8 (ckI v1 8 (ckI v3 8 (ckI v1 8 ((F_X1_span N ((c_now_x (Int32.toNatClampNeg v2)) - (c_now_x (Int32.toNatClampNeg v1))) ((c_now_y (Int32.toNatClampNeg v2)) - (c_now_y (Int32.toNatClampNeg v1))) ((c_now_x (Int32.toNatClampNeg v3)) - (c_now_x (Int32.toNatClampNeg v1))) ((c_now_y (Int32.toNatClampNeg v3)) - (c_now_y (Int32.toNatClampNeg v1)))).bind fun y9 => (if y9 = 0 then (some (1)) else (some (0))))))))))))
theorem cw_X1_isInLine {R : Room} {s : State} {args : Array Value} {own : String} {index lev mc ms : Nat} (hts : ∀ w ∈ lw_all, w.before args s = true) (hl : Cond.methodLink own index yX1_isInLine ∈ lw_all) (hR : (rmL lev mc ms).frames + 1 ≤ R.frames ∧ 8 + (4 + 11) + (rmL lev mc ms).locals ≤ R.locals) : CallW R s args own RX1 index yX1_isInLine cX1_isInLine 4 (some .boolean) (ws_ yX1_isInLine cX1_isInLine 4 (some .boolean)) (rmL lev mc ms) mc ms 3 := cwV 3 hts (lw_V hl q1365 qs43 q151 q1366) rfl rfl rfl (by decide +kernel) hR
set_option maxHeartbeats 4000000 in
theorem M_X1_isInLine {l : Launch} {G : GE} (hG : GC G) {N : Nat} {h0 : Nat} {ad : Nat → Nat} {c_listPoints : Int32} {c_listLines : Int32} {c_refused : (Nat → Int32)} {c_imageRefused : (Nat → Int32)} {c_hasImage : Int32} {c_tape : (Nat → Int32)} {c_taped : Int32} {c_faultPlace : Int32} {c_orbit : (Nat → Int32)} {c_lineFor : (Nat → Int32)} {c_dualities : Int32} {c_polarities : Int32} {c_shortest : Int32} {c_placeX : (Nat → Int32)} {c_placeY : (Nat → Int32)} {c_placeZ : (Nat → Int32)} {c_lies : (Nat → Int32)} {c_firstLies : (Nat → Int32)} {c_worth : (Nat → Int32)} {c_its : Int32} {c_now_points : Int32} {c_now_lines : Int32} {c_now_line : (Nat → Int32)} {c_tried_points : Int32} {c_tried_lines : Int32} {c_tried_line : (Nat → Int32)} {c_tried_x : (Nat → Int32)} {c_tried_y : (Nat → Int32)} {c_imageNow_points : Int32} {c_imageNow_lines : Int32} {c_imageNow_line : (Nat → Int32)} {c_imageNow_x : (Nat → Int32)} {c_imageNow_y : (Nat → Int32)} {v1 : Int32} {v2 : Int32} {v3 : Int32} {c_now_x : (Nat → Int32)} {c_now_y : (Nat → Int32)} {ρ : (Int32)} (h : F_X1_isInLine N v1 v2 v3 c_now_x c_now_y = some ρ) : MR l G yX1_isInLine cX1_isInLine 4 (some .boolean) 2 (cW h0 ad G.2.2 c_listPoints c_listLines c_refused c_imageRefused c_hasImage c_tape c_taped c_faultPlace c_orbit c_lineFor c_dualities c_polarities c_shortest c_placeX c_placeY c_placeZ c_lies c_firstLies c_worth c_its c_now_points c_now_lines c_now_line c_now_x c_now_y c_tried_points c_tried_lines c_tried_line c_tried_x c_tried_y c_imageNow_points c_imageNow_lines c_imageNow_line c_imageNow_x c_imageNow_y) [.ref h0, .int v1, .int v2, .int v3] ρ := by
  rw [F_X1_isInLine] at h
  refine MR.start (rt := .boolean) hG (by decide) (Nat.le_of_ble_eq_true rfl) ?_
  intro p e s m args below meth c Q S hW0 hK hP hret ls hl
  obtain ⟨hx, hb, hml, hown, hts⟩ := id S
  have hl : lv_has ls 4 [(0, .ref h0), (1, .int v1), (2, .int v2), (3, .int v3)] := hl
  refine lv_aload_n hx hb dX1_isInLine_0 rfl (lv_at hl 0 rfl) ?_
  refine va_get (ci := 0) (v := .ref (ad 3)) (C := RX1) (T := TX1) (N := 28) hx hb hts in_X1 hown hK hP 0 rfl rfl 3 (by decide) (hts _ q580) (fun _ h9 => h9) rfl dX1_isInLine_1 ?_
  refine va_getN (ci := 1) (v := .ref (ad 33)) (C := RX2) (T := TX2) (N := 5) hx hb hts in_X2 hown hK hP 1 rfl rfl 3 (by decide) (hG.nf hW0 q237) (fun _ h9 => h9) rfl dX1_isInLine_4 ?_
  refine lv_iload_n hx hb dX1_isInLine_7 rfl (lv_at hl 2 rfl) ?_
  obtain ⟨i1, h⟩ := ckI_s h
  refine va_iald (f := c_now_x) hx hb hK hP 3 0 rfl rfl i1 dX1_isInLine_8 ?_
  refine lv_aload_n hx hb dX1_isInLine_9 rfl (lv_at hl 0 rfl) ?_
  refine va_get (ci := 0) (v := .ref (ad 3)) (C := RX1) (T := TX1) (N := 28) hx hb hts in_X1 hown hK hP 0 rfl rfl 3 (by decide) (hts _ q580) (fun _ h9 => h9) rfl dX1_isInLine_10 ?_
  refine va_getN (ci := 1) (v := .ref (ad 33)) (C := RX2) (T := TX2) (N := 5) hx hb hts in_X2 hown hK hP 1 rfl rfl 3 (by decide) (hG.nf hW0 q237) (fun _ h9 => h9) rfl dX1_isInLine_13 ?_
  refine lv_iload_n hx hb dX1_isInLine_16 rfl (lv_at hl 1 rfl) ?_
  obtain ⟨i2, h⟩ := ckI_s h
  refine va_iald (f := c_now_x) hx hb hK hP 3 0 rfl rfl i2 dX1_isInLine_17 ?_
  refine lv_isub hx hb dX1_isInLine_18 ?_
  refine lv_aload_n hx hb dX1_isInLine_19 rfl (lv_at hl 0 rfl) ?_
  refine va_get (ci := 0) (v := .ref (ad 3)) (C := RX1) (T := TX1) (N := 28) hx hb hts in_X1 hown hK hP 0 rfl rfl 3 (by decide) (hts _ q580) (fun _ h9 => h9) rfl dX1_isInLine_20 ?_
  refine va_getN (ci := 1) (v := .ref (ad 34)) (C := RX2) (T := TX2) (N := 5) hx hb hts in_X2 hown hK hP 1 rfl rfl 4 (by decide) (hG.nf hW0 q240) (fun _ h9 => h9) rfl dX1_isInLine_23 ?_
  refine lv_iload_n hx hb dX1_isInLine_26 rfl (lv_at hl 2 rfl) ?_
  obtain ⟨i3, h⟩ := ckI_s h
  refine va_iald (f := c_now_y) hx hb hK hP 4 0 rfl rfl i3 dX1_isInLine_27 ?_
  refine lv_aload_n hx hb dX1_isInLine_28 rfl (lv_at hl 0 rfl) ?_
  refine va_get (ci := 0) (v := .ref (ad 3)) (C := RX1) (T := TX1) (N := 28) hx hb hts in_X1 hown hK hP 0 rfl rfl 3 (by decide) (hts _ q580) (fun _ h9 => h9) rfl dX1_isInLine_29 ?_
  refine va_getN (ci := 1) (v := .ref (ad 34)) (C := RX2) (T := TX2) (N := 5) hx hb hts in_X2 hown hK hP 1 rfl rfl 4 (by decide) (hG.nf hW0 q240) (fun _ h9 => h9) rfl dX1_isInLine_32 ?_
  refine lv_iload_n hx hb dX1_isInLine_35 rfl (lv_at hl 1 rfl) ?_
  obtain ⟨i4, h⟩ := ckI_s h
  refine va_iald (f := c_now_y) hx hb hK hP 4 0 rfl rfl i4 dX1_isInLine_36 ?_
  refine lv_isub hx hb dX1_isInLine_37 ?_
  refine lv_aload_n hx hb dX1_isInLine_38 rfl (lv_at hl 0 rfl) ?_
  refine va_get (ci := 0) (v := .ref (ad 3)) (C := RX1) (T := TX1) (N := 28) hx hb hts in_X1 hown hK hP 0 rfl rfl 3 (by decide) (hts _ q580) (fun _ h9 => h9) rfl dX1_isInLine_39 ?_
  refine va_getN (ci := 1) (v := .ref (ad 33)) (C := RX2) (T := TX2) (N := 5) hx hb hts in_X2 hown hK hP 1 rfl rfl 3 (by decide) (hG.nf hW0 q237) (fun _ h9 => h9) rfl dX1_isInLine_42 ?_
  refine lv_iload_n hx hb dX1_isInLine_45 rfl (lv_at hl 3 rfl) ?_
  obtain ⟨i5, h⟩ := ckI_s h
  refine va_iald (f := c_now_x) hx hb hK hP 3 0 rfl rfl i5 dX1_isInLine_46 ?_
  refine lv_aload_n hx hb dX1_isInLine_47 rfl (lv_at hl 0 rfl) ?_
  refine va_get (ci := 0) (v := .ref (ad 3)) (C := RX1) (T := TX1) (N := 28) hx hb hts in_X1 hown hK hP 0 rfl rfl 3 (by decide) (hts _ q580) (fun _ h9 => h9) rfl dX1_isInLine_48 ?_
  refine va_getN (ci := 1) (v := .ref (ad 33)) (C := RX2) (T := TX2) (N := 5) hx hb hts in_X2 hown hK hP 1 rfl rfl 3 (by decide) (hG.nf hW0 q237) (fun _ h9 => h9) rfl dX1_isInLine_51 ?_
  refine lv_iload_n hx hb dX1_isInLine_54 rfl (lv_at hl 1 rfl) ?_
  obtain ⟨i6, h⟩ := ckI_s h
  refine va_iald (f := c_now_x) hx hb hK hP 3 0 rfl rfl i6 dX1_isInLine_55 ?_
  refine lv_isub hx hb dX1_isInLine_56 ?_
  refine lv_aload_n hx hb dX1_isInLine_57 rfl (lv_at hl 0 rfl) ?_
  refine va_get (ci := 0) (v := .ref (ad 3)) (C := RX1) (T := TX1) (N := 28) hx hb hts in_X1 hown hK hP 0 rfl rfl 3 (by decide) (hts _ q580) (fun _ h9 => h9) rfl dX1_isInLine_58 ?_
  refine va_getN (ci := 1) (v := .ref (ad 34)) (C := RX2) (T := TX2) (N := 5) hx hb hts in_X2 hown hK hP 1 rfl rfl 4 (by decide) (hG.nf hW0 q240) (fun _ h9 => h9) rfl dX1_isInLine_61 ?_
  refine lv_iload_n hx hb dX1_isInLine_64 rfl (lv_at hl 3 rfl) ?_
  obtain ⟨i7, h⟩ := ckI_s h
  refine va_iald (f := c_now_y) hx hb hK hP 4 0 rfl rfl i7 dX1_isInLine_65 ?_
  refine lv_aload_n hx hb dX1_isInLine_66 rfl (lv_at hl 0 rfl) ?_
  refine va_get (ci := 0) (v := .ref (ad 3)) (C := RX1) (T := TX1) (N := 28) hx hb hts in_X1 hown hK hP 0 rfl rfl 3 (by decide) (hts _ q580) (fun _ h9 => h9) rfl dX1_isInLine_67 ?_
  refine va_getN (ci := 1) (v := .ref (ad 34)) (C := RX2) (T := TX2) (N := 5) hx hb hts in_X2 hown hK hP 1 rfl rfl 4 (by decide) (hG.nf hW0 q240) (fun _ h9 => h9) rfl dX1_isInLine_70 ?_
  refine lv_iload_n hx hb dX1_isInLine_73 rfl (lv_at hl 1 rfl) ?_
  obtain ⟨i8, h⟩ := ckI_s h
  refine va_iald (f := c_now_y) hx hb hK hP 4 0 rfl rfl i8 dX1_isInLine_74 ?_
  refine lv_isub hx hb dX1_isInLine_75 ?_
  obtain ⟨y9, e9, h⟩ := ob_s h
  refine MR.callS (M_X1_span hG e9) S (cw_X1_span hts q1367 ⟨Nat.le_of_ble_eq_true rfl, Nat.le_of_ble_eq_true rfl⟩) hW0 vaP0 rfl hl.1 rfl (Nat.le_of_ble_eq_true rfl) dX1_isInLine_76 ⟨Nat.zero_le _, Nat.zero_le _⟩ ?_
  refine lv_if_ne (tgt := 86) hx hb dX1_isInLine_79 (by decide) (fun c10 => ?_) (fun c10 => ?_)
  · rw [if_neg c10] at h
    refine lv_iconst (v := 0) hx hb dX1_isInLine_86 (by decide) ?_
    obtain rfl := Option.some.inj h
    exact hret dX1_isInLine_87 rfl
  · rw [if_pos c10] at h
    refine lv_iconst (v := 1) hx hb dX1_isInLine_82 (by decide) ?_
    refine lv_goto (tgt := 87) hx hb dX1_isInLine_83 (by decide) ?_
    obtain rfl := Option.some.inj h
    exact hret dX1_isInLine_87 rfl
def F_X1_slips_61 (N : Nat) (v1 : Int32) (v2 : Int32) (v3 : Int32) (c_now_line : (Nat → Int32)) (c_now_x : (Nat → Int32)) (c_now_y : (Nat → Int32)) : Nat → Int32 → (Unit → Option (Int32)) → Option (Int32)
  | 0, _, _ => none
  | n + 1, v4, k99 => (if v3 ≤ v4 then (k99 ()) else ((F_X2_isOn N v4 v1 c_now_line).bind fun y11 => (if y11 = 0 then (F_X1_slips_61 N v1 v2 v3 c_now_line c_now_x c_now_y n (v4 + 1) k99) else ((F_X1_isInLine N v2 v3 v4 c_now_x c_now_y).bind fun y13 => (if y13 = 0 then (some (1)) else (F_X1_slips_61 N v1 v2 v3 c_now_line c_now_x c_now_y n (v4 + 1) k99))))))
def F_X1_slips_15 (N : Nat) (v1 : Int32) (v2 : Int32) (c_now_line : (Nat → Int32)) (c_now_x : (Nat → Int32)) (c_now_y : (Nat → Int32)) : Nat → Int32 → (Unit → Option (Int32)) → Option (Int32)
  | 0, _, _ => none
  | n + 1, v3, k105 => (if v2 ≤ v3 then (k105 ()) else ((F_X2_isOn N v2 v1 c_now_line).bind fun y4 => (if y4 = 0 then (F_X1_slips_15 N v1 v2 c_now_line c_now_x c_now_y n (v3 + 1) k105) else ((F_X2_isOn N v3 v1 c_now_line).bind fun y6 => (if y6 = 0 then (F_X1_slips_15 N v1 v2 c_now_line c_now_x c_now_y n (v3 + 1) k105) else ((F_X1_areSame N v2 v3 c_now_x c_now_y).bind fun y8 => (if y8 = 0 then (F_X1_slips_61 N v1 v2 v3 c_now_line c_now_x c_now_y N 0 (fun _u => (F_X1_slips_15 N v1 v2 c_now_line c_now_x c_now_y n (v3 + 1) k105))) else (some (1)))))))))
def F_X1_slips_2 (N : Nat) (v1 : Int32) (c_now_line : (Nat → Int32)) (c_now_x : (Nat → Int32)) (c_now_y : (Nat → Int32)) (c_now_points : Int32) : Nat → Int32 → Option (Int32)
  | 0, _ => none
  | n + 1, v2 => (if c_now_points ≤ v2 then (some (0)) else (F_X1_slips_15 N v1 v2 c_now_line c_now_x c_now_y N 0 (fun _u => (F_X1_slips_2 N v1 c_now_line c_now_x c_now_y c_now_points n (v2 + 1)))))
def F_X1_slips (N : Nat) (v1 : Int32) (c_now_line : (Nat → Int32)) (c_now_x : (Nat → Int32)) (c_now_y : (Nat → Int32)) (c_now_points : Int32) : Option (Int32) := (F_X1_slips_2 N v1 c_now_line c_now_x c_now_y c_now_points N 0)
theorem cw_X1_slips {R : Room} {s : State} {args : Array Value} {own : String} {index lev mc ms : Nat} (hts : ∀ w ∈ lw_all, w.before args s = true) (hl : Cond.methodLink own index yX1_slips ∈ lw_all) (hR : (rmL lev mc ms).frames + 1 ≤ R.frames ∧ 8 + (5 + 11) + (rmL lev mc ms).locals ≤ R.locals) : CallW R s args own RX1 index yX1_slips cX1_slips 5 (some .boolean) (ws_ yX1_slips cX1_slips 5 (some .boolean)) (rmL lev mc ms) mc ms 1 := cwV 1 hts (lw_V hl q1357 qs41 q151 q1358) rfl rfl rfl (by decide +kernel) hR
set_option maxHeartbeats 4000000 in
theorem M_X1_slips {l : Launch} {G : GE} (hG : GC G) {N : Nat} {h0 : Nat} {ad : Nat → Nat} {c_listPoints : Int32} {c_listLines : Int32} {c_refused : (Nat → Int32)} {c_imageRefused : (Nat → Int32)} {c_hasImage : Int32} {c_tape : (Nat → Int32)} {c_taped : Int32} {c_faultPlace : Int32} {c_orbit : (Nat → Int32)} {c_lineFor : (Nat → Int32)} {c_dualities : Int32} {c_polarities : Int32} {c_shortest : Int32} {c_placeX : (Nat → Int32)} {c_placeY : (Nat → Int32)} {c_placeZ : (Nat → Int32)} {c_lies : (Nat → Int32)} {c_firstLies : (Nat → Int32)} {c_worth : (Nat → Int32)} {c_its : Int32} {c_now_lines : Int32} {c_tried_points : Int32} {c_tried_lines : Int32} {c_tried_line : (Nat → Int32)} {c_tried_x : (Nat → Int32)} {c_tried_y : (Nat → Int32)} {c_imageNow_points : Int32} {c_imageNow_lines : Int32} {c_imageNow_line : (Nat → Int32)} {c_imageNow_x : (Nat → Int32)} {c_imageNow_y : (Nat → Int32)} {v1 : Int32} {c_now_line : (Nat → Int32)} {c_now_x : (Nat → Int32)} {c_now_y : (Nat → Int32)} {c_now_points : Int32} {ρ : (Int32)} (h : F_X1_slips N v1 c_now_line c_now_x c_now_y c_now_points = some ρ) : MR l G yX1_slips cX1_slips 5 (some .boolean) 3 (cW h0 ad G.2.2 c_listPoints c_listLines c_refused c_imageRefused c_hasImage c_tape c_taped c_faultPlace c_orbit c_lineFor c_dualities c_polarities c_shortest c_placeX c_placeY c_placeZ c_lies c_firstLies c_worth c_its c_now_points c_now_lines c_now_line c_now_x c_now_y c_tried_points c_tried_lines c_tried_line c_tried_x c_tried_y c_imageNow_points c_imageNow_lines c_imageNow_line c_imageNow_x c_imageNow_y) [.ref h0, .int v1] ρ := by
  rw [F_X1_slips] at h
  refine MR.start (rt := .boolean) hG (by decide) (Nat.le_of_ble_eq_true rfl) ?_
  intro p e s m args below meth c Q S hW0 hK hP hret ls hl
  obtain ⟨hx, hb, hml, hown, hts⟩ := id S
  have hl : lv_has ls 5 [(0, .ref h0), (1, .int v1)] := hl
  have S_X1_slips_61 : ∀ (n : Nat) (v1 : Int32) (v2 : Int32) (v3 : Int32) (v4 : Int32) (k99 : Unit → Option (Int32)), F_X1_slips_61 N v1 v2 v3 c_now_line c_now_x c_now_y n v4 k99 = some ρ → (∀ (ls : Array Slot), k99 () = some ρ → lv_has ls 5 [(0, .ref h0), (1, .int v1), (2, .int v2), (3, .int v3)] → W p l e (rmL 3 0 0) s m args below meth c s.heap [] 0 0 Q (F0 m 99 ls [])) → ∀ (ls : Array Slot), lv_has ls 5 [(0, .ref h0), (1, .int v1), (2, .int v2), (3, .int v3), (4, .int v4)] → W p l e (rmL 3 0 0) s m args below meth c s.heap [] 0 0 Q (F0 m 61 ls []) := by
    intro n
    induction n with
    | zero =>
      intro v1 v2 v3 v4 k99 h
      exact absurd h (by simp [F_X1_slips_61])
    | succ n ih =>
      intro v1 v2 v3 v4 k99 h hk99 ls hl
      rw [F_X1_slips_61] at h
      refine lv_iload hx hb dX1_slips_61 (lv_at hl 4 rfl) ?_
      refine lv_iload_n hx hb dX1_slips_63 rfl (lv_at hl 3 rfl) ?_
      refine lv_icmp_ge (tgt := 99) hx hb dX1_slips_64 (by decide) (fun c10 => ?_) (fun c10 => ?_)
      · rw [if_pos c10] at h
        exact hk99 _ h (lv_sub hl [0, 1, 2, 3] rfl)
      · rw [if_neg c10] at h
        refine lv_aload_n hx hb dX1_slips_67 rfl (lv_at hl 0 rfl) ?_
        refine va_get (ci := 0) (v := .ref (ad 3)) (C := RX1) (T := TX1) (N := 28) hx hb hts in_X1 hown hK hP 0 rfl rfl 3 (by decide) (hts _ q580) (fun _ h9 => h9) rfl dX1_slips_68 ?_
        refine lv_iload hx hb dX1_slips_71 (lv_at hl 4 rfl) ?_
        refine lv_iload_n hx hb dX1_slips_73 rfl (lv_at hl 1 rfl) ?_
        obtain ⟨y11, e11, h⟩ := ob_s h
        refine MR.callV (q0 := 0) (M_X2_isOn hG e11) S (cw_X2_isOn hts q1342 ⟨Nat.le_of_ble_eq_true rfl, Nat.le_of_ble_eq_true rfl⟩) hW0 hK (hP.sub (ws' := (sW (ad 3) (fun k => ad (30 + k)) G.2.2 c_now_points c_now_lines c_now_line c_now_x c_now_y)) [1, 2, 3, 4] rfl) rfl rfl rfl hl.1 rfl (Nat.le_of_ble_eq_true rfl) dX1_slips_74 ⟨Nat.zero_le _, Nat.zero_le _⟩ ?_
        refine lv_if_eq (tgt := 93) hx hb dX1_slips_77 (by decide) (fun c12 => ?_) (fun c12 => ?_)
        · rw [if_pos c12] at h
          refine lv_iinc (v := (v4 + 1)) (lv' := [(4, .int (v4 + 1)), (0, .ref h0), (1, .int v1), (2, .int v2), (3, .int v3)]) hx hb dX1_slips_93 hl (k := 4) rfl rfl (by decide) rfl (fun ls hl => ?_)
          refine lv_goto (tgt := 61) hx hb dX1_slips_96 (by decide) ?_
          exact ih v1 v2 v3 (v4 + 1) _ h hk99 _ (lv_sub hl [1, 2, 3, 4, 0] rfl)
        · rw [if_neg c12] at h
          refine lv_aload_n hx hb dX1_slips_80 rfl (lv_at hl 0 rfl) ?_
          refine lv_iload_n hx hb dX1_slips_81 rfl (lv_at hl 2 rfl) ?_
          refine lv_iload_n hx hb dX1_slips_82 rfl (lv_at hl 3 rfl) ?_
          refine lv_iload hx hb dX1_slips_83 (lv_at hl 4 rfl) ?_
          obtain ⟨y13, e13, h⟩ := ob_s h
          refine MR.callV (q0 := 0) (M_X1_isInLine hG e13) S (cw_X1_isInLine hts q1363 ⟨Nat.le_of_ble_eq_true rfl, Nat.le_of_ble_eq_true rfl⟩) hW0 hK hP rfl rfl rfl hl.1 rfl (Nat.le_of_ble_eq_true rfl) dX1_slips_85 ⟨Nat.zero_le _, Nat.zero_le _⟩ ?_
          refine lv_if_ne (tgt := 93) hx hb dX1_slips_88 (by decide) (fun c14 => ?_) (fun c14 => ?_)
          · rw [if_neg c14] at h
            refine lv_iinc (v := (v4 + 1)) (lv' := [(4, .int (v4 + 1)), (0, .ref h0), (1, .int v1), (2, .int v2), (3, .int v3)]) hx hb dX1_slips_93 hl (k := 4) rfl rfl (by decide) rfl (fun ls hl => ?_)
            refine lv_goto (tgt := 61) hx hb dX1_slips_96 (by decide) ?_
            exact ih v1 v2 v3 (v4 + 1) _ h hk99 _ (lv_sub hl [1, 2, 3, 4, 0] rfl)
          · rw [if_pos c14] at h
            refine lv_iconst (v := 1) hx hb dX1_slips_91 (by decide) ?_
            obtain rfl := Option.some.inj h
            exact hret dX1_slips_92 rfl
  have S_X1_slips_15 : ∀ (n : Nat) (v1 : Int32) (v2 : Int32) (v3 : Int32) (k105 : Unit → Option (Int32)), F_X1_slips_15 N v1 v2 c_now_line c_now_x c_now_y n v3 k105 = some ρ → (∀ (ls : Array Slot), k105 () = some ρ → lv_has ls 5 [(0, .ref h0), (1, .int v1), (2, .int v2)] → W p l e (rmL 3 0 0) s m args below meth c s.heap [] 0 0 Q (F0 m 105 ls [])) → ∀ (ls : Array Slot), lv_has ls 5 [(0, .ref h0), (1, .int v1), (2, .int v2), (3, .int v3)] → W p l e (rmL 3 0 0) s m args below meth c s.heap [] 0 0 Q (F0 m 15 ls []) := by
    intro n
    induction n with
    | zero =>
      intro v1 v2 v3 k105 h
      exact absurd h (by simp [F_X1_slips_15])
    | succ n ih =>
      intro v1 v2 v3 k105 h hk105 ls hl
      rw [F_X1_slips_15] at h
      refine lv_iload_n hx hb dX1_slips_15 rfl (lv_at hl 3 rfl) ?_
      refine lv_iload_n hx hb dX1_slips_16 rfl (lv_at hl 2 rfl) ?_
      refine lv_icmp_ge (tgt := 105) hx hb dX1_slips_17 (by decide) (fun c3 => ?_) (fun c3 => ?_)
      · rw [if_pos c3] at h
        exact hk105 _ h (lv_sub hl [0, 1, 2] rfl)
      · rw [if_neg c3] at h
        refine lv_aload_n hx hb dX1_slips_20 rfl (lv_at hl 0 rfl) ?_
        refine va_get (ci := 0) (v := .ref (ad 3)) (C := RX1) (T := TX1) (N := 28) hx hb hts in_X1 hown hK hP 0 rfl rfl 3 (by decide) (hts _ q580) (fun _ h9 => h9) rfl dX1_slips_21 ?_
        refine lv_iload_n hx hb dX1_slips_24 rfl (lv_at hl 2 rfl) ?_
        refine lv_iload_n hx hb dX1_slips_25 rfl (lv_at hl 1 rfl) ?_
        obtain ⟨y4, e4, h⟩ := ob_s h
        refine MR.callV (q0 := 0) (M_X2_isOn hG e4) S (cw_X2_isOn hts q1342 ⟨Nat.le_of_ble_eq_true rfl, Nat.le_of_ble_eq_true rfl⟩) hW0 hK (hP.sub (ws' := (sW (ad 3) (fun k => ad (30 + k)) G.2.2 c_now_points c_now_lines c_now_line c_now_x c_now_y)) [1, 2, 3, 4] rfl) rfl rfl rfl hl.1 rfl (Nat.le_of_ble_eq_true rfl) dX1_slips_26 ⟨Nat.zero_le _, Nat.zero_le _⟩ ?_
        refine lv_if_eq (tgt := 99) hx hb dX1_slips_29 (by decide) (fun c5 => ?_) (fun c5 => ?_)
        · rw [if_pos c5] at h
          refine lv_iinc (v := (v3 + 1)) (lv' := [(3, .int (v3 + 1)), (0, .ref h0), (1, .int v1), (2, .int v2)]) hx hb dX1_slips_99 hl (k := 3) rfl rfl (by decide) rfl (fun ls hl => ?_)
          refine lv_goto (tgt := 15) hx hb dX1_slips_102 (by decide) ?_
          exact ih v1 v2 (v3 + 1) _ h hk105 _ (lv_sub hl [1, 2, 3, 0] rfl)
        · rw [if_neg c5] at h
          refine lv_aload_n hx hb dX1_slips_32 rfl (lv_at hl 0 rfl) ?_
          refine va_get (ci := 0) (v := .ref (ad 3)) (C := RX1) (T := TX1) (N := 28) hx hb hts in_X1 hown hK hP 0 rfl rfl 3 (by decide) (hts _ q580) (fun _ h9 => h9) rfl dX1_slips_33 ?_
          refine lv_iload_n hx hb dX1_slips_36 rfl (lv_at hl 3 rfl) ?_
          refine lv_iload_n hx hb dX1_slips_37 rfl (lv_at hl 1 rfl) ?_
          obtain ⟨y6, e6, h⟩ := ob_s h
          refine MR.callV (q0 := 0) (M_X2_isOn hG e6) S (cw_X2_isOn hts q1342 ⟨Nat.le_of_ble_eq_true rfl, Nat.le_of_ble_eq_true rfl⟩) hW0 hK (hP.sub (ws' := (sW (ad 3) (fun k => ad (30 + k)) G.2.2 c_now_points c_now_lines c_now_line c_now_x c_now_y)) [1, 2, 3, 4] rfl) rfl rfl rfl hl.1 rfl (Nat.le_of_ble_eq_true rfl) dX1_slips_38 ⟨Nat.zero_le _, Nat.zero_le _⟩ ?_
          refine lv_if_ne (tgt := 47) hx hb dX1_slips_41 (by decide) (fun c7 => ?_) (fun c7 => ?_)
          · rw [if_neg c7] at h
            refine lv_aload_n hx hb dX1_slips_47 rfl (lv_at hl 0 rfl) ?_
            refine lv_iload_n hx hb dX1_slips_48 rfl (lv_at hl 2 rfl) ?_
            refine lv_iload_n hx hb dX1_slips_49 rfl (lv_at hl 3 rfl) ?_
            obtain ⟨y8, e8, h⟩ := ob_s h
            refine MR.callV (q0 := 0) (M_X1_areSame hG e8) S (cw_X1_areSame hts q1359 ⟨Nat.le_of_ble_eq_true rfl, Nat.le_of_ble_eq_true rfl⟩) hW0 hK hP rfl rfl rfl hl.1 rfl (Nat.le_of_ble_eq_true rfl) dX1_slips_50 ⟨Nat.zero_le _, Nat.zero_le _⟩ ?_
            refine lv_if_eq (tgt := 58) hx hb dX1_slips_53 (by decide) (fun c9 => ?_) (fun c9 => ?_)
            · rw [if_pos c9] at h
              refine lv_iconst (v := 0) hx hb dX1_slips_58 (by decide) ?_
              refine lv_istore (lv' := [(4, .int 0), (0, .ref h0), (1, .int v1), (2, .int v2), (3, .int v3)]) hx hb dX1_slips_59 hl (by decide) rfl (fun ls hl => ?_)
              refine S_X1_slips_61 N v1 v2 v3 0 _ h ?_ _ (lv_sub hl [1, 2, 3, 4, 0] rfl)
              · intro  ls h hl
                refine lv_iinc (v := (v3 + 1)) (lv' := [(3, .int (v3 + 1)), (0, .ref h0), (1, .int v1), (2, .int v2)]) hx hb dX1_slips_99 hl (k := 3) rfl rfl (by decide) rfl (fun ls hl => ?_)
                refine lv_goto (tgt := 15) hx hb dX1_slips_102 (by decide) ?_
                exact ih v1 v2 (v3 + 1) _ h hk105 _ (lv_sub hl [1, 2, 3, 0] rfl)
            · rw [if_neg c9] at h
              refine lv_iconst (v := 1) hx hb dX1_slips_56 (by decide) ?_
              obtain rfl := Option.some.inj h
              exact hret dX1_slips_57 rfl
          · rw [if_pos c7] at h
            refine lv_goto (tgt := 99) hx hb dX1_slips_44 (by decide) ?_
            refine lv_iinc (v := (v3 + 1)) (lv' := [(3, .int (v3 + 1)), (0, .ref h0), (1, .int v1), (2, .int v2)]) hx hb dX1_slips_99 hl (k := 3) rfl rfl (by decide) rfl (fun ls hl => ?_)
            refine lv_goto (tgt := 15) hx hb dX1_slips_102 (by decide) ?_
            exact ih v1 v2 (v3 + 1) _ h hk105 _ (lv_sub hl [1, 2, 3, 0] rfl)
  have S_X1_slips_2 : ∀ (n : Nat) (v1 : Int32) (v2 : Int32), F_X1_slips_2 N v1 c_now_line c_now_x c_now_y c_now_points n v2 = some ρ → ∀ (ls : Array Slot), lv_has ls 5 [(0, .ref h0), (1, .int v1), (2, .int v2)] → W p l e (rmL 3 0 0) s m args below meth c s.heap [] 0 0 Q (F0 m 2 ls []) := by
    intro n
    induction n with
    | zero =>
      intro v1 v2 h
      exact absurd h (by simp [F_X1_slips_2])
    | succ n ih =>
      intro v1 v2 h ls hl
      rw [F_X1_slips_2] at h
      refine lv_iload_n hx hb dX1_slips_2 rfl (lv_at hl 2 rfl) ?_
      refine lv_aload_n hx hb dX1_slips_3 rfl (lv_at hl 0 rfl) ?_
      refine va_get (ci := 0) (v := .ref (ad 3)) (C := RX1) (T := TX1) (N := 28) hx hb hts in_X1 hown hK hP 0 rfl rfl 3 (by decide) (hts _ q580) (fun _ h9 => h9) rfl dX1_slips_4 ?_
      refine va_getN (ci := 1) (v := .int c_now_points) (C := RX2) (T := TX2) (N := 5) hx hb hts in_X2 hown hK hP 1 rfl rfl 0 (by decide) (hG.nf hW0 q224) (fun _ h9 => h9) rfl dX1_slips_7 ?_
      refine lv_icmp_ge (tgt := 111) hx hb dX1_slips_10 (by decide) (fun c1 => ?_) (fun c1 => ?_)
      · rw [if_pos c1] at h
        refine lv_iconst (v := 0) hx hb dX1_slips_111 (by decide) ?_
        obtain rfl := Option.some.inj h
        exact hret dX1_slips_112 rfl
      · rw [if_neg c1] at h
        refine lv_iconst (v := 0) hx hb dX1_slips_13 (by decide) ?_
        refine lv_istore_n (lv' := [(3, .int 0), (0, .ref h0), (1, .int v1), (2, .int v2)]) hx hb dX1_slips_14 rfl hl (by decide) rfl (fun ls hl => ?_)
        refine S_X1_slips_15 N v1 v2 0 _ h ?_ _ (lv_sub hl [1, 2, 3, 0] rfl)
        · intro  ls h hl
          refine lv_iinc (v := (v2 + 1)) (lv' := [(2, .int (v2 + 1)), (0, .ref h0), (1, .int v1)]) hx hb dX1_slips_105 hl (k := 2) rfl rfl (by decide) rfl (fun ls hl => ?_)
          refine lv_goto (tgt := 2) hx hb dX1_slips_108 (by decide) ?_
          exact ih v1 (v2 + 1) h _ (lv_sub hl [1, 2, 0] rfl)
  refine lv_iconst (v := 0) hx hb dX1_slips_0 (by decide) ?_
  refine lv_istore_n (lv' := [(2, .int 0), (0, .ref h0), (1, .int v1)]) hx hb dX1_slips_1 rfl hl (by decide) rfl (fun ls hl => ?_)
  refine S_X1_slips_2 N v1 0 h  _ (lv_sub hl [1, 2, 0] rfl)
def F_X1_slipsMany_4 (N : Nat) (c_now_line : (Nat → Int32)) (c_now_x : (Nat → Int32)) (c_now_y : (Nat → Int32)) (c_now_points : Int32) (c_now_lines : Int32) : Nat → Int32 → Int32 → Option (Int32)
  | 0, _, _ => none
  | n + 1, v1, v2 => (if c_now_lines ≤ v2 then (some (v1)) else ((F_X1_slips N v2 c_now_line c_now_x c_now_y c_now_points).bind fun y3 => (if y3 = 0 then (F_X1_slipsMany_4 N c_now_line c_now_x c_now_y c_now_points c_now_lines n v1 (v2 + 1)) else (F_X1_slipsMany_4 N c_now_line c_now_x c_now_y c_now_points c_now_lines n (v1 + 1) (v2 + 1)))))
def F_X1_slipsMany (N : Nat) (c_now_line : (Nat → Int32)) (c_now_x : (Nat → Int32)) (c_now_y : (Nat → Int32)) (c_now_points : Int32) (c_now_lines : Int32) : Option (Int32) := (F_X1_slipsMany_4 N c_now_line c_now_x c_now_y c_now_points c_now_lines N 0 0)
theorem cw_X1_slipsMany {R : Room} {s : State} {args : Array Value} {own : String} {index lev mc ms : Nat} (hts : ∀ w ∈ lw_all, w.before args s = true) (hl : Cond.methodLink own index yX1_slipsMany ∈ lw_all) (hR : (rmL lev mc ms).frames + 1 ≤ R.frames ∧ 8 + (3 + 11) + (rmL lev mc ms).locals ≤ R.locals) : CallW R s args own RX1 index yX1_slipsMany cX1_slipsMany 3 (some .int) (ws_ yX1_slipsMany cX1_slipsMany 3 (some .int)) (rmL lev mc ms) mc ms 0 := cwV 0 hts (lw_V hl q1353 qs40 q151 q1354) rfl rfl rfl (by decide +kernel) hR
set_option maxHeartbeats 4000000 in
theorem M_X1_slipsMany {l : Launch} {G : GE} (hG : GC G) {N : Nat} {h0 : Nat} {ad : Nat → Nat} {c_listPoints : Int32} {c_listLines : Int32} {c_refused : (Nat → Int32)} {c_imageRefused : (Nat → Int32)} {c_hasImage : Int32} {c_tape : (Nat → Int32)} {c_taped : Int32} {c_faultPlace : Int32} {c_orbit : (Nat → Int32)} {c_lineFor : (Nat → Int32)} {c_dualities : Int32} {c_polarities : Int32} {c_shortest : Int32} {c_placeX : (Nat → Int32)} {c_placeY : (Nat → Int32)} {c_placeZ : (Nat → Int32)} {c_lies : (Nat → Int32)} {c_firstLies : (Nat → Int32)} {c_worth : (Nat → Int32)} {c_its : Int32} {c_tried_points : Int32} {c_tried_lines : Int32} {c_tried_line : (Nat → Int32)} {c_tried_x : (Nat → Int32)} {c_tried_y : (Nat → Int32)} {c_imageNow_points : Int32} {c_imageNow_lines : Int32} {c_imageNow_line : (Nat → Int32)} {c_imageNow_x : (Nat → Int32)} {c_imageNow_y : (Nat → Int32)} {c_now_line : (Nat → Int32)} {c_now_x : (Nat → Int32)} {c_now_y : (Nat → Int32)} {c_now_points : Int32} {c_now_lines : Int32} {ρ : (Int32)} (h : F_X1_slipsMany N c_now_line c_now_x c_now_y c_now_points c_now_lines = some ρ) : MR l G yX1_slipsMany cX1_slipsMany 3 (some .int) 4 (cW h0 ad G.2.2 c_listPoints c_listLines c_refused c_imageRefused c_hasImage c_tape c_taped c_faultPlace c_orbit c_lineFor c_dualities c_polarities c_shortest c_placeX c_placeY c_placeZ c_lies c_firstLies c_worth c_its c_now_points c_now_lines c_now_line c_now_x c_now_y c_tried_points c_tried_lines c_tried_line c_tried_x c_tried_y c_imageNow_points c_imageNow_lines c_imageNow_line c_imageNow_x c_imageNow_y) [.ref h0] ρ := by
  rw [F_X1_slipsMany] at h
  refine MR.start (rt := .int) hG (by decide) (Nat.le_of_ble_eq_true rfl) ?_
  intro p e s m args below meth c Q S hW0 hK hP hret ls hl
  obtain ⟨hx, hb, hml, hown, hts⟩ := id S
  have hl : lv_has ls 3 [(0, .ref h0)] := hl
  have S_X1_slipsMany_4 : ∀ (n : Nat) (v1 : Int32) (v2 : Int32), F_X1_slipsMany_4 N c_now_line c_now_x c_now_y c_now_points c_now_lines n v1 v2 = some ρ → ∀ (ls : Array Slot), lv_has ls 3 [(0, .ref h0), (1, .int v1), (2, .int v2)] → W p l e (rmL 4 0 0) s m args below meth c s.heap [] 0 0 Q (F0 m 4 ls []) := by
    intro n
    induction n with
    | zero =>
      intro v1 v2 h
      exact absurd h (by simp [F_X1_slipsMany_4])
    | succ n ih =>
      intro v1 v2 h ls hl
      rw [F_X1_slipsMany_4] at h
      refine lv_iload_n hx hb dX1_slipsMany_4 rfl (lv_at hl 2 rfl) ?_
      refine lv_aload_n hx hb dX1_slipsMany_5 rfl (lv_at hl 0 rfl) ?_
      refine va_get (ci := 0) (v := .ref (ad 3)) (C := RX1) (T := TX1) (N := 28) hx hb hts in_X1 hown hK hP 0 rfl rfl 3 (by decide) (hts _ q580) (fun _ h9 => h9) rfl dX1_slipsMany_6 ?_
      refine va_getN (ci := 1) (v := .int c_now_lines) (C := RX2) (T := TX2) (N := 5) hx hb hts in_X2 hown hK hP 1 rfl rfl 1 (by decide) (hG.nf hW0 q228) (fun _ h9 => h9) rfl dX1_slipsMany_9 ?_
      refine lv_icmp_ge (tgt := 32) hx hb dX1_slipsMany_12 (by decide) (fun c1 => ?_) (fun c1 => ?_)
      · rw [if_pos c1] at h
        refine lv_iload_n hx hb dX1_slipsMany_32 rfl (lv_at hl 1 rfl) ?_
        obtain rfl := Option.some.inj h
        exact hret dX1_slipsMany_33 rfl
      · rw [if_neg c1] at h
        refine lv_aload_n hx hb dX1_slipsMany_15 rfl (lv_at hl 0 rfl) ?_
        refine lv_iload_n hx hb dX1_slipsMany_16 rfl (lv_at hl 2 rfl) ?_
        obtain ⟨y3, e3, h⟩ := ob_s h
        refine MR.callV (q0 := 0) (M_X1_slips hG e3) S (cw_X1_slips hts q1355 ⟨Nat.le_of_ble_eq_true rfl, Nat.le_of_ble_eq_true rfl⟩) hW0 hK hP rfl rfl rfl hl.1 rfl (Nat.le_of_ble_eq_true rfl) dX1_slipsMany_17 ⟨Nat.zero_le _, Nat.zero_le _⟩ ?_
        refine lv_if_eq (tgt := 26) hx hb dX1_slipsMany_20 (by decide) (fun c4 => ?_) (fun c4 => ?_)
        · rw [if_pos c4] at h
          refine lv_iinc (v := (v2 + 1)) (lv' := [(2, .int (v2 + 1)), (0, .ref h0), (1, .int v1)]) hx hb dX1_slipsMany_26 hl (k := 2) rfl rfl (by decide) rfl (fun ls hl => ?_)
          refine lv_goto (tgt := 4) hx hb dX1_slipsMany_29 (by decide) ?_
          exact ih v1 (v2 + 1) h _ (lv_sub hl [1, 2, 0] rfl)
        · rw [if_neg c4] at h
          refine lv_iinc (v := (v1 + 1)) (lv' := [(1, .int (v1 + 1)), (0, .ref h0), (2, .int v2)]) hx hb dX1_slipsMany_23 hl (k := 1) rfl rfl (by decide) rfl (fun ls hl => ?_)
          refine lv_iinc (v := (v2 + 1)) (lv' := [(2, .int (v2 + 1)), (1, .int (v1 + 1)), (0, .ref h0)]) hx hb dX1_slipsMany_26 hl (k := 2) rfl rfl (by decide) rfl (fun ls hl => ?_)
          refine lv_goto (tgt := 4) hx hb dX1_slipsMany_29 (by decide) ?_
          exact ih (v1 + 1) (v2 + 1) h _ (lv_sub hl [2, 1, 0] rfl)
  refine lv_iconst (v := 0) hx hb dX1_slipsMany_0 (by decide) ?_
  refine lv_istore_n (lv' := [(1, .int 0), (0, .ref h0)]) hx hb dX1_slipsMany_1 rfl hl (by decide) rfl (fun ls hl => ?_)
  refine lv_iconst (v := 0) hx hb dX1_slipsMany_2 (by decide) ?_
  refine lv_istore_n (lv' := [(2, .int 0), (1, .int 0), (0, .ref h0)]) hx hb dX1_slipsMany_3 rfl hl (by decide) rfl (fun ls hl => ?_)
  refine S_X1_slipsMany_4 N 0 0 h  _ (lv_sub hl [2, 1, 0] rfl)
def F_X1_strays_25 (N : Nat) (v2 : Int32) (v3 : Int32) (c_now_line : (Nat → Int32)) (c_now_x : (Nat → Int32)) (c_now_y : (Nat → Int32)) (c_now_lines : Int32) : Nat → Int32 → Int32 → (Int32 → Option (Int32)) → Option (Int32)
  | 0, _, _, _ => none
  | n + 1, v1, v4, k74 => (if v3 ≤ v4 then (k74 v1) else ((F_X2_lineOf N ((((1 : Int32) <<< (v2 &&& 31)) ||| ((1 : Int32) <<< (v3 &&& 31))) ||| ((1 : Int32) <<< (v4 &&& 31))) c_now_line c_now_lines).bind fun y5 => (if y5 = (-1) then ((F_X1_isInLine N v2 v3 v4 c_now_x c_now_y).bind fun y7 => (if y7 = 0 then (F_X1_strays_25 N v2 v3 c_now_line c_now_x c_now_y c_now_lines n v1 (v4 + 1) k74) else (F_X1_strays_25 N v2 v3 c_now_line c_now_x c_now_y c_now_lines n (v1 + 1) (v4 + 1) k74))) else (F_X1_strays_25 N v2 v3 c_now_line c_now_x c_now_y c_now_lines n v1 (v4 + 1) k74))))
def F_X1_strays_17 (N : Nat) (v2 : Int32) (c_now_line : (Nat → Int32)) (c_now_x : (Nat → Int32)) (c_now_y : (Nat → Int32)) (c_now_lines : Int32) : Nat → Int32 → Int32 → (Int32 → Option (Int32)) → Option (Int32)
  | 0, _, _, _ => none
  | n + 1, v1, v3, k80 => (if v2 ≤ v3 then (k80 v1) else (F_X1_strays_25 N v2 v3 c_now_line c_now_x c_now_y c_now_lines N v1 0 (fun u1_9 => (F_X1_strays_17 N v2 c_now_line c_now_x c_now_y c_now_lines n u1_9 (v3 + 1) k80))))
def F_X1_strays_4 (N : Nat) (c_now_line : (Nat → Int32)) (c_now_x : (Nat → Int32)) (c_now_y : (Nat → Int32)) (c_now_points : Int32) (c_now_lines : Int32) : Nat → Int32 → Int32 → Option (Int32)
  | 0, _, _ => none
  | n + 1, v1, v2 => (if c_now_points ≤ v2 then (some (v1)) else (F_X1_strays_17 N v2 c_now_line c_now_x c_now_y c_now_lines N v1 0 (fun u1_10 => (F_X1_strays_4 N c_now_line c_now_x c_now_y c_now_points c_now_lines n u1_10 (v2 + 1)))))
def F_X1_strays (N : Nat) (c_now_line : (Nat → Int32)) (c_now_x : (Nat → Int32)) (c_now_y : (Nat → Int32)) (c_now_points : Int32) (c_now_lines : Int32) : Option (Int32) := (F_X1_strays_4 N c_now_line c_now_x c_now_y c_now_points c_now_lines N 0 0)
theorem cw_X1_strays {R : Room} {s : State} {args : Array Value} {own : String} {index lev mc ms : Nat} (hts : ∀ w ∈ lw_all, w.before args s = true) (hl : Cond.methodLink own index yX1_strays ∈ lw_all) (hR : (rmL lev mc ms).frames + 1 ≤ R.frames ∧ 8 + (5 + 11) + (rmL lev mc ms).locals ≤ R.locals) : CallW R s args own RX1 index yX1_strays cX1_strays 5 (some .int) (ws_ yX1_strays cX1_strays 5 (some .int)) (rmL lev mc ms) mc ms 0 := cwV 0 hts (lw_V hl q1372 qs44 q151 q1373) rfl rfl rfl (by decide +kernel) hR
set_option maxHeartbeats 4000000 in
theorem M_X1_strays {l : Launch} {G : GE} (hG : GC G) {N : Nat} {h0 : Nat} {ad : Nat → Nat} {c_listPoints : Int32} {c_listLines : Int32} {c_refused : (Nat → Int32)} {c_imageRefused : (Nat → Int32)} {c_hasImage : Int32} {c_tape : (Nat → Int32)} {c_taped : Int32} {c_faultPlace : Int32} {c_orbit : (Nat → Int32)} {c_lineFor : (Nat → Int32)} {c_dualities : Int32} {c_polarities : Int32} {c_shortest : Int32} {c_placeX : (Nat → Int32)} {c_placeY : (Nat → Int32)} {c_placeZ : (Nat → Int32)} {c_lies : (Nat → Int32)} {c_firstLies : (Nat → Int32)} {c_worth : (Nat → Int32)} {c_its : Int32} {c_tried_points : Int32} {c_tried_lines : Int32} {c_tried_line : (Nat → Int32)} {c_tried_x : (Nat → Int32)} {c_tried_y : (Nat → Int32)} {c_imageNow_points : Int32} {c_imageNow_lines : Int32} {c_imageNow_line : (Nat → Int32)} {c_imageNow_x : (Nat → Int32)} {c_imageNow_y : (Nat → Int32)} {c_now_line : (Nat → Int32)} {c_now_x : (Nat → Int32)} {c_now_y : (Nat → Int32)} {c_now_points : Int32} {c_now_lines : Int32} {ρ : (Int32)} (h : F_X1_strays N c_now_line c_now_x c_now_y c_now_points c_now_lines = some ρ) : MR l G yX1_strays cX1_strays 5 (some .int) 3 (cW h0 ad G.2.2 c_listPoints c_listLines c_refused c_imageRefused c_hasImage c_tape c_taped c_faultPlace c_orbit c_lineFor c_dualities c_polarities c_shortest c_placeX c_placeY c_placeZ c_lies c_firstLies c_worth c_its c_now_points c_now_lines c_now_line c_now_x c_now_y c_tried_points c_tried_lines c_tried_line c_tried_x c_tried_y c_imageNow_points c_imageNow_lines c_imageNow_line c_imageNow_x c_imageNow_y) [.ref h0] ρ := by
  rw [F_X1_strays] at h
  refine MR.start (rt := .int) hG (by decide) (Nat.le_of_ble_eq_true rfl) ?_
  intro p e s m args below meth c Q S hW0 hK hP hret ls hl
  obtain ⟨hx, hb, hml, hown, hts⟩ := id S
  have hl : lv_has ls 5 [(0, .ref h0)] := hl
  have S_X1_strays_25 : ∀ (n : Nat) (v1 : Int32) (v2 : Int32) (v3 : Int32) (v4 : Int32) (k74 : Int32 → Option (Int32)), F_X1_strays_25 N v2 v3 c_now_line c_now_x c_now_y c_now_lines n v1 v4 k74 = some ρ → (∀ (u1 : Int32) (ls : Array Slot), k74 u1 = some ρ → lv_has ls 5 [(0, .ref h0), (1, .int u1), (2, .int v2), (3, .int v3)] → W p l e (rmL 3 0 0) s m args below meth c s.heap [] 0 0 Q (F0 m 74 ls [])) → ∀ (ls : Array Slot), lv_has ls 5 [(0, .ref h0), (1, .int v1), (2, .int v2), (3, .int v3), (4, .int v4)] → W p l e (rmL 3 0 0) s m args below meth c s.heap [] 0 0 Q (F0 m 25 ls []) := by
    intro n
    induction n with
    | zero =>
      intro v1 v2 v3 v4 k74 h
      exact absurd h (by simp [F_X1_strays_25])
    | succ n ih =>
      intro v1 v2 v3 v4 k74 h hk74 ls hl
      rw [F_X1_strays_25] at h
      refine lv_iload hx hb dX1_strays_25 (lv_at hl 4 rfl) ?_
      refine lv_iload_n hx hb dX1_strays_27 rfl (lv_at hl 3 rfl) ?_
      refine lv_icmp_ge (tgt := 74) hx hb dX1_strays_28 (by decide) (fun c4 => ?_) (fun c4 => ?_)
      · rw [if_pos c4] at h
        exact hk74 v1 _ h (lv_sub hl [0, 1, 2, 3] rfl)
      · rw [if_neg c4] at h
        refine lv_aload_n hx hb dX1_strays_31 rfl (lv_at hl 0 rfl) ?_
        refine va_get (ci := 0) (v := .ref (ad 3)) (C := RX1) (T := TX1) (N := 28) hx hb hts in_X1 hown hK hP 0 rfl rfl 3 (by decide) (hts _ q580) (fun _ h9 => h9) rfl dX1_strays_32 ?_
        refine lv_iconst (v := 1) hx hb dX1_strays_35 (by decide) ?_
        refine lv_iload_n hx hb dX1_strays_36 rfl (lv_at hl 2 rfl) ?_
        refine lv_ishl hx hb dX1_strays_37 ?_
        refine lv_iconst (v := 1) hx hb dX1_strays_38 (by decide) ?_
        refine lv_iload_n hx hb dX1_strays_39 rfl (lv_at hl 3 rfl) ?_
        refine lv_ishl hx hb dX1_strays_40 ?_
        refine lv_ior hx hb dX1_strays_41 ?_
        refine lv_iconst (v := 1) hx hb dX1_strays_42 (by decide) ?_
        refine lv_iload hx hb dX1_strays_43 (lv_at hl 4 rfl) ?_
        refine lv_ishl hx hb dX1_strays_45 ?_
        refine lv_ior hx hb dX1_strays_46 ?_
        obtain ⟨y5, e5, h⟩ := ob_s h
        refine MR.callV (q0 := 0) (M_X2_lineOf hG e5) S (cw_X2_lineOf hts q1218 ⟨Nat.le_of_ble_eq_true rfl, Nat.le_of_ble_eq_true rfl⟩) hW0 hK (hP.sub (ws' := (sW (ad 3) (fun k => ad (30 + k)) G.2.2 c_now_points c_now_lines c_now_line c_now_x c_now_y)) [1, 2, 3, 4] rfl) rfl rfl rfl hl.1 rfl (Nat.le_of_ble_eq_true rfl) dX1_strays_47 ⟨Nat.zero_le _, Nat.zero_le _⟩ ?_
        refine lv_iconst (v := (-1)) hx hb dX1_strays_50 (by decide) ?_
        refine lv_icmp_ne (tgt := 68) hx hb dX1_strays_51 (by decide) (fun c6 => ?_) (fun c6 => ?_)
        · rw [if_neg c6] at h
          refine lv_iinc (v := (v4 + 1)) (lv' := [(4, .int (v4 + 1)), (0, .ref h0), (1, .int v1), (2, .int v2), (3, .int v3)]) hx hb dX1_strays_68 hl (k := 4) rfl rfl (by decide) rfl (fun ls hl => ?_)
          refine lv_goto (tgt := 25) hx hb dX1_strays_71 (by decide) ?_
          exact ih v1 v2 v3 (v4 + 1) _ h hk74 _ (lv_sub hl [1, 2, 3, 4, 0] rfl)
        · rw [if_pos c6] at h
          refine lv_aload_n hx hb dX1_strays_54 rfl (lv_at hl 0 rfl) ?_
          refine lv_iload_n hx hb dX1_strays_55 rfl (lv_at hl 2 rfl) ?_
          refine lv_iload_n hx hb dX1_strays_56 rfl (lv_at hl 3 rfl) ?_
          refine lv_iload hx hb dX1_strays_57 (lv_at hl 4 rfl) ?_
          obtain ⟨y7, e7, h⟩ := ob_s h
          refine MR.callV (q0 := 0) (M_X1_isInLine hG e7) S (cw_X1_isInLine hts q1363 ⟨Nat.le_of_ble_eq_true rfl, Nat.le_of_ble_eq_true rfl⟩) hW0 hK hP rfl rfl rfl hl.1 rfl (Nat.le_of_ble_eq_true rfl) dX1_strays_59 ⟨Nat.zero_le _, Nat.zero_le _⟩ ?_
          refine lv_if_eq (tgt := 68) hx hb dX1_strays_62 (by decide) (fun c8 => ?_) (fun c8 => ?_)
          · rw [if_pos c8] at h
            refine lv_iinc (v := (v4 + 1)) (lv' := [(4, .int (v4 + 1)), (0, .ref h0), (1, .int v1), (2, .int v2), (3, .int v3)]) hx hb dX1_strays_68 hl (k := 4) rfl rfl (by decide) rfl (fun ls hl => ?_)
            refine lv_goto (tgt := 25) hx hb dX1_strays_71 (by decide) ?_
            exact ih v1 v2 v3 (v4 + 1) _ h hk74 _ (lv_sub hl [1, 2, 3, 4, 0] rfl)
          · rw [if_neg c8] at h
            refine lv_iinc (v := (v1 + 1)) (lv' := [(1, .int (v1 + 1)), (0, .ref h0), (2, .int v2), (3, .int v3), (4, .int v4)]) hx hb dX1_strays_65 hl (k := 1) rfl rfl (by decide) rfl (fun ls hl => ?_)
            refine lv_iinc (v := (v4 + 1)) (lv' := [(4, .int (v4 + 1)), (1, .int (v1 + 1)), (0, .ref h0), (2, .int v2), (3, .int v3)]) hx hb dX1_strays_68 hl (k := 4) rfl rfl (by decide) rfl (fun ls hl => ?_)
            refine lv_goto (tgt := 25) hx hb dX1_strays_71 (by decide) ?_
            exact ih (v1 + 1) v2 v3 (v4 + 1) _ h hk74 _ (lv_sub hl [2, 1, 3, 4, 0] rfl)
  have S_X1_strays_17 : ∀ (n : Nat) (v1 : Int32) (v2 : Int32) (v3 : Int32) (k80 : Int32 → Option (Int32)), F_X1_strays_17 N v2 c_now_line c_now_x c_now_y c_now_lines n v1 v3 k80 = some ρ → (∀ (u1 : Int32) (ls : Array Slot), k80 u1 = some ρ → lv_has ls 5 [(0, .ref h0), (1, .int u1), (2, .int v2)] → W p l e (rmL 3 0 0) s m args below meth c s.heap [] 0 0 Q (F0 m 80 ls [])) → ∀ (ls : Array Slot), lv_has ls 5 [(0, .ref h0), (1, .int v1), (2, .int v2), (3, .int v3)] → W p l e (rmL 3 0 0) s m args below meth c s.heap [] 0 0 Q (F0 m 17 ls []) := by
    intro n
    induction n with
    | zero =>
      intro v1 v2 v3 k80 h
      exact absurd h (by simp [F_X1_strays_17])
    | succ n ih =>
      intro v1 v2 v3 k80 h hk80 ls hl
      rw [F_X1_strays_17] at h
      refine lv_iload_n hx hb dX1_strays_17 rfl (lv_at hl 3 rfl) ?_
      refine lv_iload_n hx hb dX1_strays_18 rfl (lv_at hl 2 rfl) ?_
      refine lv_icmp_ge (tgt := 80) hx hb dX1_strays_19 (by decide) (fun c3 => ?_) (fun c3 => ?_)
      · rw [if_pos c3] at h
        exact hk80 v1 _ h (lv_sub hl [0, 1, 2] rfl)
      · rw [if_neg c3] at h
        refine lv_iconst (v := 0) hx hb dX1_strays_22 (by decide) ?_
        refine lv_istore (lv' := [(4, .int 0), (0, .ref h0), (1, .int v1), (2, .int v2), (3, .int v3)]) hx hb dX1_strays_23 hl (by decide) rfl (fun ls hl => ?_)
        refine S_X1_strays_25 N v1 v2 v3 0 _ h ?_ _ (lv_sub hl [1, 2, 3, 4, 0] rfl)
        · intro u1_9 ls h hl
          refine lv_iinc (v := (v3 + 1)) (lv' := [(3, .int (v3 + 1)), (0, .ref h0), (1, .int u1_9), (2, .int v2)]) hx hb dX1_strays_74 hl (k := 3) rfl rfl (by decide) rfl (fun ls hl => ?_)
          refine lv_goto (tgt := 17) hx hb dX1_strays_77 (by decide) ?_
          exact ih u1_9 v2 (v3 + 1) _ h hk80 _ (lv_sub hl [1, 2, 3, 0] rfl)
  have S_X1_strays_4 : ∀ (n : Nat) (v1 : Int32) (v2 : Int32), F_X1_strays_4 N c_now_line c_now_x c_now_y c_now_points c_now_lines n v1 v2 = some ρ → ∀ (ls : Array Slot), lv_has ls 5 [(0, .ref h0), (1, .int v1), (2, .int v2)] → W p l e (rmL 3 0 0) s m args below meth c s.heap [] 0 0 Q (F0 m 4 ls []) := by
    intro n
    induction n with
    | zero =>
      intro v1 v2 h
      exact absurd h (by simp [F_X1_strays_4])
    | succ n ih =>
      intro v1 v2 h ls hl
      rw [F_X1_strays_4] at h
      refine lv_iload_n hx hb dX1_strays_4 rfl (lv_at hl 2 rfl) ?_
      refine lv_aload_n hx hb dX1_strays_5 rfl (lv_at hl 0 rfl) ?_
      refine va_get (ci := 0) (v := .ref (ad 3)) (C := RX1) (T := TX1) (N := 28) hx hb hts in_X1 hown hK hP 0 rfl rfl 3 (by decide) (hts _ q580) (fun _ h9 => h9) rfl dX1_strays_6 ?_
      refine va_getN (ci := 1) (v := .int c_now_points) (C := RX2) (T := TX2) (N := 5) hx hb hts in_X2 hown hK hP 1 rfl rfl 0 (by decide) (hG.nf hW0 q224) (fun _ h9 => h9) rfl dX1_strays_9 ?_
      refine lv_icmp_ge (tgt := 86) hx hb dX1_strays_12 (by decide) (fun c1 => ?_) (fun c1 => ?_)
      · rw [if_pos c1] at h
        refine lv_iload_n hx hb dX1_strays_86 rfl (lv_at hl 1 rfl) ?_
        obtain rfl := Option.some.inj h
        exact hret dX1_strays_87 rfl
      · rw [if_neg c1] at h
        refine lv_iconst (v := 0) hx hb dX1_strays_15 (by decide) ?_
        refine lv_istore_n (lv' := [(3, .int 0), (0, .ref h0), (1, .int v1), (2, .int v2)]) hx hb dX1_strays_16 rfl hl (by decide) rfl (fun ls hl => ?_)
        refine S_X1_strays_17 N v1 v2 0 _ h ?_ _ (lv_sub hl [1, 2, 3, 0] rfl)
        · intro u1_10 ls h hl
          refine lv_iinc (v := (v2 + 1)) (lv' := [(2, .int (v2 + 1)), (0, .ref h0), (1, .int u1_10)]) hx hb dX1_strays_80 hl (k := 2) rfl rfl (by decide) rfl (fun ls hl => ?_)
          refine lv_goto (tgt := 4) hx hb dX1_strays_83 (by decide) ?_
          exact ih u1_10 (v2 + 1) h _ (lv_sub hl [1, 2, 0] rfl)
  refine lv_iconst (v := 0) hx hb dX1_strays_0 (by decide) ?_
  refine lv_istore_n (lv' := [(1, .int 0), (0, .ref h0)]) hx hb dX1_strays_1 rfl hl (by decide) rfl (fun ls hl => ?_)
  refine lv_iconst (v := 0) hx hb dX1_strays_2 (by decide) ?_
  refine lv_istore_n (lv' := [(2, .int 0), (1, .int 0), (0, .ref h0)]) hx hb dX1_strays_3 rfl hl (by decide) rfl (fun ls hl => ?_)
  refine S_X1_strays_4 N 0 0 h  _ (lv_sub hl [2, 1, 0] rfl)
def F_X1_rings_89 (N : Nat) (rc : Int32 → Int32 → Int32 → Int32 → Int32 → (Nat → Int32) → Int32 → Int32 → Int32 → Option (Int32)) (v1 : Int32) (v3 : Int32) (v4 : Int32) (v5 : Int32) (v6 : Int32) (c_now_line : (Nat → Int32)) (c_now_points : Int32) (c_now_lines : Int32) : Nat → Int32 → Int32 → (Int32 → Option (Int32)) → Option (Int32)
  | 0, _, _, _ => none
  | n + 1, v7, c_shortest, k154 => (if c_now_lines ≤ v7 then (k154 c_shortest) else (if ((v3 >>> (v7 &&& 31)) &&& (1 : Int32)) = 0 then ((F_X2_isOn N v6 v7 c_now_line).bind fun y10 => (if y10 = 0 then (F_X1_rings_89 N rc v1 v3 v4 v5 v6 c_now_line c_now_points c_now_lines n (v7 + 1) c_shortest k154) else ((rc v1 v7 (v3 ||| ((1 : Int32) <<< (v7 &&& 31))) (v4 ||| ((1 : Int32) <<< (v6 &&& 31))) (v5 + (1 : Int32)) c_now_line c_shortest c_now_points c_now_lines).bind fun y12 => (F_X1_rings_89 N rc v1 v3 v4 v5 v6 c_now_line c_now_points c_now_lines n (v7 + 1) y12 k154)))) else (F_X1_rings_89 N rc v1 v3 v4 v5 v6 c_now_line c_now_points c_now_lines n (v7 + 1) c_shortest k154)))
def F_X1_rings_84 (N : Nat) (rc : Int32 → Int32 → Int32 → Int32 → Int32 → (Nat → Int32) → Int32 → Int32 → Int32 → Option (Int32)) (c_now_line : (Nat → Int32)) (c_now_points : Int32) (c_now_lines : Int32) (v1 : Int32) (v3 : Int32) (v4 : Int32) (v5 : Int32) (v6 : Int32) (c_shortest : Int32) (k13 : Int32 → Int32 → Option (Int32)) : Option (Int32) := (F_X1_rings_89 N rc v1 v3 v4 v5 v6 c_now_line c_now_points c_now_lines N (v1 + (1 : Int32)) c_shortest (fun c_shortest_13 => (k13 (v6 + 1) c_shortest_13)))
def F_X1_rings_13 (N : Nat) (rc : Int32 → Int32 → Int32 → Int32 → Int32 → (Nat → Int32) → Int32 → Int32 → Int32 → Option (Int32)) (v1 : Int32) (v2 : Int32) (v3 : Int32) (v4 : Int32) (v5 : Int32) (c_now_line : (Nat → Int32)) (c_now_points : Int32) (c_now_lines : Int32) : Nat → Int32 → Int32 → Option (Int32)
  | 0, _, _ => none
  | n + 1, v6, c_shortest => (if c_now_points ≤ v6 then (some (c_shortest)) else ((F_X2_isOn N v6 v2 c_now_line).bind fun y4 => (if y4 = 0 then (F_X1_rings_13 N rc v1 v2 v3 v4 v5 c_now_line c_now_points c_now_lines n (v6 + 1) c_shortest) else (if ((v4 >>> (v6 &&& 31)) &&& (1 : Int32)) = 1 then (F_X1_rings_13 N rc v1 v2 v3 v4 v5 c_now_line c_now_points c_now_lines n (v6 + 1) c_shortest) else (if v5 < 3 then (F_X1_rings_84 N rc c_now_line c_now_points c_now_lines v1 v3 v4 v5 v6 c_shortest (fun u6 z_c_shortest => (F_X1_rings_13 N rc v1 v2 v3 v4 v5 c_now_line c_now_points c_now_lines n u6 z_c_shortest))) else ((F_X2_isOn N v6 v1 c_now_line).bind fun y14 => (if y14 = 0 then (F_X1_rings_84 N rc c_now_line c_now_points c_now_lines v1 v3 v4 v5 v6 c_shortest (fun u6 z_c_shortest => (F_X1_rings_13 N rc v1 v2 v3 v4 v5 c_now_line c_now_points c_now_lines n u6 z_c_shortest))) else (F_X1_rings_84 N rc c_now_line c_now_points c_now_lines v1 v3 v4 v5 v6 (if v5 < c_shortest then v5 else c_shortest) (fun u6 z_c_shortest => (F_X1_rings_13 N rc v1 v2 v3 v4 v5 c_now_line c_now_points c_now_lines n u6 z_c_shortest))))))))))
def F_X1_rings (N : Nat) : Nat → (v1 : Int32) → (v2 : Int32) → (v3 : Int32) → (v4 : Int32) → (v5 : Int32) → (c_now_line : (Nat → Int32)) → (c_shortest : Int32) → (c_now_points : Int32) → (c_now_lines : Int32) → Option (Int32)
  | 0, _, _, _, _, _, _, _, _, _ => none
  | d + 1, v1, v2, v3, v4, v5, c_now_line, c_shortest, c_now_points, c_now_lines => (if v5 < c_shortest then (F_X1_rings_13 N (F_X1_rings N d) v1 v2 v3 v4 v5 c_now_line c_now_points c_now_lines N 0 c_shortest) else (some (c_shortest)))
theorem cw_X1_rings {R : Room} {s : State} {args : Array Value} {own : String} {index lev mc ms : Nat} (hts : ∀ w ∈ lw_all, w.before args s = true) (hl : Cond.methodLink own index yX1_rings ∈ lw_all) (hR : (rmL lev mc ms).frames + 1 ≤ R.frames ∧ 8 + (8 + 11) + (rmL lev mc ms).locals ≤ R.locals) : CallW R s args own RX1 index yX1_rings cX1_rings 8 none (ws_ yX1_rings cX1_rings 8 none) (rmL lev mc ms) mc ms 5 := cwV 5 hts (lw_V hl q1380 qs46 q151 q1381) rfl rfl rfl (by decide +kernel) hR
set_option maxHeartbeats 4000000 in
theorem M_X1_rings {l : Launch} {G : GE} (hG : GC G) {N : Nat} {h0 : Nat} {ad : Nat → Nat} {c_listPoints : Int32} {c_listLines : Int32} {c_refused : (Nat → Int32)} {c_imageRefused : (Nat → Int32)} {c_hasImage : Int32} {c_tape : (Nat → Int32)} {c_taped : Int32} {c_faultPlace : Int32} {c_orbit : (Nat → Int32)} {c_lineFor : (Nat → Int32)} {c_dualities : Int32} {c_polarities : Int32} {c_placeX : (Nat → Int32)} {c_placeY : (Nat → Int32)} {c_placeZ : (Nat → Int32)} {c_lies : (Nat → Int32)} {c_firstLies : (Nat → Int32)} {c_worth : (Nat → Int32)} {c_its : Int32} {c_now_x : (Nat → Int32)} {c_now_y : (Nat → Int32)} {c_tried_points : Int32} {c_tried_lines : Int32} {c_tried_line : (Nat → Int32)} {c_tried_x : (Nat → Int32)} {c_tried_y : (Nat → Int32)} {c_imageNow_points : Int32} {c_imageNow_lines : Int32} {c_imageNow_line : (Nat → Int32)} {c_imageNow_x : (Nat → Int32)} {c_imageNow_y : (Nat → Int32)} : ∀ (d : Nat) {v1 : Int32} {v2 : Int32} {v3 : Int32} {v4 : Int32} {v5 : Int32} {c_now_line : (Nat → Int32)} {c_shortest : Int32} {c_now_points : Int32} {c_now_lines : Int32} {ρ : (Int32)} (h : F_X1_rings N d v1 v2 v3 v4 v5 c_now_line c_shortest c_now_points c_now_lines = some ρ), MW l G yX1_rings cX1_rings 8 none (2 + d) (cW h0 ad G.2.2 c_listPoints c_listLines c_refused c_imageRefused c_hasImage c_tape c_taped c_faultPlace c_orbit c_lineFor c_dualities c_polarities c_shortest c_placeX c_placeY c_placeZ c_lies c_firstLies c_worth c_its c_now_points c_now_lines c_now_line c_now_x c_now_y c_tried_points c_tried_lines c_tried_line c_tried_x c_tried_y c_imageNow_points c_imageNow_lines c_imageNow_line c_imageNow_x c_imageNow_y) [.ref h0, .int v1, .int v2, .int v3, .int v4, .int v5] none (cW h0 ad G.2.2 c_listPoints c_listLines c_refused c_imageRefused c_hasImage c_tape c_taped c_faultPlace c_orbit c_lineFor c_dualities c_polarities ρ c_placeX c_placeY c_placeZ c_lies c_firstLies c_worth c_its c_now_points c_now_lines c_now_line c_now_x c_now_y c_tried_points c_tried_lines c_tried_line c_tried_x c_tried_y c_imageNow_points c_imageNow_lines c_imageNow_line c_imageNow_x c_imageNow_y) := by
  intro d
  induction d with
  | zero =>
    intro v1 v2 v3 v4 v5 c_now_line c_shortest c_now_points c_now_lines ρ h
    exact absurd h (by simp [F_X1_rings])
  | succ d ihd =>
    intro v1 v2 v3 v4 v5 c_now_line c_shortest c_now_points c_now_lines ρ h
    rw [F_X1_rings] at h
    refine MW.start hG (by decide) (Nat.le_of_ble_eq_true rfl) ?_
    intro p e s m args below meth c Q A S hW0 hK hP hD hA hreti hretv ls hl
    have hS : va_S A s.heap s.heap [] := va_S.rf
    obtain ⟨hx, hb, hml, hown, hts⟩ := id S
    have hl : lv_has ls 8 [(0, .ref h0), (1, .int v1), (2, .int v2), (3, .int v3), (4, .int v4), (5, .int v5)] := hl
    have S_X1_rings_89 : ∀ (n : Nat) (v1 : Int32) (v2 : Int32) (v3 : Int32) (v4 : Int32) (v5 : Int32) (v6 : Int32) (v7 : Int32) (c_shortest : Int32) (k154 : Int32 → Option (Int32)), F_X1_rings_89 N (F_X1_rings N d) v1 v3 v4 v5 v6 c_now_line c_now_points c_now_lines n v7 c_shortest k154 = some ρ → (∀ (z_c_shortest : Int32) (H : Heap) (locs : List Loc) (ls : Array Slot), k154 z_c_shortest = some ρ → va_P G.2.1 vwCl (cW h0 ad G.2.2 c_listPoints c_listLines c_refused c_imageRefused c_hasImage c_tape c_taped c_faultPlace c_orbit c_lineFor c_dualities c_polarities z_c_shortest c_placeX c_placeY c_placeZ c_lies c_firstLies c_worth c_its c_now_points c_now_lines c_now_line c_now_x c_now_y c_tried_points c_tried_lines c_tried_line c_tried_x c_tried_y c_imageNow_points c_imageNow_lines c_imageNow_line c_imageNow_x c_imageNow_y) H → va_D A (cW h0 ad G.2.2 c_listPoints c_listLines c_refused c_imageRefused c_hasImage c_tape c_taped c_faultPlace c_orbit c_lineFor c_dualities c_polarities z_c_shortest c_placeX c_placeY c_placeZ c_lies c_firstLies c_worth c_its c_now_points c_now_lines c_now_line c_now_x c_now_y c_tried_points c_tried_lines c_tried_line c_tried_x c_tried_y c_imageNow_points c_imageNow_lines c_imageNow_line c_imageNow_x c_imageNow_y) → va_S A s.heap H locs → lv_has ls 8 [(0, .ref h0), (1, .int v1), (2, .int v2), (3, .int v3), (4, .int v4), (5, .int v5), (6, .int v6)] → W p l e (rmL (2 + (d + 1)) 0 0) s m args below meth c H locs 0 0 Q (F0 m 154 ls [])) → ∀ (H : Heap) (locs : List Loc), va_P G.2.1 vwCl (cW h0 ad G.2.2 c_listPoints c_listLines c_refused c_imageRefused c_hasImage c_tape c_taped c_faultPlace c_orbit c_lineFor c_dualities c_polarities c_shortest c_placeX c_placeY c_placeZ c_lies c_firstLies c_worth c_its c_now_points c_now_lines c_now_line c_now_x c_now_y c_tried_points c_tried_lines c_tried_line c_tried_x c_tried_y c_imageNow_points c_imageNow_lines c_imageNow_line c_imageNow_x c_imageNow_y) H → va_D A (cW h0 ad G.2.2 c_listPoints c_listLines c_refused c_imageRefused c_hasImage c_tape c_taped c_faultPlace c_orbit c_lineFor c_dualities c_polarities c_shortest c_placeX c_placeY c_placeZ c_lies c_firstLies c_worth c_its c_now_points c_now_lines c_now_line c_now_x c_now_y c_tried_points c_tried_lines c_tried_line c_tried_x c_tried_y c_imageNow_points c_imageNow_lines c_imageNow_line c_imageNow_x c_imageNow_y) → va_S A s.heap H locs → ∀ (ls : Array Slot), lv_has ls 8 [(0, .ref h0), (1, .int v1), (2, .int v2), (3, .int v3), (4, .int v4), (5, .int v5), (6, .int v6), (7, .int v7)] → W p l e (rmL (2 + (d + 1)) 0 0) s m args below meth c H locs 0 0 Q (F0 m 89 ls []) := by
      intro n
      induction n with
      | zero =>
        intro v1 v2 v3 v4 v5 v6 v7 c_shortest k154 h
        exact absurd h (by simp [F_X1_rings_89])
      | succ n ih =>
        intro v1 v2 v3 v4 v5 v6 v7 c_shortest k154 h hk154 H locs hP hD hS ls hl
        rw [F_X1_rings_89] at h
        refine lv_iload hx hb dX1_rings_89 (lv_at hl 7 rfl) ?_
        refine lv_aload_n hx hb dX1_rings_91 rfl (lv_at hl 0 rfl) ?_
        refine va_get (ci := 0) (v := .ref (ad 3)) (C := RX1) (T := TX1) (N := 28) hx hb hts in_X1 hown hK hP 0 rfl rfl 3 (by decide) (hts _ q580) (fun _ h9 => h9) rfl dX1_rings_92 ?_
        refine va_getN (ci := 1) (v := .int c_now_lines) (C := RX2) (T := TX2) (N := 5) hx hb hts in_X2 hown hK hP 1 rfl rfl 1 (by decide) (hG.nf hW0 q228) (fun _ h9 => h9) rfl dX1_rings_95 ?_
        refine lv_icmp_ge (tgt := 154) hx hb dX1_rings_98 (by decide) (fun c8 => ?_) (fun c8 => ?_)
        · rw [if_pos c8] at h
          exact hk154 c_shortest _ _ _ h hP hD hS (lv_sub hl [0, 1, 2, 3, 4, 5, 6] rfl)
        · rw [if_neg c8] at h
          refine lv_iload_n hx hb dX1_rings_101 rfl (lv_at hl 3 rfl) ?_
          refine lv_iload hx hb dX1_rings_102 (lv_at hl 7 rfl) ?_
          refine lv_ishr hx hb dX1_rings_104 ?_
          refine lv_iconst (v := 1) hx hb dX1_rings_105 (by decide) ?_
          refine lv_iand hx hb dX1_rings_106 ?_
          refine lv_if_ne (tgt := 148) hx hb dX1_rings_107 (by decide) (fun c9 => ?_) (fun c9 => ?_)
          · rw [if_neg c9] at h
            refine lv_iinc (v := (v7 + 1)) (lv' := [(7, .int (v7 + 1)), (0, .ref h0), (1, .int v1), (2, .int v2), (3, .int v3), (4, .int v4), (5, .int v5), (6, .int v6)]) hx hb dX1_rings_148 hl (k := 7) rfl rfl (by decide) rfl (fun ls hl => ?_)
            refine lv_goto (tgt := 89) hx hb dX1_rings_151 (by decide) ?_
            exact ih v1 v2 v3 v4 v5 v6 (v7 + 1) c_shortest _ h hk154 _ _ hP hD hS _ (lv_sub hl [1, 2, 3, 4, 5, 6, 7, 0] rfl)
          · rw [if_pos c9] at h
            refine lv_aload_n hx hb dX1_rings_110 rfl (lv_at hl 0 rfl) ?_
            refine va_get (ci := 0) (v := .ref (ad 3)) (C := RX1) (T := TX1) (N := 28) hx hb hts in_X1 hown hK hP 0 rfl rfl 3 (by decide) (hts _ q580) (fun _ h9 => h9) rfl dX1_rings_111 ?_
            refine lv_iload hx hb dX1_rings_114 (lv_at hl 6 rfl) ?_
            refine lv_iload hx hb dX1_rings_116 (lv_at hl 7 rfl) ?_
            obtain ⟨y10, e10, h⟩ := ob_s h
            refine MR.callV (q0 := 0) (M_X2_isOn hG e10) S (cw_X2_isOn hts q1342 ⟨by dsimp only; omega, by dsimp only; omega⟩) hW0 hK (hP.sub (ws' := (sW (ad 3) (fun k => ad (30 + k)) G.2.2 c_now_points c_now_lines c_now_line c_now_x c_now_y)) [1, 2, 3, 4] rfl) rfl rfl rfl hl.1 rfl (Nat.le_of_ble_eq_true rfl) dX1_rings_118 ⟨Nat.zero_le _, Nat.zero_le _⟩ ?_
            refine lv_if_eq (tgt := 148) hx hb dX1_rings_121 (by decide) (fun c11 => ?_) (fun c11 => ?_)
            · rw [if_pos c11] at h
              refine lv_iinc (v := (v7 + 1)) (lv' := [(7, .int (v7 + 1)), (0, .ref h0), (1, .int v1), (2, .int v2), (3, .int v3), (4, .int v4), (5, .int v5), (6, .int v6)]) hx hb dX1_rings_148 hl (k := 7) rfl rfl (by decide) rfl (fun ls hl => ?_)
              refine lv_goto (tgt := 89) hx hb dX1_rings_151 (by decide) ?_
              exact ih v1 v2 v3 v4 v5 v6 (v7 + 1) c_shortest _ h hk154 _ _ hP hD hS _ (lv_sub hl [1, 2, 3, 4, 5, 6, 7, 0] rfl)
            · rw [if_neg c11] at h
              refine lv_aload_n hx hb dX1_rings_124 rfl (lv_at hl 0 rfl) ?_
              refine lv_iload_n hx hb dX1_rings_125 rfl (lv_at hl 1 rfl) ?_
              refine lv_iload hx hb dX1_rings_126 (lv_at hl 7 rfl) ?_
              refine lv_iload_n hx hb dX1_rings_128 rfl (lv_at hl 3 rfl) ?_
              refine lv_iconst (v := 1) hx hb dX1_rings_129 (by decide) ?_
              refine lv_iload hx hb dX1_rings_130 (lv_at hl 7 rfl) ?_
              refine lv_ishl hx hb dX1_rings_132 ?_
              refine lv_ior hx hb dX1_rings_133 ?_
              refine lv_iload hx hb dX1_rings_134 (lv_at hl 4 rfl) ?_
              refine lv_iconst (v := 1) hx hb dX1_rings_136 (by decide) ?_
              refine lv_iload hx hb dX1_rings_137 (lv_at hl 6 rfl) ?_
              refine lv_ishl hx hb dX1_rings_139 ?_
              refine lv_ior hx hb dX1_rings_140 ?_
              refine lv_iload hx hb dX1_rings_141 (lv_at hl 5 rfl) ?_
              refine lv_iconst (v := 1) hx hb dX1_rings_143 (by decide) ?_
              refine lv_iadd hx hb dX1_rings_144 ?_
              obtain ⟨y12, e12, h⟩ := ob_s h
              refine MW.callV (q0 := 0) (ihd e12) S (cw_X1_rings hts q1378 ⟨by dsimp only; omega, by dsimp only; omega⟩) hW0 hK hP hD hS hA rfl rfl rfl hl.1 rfl (Nat.le_of_ble_eq_true rfl) dX1_rings_145 ⟨Nat.zero_le _, Nat.zero_le _⟩ (fun H locs hP hD hS => ?_)
              have hP : va_P G.2.1 vwCl (cW h0 ad G.2.2 c_listPoints c_listLines c_refused c_imageRefused c_hasImage c_tape c_taped c_faultPlace c_orbit c_lineFor c_dualities c_polarities y12 c_placeX c_placeY c_placeZ c_lies c_firstLies c_worth c_its c_now_points c_now_lines c_now_line c_now_x c_now_y c_tried_points c_tried_lines c_tried_line c_tried_x c_tried_y c_imageNow_points c_imageNow_lines c_imageNow_line c_imageNow_x c_imageNow_y) H := hP
              have hD : va_D A (cW h0 ad G.2.2 c_listPoints c_listLines c_refused c_imageRefused c_hasImage c_tape c_taped c_faultPlace c_orbit c_lineFor c_dualities c_polarities y12 c_placeX c_placeY c_placeZ c_lies c_firstLies c_worth c_its c_now_points c_now_lines c_now_line c_now_x c_now_y c_tried_points c_tried_lines c_tried_line c_tried_x c_tried_y c_imageNow_points c_imageNow_lines c_imageNow_line c_imageNow_x c_imageNow_y) := hD
              refine W.eq (g2 := F0 m 148 ls []) rfl ?_
              refine lv_iinc (v := (v7 + 1)) (lv' := [(7, .int (v7 + 1)), (0, .ref h0), (1, .int v1), (2, .int v2), (3, .int v3), (4, .int v4), (5, .int v5), (6, .int v6)]) hx hb dX1_rings_148 hl (k := 7) rfl rfl (by decide) rfl (fun ls hl => ?_)
              refine lv_goto (tgt := 89) hx hb dX1_rings_151 (by decide) ?_
              exact ih v1 v2 v3 v4 v5 v6 (v7 + 1) y12 _ h hk154 _ _ hP hD hS _ (lv_sub hl [1, 2, 3, 4, 5, 6, 7, 0] rfl)
    have S_X1_rings_84 : ∀ (v1 : Int32) (v2 : Int32) (v3 : Int32) (v4 : Int32) (v5 : Int32) (v6 : Int32) (c_shortest : Int32) (k13 : Int32 → Int32 → Option (Int32)), F_X1_rings_84 N (F_X1_rings N d) c_now_line c_now_points c_now_lines v1 v3 v4 v5 v6 c_shortest k13 = some ρ → (∀ (u6 : Int32) (z_c_shortest : Int32) (H : Heap) (locs : List Loc) (ls : Array Slot), k13 u6 z_c_shortest = some ρ → va_P G.2.1 vwCl (cW h0 ad G.2.2 c_listPoints c_listLines c_refused c_imageRefused c_hasImage c_tape c_taped c_faultPlace c_orbit c_lineFor c_dualities c_polarities z_c_shortest c_placeX c_placeY c_placeZ c_lies c_firstLies c_worth c_its c_now_points c_now_lines c_now_line c_now_x c_now_y c_tried_points c_tried_lines c_tried_line c_tried_x c_tried_y c_imageNow_points c_imageNow_lines c_imageNow_line c_imageNow_x c_imageNow_y) H → va_D A (cW h0 ad G.2.2 c_listPoints c_listLines c_refused c_imageRefused c_hasImage c_tape c_taped c_faultPlace c_orbit c_lineFor c_dualities c_polarities z_c_shortest c_placeX c_placeY c_placeZ c_lies c_firstLies c_worth c_its c_now_points c_now_lines c_now_line c_now_x c_now_y c_tried_points c_tried_lines c_tried_line c_tried_x c_tried_y c_imageNow_points c_imageNow_lines c_imageNow_line c_imageNow_x c_imageNow_y) → va_S A s.heap H locs → lv_has ls 8 [(0, .ref h0), (1, .int v1), (2, .int v2), (3, .int v3), (4, .int v4), (5, .int v5), (6, .int u6)] → W p l e (rmL (2 + (d + 1)) 0 0) s m args below meth c H locs 0 0 Q (F0 m 13 ls [])) → ∀ (H : Heap) (locs : List Loc), va_P G.2.1 vwCl (cW h0 ad G.2.2 c_listPoints c_listLines c_refused c_imageRefused c_hasImage c_tape c_taped c_faultPlace c_orbit c_lineFor c_dualities c_polarities c_shortest c_placeX c_placeY c_placeZ c_lies c_firstLies c_worth c_its c_now_points c_now_lines c_now_line c_now_x c_now_y c_tried_points c_tried_lines c_tried_line c_tried_x c_tried_y c_imageNow_points c_imageNow_lines c_imageNow_line c_imageNow_x c_imageNow_y) H → va_D A (cW h0 ad G.2.2 c_listPoints c_listLines c_refused c_imageRefused c_hasImage c_tape c_taped c_faultPlace c_orbit c_lineFor c_dualities c_polarities c_shortest c_placeX c_placeY c_placeZ c_lies c_firstLies c_worth c_its c_now_points c_now_lines c_now_line c_now_x c_now_y c_tried_points c_tried_lines c_tried_line c_tried_x c_tried_y c_imageNow_points c_imageNow_lines c_imageNow_line c_imageNow_x c_imageNow_y) → va_S A s.heap H locs → ∀ (ls : Array Slot), lv_has ls 8 [(0, .ref h0), (1, .int v1), (2, .int v2), (3, .int v3), (4, .int v4), (5, .int v5), (6, .int v6)] → W p l e (rmL (2 + (d + 1)) 0 0) s m args below meth c H locs 0 0 Q (F0 m 84 ls []) := by
      intro v1 v2 v3 v4 v5 v6 c_shortest k13 h hk13 H locs hP hD hS ls hl
      rw [F_X1_rings_84] at h
      refine lv_iload_n hx hb dX1_rings_84 rfl (lv_at hl 1 rfl) ?_
      refine lv_iconst (v := 1) hx hb dX1_rings_85 (by decide) ?_
      refine lv_iadd hx hb dX1_rings_86 ?_
      refine lv_istore (lv' := [(7, .int (v1 + (1 : Int32))), (0, .ref h0), (1, .int v1), (2, .int v2), (3, .int v3), (4, .int v4), (5, .int v5), (6, .int v6)]) hx hb dX1_rings_87 hl (by decide) rfl (fun ls hl => ?_)
      refine S_X1_rings_89 N v1 v2 v3 v4 v5 v6 (v1 + (1 : Int32)) c_shortest _ h ?_ _ _ hP hD hS _ (lv_sub hl [1, 2, 3, 4, 5, 6, 7, 0] rfl)
      · intro c_shortest_13 H locs ls h hP hD hS hl
        refine lv_iinc (v := (v6 + 1)) (lv' := [(6, .int (v6 + 1)), (0, .ref h0), (1, .int v1), (2, .int v2), (3, .int v3), (4, .int v4), (5, .int v5)]) hx hb dX1_rings_154 hl (k := 6) rfl rfl (by decide) rfl (fun ls hl => ?_)
        refine lv_goto (tgt := 13) hx hb dX1_rings_157 (by decide) ?_
        exact hk13 (v6 + 1) c_shortest_13 _ _ _ h hP hD hS (lv_sub hl [1, 2, 3, 4, 5, 6, 0] rfl)
    have S_X1_rings_13 : ∀ (n : Nat) (v1 : Int32) (v2 : Int32) (v3 : Int32) (v4 : Int32) (v5 : Int32) (v6 : Int32) (c_shortest : Int32), F_X1_rings_13 N (F_X1_rings N d) v1 v2 v3 v4 v5 c_now_line c_now_points c_now_lines n v6 c_shortest = some ρ → ∀ (H : Heap) (locs : List Loc), va_P G.2.1 vwCl (cW h0 ad G.2.2 c_listPoints c_listLines c_refused c_imageRefused c_hasImage c_tape c_taped c_faultPlace c_orbit c_lineFor c_dualities c_polarities c_shortest c_placeX c_placeY c_placeZ c_lies c_firstLies c_worth c_its c_now_points c_now_lines c_now_line c_now_x c_now_y c_tried_points c_tried_lines c_tried_line c_tried_x c_tried_y c_imageNow_points c_imageNow_lines c_imageNow_line c_imageNow_x c_imageNow_y) H → va_D A (cW h0 ad G.2.2 c_listPoints c_listLines c_refused c_imageRefused c_hasImage c_tape c_taped c_faultPlace c_orbit c_lineFor c_dualities c_polarities c_shortest c_placeX c_placeY c_placeZ c_lies c_firstLies c_worth c_its c_now_points c_now_lines c_now_line c_now_x c_now_y c_tried_points c_tried_lines c_tried_line c_tried_x c_tried_y c_imageNow_points c_imageNow_lines c_imageNow_line c_imageNow_x c_imageNow_y) → va_S A s.heap H locs → ∀ (ls : Array Slot), lv_has ls 8 [(0, .ref h0), (1, .int v1), (2, .int v2), (3, .int v3), (4, .int v4), (5, .int v5), (6, .int v6)] → W p l e (rmL (2 + (d + 1)) 0 0) s m args below meth c H locs 0 0 Q (F0 m 13 ls []) := by
      intro n
      induction n with
      | zero =>
        intro v1 v2 v3 v4 v5 v6 c_shortest h
        exact absurd h (by simp [F_X1_rings_13])
      | succ n ih =>
        intro v1 v2 v3 v4 v5 v6 c_shortest h H locs hP hD hS ls hl
        rw [F_X1_rings_13] at h
        refine lv_iload hx hb dX1_rings_13 (lv_at hl 6 rfl) ?_
        refine lv_aload_n hx hb dX1_rings_15 rfl (lv_at hl 0 rfl) ?_
        refine va_get (ci := 0) (v := .ref (ad 3)) (C := RX1) (T := TX1) (N := 28) hx hb hts in_X1 hown hK hP 0 rfl rfl 3 (by decide) (hts _ q580) (fun _ h9 => h9) rfl dX1_rings_16 ?_
        refine va_getN (ci := 1) (v := .int c_now_points) (C := RX2) (T := TX2) (N := 5) hx hb hts in_X2 hown hK hP 1 rfl rfl 0 (by decide) (hG.nf hW0 q224) (fun _ h9 => h9) rfl dX1_rings_19 ?_
        refine lv_icmp_ge (tgt := 160) hx hb dX1_rings_22 (by decide) (fun c2 => ?_) (fun c2 => ?_)
        · rw [if_pos c2] at h
          obtain rfl := Option.some.inj h
          exact hretv rfl dX1_rings_160 rfl hP hD hS
        · rw [if_neg c2] at h
          refine lv_aload_n hx hb dX1_rings_25 rfl (lv_at hl 0 rfl) ?_
          refine va_get (ci := 0) (v := .ref (ad 3)) (C := RX1) (T := TX1) (N := 28) hx hb hts in_X1 hown hK hP 0 rfl rfl 3 (by decide) (hts _ q580) (fun _ h9 => h9) rfl dX1_rings_26 ?_
          refine lv_iload hx hb dX1_rings_29 (lv_at hl 6 rfl) ?_
          refine lv_iload_n hx hb dX1_rings_31 rfl (lv_at hl 2 rfl) ?_
          obtain ⟨y4, e4, h⟩ := ob_s h
          refine MR.callV (q0 := 0) (M_X2_isOn hG e4) S (cw_X2_isOn hts q1342 ⟨by dsimp only; omega, by dsimp only; omega⟩) hW0 hK (hP.sub (ws' := (sW (ad 3) (fun k => ad (30 + k)) G.2.2 c_now_points c_now_lines c_now_line c_now_x c_now_y)) [1, 2, 3, 4] rfl) rfl rfl rfl hl.1 rfl (Nat.le_of_ble_eq_true rfl) dX1_rings_32 ⟨Nat.zero_le _, Nat.zero_le _⟩ ?_
          refine lv_if_eq (tgt := 154) hx hb dX1_rings_35 (by decide) (fun c5 => ?_) (fun c5 => ?_)
          · rw [if_pos c5] at h
            refine lv_iinc (v := (v6 + 1)) (lv' := [(6, .int (v6 + 1)), (0, .ref h0), (1, .int v1), (2, .int v2), (3, .int v3), (4, .int v4), (5, .int v5)]) hx hb dX1_rings_154 hl (k := 6) rfl rfl (by decide) rfl (fun ls hl => ?_)
            refine lv_goto (tgt := 13) hx hb dX1_rings_157 (by decide) ?_
            exact ih v1 v2 v3 v4 v5 (v6 + 1) c_shortest h _ _ hP hD hS _ (lv_sub hl [1, 2, 3, 4, 5, 6, 0] rfl)
          · rw [if_neg c5] at h
            refine lv_iload hx hb dX1_rings_38 (lv_at hl 4 rfl) ?_
            refine lv_iload hx hb dX1_rings_40 (lv_at hl 6 rfl) ?_
            refine lv_ishr hx hb dX1_rings_42 ?_
            refine lv_iconst (v := 1) hx hb dX1_rings_43 (by decide) ?_
            refine lv_iand hx hb dX1_rings_44 ?_
            refine lv_iconst (v := 1) hx hb dX1_rings_45 (by decide) ?_
            refine lv_icmp_ne (tgt := 52) hx hb dX1_rings_46 (by decide) (fun c6 => ?_) (fun c6 => ?_)
            · rw [if_neg c6] at h
              refine lv_iload hx hb dX1_rings_52 (lv_at hl 5 rfl) ?_
              refine lv_iconst (v := 3) hx hb dX1_rings_54 (by decide) ?_
              refine lv_icmp_lt (tgt := 84) hx hb dX1_rings_55 (by decide) (fun c7 => ?_) (fun c7 => ?_)
              · rw [if_pos c7] at h
                refine S_X1_rings_84 v1 v2 v3 v4 v5 v6 c_shortest _ h (fun u6 z_c_shortest H locs ls h hP hD hS hl => ih v1 v2 v3 v4 v5 u6 z_c_shortest h H locs hP hD hS ls hl) _ _ hP hD hS _ (lv_sub hl [0, 1, 2, 3, 4, 5, 6] rfl)
              · rw [if_neg c7] at h
                refine lv_aload_n hx hb dX1_rings_58 rfl (lv_at hl 0 rfl) ?_
                refine va_get (ci := 0) (v := .ref (ad 3)) (C := RX1) (T := TX1) (N := 28) hx hb hts in_X1 hown hK hP 0 rfl rfl 3 (by decide) (hts _ q580) (fun _ h9 => h9) rfl dX1_rings_59 ?_
                refine lv_iload hx hb dX1_rings_62 (lv_at hl 6 rfl) ?_
                refine lv_iload_n hx hb dX1_rings_64 rfl (lv_at hl 1 rfl) ?_
                obtain ⟨y14, e14, h⟩ := ob_s h
                refine MR.callV (q0 := 0) (M_X2_isOn hG e14) S (cw_X2_isOn hts q1342 ⟨by dsimp only; omega, by dsimp only; omega⟩) hW0 hK (hP.sub (ws' := (sW (ad 3) (fun k => ad (30 + k)) G.2.2 c_now_points c_now_lines c_now_line c_now_x c_now_y)) [1, 2, 3, 4] rfl) rfl rfl rfl hl.1 rfl (Nat.le_of_ble_eq_true rfl) dX1_rings_65 ⟨Nat.zero_le _, Nat.zero_le _⟩ ?_
                refine lv_if_eq (tgt := 84) hx hb dX1_rings_68 (by decide) (fun c15 => ?_) (fun c15 => ?_)
                · rw [if_pos c15] at h
                  refine S_X1_rings_84 v1 v2 v3 v4 v5 v6 c_shortest _ h (fun u6 z_c_shortest H locs ls h hP hD hS hl => ih v1 v2 v3 v4 v5 u6 z_c_shortest h H locs hP hD hS ls hl) _ _ hP hD hS _ (lv_sub hl [0, 1, 2, 3, 4, 5, 6] rfl)
                · rw [if_neg c15] at h
                  refine lv_aload_n hx hb dX1_rings_71 rfl (lv_at hl 0 rfl) ?_
                  refine lv_aload_n hx hb dX1_rings_72 rfl (lv_at hl 0 rfl) ?_
                  refine va_get (ci := 0) (v := .int c_shortest) (C := RX1) (T := TX1) (N := 28) hx hb hts in_X1 hown hK hP 0 rfl rfl 20 (by decide) (hts _ q597) (fun _ h9 => h9) rfl dX1_rings_73 ?_
                  refine lv_iload hx hb dX1_rings_76 (lv_at hl 5 rfl) ?_
                  refine va_mmin hx hb (hml.trans hl.1.symm) hown (hts _ q1329) (hts _ q377) (hts _ q165) (hts _ q378) (Nat.le_of_ble_eq_true rfl) (Nat.le_of_ble_eq_true rfl) (Nat.zero_le _) (Nat.zero_le _) dX1_rings_78 ?_
                  refine va_put (ci := 0) (v := .int (if v5 < c_shortest then v5 else c_shortest)) (ty := .int) (C := RX1) (T := TX1) (N := 28) hx hb hts in_X1 tyX1 tyX1_ok nmX1 hown hK hP hD hS 0 rfl rfl 20 (by decide) (hts _ q597) (fun _ h9 => h9) rfl (by decide +kernel) rfl rfl (Nat.le_of_ble_eq_true rfl) dX1_rings_81 (fun H locs hP hD hS => ?_)
                  have hP : va_P G.2.1 vwCl (cW h0 ad G.2.2 c_listPoints c_listLines c_refused c_imageRefused c_hasImage c_tape c_taped c_faultPlace c_orbit c_lineFor c_dualities c_polarities (if v5 < c_shortest then v5 else c_shortest) c_placeX c_placeY c_placeZ c_lies c_firstLies c_worth c_its c_now_points c_now_lines c_now_line c_now_x c_now_y c_tried_points c_tried_lines c_tried_line c_tried_x c_tried_y c_imageNow_points c_imageNow_lines c_imageNow_line c_imageNow_x c_imageNow_y) H := hP
                  have hD : va_D A (cW h0 ad G.2.2 c_listPoints c_listLines c_refused c_imageRefused c_hasImage c_tape c_taped c_faultPlace c_orbit c_lineFor c_dualities c_polarities (if v5 < c_shortest then v5 else c_shortest) c_placeX c_placeY c_placeZ c_lies c_firstLies c_worth c_its c_now_points c_now_lines c_now_line c_now_x c_now_y c_tried_points c_tried_lines c_tried_line c_tried_x c_tried_y c_imageNow_points c_imageNow_lines c_imageNow_line c_imageNow_x c_imageNow_y) := hD
                  refine S_X1_rings_84 v1 v2 v3 v4 v5 v6 (if v5 < c_shortest then v5 else c_shortest) _ h (fun u6 z_c_shortest H locs ls h hP hD hS hl => ih v1 v2 v3 v4 v5 u6 z_c_shortest h H locs hP hD hS ls hl) _ _ hP hD hS _ (lv_sub hl [0, 1, 2, 3, 4, 5, 6] rfl)
            · rw [if_pos c6] at h
              refine lv_goto (tgt := 154) hx hb dX1_rings_49 (by decide) ?_
              refine lv_iinc (v := (v6 + 1)) (lv' := [(6, .int (v6 + 1)), (0, .ref h0), (1, .int v1), (2, .int v2), (3, .int v3), (4, .int v4), (5, .int v5)]) hx hb dX1_rings_154 hl (k := 6) rfl rfl (by decide) rfl (fun ls hl => ?_)
              refine lv_goto (tgt := 13) hx hb dX1_rings_157 (by decide) ?_
              exact ih v1 v2 v3 v4 v5 (v6 + 1) c_shortest h _ _ hP hD hS _ (lv_sub hl [1, 2, 3, 4, 5, 6, 0] rfl)
    refine lv_iload hx hb dX1_rings_0 (lv_at hl 5 rfl) ?_
    refine lv_aload_n hx hb dX1_rings_2 rfl (lv_at hl 0 rfl) ?_
    refine va_get (ci := 0) (v := .int c_shortest) (C := RX1) (T := TX1) (N := 28) hx hb hts in_X1 hown hK hP 0 rfl rfl 20 (by decide) (hts _ q597) (fun _ h9 => h9) rfl dX1_rings_3 ?_
    refine lv_icmp_lt (tgt := 10) hx hb dX1_rings_6 (by decide) (fun c1 => ?_) (fun c1 => ?_)
    · rw [if_pos c1] at h
      refine lv_iconst (v := 0) hx hb dX1_rings_10 (by decide) ?_
      refine lv_istore (lv' := [(6, .int 0), (0, .ref h0), (1, .int v1), (2, .int v2), (3, .int v3), (4, .int v4), (5, .int v5)]) hx hb dX1_rings_11 hl (by decide) rfl (fun ls hl => ?_)
      refine S_X1_rings_13 N v1 v2 v3 v4 v5 0 c_shortest h  _ _ hP hD hS _ (lv_sub hl [1, 2, 3, 4, 5, 6, 0] rfl)
    · rw [if_neg c1] at h
      obtain rfl := Option.some.inj h
      exact hretv rfl dX1_rings_9 rfl hP hD hS
def F_X1_girth_9 (N : Nat) (c_now_line : (Nat → Int32)) (c_now_points : Int32) (c_now_lines : Int32) : Nat → Int32 → Int32 → (Int32 → Option (Int32 × Int32)) → Option (Int32 × Int32)
  | 0, _, _, _ => none
  | n + 1, v1, c_shortest, k37 => (if c_now_lines ≤ v1 then (k37 c_shortest) else ((F_X1_rings N 16 v1 v1 ((1 : Int32) <<< (v1 &&& 31)) 0 1 c_now_line c_shortest c_now_points c_now_lines).bind fun y2 => (F_X1_girth_9 N c_now_line c_now_points c_now_lines n (v1 + 1) y2 k37)))
def F_X1_girth (N : Nat) (c_now_line : (Nat → Int32)) (c_shortest : Int32) (c_now_points : Int32) (c_now_lines : Int32) : Option (Int32 × Int32) := (F_X1_girth_9 N c_now_line c_now_points c_now_lines N 0 999 (fun c_shortest_3 => (if c_shortest_3 = 999 then (some ((-1), c_shortest_3)) else (some (c_shortest_3, c_shortest_3)))))
theorem cw_X1_girth {R : Room} {s : State} {args : Array Value} {own : String} {index lev mc ms : Nat} (hts : ∀ w ∈ lw_all, w.before args s = true) (hl : Cond.methodLink own index yX1_girth ∈ lw_all) (hR : (rmL lev mc ms).frames + 1 ≤ R.frames ∧ 8 + (2 + 11) + (rmL lev mc ms).locals ≤ R.locals) : CallW R s args own RX1 index yX1_girth cX1_girth 2 (some .int) (ws_ yX1_girth cX1_girth 2 (some .int)) (rmL lev mc ms) mc ms 0 := cwV 0 hts (lw_V hl q1376 qs45 q151 q1377) rfl rfl rfl (by decide +kernel) hR
set_option maxHeartbeats 4000000 in
theorem M_X1_girth {l : Launch} {G : GE} (hG : GC G) {N : Nat} {h0 : Nat} {ad : Nat → Nat} {c_listPoints : Int32} {c_listLines : Int32} {c_refused : (Nat → Int32)} {c_imageRefused : (Nat → Int32)} {c_hasImage : Int32} {c_tape : (Nat → Int32)} {c_taped : Int32} {c_faultPlace : Int32} {c_orbit : (Nat → Int32)} {c_lineFor : (Nat → Int32)} {c_dualities : Int32} {c_polarities : Int32} {c_placeX : (Nat → Int32)} {c_placeY : (Nat → Int32)} {c_placeZ : (Nat → Int32)} {c_lies : (Nat → Int32)} {c_firstLies : (Nat → Int32)} {c_worth : (Nat → Int32)} {c_its : Int32} {c_now_x : (Nat → Int32)} {c_now_y : (Nat → Int32)} {c_tried_points : Int32} {c_tried_lines : Int32} {c_tried_line : (Nat → Int32)} {c_tried_x : (Nat → Int32)} {c_tried_y : (Nat → Int32)} {c_imageNow_points : Int32} {c_imageNow_lines : Int32} {c_imageNow_line : (Nat → Int32)} {c_imageNow_x : (Nat → Int32)} {c_imageNow_y : (Nat → Int32)} {c_now_line : (Nat → Int32)} {c_shortest : Int32} {c_now_points : Int32} {c_now_lines : Int32} {ρ : (Int32 × Int32)} (h : F_X1_girth N c_now_line c_shortest c_now_points c_now_lines = some ρ) : MW l G yX1_girth cX1_girth 2 (some .int) 19 (cW h0 ad G.2.2 c_listPoints c_listLines c_refused c_imageRefused c_hasImage c_tape c_taped c_faultPlace c_orbit c_lineFor c_dualities c_polarities c_shortest c_placeX c_placeY c_placeZ c_lies c_firstLies c_worth c_its c_now_points c_now_lines c_now_line c_now_x c_now_y c_tried_points c_tried_lines c_tried_line c_tried_x c_tried_y c_imageNow_points c_imageNow_lines c_imageNow_line c_imageNow_x c_imageNow_y) [.ref h0] (some (.int ρ.1)) (cW h0 ad G.2.2 c_listPoints c_listLines c_refused c_imageRefused c_hasImage c_tape c_taped c_faultPlace c_orbit c_lineFor c_dualities c_polarities ρ.2 c_placeX c_placeY c_placeZ c_lies c_firstLies c_worth c_its c_now_points c_now_lines c_now_line c_now_x c_now_y c_tried_points c_tried_lines c_tried_line c_tried_x c_tried_y c_imageNow_points c_imageNow_lines c_imageNow_line c_imageNow_x c_imageNow_y) := by
  rw [F_X1_girth] at h
  refine MW.start hG (by decide) (Nat.le_of_ble_eq_true rfl) ?_
  intro p e s m args below meth c Q A S hW0 hK hP hD hA hreti hretv ls hl
  have hS : va_S A s.heap s.heap [] := va_S.rf
  obtain ⟨hx, hb, hml, hown, hts⟩ := id S
  have hl : lv_has ls 2 [(0, .ref h0)] := hl
  have S_X1_girth_9 : ∀ (n : Nat) (v1 : Int32) (c_shortest : Int32) (k37 : Int32 → Option (Int32 × Int32)), F_X1_girth_9 N c_now_line c_now_points c_now_lines n v1 c_shortest k37 = some ρ → (∀ (z_c_shortest : Int32) (H : Heap) (locs : List Loc) (ls : Array Slot), k37 z_c_shortest = some ρ → va_P G.2.1 vwCl (cW h0 ad G.2.2 c_listPoints c_listLines c_refused c_imageRefused c_hasImage c_tape c_taped c_faultPlace c_orbit c_lineFor c_dualities c_polarities z_c_shortest c_placeX c_placeY c_placeZ c_lies c_firstLies c_worth c_its c_now_points c_now_lines c_now_line c_now_x c_now_y c_tried_points c_tried_lines c_tried_line c_tried_x c_tried_y c_imageNow_points c_imageNow_lines c_imageNow_line c_imageNow_x c_imageNow_y) H → va_D A (cW h0 ad G.2.2 c_listPoints c_listLines c_refused c_imageRefused c_hasImage c_tape c_taped c_faultPlace c_orbit c_lineFor c_dualities c_polarities z_c_shortest c_placeX c_placeY c_placeZ c_lies c_firstLies c_worth c_its c_now_points c_now_lines c_now_line c_now_x c_now_y c_tried_points c_tried_lines c_tried_line c_tried_x c_tried_y c_imageNow_points c_imageNow_lines c_imageNow_line c_imageNow_x c_imageNow_y) → va_S A s.heap H locs → lv_has ls 2 [(0, .ref h0)] → W p l e (rmL 19 0 0) s m args below meth c H locs 0 0 Q (F0 m 37 ls [])) → ∀ (H : Heap) (locs : List Loc), va_P G.2.1 vwCl (cW h0 ad G.2.2 c_listPoints c_listLines c_refused c_imageRefused c_hasImage c_tape c_taped c_faultPlace c_orbit c_lineFor c_dualities c_polarities c_shortest c_placeX c_placeY c_placeZ c_lies c_firstLies c_worth c_its c_now_points c_now_lines c_now_line c_now_x c_now_y c_tried_points c_tried_lines c_tried_line c_tried_x c_tried_y c_imageNow_points c_imageNow_lines c_imageNow_line c_imageNow_x c_imageNow_y) H → va_D A (cW h0 ad G.2.2 c_listPoints c_listLines c_refused c_imageRefused c_hasImage c_tape c_taped c_faultPlace c_orbit c_lineFor c_dualities c_polarities c_shortest c_placeX c_placeY c_placeZ c_lies c_firstLies c_worth c_its c_now_points c_now_lines c_now_line c_now_x c_now_y c_tried_points c_tried_lines c_tried_line c_tried_x c_tried_y c_imageNow_points c_imageNow_lines c_imageNow_line c_imageNow_x c_imageNow_y) → va_S A s.heap H locs → ∀ (ls : Array Slot), lv_has ls 2 [(0, .ref h0), (1, .int v1)] → W p l e (rmL 19 0 0) s m args below meth c H locs 0 0 Q (F0 m 9 ls []) := by
    intro n
    induction n with
    | zero =>
      intro v1 c_shortest k37 h
      exact absurd h (by simp [F_X1_girth_9])
    | succ n ih =>
      intro v1 c_shortest k37 h hk37 H locs hP hD hS ls hl
      rw [F_X1_girth_9] at h
      refine lv_iload_n hx hb dX1_girth_9 rfl (lv_at hl 1 rfl) ?_
      refine lv_aload_n hx hb dX1_girth_10 rfl (lv_at hl 0 rfl) ?_
      refine va_get (ci := 0) (v := .ref (ad 3)) (C := RX1) (T := TX1) (N := 28) hx hb hts in_X1 hown hK hP 0 rfl rfl 3 (by decide) (hts _ q580) (fun _ h9 => h9) rfl dX1_girth_11 ?_
      refine va_getN (ci := 1) (v := .int c_now_lines) (C := RX2) (T := TX2) (N := 5) hx hb hts in_X2 hown hK hP 1 rfl rfl 1 (by decide) (hG.nf hW0 q228) (fun _ h9 => h9) rfl dX1_girth_14 ?_
      refine lv_icmp_ge (tgt := 37) hx hb dX1_girth_17 (by decide) (fun c1 => ?_) (fun c1 => ?_)
      · rw [if_pos c1] at h
        exact hk37 c_shortest _ _ _ h hP hD hS (lv_sub hl [0] rfl)
      · rw [if_neg c1] at h
        refine lv_aload_n hx hb dX1_girth_20 rfl (lv_at hl 0 rfl) ?_
        refine lv_iload_n hx hb dX1_girth_21 rfl (lv_at hl 1 rfl) ?_
        refine lv_iload_n hx hb dX1_girth_22 rfl (lv_at hl 1 rfl) ?_
        refine lv_iconst (v := 1) hx hb dX1_girth_23 (by decide) ?_
        refine lv_iload_n hx hb dX1_girth_24 rfl (lv_at hl 1 rfl) ?_
        refine lv_ishl hx hb dX1_girth_25 ?_
        refine lv_iconst (v := 0) hx hb dX1_girth_26 (by decide) ?_
        refine lv_iconst (v := 1) hx hb dX1_girth_27 (by decide) ?_
        obtain ⟨y2, e2, h⟩ := ob_s h
        refine MW.callV (q0 := 0) (M_X1_rings hG 16 e2) S (cw_X1_rings hts q1378 ⟨Nat.le_of_ble_eq_true rfl, Nat.le_of_ble_eq_true rfl⟩) hW0 hK hP hD hS hA rfl rfl rfl hl.1 rfl (Nat.le_of_ble_eq_true rfl) dX1_girth_28 ⟨Nat.zero_le _, Nat.zero_le _⟩ (fun H locs hP hD hS => ?_)
        have hP : va_P G.2.1 vwCl (cW h0 ad G.2.2 c_listPoints c_listLines c_refused c_imageRefused c_hasImage c_tape c_taped c_faultPlace c_orbit c_lineFor c_dualities c_polarities y2 c_placeX c_placeY c_placeZ c_lies c_firstLies c_worth c_its c_now_points c_now_lines c_now_line c_now_x c_now_y c_tried_points c_tried_lines c_tried_line c_tried_x c_tried_y c_imageNow_points c_imageNow_lines c_imageNow_line c_imageNow_x c_imageNow_y) H := hP
        have hD : va_D A (cW h0 ad G.2.2 c_listPoints c_listLines c_refused c_imageRefused c_hasImage c_tape c_taped c_faultPlace c_orbit c_lineFor c_dualities c_polarities y2 c_placeX c_placeY c_placeZ c_lies c_firstLies c_worth c_its c_now_points c_now_lines c_now_line c_now_x c_now_y c_tried_points c_tried_lines c_tried_line c_tried_x c_tried_y c_imageNow_points c_imageNow_lines c_imageNow_line c_imageNow_x c_imageNow_y) := hD
        refine W.eq (g2 := F0 m 31 ls []) rfl ?_
        refine lv_iinc (v := (v1 + 1)) (lv' := [(1, .int (v1 + 1)), (0, .ref h0)]) hx hb dX1_girth_31 hl (k := 1) rfl rfl (by decide) rfl (fun ls hl => ?_)
        refine lv_goto (tgt := 9) hx hb dX1_girth_34 (by decide) ?_
        exact ih (v1 + 1) y2 _ h hk37 _ _ hP hD hS _ (lv_sub hl [1, 0] rfl)
  refine lv_aload_n hx hb dX1_girth_0 rfl (lv_at hl 0 rfl) ?_
  refine lv_sipush (v := 999) hx hb dX1_girth_1 (by decide) ?_
  refine va_put (ci := 0) (v := .int 999) (ty := .int) (C := RX1) (T := TX1) (N := 28) hx hb hts in_X1 tyX1 tyX1_ok nmX1 hown hK hP hD hS 0 rfl rfl 20 (by decide) (hts _ q597) (fun _ h9 => h9) rfl (by decide +kernel) rfl rfl (Nat.le_of_ble_eq_true rfl) dX1_girth_4 (fun H locs hP hD hS => ?_)
  have hP : va_P G.2.1 vwCl (cW h0 ad G.2.2 c_listPoints c_listLines c_refused c_imageRefused c_hasImage c_tape c_taped c_faultPlace c_orbit c_lineFor c_dualities c_polarities 999 c_placeX c_placeY c_placeZ c_lies c_firstLies c_worth c_its c_now_points c_now_lines c_now_line c_now_x c_now_y c_tried_points c_tried_lines c_tried_line c_tried_x c_tried_y c_imageNow_points c_imageNow_lines c_imageNow_line c_imageNow_x c_imageNow_y) H := hP
  have hD : va_D A (cW h0 ad G.2.2 c_listPoints c_listLines c_refused c_imageRefused c_hasImage c_tape c_taped c_faultPlace c_orbit c_lineFor c_dualities c_polarities 999 c_placeX c_placeY c_placeZ c_lies c_firstLies c_worth c_its c_now_points c_now_lines c_now_line c_now_x c_now_y c_tried_points c_tried_lines c_tried_line c_tried_x c_tried_y c_imageNow_points c_imageNow_lines c_imageNow_line c_imageNow_x c_imageNow_y) := hD
  refine lv_iconst (v := 0) hx hb dX1_girth_7 (by decide) ?_
  refine lv_istore_n (lv' := [(1, .int 0), (0, .ref h0)]) hx hb dX1_girth_8 rfl hl (by decide) rfl (fun ls hl => ?_)
  refine S_X1_girth_9 N 0 999 _ h ?_ _ _ hP hD hS _ (lv_sub hl [1, 0] rfl)
  · intro c_shortest_3 H locs ls h hP hD hS hl
    refine lv_aload_n hx hb dX1_girth_37 rfl (lv_at hl 0 rfl) ?_
    refine va_get (ci := 0) (v := .int c_shortest_3) (C := RX1) (T := TX1) (N := 28) hx hb hts in_X1 hown hK hP 0 rfl rfl 20 (by decide) (hts _ q597) (fun _ h9 => h9) rfl dX1_girth_38 ?_
    refine lv_sipush (v := 999) hx hb dX1_girth_41 (by decide) ?_
    refine lv_icmp_ne (tgt := 51) hx hb dX1_girth_44 (by decide) (fun c4 => ?_) (fun c4 => ?_)
    · rw [if_neg c4] at h
      refine lv_aload_n hx hb dX1_girth_51 rfl (lv_at hl 0 rfl) ?_
      refine va_get (ci := 0) (v := .int c_shortest_3) (C := RX1) (T := TX1) (N := 28) hx hb hts in_X1 hown hK hP 0 rfl rfl 20 (by decide) (hts _ q597) (fun _ h9 => h9) rfl dX1_girth_52 ?_
      obtain rfl := Option.some.inj h
      exact hreti rfl dX1_girth_55 rfl rfl hP hD hS
    · rw [if_pos c4] at h
      refine lv_iconst (v := (-1)) hx hb dX1_girth_47 (by decide) ?_
      refine lv_goto (tgt := 55) hx hb dX1_girth_48 (by decide) ?_
      obtain rfl := Option.some.inj h
      exact hreti rfl dX1_girth_55 rfl rfl hP hD hS
def F_X1_areAround_18 (N : Nat) (v1 : Int32) (v3 : Int32) (c_now_line : (Nat → Int32)) : Nat → Int32 → Int32 → (Int32 → Option (Int32)) → Option (Int32)
  | 0, _, _, _ => none
  | n + 1, v2, v4, k91 => (if v3 ≤ v4 then (k91 v2) else (if ((v1 >>> (v3 &&& 31)) &&& (1 : Int32)) = 0 then (F_X1_areAround_18 N v1 v3 c_now_line n v2 (v4 + 1) k91) else (if ((v1 >>> (v4 &&& 31)) &&& (1 : Int32)) = 0 then (F_X1_areAround_18 N v1 v3 c_now_line n v2 (v4 + 1) k91) else (ckI v3 12 (ckI v4 12 (if ((c_now_line (Int32.toNatClampNeg v3)) &&& (c_now_line (Int32.toNatClampNeg v4))) = 0 then (some (0)) else (if (v2 &&& ((c_now_line (Int32.toNatClampNeg v3)) &&& (c_now_line (Int32.toNatClampNeg v4)))) = 0 then (F_X1_areAround_18 N v1 v3 c_now_line n (v2 ||| ((c_now_line (Int32.toNatClampNeg v3)) &&& (c_now_line (Int32.toNatClampNeg v4)))) (v4 + 1) k91) else (some (0)))))))))
def F_X1_areAround_4 (N : Nat) (v1 : Int32) (c_now_line : (Nat → Int32)) (c_now_lines : Int32) : Nat → Int32 → Int32 → Option (Int32)
  | 0, _, _ => none
  | n + 1, v2, v3 => (if c_now_lines ≤ v3 then (some (1)) else (F_X1_areAround_18 N v1 v3 c_now_line N v2 0 (fun u2_12 => (F_X1_areAround_4 N v1 c_now_line c_now_lines n u2_12 (v3 + 1)))))
def F_X1_areAround (N : Nat) (v1 : Int32) (c_now_line : (Nat → Int32)) (c_now_lines : Int32) : Option (Int32) := (F_X1_areAround_4 N v1 c_now_line c_now_lines N 0 0)
theorem cw_X1_areAround {R : Room} {s : State} {args : Array Value} {own : String} {index lev mc ms : Nat} (hts : ∀ w ∈ lw_all, w.before args s = true) (hl : Cond.methodLink own index yX1_areAround ∈ lw_all) (hR : (rmL lev mc ms).frames + 1 ≤ R.frames ∧ 8 + (6 + 11) + (rmL lev mc ms).locals ≤ R.locals) : CallW R s args own RX1 index yX1_areAround cX1_areAround 6 (some .boolean) (ws_ yX1_areAround cX1_areAround 6 (some .boolean)) (rmL lev mc ms) mc ms 1 := cwV 1 hts (lw_V hl q1388 qs48 q151 q1389) rfl rfl rfl (by decide +kernel) hR
set_option maxHeartbeats 4000000 in
theorem M_X1_areAround {l : Launch} {G : GE} (hG : GC G) {N : Nat} {h0 : Nat} {ad : Nat → Nat} {c_listPoints : Int32} {c_listLines : Int32} {c_refused : (Nat → Int32)} {c_imageRefused : (Nat → Int32)} {c_hasImage : Int32} {c_tape : (Nat → Int32)} {c_taped : Int32} {c_faultPlace : Int32} {c_orbit : (Nat → Int32)} {c_lineFor : (Nat → Int32)} {c_dualities : Int32} {c_polarities : Int32} {c_shortest : Int32} {c_placeX : (Nat → Int32)} {c_placeY : (Nat → Int32)} {c_placeZ : (Nat → Int32)} {c_lies : (Nat → Int32)} {c_firstLies : (Nat → Int32)} {c_worth : (Nat → Int32)} {c_its : Int32} {c_now_points : Int32} {c_now_x : (Nat → Int32)} {c_now_y : (Nat → Int32)} {c_tried_points : Int32} {c_tried_lines : Int32} {c_tried_line : (Nat → Int32)} {c_tried_x : (Nat → Int32)} {c_tried_y : (Nat → Int32)} {c_imageNow_points : Int32} {c_imageNow_lines : Int32} {c_imageNow_line : (Nat → Int32)} {c_imageNow_x : (Nat → Int32)} {c_imageNow_y : (Nat → Int32)} {v1 : Int32} {c_now_line : (Nat → Int32)} {c_now_lines : Int32} {ρ : (Int32)} (h : F_X1_areAround N v1 c_now_line c_now_lines = some ρ) : MR l G yX1_areAround cX1_areAround 6 (some .boolean) 1 (cW h0 ad G.2.2 c_listPoints c_listLines c_refused c_imageRefused c_hasImage c_tape c_taped c_faultPlace c_orbit c_lineFor c_dualities c_polarities c_shortest c_placeX c_placeY c_placeZ c_lies c_firstLies c_worth c_its c_now_points c_now_lines c_now_line c_now_x c_now_y c_tried_points c_tried_lines c_tried_line c_tried_x c_tried_y c_imageNow_points c_imageNow_lines c_imageNow_line c_imageNow_x c_imageNow_y) [.ref h0, .int v1] ρ := by
  rw [F_X1_areAround] at h
  refine MR.start (rt := .boolean) hG (by decide) (Nat.le_of_ble_eq_true rfl) ?_
  intro p e s m args below meth c Q S hW0 hK hP hret ls hl
  obtain ⟨hx, hb, hml, hown, hts⟩ := id S
  have hl : lv_has ls 6 [(0, .ref h0), (1, .int v1)] := hl
  have S_X1_areAround_18 : ∀ (n : Nat) (v1 : Int32) (v2 : Int32) (v3 : Int32) (v4 : Int32) (k91 : Int32 → Option (Int32)), F_X1_areAround_18 N v1 v3 c_now_line n v2 v4 k91 = some ρ → (∀ (u2 : Int32) (ls : Array Slot), k91 u2 = some ρ → lv_has ls 6 [(0, .ref h0), (1, .int v1), (2, .int u2), (3, .int v3)] → W p l e (rmL 1 0 0) s m args below meth c s.heap [] 0 0 Q (F0 m 91 ls [])) → ∀ (ls : Array Slot), lv_has ls 6 [(0, .ref h0), (1, .int v1), (2, .int v2), (3, .int v3), (4, .int v4)] → W p l e (rmL 1 0 0) s m args below meth c s.heap [] 0 0 Q (F0 m 18 ls []) := by
    intro n
    induction n with
    | zero =>
      intro v1 v2 v3 v4 k91 h
      exact absurd h (by simp [F_X1_areAround_18])
    | succ n ih =>
      intro v1 v2 v3 v4 k91 h hk91 ls hl
      rw [F_X1_areAround_18] at h
      refine lv_iload hx hb dX1_areAround_18 (lv_at hl 4 rfl) ?_
      refine lv_iload_n hx hb dX1_areAround_20 rfl (lv_at hl 3 rfl) ?_
      refine lv_icmp_ge (tgt := 91) hx hb dX1_areAround_21 (by decide) (fun c3 => ?_) (fun c3 => ?_)
      · rw [if_pos c3] at h
        exact hk91 v2 _ h (lv_sub hl [0, 1, 2, 3] rfl)
      · rw [if_neg c3] at h
        refine lv_iload_n hx hb dX1_areAround_24 rfl (lv_at hl 1 rfl) ?_
        refine lv_iload_n hx hb dX1_areAround_25 rfl (lv_at hl 3 rfl) ?_
        refine lv_ishr hx hb dX1_areAround_26 ?_
        refine lv_iconst (v := 1) hx hb dX1_areAround_27 (by decide) ?_
        refine lv_iand hx hb dX1_areAround_28 ?_
        refine lv_if_eq (tgt := 85) hx hb dX1_areAround_29 (by decide) (fun c4 => ?_) (fun c4 => ?_)
        · rw [if_pos c4] at h
          refine lv_iinc (v := (v4 + 1)) (lv' := [(4, .int (v4 + 1)), (0, .ref h0), (1, .int v1), (2, .int v2), (3, .int v3)]) hx hb dX1_areAround_85 hl (k := 4) rfl rfl (by decide) rfl (fun ls hl => ?_)
          refine lv_goto (tgt := 18) hx hb dX1_areAround_88 (by decide) ?_
          exact ih v1 v2 v3 (v4 + 1) _ h hk91 _ (lv_sub hl [1, 2, 3, 4, 0] rfl)
        · rw [if_neg c4] at h
          refine lv_iload_n hx hb dX1_areAround_32 rfl (lv_at hl 1 rfl) ?_
          refine lv_iload hx hb dX1_areAround_33 (lv_at hl 4 rfl) ?_
          refine lv_ishr hx hb dX1_areAround_35 ?_
          refine lv_iconst (v := 1) hx hb dX1_areAround_36 (by decide) ?_
          refine lv_iand hx hb dX1_areAround_37 ?_
          refine lv_if_ne (tgt := 44) hx hb dX1_areAround_38 (by decide) (fun c5 => ?_) (fun c5 => ?_)
          · rw [if_neg c5] at h
            refine lv_aload_n hx hb dX1_areAround_44 rfl (lv_at hl 0 rfl) ?_
            refine va_get (ci := 0) (v := .ref (ad 3)) (C := RX1) (T := TX1) (N := 28) hx hb hts in_X1 hown hK hP 0 rfl rfl 3 (by decide) (hts _ q580) (fun _ h9 => h9) rfl dX1_areAround_45 ?_
            refine va_getN (ci := 1) (v := .ref (ad 32)) (C := RX2) (T := TX2) (N := 5) hx hb hts in_X2 hown hK hP 1 rfl rfl 2 (by decide) (hG.nf hW0 q234) (fun _ h9 => h9) rfl dX1_areAround_48 ?_
            refine lv_iload_n hx hb dX1_areAround_51 rfl (lv_at hl 3 rfl) ?_
            obtain ⟨i6, h⟩ := ckI_s h
            refine va_iald (f := c_now_line) hx hb hK hP 2 0 rfl rfl i6 dX1_areAround_52 ?_
            refine lv_aload_n hx hb dX1_areAround_53 rfl (lv_at hl 0 rfl) ?_
            refine va_get (ci := 0) (v := .ref (ad 3)) (C := RX1) (T := TX1) (N := 28) hx hb hts in_X1 hown hK hP 0 rfl rfl 3 (by decide) (hts _ q580) (fun _ h9 => h9) rfl dX1_areAround_54 ?_
            refine va_getN (ci := 1) (v := .ref (ad 32)) (C := RX2) (T := TX2) (N := 5) hx hb hts in_X2 hown hK hP 1 rfl rfl 2 (by decide) (hG.nf hW0 q234) (fun _ h9 => h9) rfl dX1_areAround_57 ?_
            refine lv_iload hx hb dX1_areAround_60 (lv_at hl 4 rfl) ?_
            obtain ⟨i7, h⟩ := ckI_s h
            refine va_iald (f := c_now_line) hx hb hK hP 2 0 rfl rfl i7 dX1_areAround_62 ?_
            refine lv_iand hx hb dX1_areAround_63 ?_
            refine lv_istore (lv' := [(5, .int ((c_now_line (Int32.toNatClampNeg v3)) &&& (c_now_line (Int32.toNatClampNeg v4)))), (0, .ref h0), (1, .int v1), (2, .int v2), (3, .int v3), (4, .int v4)]) hx hb dX1_areAround_64 hl (by decide) rfl (fun ls hl => ?_)
            refine lv_iload hx hb dX1_areAround_66 (lv_at hl 0 rfl) ?_
            refine lv_if_eq (tgt := 78) hx hb dX1_areAround_68 (by decide) (fun c8 => ?_) (fun c8 => ?_)
            · rw [if_pos c8] at h
              refine lv_iconst (v := 0) hx hb dX1_areAround_78 (by decide) ?_
              obtain rfl := Option.some.inj h
              exact hret dX1_areAround_79 rfl
            · rw [if_neg c8] at h
              refine lv_iload_n hx hb dX1_areAround_71 rfl (lv_at hl 3 rfl) ?_
              refine lv_iload hx hb dX1_areAround_72 (lv_at hl 0 rfl) ?_
              refine lv_iand hx hb dX1_areAround_74 ?_
              refine lv_if_eq (tgt := 80) hx hb dX1_areAround_75 (by decide) (fun c10 => ?_) (fun c10 => ?_)
              · rw [if_pos c10] at h
                refine lv_iload_n hx hb dX1_areAround_80 rfl (lv_at hl 3 rfl) ?_
                refine lv_iload hx hb dX1_areAround_81 (lv_at hl 0 rfl) ?_
                refine lv_ior hx hb dX1_areAround_83 ?_
                refine lv_istore_n (lv' := [(2, .int (v2 ||| ((c_now_line (Int32.toNatClampNeg v3)) &&& (c_now_line (Int32.toNatClampNeg v4))))), (5, .int ((c_now_line (Int32.toNatClampNeg v3)) &&& (c_now_line (Int32.toNatClampNeg v4)))), (0, .ref h0), (1, .int v1), (3, .int v3), (4, .int v4)]) hx hb dX1_areAround_84 rfl hl (by decide) rfl (fun ls hl => ?_)
                refine lv_iinc (v := (v4 + 1)) (lv' := [(4, .int (v4 + 1)), (2, .int (v2 ||| ((c_now_line (Int32.toNatClampNeg v3)) &&& (c_now_line (Int32.toNatClampNeg v4))))), (5, .int ((c_now_line (Int32.toNatClampNeg v3)) &&& (c_now_line (Int32.toNatClampNeg v4)))), (0, .ref h0), (1, .int v1), (3, .int v3)]) hx hb dX1_areAround_85 hl (k := 5) rfl rfl (by decide) rfl (fun ls hl => ?_)
                refine lv_goto (tgt := 18) hx hb dX1_areAround_88 (by decide) ?_
                exact ih v1 (v2 ||| ((c_now_line (Int32.toNatClampNeg v3)) &&& (c_now_line (Int32.toNatClampNeg v4)))) v3 (v4 + 1) _ h hk91 _ (lv_sub hl [3, 4, 1, 5, 0] rfl)
              · rw [if_neg c10] at h
                refine lv_iconst (v := 0) hx hb dX1_areAround_78 (by decide) ?_
                obtain rfl := Option.some.inj h
                exact hret dX1_areAround_79 rfl
          · rw [if_pos c5] at h
            refine lv_goto (tgt := 85) hx hb dX1_areAround_41 (by decide) ?_
            refine lv_iinc (v := (v4 + 1)) (lv' := [(4, .int (v4 + 1)), (0, .ref h0), (1, .int v1), (2, .int v2), (3, .int v3)]) hx hb dX1_areAround_85 hl (k := 4) rfl rfl (by decide) rfl (fun ls hl => ?_)
            refine lv_goto (tgt := 18) hx hb dX1_areAround_88 (by decide) ?_
            exact ih v1 v2 v3 (v4 + 1) _ h hk91 _ (lv_sub hl [1, 2, 3, 4, 0] rfl)
  have S_X1_areAround_4 : ∀ (n : Nat) (v1 : Int32) (v2 : Int32) (v3 : Int32), F_X1_areAround_4 N v1 c_now_line c_now_lines n v2 v3 = some ρ → ∀ (ls : Array Slot), lv_has ls 6 [(0, .ref h0), (1, .int v1), (2, .int v2), (3, .int v3)] → W p l e (rmL 1 0 0) s m args below meth c s.heap [] 0 0 Q (F0 m 4 ls []) := by
    intro n
    induction n with
    | zero =>
      intro v1 v2 v3 h
      exact absurd h (by simp [F_X1_areAround_4])
    | succ n ih =>
      intro v1 v2 v3 h ls hl
      rw [F_X1_areAround_4] at h
      refine lv_iload_n hx hb dX1_areAround_4 rfl (lv_at hl 3 rfl) ?_
      refine lv_aload_n hx hb dX1_areAround_5 rfl (lv_at hl 0 rfl) ?_
      refine va_get (ci := 0) (v := .ref (ad 3)) (C := RX1) (T := TX1) (N := 28) hx hb hts in_X1 hown hK hP 0 rfl rfl 3 (by decide) (hts _ q580) (fun _ h9 => h9) rfl dX1_areAround_6 ?_
      refine va_getN (ci := 1) (v := .int c_now_lines) (C := RX2) (T := TX2) (N := 5) hx hb hts in_X2 hown hK hP 1 rfl rfl 1 (by decide) (hG.nf hW0 q228) (fun _ h9 => h9) rfl dX1_areAround_9 ?_
      refine lv_icmp_ge (tgt := 97) hx hb dX1_areAround_12 (by decide) (fun c1 => ?_) (fun c1 => ?_)
      · rw [if_pos c1] at h
        refine lv_iconst (v := 1) hx hb dX1_areAround_97 (by decide) ?_
        obtain rfl := Option.some.inj h
        exact hret dX1_areAround_98 rfl
      · rw [if_neg c1] at h
        refine lv_iconst (v := 0) hx hb dX1_areAround_15 (by decide) ?_
        refine lv_istore (lv' := [(4, .int 0), (0, .ref h0), (1, .int v1), (2, .int v2), (3, .int v3)]) hx hb dX1_areAround_16 hl (by decide) rfl (fun ls hl => ?_)
        refine S_X1_areAround_18 N v1 v2 v3 0 _ h ?_ _ (lv_sub hl [1, 2, 3, 4, 0] rfl)
        · intro u2_12 ls h hl
          refine lv_iinc (v := (v3 + 1)) (lv' := [(3, .int (v3 + 1)), (0, .ref h0), (1, .int v1), (2, .int u2_12)]) hx hb dX1_areAround_91 hl (k := 3) rfl rfl (by decide) rfl (fun ls hl => ?_)
          refine lv_goto (tgt := 4) hx hb dX1_areAround_94 (by decide) ?_
          exact ih v1 u2_12 (v3 + 1) h _ (lv_sub hl [1, 2, 3, 0] rfl)
  refine lv_iconst (v := 0) hx hb dX1_areAround_0 (by decide) ?_
  refine lv_istore_n (lv' := [(2, .int 0), (0, .ref h0), (1, .int v1)]) hx hb dX1_areAround_1 rfl hl (by decide) rfl (fun ls hl => ?_)
  refine lv_iconst (v := 0) hx hb dX1_areAround_2 (by decide) ?_
  refine lv_istore_n (lv' := [(3, .int 0), (2, .int 0), (0, .ref h0), (1, .int v1)]) hx hb dX1_areAround_3 rfl hl (by decide) rfl (fun ls hl => ?_)
  refine S_X1_areAround_4 N v1 0 0 h  _ (lv_sub hl [2, 3, 1, 0] rfl)
def F_X1_fours_4 (N : Nat) (c_now_line : (Nat → Int32)) (c_now_lines : Int32) : Nat → Int32 → Int32 → Option (Int32)
  | 0, _, _ => none
  | n + 1, v1, v2 => (if ((1 : Int32) <<< (c_now_lines &&& 31)) ≤ v2 then (some (v1)) else ((F_J16_bitCount N v2).bind fun y3 => (if y3 = 4 then ((F_X1_areAround N v2 c_now_line c_now_lines).bind fun y5 => (if y5 = 0 then (F_X1_fours_4 N c_now_line c_now_lines n v1 (v2 + 1)) else (F_X1_fours_4 N c_now_line c_now_lines n (v1 + 1) (v2 + 1)))) else (F_X1_fours_4 N c_now_line c_now_lines n v1 (v2 + 1)))))
def F_X1_fours (N : Nat) (c_now_line : (Nat → Int32)) (c_now_lines : Int32) : Option (Int32) := (F_X1_fours_4 N c_now_line c_now_lines N 0 0)
theorem cw_X1_fours {R : Room} {s : State} {args : Array Value} {own : String} {index lev mc ms : Nat} (hts : ∀ w ∈ lw_all, w.before args s = true) (hl : Cond.methodLink own index yX1_fours ∈ lw_all) (hR : (rmL lev mc ms).frames + 1 ≤ R.frames ∧ 8 + (3 + 11) + (rmL lev mc ms).locals ≤ R.locals) : CallW R s args own RX1 index yX1_fours cX1_fours 3 (some .int) (ws_ yX1_fours cX1_fours 3 (some .int)) (rmL lev mc ms) mc ms 0 := cwV 0 hts (lw_V hl q1384 qs47 q151 q1385) rfl rfl rfl (by decide +kernel) hR
set_option maxHeartbeats 4000000 in
theorem M_X1_fours {l : Launch} {G : GE} (hG : GC G) {N : Nat} {h0 : Nat} {ad : Nat → Nat} {c_listPoints : Int32} {c_listLines : Int32} {c_refused : (Nat → Int32)} {c_imageRefused : (Nat → Int32)} {c_hasImage : Int32} {c_tape : (Nat → Int32)} {c_taped : Int32} {c_faultPlace : Int32} {c_orbit : (Nat → Int32)} {c_lineFor : (Nat → Int32)} {c_dualities : Int32} {c_polarities : Int32} {c_shortest : Int32} {c_placeX : (Nat → Int32)} {c_placeY : (Nat → Int32)} {c_placeZ : (Nat → Int32)} {c_lies : (Nat → Int32)} {c_firstLies : (Nat → Int32)} {c_worth : (Nat → Int32)} {c_its : Int32} {c_now_points : Int32} {c_now_x : (Nat → Int32)} {c_now_y : (Nat → Int32)} {c_tried_points : Int32} {c_tried_lines : Int32} {c_tried_line : (Nat → Int32)} {c_tried_x : (Nat → Int32)} {c_tried_y : (Nat → Int32)} {c_imageNow_points : Int32} {c_imageNow_lines : Int32} {c_imageNow_line : (Nat → Int32)} {c_imageNow_x : (Nat → Int32)} {c_imageNow_y : (Nat → Int32)} {c_now_line : (Nat → Int32)} {c_now_lines : Int32} {ρ : (Int32)} (h : F_X1_fours N c_now_line c_now_lines = some ρ) : MR l G yX1_fours cX1_fours 3 (some .int) 2 (cW h0 ad G.2.2 c_listPoints c_listLines c_refused c_imageRefused c_hasImage c_tape c_taped c_faultPlace c_orbit c_lineFor c_dualities c_polarities c_shortest c_placeX c_placeY c_placeZ c_lies c_firstLies c_worth c_its c_now_points c_now_lines c_now_line c_now_x c_now_y c_tried_points c_tried_lines c_tried_line c_tried_x c_tried_y c_imageNow_points c_imageNow_lines c_imageNow_line c_imageNow_x c_imageNow_y) [.ref h0] ρ := by
  rw [F_X1_fours] at h
  refine MR.start (rt := .int) hG (by decide) (Nat.le_of_ble_eq_true rfl) ?_
  intro p e s m args below meth c Q S hW0 hK hP hret ls hl
  obtain ⟨hx, hb, hml, hown, hts⟩ := id S
  have hl : lv_has ls 3 [(0, .ref h0)] := hl
  have S_X1_fours_4 : ∀ (n : Nat) (v1 : Int32) (v2 : Int32), F_X1_fours_4 N c_now_line c_now_lines n v1 v2 = some ρ → ∀ (ls : Array Slot), lv_has ls 3 [(0, .ref h0), (1, .int v1), (2, .int v2)] → W p l e (rmL 2 0 0) s m args below meth c s.heap [] 0 0 Q (F0 m 4 ls []) := by
    intro n
    induction n with
    | zero =>
      intro v1 v2 h
      exact absurd h (by simp [F_X1_fours_4])
    | succ n ih =>
      intro v1 v2 h ls hl
      rw [F_X1_fours_4] at h
      refine lv_iload_n hx hb dX1_fours_4 rfl (lv_at hl 2 rfl) ?_
      refine lv_iconst (v := 1) hx hb dX1_fours_5 (by decide) ?_
      refine lv_aload_n hx hb dX1_fours_6 rfl (lv_at hl 0 rfl) ?_
      refine va_get (ci := 0) (v := .ref (ad 3)) (C := RX1) (T := TX1) (N := 28) hx hb hts in_X1 hown hK hP 0 rfl rfl 3 (by decide) (hts _ q580) (fun _ h9 => h9) rfl dX1_fours_7 ?_
      refine va_getN (ci := 1) (v := .int c_now_lines) (C := RX2) (T := TX2) (N := 5) hx hb hts in_X2 hown hK hP 1 rfl rfl 1 (by decide) (hG.nf hW0 q228) (fun _ h9 => h9) rfl dX1_fours_10 ?_
      refine lv_ishl hx hb dX1_fours_13 ?_
      refine lv_icmp_ge (tgt := 42) hx hb dX1_fours_14 (by decide) (fun c1 => ?_) (fun c1 => ?_)
      · rw [if_pos c1] at h
        refine lv_iload_n hx hb dX1_fours_42 rfl (lv_at hl 1 rfl) ?_
        obtain rfl := Option.some.inj h
        exact hret dX1_fours_43 rfl
      · rw [if_neg c1] at h
        refine lv_iload_n hx hb dX1_fours_17 rfl (lv_at hl 2 rfl) ?_
        obtain ⟨y3, e3, h⟩ := ob_s h
        refine MR.callS (M_J16_bitCount hG e3) S (cw_J16_bitCount hts q1204 ⟨Nat.le_of_ble_eq_true rfl, Nat.le_of_ble_eq_true rfl⟩) hW0 vaP0 rfl hl.1 rfl (Nat.le_of_ble_eq_true rfl) dX1_fours_18 ⟨Nat.zero_le _, Nat.zero_le _⟩ ?_
        refine lv_iconst (v := 4) hx hb dX1_fours_21 (by decide) ?_
        refine lv_icmp_ne (tgt := 36) hx hb dX1_fours_22 (by decide) (fun c4 => ?_) (fun c4 => ?_)
        · rw [if_neg c4] at h
          refine lv_iinc (v := (v2 + 1)) (lv' := [(2, .int (v2 + 1)), (0, .ref h0), (1, .int v1)]) hx hb dX1_fours_36 hl (k := 2) rfl rfl (by decide) rfl (fun ls hl => ?_)
          refine lv_goto (tgt := 4) hx hb dX1_fours_39 (by decide) ?_
          exact ih v1 (v2 + 1) h _ (lv_sub hl [1, 2, 0] rfl)
        · rw [if_pos c4] at h
          refine lv_aload_n hx hb dX1_fours_25 rfl (lv_at hl 0 rfl) ?_
          refine lv_iload_n hx hb dX1_fours_26 rfl (lv_at hl 2 rfl) ?_
          obtain ⟨y5, e5, h⟩ := ob_s h
          refine MR.callV (q0 := 0) (M_X1_areAround hG e5) S (cw_X1_areAround hts q1386 ⟨Nat.le_of_ble_eq_true rfl, Nat.le_of_ble_eq_true rfl⟩) hW0 hK hP rfl rfl rfl hl.1 rfl (Nat.le_of_ble_eq_true rfl) dX1_fours_27 ⟨Nat.zero_le _, Nat.zero_le _⟩ ?_
          refine lv_if_eq (tgt := 36) hx hb dX1_fours_30 (by decide) (fun c6 => ?_) (fun c6 => ?_)
          · rw [if_pos c6] at h
            refine lv_iinc (v := (v2 + 1)) (lv' := [(2, .int (v2 + 1)), (0, .ref h0), (1, .int v1)]) hx hb dX1_fours_36 hl (k := 2) rfl rfl (by decide) rfl (fun ls hl => ?_)
            refine lv_goto (tgt := 4) hx hb dX1_fours_39 (by decide) ?_
            exact ih v1 (v2 + 1) h _ (lv_sub hl [1, 2, 0] rfl)
          · rw [if_neg c6] at h
            refine lv_iinc (v := (v1 + 1)) (lv' := [(1, .int (v1 + 1)), (0, .ref h0), (2, .int v2)]) hx hb dX1_fours_33 hl (k := 1) rfl rfl (by decide) rfl (fun ls hl => ?_)
            refine lv_iinc (v := (v2 + 1)) (lv' := [(2, .int (v2 + 1)), (1, .int (v1 + 1)), (0, .ref h0)]) hx hb dX1_fours_36 hl (k := 2) rfl rfl (by decide) rfl (fun ls hl => ?_)
            refine lv_goto (tgt := 4) hx hb dX1_fours_39 (by decide) ?_
            exact ih (v1 + 1) (v2 + 1) h _ (lv_sub hl [2, 1, 0] rfl)
  refine lv_iconst (v := 0) hx hb dX1_fours_0 (by decide) ?_
  refine lv_istore_n (lv' := [(1, .int 0), (0, .ref h0)]) hx hb dX1_fours_1 rfl hl (by decide) rfl (fun ls hl => ?_)
  refine lv_iconst (v := 0) hx hb dX1_fours_2 (by decide) ?_
  refine lv_istore_n (lv' := [(2, .int 0), (1, .int 0), (0, .ref h0)]) hx hb dX1_fours_3 rfl hl (by decide) rfl (fun ls hl => ?_)
  refine S_X1_fours_4 N 0 0 h  _ (lv_sub hl [2, 1, 0] rfl)
def F_X1_doMeet (N : Nat) (v1 : Int32) (v2 : Int32) (c_now_line : (Nat → Int32)) : Option (Int32) := (ckI v1 12 (ckI v2 12 (if ((c_now_line (Int32.toNatClampNeg v1)) &&& (c_now_line (Int32.toNatClampNeg v2))) = 0 then (some (0)) else (some (1)))))
theorem cw_X1_doMeet {R : Room} {s : State} {args : Array Value} {own : String} {index lev mc ms : Nat} (hts : ∀ w ∈ lw_all, w.before args s = true) (hl : Cond.methodLink own index yX1_doMeet ∈ lw_all) (hR : (rmL lev mc ms).frames + 1 ≤ R.frames ∧ 8 + (3 + 11) + (rmL lev mc ms).locals ≤ R.locals) : CallW R s args own RX1 index yX1_doMeet cX1_doMeet 3 (some .boolean) (ws_ yX1_doMeet cX1_doMeet 3 (some .boolean)) (rmL lev mc ms) mc ms 2 := cwV 2 hts (lw_V hl q1396 qs50 q151 q1397) rfl rfl rfl (by decide +kernel) hR
set_option maxHeartbeats 4000000 in
theorem M_X1_doMeet {l : Launch} {G : GE} (hG : GC G) {N : Nat} {h0 : Nat} {ad : Nat → Nat} {c_listPoints : Int32} {c_listLines : Int32} {c_refused : (Nat → Int32)} {c_imageRefused : (Nat → Int32)} {c_hasImage : Int32} {c_tape : (Nat → Int32)} {c_taped : Int32} {c_faultPlace : Int32} {c_orbit : (Nat → Int32)} {c_lineFor : (Nat → Int32)} {c_dualities : Int32} {c_polarities : Int32} {c_shortest : Int32} {c_placeX : (Nat → Int32)} {c_placeY : (Nat → Int32)} {c_placeZ : (Nat → Int32)} {c_lies : (Nat → Int32)} {c_firstLies : (Nat → Int32)} {c_worth : (Nat → Int32)} {c_its : Int32} {c_now_points : Int32} {c_now_lines : Int32} {c_now_x : (Nat → Int32)} {c_now_y : (Nat → Int32)} {c_tried_points : Int32} {c_tried_lines : Int32} {c_tried_line : (Nat → Int32)} {c_tried_x : (Nat → Int32)} {c_tried_y : (Nat → Int32)} {c_imageNow_points : Int32} {c_imageNow_lines : Int32} {c_imageNow_line : (Nat → Int32)} {c_imageNow_x : (Nat → Int32)} {c_imageNow_y : (Nat → Int32)} {v1 : Int32} {v2 : Int32} {c_now_line : (Nat → Int32)} {ρ : (Int32)} (h : F_X1_doMeet N v1 v2 c_now_line = some ρ) : MR l G yX1_doMeet cX1_doMeet 3 (some .boolean) 1 (cW h0 ad G.2.2 c_listPoints c_listLines c_refused c_imageRefused c_hasImage c_tape c_taped c_faultPlace c_orbit c_lineFor c_dualities c_polarities c_shortest c_placeX c_placeY c_placeZ c_lies c_firstLies c_worth c_its c_now_points c_now_lines c_now_line c_now_x c_now_y c_tried_points c_tried_lines c_tried_line c_tried_x c_tried_y c_imageNow_points c_imageNow_lines c_imageNow_line c_imageNow_x c_imageNow_y) [.ref h0, .int v1, .int v2] ρ := by
  rw [F_X1_doMeet] at h
  refine MR.start (rt := .boolean) hG (by decide) (Nat.le_of_ble_eq_true rfl) ?_
  intro p e s m args below meth c Q S hW0 hK hP hret ls hl
  obtain ⟨hx, hb, hml, hown, hts⟩ := id S
  have hl : lv_has ls 3 [(0, .ref h0), (1, .int v1), (2, .int v2)] := hl
  refine lv_aload_n hx hb dX1_doMeet_0 rfl (lv_at hl 0 rfl) ?_
  refine va_get (ci := 0) (v := .ref (ad 3)) (C := RX1) (T := TX1) (N := 28) hx hb hts in_X1 hown hK hP 0 rfl rfl 3 (by decide) (hts _ q580) (fun _ h9 => h9) rfl dX1_doMeet_1 ?_
  refine va_getN (ci := 1) (v := .ref (ad 32)) (C := RX2) (T := TX2) (N := 5) hx hb hts in_X2 hown hK hP 1 rfl rfl 2 (by decide) (hG.nf hW0 q234) (fun _ h9 => h9) rfl dX1_doMeet_4 ?_
  refine lv_iload_n hx hb dX1_doMeet_7 rfl (lv_at hl 1 rfl) ?_
  obtain ⟨i1, h⟩ := ckI_s h
  refine va_iald (f := c_now_line) hx hb hK hP 2 0 rfl rfl i1 dX1_doMeet_8 ?_
  refine lv_aload_n hx hb dX1_doMeet_9 rfl (lv_at hl 0 rfl) ?_
  refine va_get (ci := 0) (v := .ref (ad 3)) (C := RX1) (T := TX1) (N := 28) hx hb hts in_X1 hown hK hP 0 rfl rfl 3 (by decide) (hts _ q580) (fun _ h9 => h9) rfl dX1_doMeet_10 ?_
  refine va_getN (ci := 1) (v := .ref (ad 32)) (C := RX2) (T := TX2) (N := 5) hx hb hts in_X2 hown hK hP 1 rfl rfl 2 (by decide) (hG.nf hW0 q234) (fun _ h9 => h9) rfl dX1_doMeet_13 ?_
  refine lv_iload_n hx hb dX1_doMeet_16 rfl (lv_at hl 2 rfl) ?_
  obtain ⟨i2, h⟩ := ckI_s h
  refine va_iald (f := c_now_line) hx hb hK hP 2 0 rfl rfl i2 dX1_doMeet_17 ?_
  refine lv_iand hx hb dX1_doMeet_18 ?_
  refine lv_if_eq (tgt := 26) hx hb dX1_doMeet_19 (by decide) (fun c3 => ?_) (fun c3 => ?_)
  · rw [if_pos c3] at h
    refine lv_iconst (v := 0) hx hb dX1_doMeet_26 (by decide) ?_
    obtain rfl := Option.some.inj h
    exact hret dX1_doMeet_27 rfl
  · rw [if_neg c3] at h
    refine lv_iconst (v := 1) hx hb dX1_doMeet_22 (by decide) ?_
    refine lv_goto (tgt := 27) hx hb dX1_doMeet_23 (by decide) ?_
    obtain rfl := Option.some.inj h
    exact hret dX1_doMeet_27 rfl
def F_X1_apart_17 (N : Nat) (v2 : Int32) (c_now_line : (Nat → Int32)) : Nat → Int32 → Int32 → (Int32 → Option (Int32)) → Option (Int32)
  | 0, _, _, _ => none
  | n + 1, v1, v3, k40 => (if v2 ≤ v3 then (k40 v1) else ((F_X1_doMeet N v2 v3 c_now_line).bind fun y4 => (if y4 = 0 then (F_X1_apart_17 N v2 c_now_line n (v1 + 1) (v3 + 1) k40) else (F_X1_apart_17 N v2 c_now_line n v1 (v3 + 1) k40))))
def F_X1_apart_4 (N : Nat) (c_now_line : (Nat → Int32)) (c_now_lines : Int32) : Nat → Int32 → Int32 → Option (Int32)
  | 0, _, _ => none
  | n + 1, v1, v2 => (if c_now_lines ≤ v2 then (some (v1)) else (F_X1_apart_17 N v2 c_now_line N v1 0 (fun u1_6 => (F_X1_apart_4 N c_now_line c_now_lines n u1_6 (v2 + 1)))))
def F_X1_apart (N : Nat) (c_now_line : (Nat → Int32)) (c_now_lines : Int32) : Option (Int32) := (F_X1_apart_4 N c_now_line c_now_lines N 0 0)
theorem cw_X1_apart {R : Room} {s : State} {args : Array Value} {own : String} {index lev mc ms : Nat} (hts : ∀ w ∈ lw_all, w.before args s = true) (hl : Cond.methodLink own index yX1_apart ∈ lw_all) (hR : (rmL lev mc ms).frames + 1 ≤ R.frames ∧ 8 + (4 + 11) + (rmL lev mc ms).locals ≤ R.locals) : CallW R s args own RX1 index yX1_apart cX1_apart 4 (some .int) (ws_ yX1_apart cX1_apart 4 (some .int)) (rmL lev mc ms) mc ms 0 := cwV 0 hts (lw_V hl q1392 qs49 q151 q1393) rfl rfl rfl (by decide +kernel) hR
set_option maxHeartbeats 4000000 in
theorem M_X1_apart {l : Launch} {G : GE} (hG : GC G) {N : Nat} {h0 : Nat} {ad : Nat → Nat} {c_listPoints : Int32} {c_listLines : Int32} {c_refused : (Nat → Int32)} {c_imageRefused : (Nat → Int32)} {c_hasImage : Int32} {c_tape : (Nat → Int32)} {c_taped : Int32} {c_faultPlace : Int32} {c_orbit : (Nat → Int32)} {c_lineFor : (Nat → Int32)} {c_dualities : Int32} {c_polarities : Int32} {c_shortest : Int32} {c_placeX : (Nat → Int32)} {c_placeY : (Nat → Int32)} {c_placeZ : (Nat → Int32)} {c_lies : (Nat → Int32)} {c_firstLies : (Nat → Int32)} {c_worth : (Nat → Int32)} {c_its : Int32} {c_now_points : Int32} {c_now_x : (Nat → Int32)} {c_now_y : (Nat → Int32)} {c_tried_points : Int32} {c_tried_lines : Int32} {c_tried_line : (Nat → Int32)} {c_tried_x : (Nat → Int32)} {c_tried_y : (Nat → Int32)} {c_imageNow_points : Int32} {c_imageNow_lines : Int32} {c_imageNow_line : (Nat → Int32)} {c_imageNow_x : (Nat → Int32)} {c_imageNow_y : (Nat → Int32)} {c_now_line : (Nat → Int32)} {c_now_lines : Int32} {ρ : (Int32)} (h : F_X1_apart N c_now_line c_now_lines = some ρ) : MR l G yX1_apart cX1_apart 4 (some .int) 2 (cW h0 ad G.2.2 c_listPoints c_listLines c_refused c_imageRefused c_hasImage c_tape c_taped c_faultPlace c_orbit c_lineFor c_dualities c_polarities c_shortest c_placeX c_placeY c_placeZ c_lies c_firstLies c_worth c_its c_now_points c_now_lines c_now_line c_now_x c_now_y c_tried_points c_tried_lines c_tried_line c_tried_x c_tried_y c_imageNow_points c_imageNow_lines c_imageNow_line c_imageNow_x c_imageNow_y) [.ref h0] ρ := by
  rw [F_X1_apart] at h
  refine MR.start (rt := .int) hG (by decide) (Nat.le_of_ble_eq_true rfl) ?_
  intro p e s m args below meth c Q S hW0 hK hP hret ls hl
  obtain ⟨hx, hb, hml, hown, hts⟩ := id S
  have hl : lv_has ls 4 [(0, .ref h0)] := hl
  have S_X1_apart_17 : ∀ (n : Nat) (v1 : Int32) (v2 : Int32) (v3 : Int32) (k40 : Int32 → Option (Int32)), F_X1_apart_17 N v2 c_now_line n v1 v3 k40 = some ρ → (∀ (u1 : Int32) (ls : Array Slot), k40 u1 = some ρ → lv_has ls 4 [(0, .ref h0), (1, .int u1), (2, .int v2)] → W p l e (rmL 2 0 0) s m args below meth c s.heap [] 0 0 Q (F0 m 40 ls [])) → ∀ (ls : Array Slot), lv_has ls 4 [(0, .ref h0), (1, .int v1), (2, .int v2), (3, .int v3)] → W p l e (rmL 2 0 0) s m args below meth c s.heap [] 0 0 Q (F0 m 17 ls []) := by
    intro n
    induction n with
    | zero =>
      intro v1 v2 v3 k40 h
      exact absurd h (by simp [F_X1_apart_17])
    | succ n ih =>
      intro v1 v2 v3 k40 h hk40 ls hl
      rw [F_X1_apart_17] at h
      refine lv_iload_n hx hb dX1_apart_17 rfl (lv_at hl 3 rfl) ?_
      refine lv_iload_n hx hb dX1_apart_18 rfl (lv_at hl 2 rfl) ?_
      refine lv_icmp_ge (tgt := 40) hx hb dX1_apart_19 (by decide) (fun c3 => ?_) (fun c3 => ?_)
      · rw [if_pos c3] at h
        exact hk40 v1 _ h (lv_sub hl [0, 1, 2] rfl)
      · rw [if_neg c3] at h
        refine lv_aload_n hx hb dX1_apart_22 rfl (lv_at hl 0 rfl) ?_
        refine lv_iload_n hx hb dX1_apart_23 rfl (lv_at hl 2 rfl) ?_
        refine lv_iload_n hx hb dX1_apart_24 rfl (lv_at hl 3 rfl) ?_
        obtain ⟨y4, e4, h⟩ := ob_s h
        refine MR.callV (q0 := 0) (M_X1_doMeet hG e4) S (cw_X1_doMeet hts q1394 ⟨Nat.le_of_ble_eq_true rfl, Nat.le_of_ble_eq_true rfl⟩) hW0 hK hP rfl rfl rfl hl.1 rfl (Nat.le_of_ble_eq_true rfl) dX1_apart_25 ⟨Nat.zero_le _, Nat.zero_le _⟩ ?_
        refine lv_if_ne (tgt := 34) hx hb dX1_apart_28 (by decide) (fun c5 => ?_) (fun c5 => ?_)
        · rw [if_neg c5] at h
          refine lv_iinc (v := (v3 + 1)) (lv' := [(3, .int (v3 + 1)), (0, .ref h0), (1, .int v1), (2, .int v2)]) hx hb dX1_apart_34 hl (k := 3) rfl rfl (by decide) rfl (fun ls hl => ?_)
          refine lv_goto (tgt := 17) hx hb dX1_apart_37 (by decide) ?_
          exact ih v1 v2 (v3 + 1) _ h hk40 _ (lv_sub hl [1, 2, 3, 0] rfl)
        · rw [if_pos c5] at h
          refine lv_iinc (v := (v1 + 1)) (lv' := [(1, .int (v1 + 1)), (0, .ref h0), (2, .int v2), (3, .int v3)]) hx hb dX1_apart_31 hl (k := 1) rfl rfl (by decide) rfl (fun ls hl => ?_)
          refine lv_iinc (v := (v3 + 1)) (lv' := [(3, .int (v3 + 1)), (1, .int (v1 + 1)), (0, .ref h0), (2, .int v2)]) hx hb dX1_apart_34 hl (k := 3) rfl rfl (by decide) rfl (fun ls hl => ?_)
          refine lv_goto (tgt := 17) hx hb dX1_apart_37 (by decide) ?_
          exact ih (v1 + 1) v2 (v3 + 1) _ h hk40 _ (lv_sub hl [2, 1, 3, 0] rfl)
  have S_X1_apart_4 : ∀ (n : Nat) (v1 : Int32) (v2 : Int32), F_X1_apart_4 N c_now_line c_now_lines n v1 v2 = some ρ → ∀ (ls : Array Slot), lv_has ls 4 [(0, .ref h0), (1, .int v1), (2, .int v2)] → W p l e (rmL 2 0 0) s m args below meth c s.heap [] 0 0 Q (F0 m 4 ls []) := by
    intro n
    induction n with
    | zero =>
      intro v1 v2 h
      exact absurd h (by simp [F_X1_apart_4])
    | succ n ih =>
      intro v1 v2 h ls hl
      rw [F_X1_apart_4] at h
      refine lv_iload_n hx hb dX1_apart_4 rfl (lv_at hl 2 rfl) ?_
      refine lv_aload_n hx hb dX1_apart_5 rfl (lv_at hl 0 rfl) ?_
      refine va_get (ci := 0) (v := .ref (ad 3)) (C := RX1) (T := TX1) (N := 28) hx hb hts in_X1 hown hK hP 0 rfl rfl 3 (by decide) (hts _ q580) (fun _ h9 => h9) rfl dX1_apart_6 ?_
      refine va_getN (ci := 1) (v := .int c_now_lines) (C := RX2) (T := TX2) (N := 5) hx hb hts in_X2 hown hK hP 1 rfl rfl 1 (by decide) (hG.nf hW0 q228) (fun _ h9 => h9) rfl dX1_apart_9 ?_
      refine lv_icmp_ge (tgt := 46) hx hb dX1_apart_12 (by decide) (fun c1 => ?_) (fun c1 => ?_)
      · rw [if_pos c1] at h
        refine lv_iload_n hx hb dX1_apart_46 rfl (lv_at hl 1 rfl) ?_
        obtain rfl := Option.some.inj h
        exact hret dX1_apart_47 rfl
      · rw [if_neg c1] at h
        refine lv_iconst (v := 0) hx hb dX1_apart_15 (by decide) ?_
        refine lv_istore_n (lv' := [(3, .int 0), (0, .ref h0), (1, .int v1), (2, .int v2)]) hx hb dX1_apart_16 rfl hl (by decide) rfl (fun ls hl => ?_)
        refine S_X1_apart_17 N v1 v2 0 _ h ?_ _ (lv_sub hl [1, 2, 3, 0] rfl)
        · intro u1_6 ls h hl
          refine lv_iinc (v := (v2 + 1)) (lv' := [(2, .int (v2 + 1)), (0, .ref h0), (1, .int u1_6)]) hx hb dX1_apart_40 hl (k := 2) rfl rfl (by decide) rfl (fun ls hl => ?_)
          refine lv_goto (tgt := 4) hx hb dX1_apart_43 (by decide) ?_
          exact ih u1_6 (v2 + 1) h _ (lv_sub hl [1, 2, 0] rfl)
  refine lv_iconst (v := 0) hx hb dX1_apart_0 (by decide) ?_
  refine lv_istore_n (lv' := [(1, .int 0), (0, .ref h0)]) hx hb dX1_apart_1 rfl hl (by decide) rfl (fun ls hl => ?_)
  refine lv_iconst (v := 0) hx hb dX1_apart_2 (by decide) ?_
  refine lv_istore_n (lv' := [(2, .int 0), (1, .int 0), (0, .ref h0)]) hx hb dX1_apart_3 rfl hl (by decide) rfl (fun ls hl => ?_)
  refine S_X1_apart_4 N 0 0 h  _ (lv_sub hl [2, 1, 0] rfl)
def F_X1_line (N : Nat) (v1 : Int32) (c_now_line : (Nat → Int32)) (c_now_lines : Int32) : Option (Int32) := (if v1 < 0 then ((F_X1_there N 0).bind fun y2 => (ckI v1 12 (some ((c_now_line (Int32.toNatClampNeg v1)))))) else (if c_now_lines ≤ v1 then ((F_X1_there N 0).bind fun y6 => (ckI v1 12 (some ((c_now_line (Int32.toNatClampNeg v1)))))) else ((F_X1_there N 1).bind fun y9 => (ckI v1 12 (some ((c_now_line (Int32.toNatClampNeg v1))))))))
theorem cw_X1_line {R : Room} {s : State} {args : Array Value} {own : String} {index lev mc ms : Nat} (hts : ∀ w ∈ lw_all, w.before args s = true) (hl : Cond.methodLink own index yX1_line ∈ lw_all) (hR : (rmL lev mc ms).frames + 1 ≤ R.frames ∧ 8 + (2 + 11) + (rmL lev mc ms).locals ≤ R.locals) : CallW R s args own RX1 index yX1_line cX1_line 2 (some .int) (ws_ yX1_line cX1_line 2 (some .int)) (rmL lev mc ms) mc ms 1 := cwV 1 hts (lw_V hl q1402 q1403 q151 q1404) rfl rfl rfl (by decide +kernel) hR
set_option maxHeartbeats 4000000 in
theorem M_X1_line {l : Launch} {G : GE} (hG : GC G) {N : Nat} {h0 : Nat} {ad : Nat → Nat} {c_listPoints : Int32} {c_listLines : Int32} {c_refused : (Nat → Int32)} {c_imageRefused : (Nat → Int32)} {c_hasImage : Int32} {c_tape : (Nat → Int32)} {c_taped : Int32} {c_faultPlace : Int32} {c_orbit : (Nat → Int32)} {c_lineFor : (Nat → Int32)} {c_dualities : Int32} {c_polarities : Int32} {c_shortest : Int32} {c_placeX : (Nat → Int32)} {c_placeY : (Nat → Int32)} {c_placeZ : (Nat → Int32)} {c_lies : (Nat → Int32)} {c_firstLies : (Nat → Int32)} {c_worth : (Nat → Int32)} {c_its : Int32} {c_now_points : Int32} {c_now_x : (Nat → Int32)} {c_now_y : (Nat → Int32)} {c_tried_points : Int32} {c_tried_lines : Int32} {c_tried_line : (Nat → Int32)} {c_tried_x : (Nat → Int32)} {c_tried_y : (Nat → Int32)} {c_imageNow_points : Int32} {c_imageNow_lines : Int32} {c_imageNow_line : (Nat → Int32)} {c_imageNow_x : (Nat → Int32)} {c_imageNow_y : (Nat → Int32)} {v1 : Int32} {c_now_line : (Nat → Int32)} {c_now_lines : Int32} {ρ : (Int32)} (h : F_X1_line N v1 c_now_line c_now_lines = some ρ) : MR l G yX1_line cX1_line 2 (some .int) 2 (cW h0 ad G.2.2 c_listPoints c_listLines c_refused c_imageRefused c_hasImage c_tape c_taped c_faultPlace c_orbit c_lineFor c_dualities c_polarities c_shortest c_placeX c_placeY c_placeZ c_lies c_firstLies c_worth c_its c_now_points c_now_lines c_now_line c_now_x c_now_y c_tried_points c_tried_lines c_tried_line c_tried_x c_tried_y c_imageNow_points c_imageNow_lines c_imageNow_line c_imageNow_x c_imageNow_y) [.ref h0, .int v1] ρ := by
  rw [F_X1_line] at h
  refine MR.start (rt := .int) hG (by decide) (Nat.le_of_ble_eq_true rfl) ?_
  intro p e s m args below meth c Q S hW0 hK hP hret ls hl
  obtain ⟨hx, hb, hml, hown, hts⟩ := id S
  have hl : lv_has ls 2 [(0, .ref h0), (1, .int v1)] := hl
  refine lv_iload_n hx hb dX1_line_0 rfl (lv_at hl 1 rfl) ?_
  refine lv_if_lt (tgt := 19) hx hb dX1_line_1 (by decide) (fun c1 => ?_) (fun c1 => ?_)
  · rw [if_pos c1] at h
    refine lv_iconst (v := 0) hx hb dX1_line_19 (by decide) ?_
    obtain ⟨y2, e2, h⟩ := ob_s h
    refine MV.callS (M_X1_there hG e2) S (cw_X1_there hts q1182 ⟨Nat.le_of_ble_eq_true rfl, Nat.le_of_ble_eq_true rfl⟩) hW0 vaP0 rfl hl.1 rfl (Nat.le_of_ble_eq_true rfl) dX1_line_20 ⟨Nat.zero_le _, Nat.zero_le _⟩ ?_
    refine lv_aload_n hx hb dX1_line_23 rfl (lv_at hl 0 rfl) ?_
    refine va_get (ci := 0) (v := .ref (ad 3)) (C := RX1) (T := TX1) (N := 28) hx hb hts in_X1 hown hK hP 0 rfl rfl 3 (by decide) (hts _ q580) (fun _ h9 => h9) rfl dX1_line_24 ?_
    refine va_getN (ci := 1) (v := .ref (ad 32)) (C := RX2) (T := TX2) (N := 5) hx hb hts in_X2 hown hK hP 1 rfl rfl 2 (by decide) (hG.nf hW0 q234) (fun _ h9 => h9) rfl dX1_line_27 ?_
    refine lv_iload_n hx hb dX1_line_30 rfl (lv_at hl 1 rfl) ?_
    obtain ⟨i3, h⟩ := ckI_s h
    refine va_iald (f := c_now_line) hx hb hK hP 2 0 rfl rfl i3 dX1_line_31 ?_
    obtain rfl := Option.some.inj h
    exact hret dX1_line_32 rfl
  · rw [if_neg c1] at h
    refine lv_iload_n hx hb dX1_line_4 rfl (lv_at hl 1 rfl) ?_
    refine lv_aload_n hx hb dX1_line_5 rfl (lv_at hl 0 rfl) ?_
    refine va_get (ci := 0) (v := .ref (ad 3)) (C := RX1) (T := TX1) (N := 28) hx hb hts in_X1 hown hK hP 0 rfl rfl 3 (by decide) (hts _ q580) (fun _ h9 => h9) rfl dX1_line_6 ?_
    refine va_getN (ci := 1) (v := .int c_now_lines) (C := RX2) (T := TX2) (N := 5) hx hb hts in_X2 hown hK hP 1 rfl rfl 1 (by decide) (hG.nf hW0 q228) (fun _ h9 => h9) rfl dX1_line_9 ?_
    refine lv_icmp_ge (tgt := 19) hx hb dX1_line_12 (by decide) (fun c5 => ?_) (fun c5 => ?_)
    · rw [if_pos c5] at h
      refine lv_iconst (v := 0) hx hb dX1_line_19 (by decide) ?_
      obtain ⟨y6, e6, h⟩ := ob_s h
      refine MV.callS (M_X1_there hG e6) S (cw_X1_there hts q1182 ⟨Nat.le_of_ble_eq_true rfl, Nat.le_of_ble_eq_true rfl⟩) hW0 vaP0 rfl hl.1 rfl (Nat.le_of_ble_eq_true rfl) dX1_line_20 ⟨Nat.zero_le _, Nat.zero_le _⟩ ?_
      refine lv_aload_n hx hb dX1_line_23 rfl (lv_at hl 0 rfl) ?_
      refine va_get (ci := 0) (v := .ref (ad 3)) (C := RX1) (T := TX1) (N := 28) hx hb hts in_X1 hown hK hP 0 rfl rfl 3 (by decide) (hts _ q580) (fun _ h9 => h9) rfl dX1_line_24 ?_
      refine va_getN (ci := 1) (v := .ref (ad 32)) (C := RX2) (T := TX2) (N := 5) hx hb hts in_X2 hown hK hP 1 rfl rfl 2 (by decide) (hG.nf hW0 q234) (fun _ h9 => h9) rfl dX1_line_27 ?_
      refine lv_iload_n hx hb dX1_line_30 rfl (lv_at hl 1 rfl) ?_
      obtain ⟨i7, h⟩ := ckI_s h
      refine va_iald (f := c_now_line) hx hb hK hP 2 0 rfl rfl i7 dX1_line_31 ?_
      obtain rfl := Option.some.inj h
      exact hret dX1_line_32 rfl
    · rw [if_neg c5] at h
      refine lv_iconst (v := 1) hx hb dX1_line_15 (by decide) ?_
      refine lv_goto (tgt := 20) hx hb dX1_line_16 (by decide) ?_
      obtain ⟨y9, e9, h⟩ := ob_s h
      refine MV.callS (M_X1_there hG e9) S (cw_X1_there hts q1182 ⟨Nat.le_of_ble_eq_true rfl, Nat.le_of_ble_eq_true rfl⟩) hW0 vaP0 rfl hl.1 rfl (Nat.le_of_ble_eq_true rfl) dX1_line_20 ⟨Nat.zero_le _, Nat.zero_le _⟩ ?_
      refine lv_aload_n hx hb dX1_line_23 rfl (lv_at hl 0 rfl) ?_
      refine va_get (ci := 0) (v := .ref (ad 3)) (C := RX1) (T := TX1) (N := 28) hx hb hts in_X1 hown hK hP 0 rfl rfl 3 (by decide) (hts _ q580) (fun _ h9 => h9) rfl dX1_line_24 ?_
      refine va_getN (ci := 1) (v := .ref (ad 32)) (C := RX2) (T := TX2) (N := 5) hx hb hts in_X2 hown hK hP 1 rfl rfl 2 (by decide) (hG.nf hW0 q234) (fun _ h9 => h9) rfl dX1_line_27 ?_
      refine lv_iload_n hx hb dX1_line_30 rfl (lv_at hl 1 rfl) ?_
      obtain ⟨i10, h⟩ := ckI_s h
      refine va_iald (f := c_now_line) hx hb hK hP 2 0 rfl rfl i10 dX1_line_31 ?_
      obtain rfl := Option.some.inj h
      exact hret dX1_line_32 rfl
def F_X1_joined_27 (N : Nat) (c_now_line : (Nat → Int32)) (c_now_lines : Int32) (s0 : Int32) (v1 : Int32) (v2 : Int32) : Option (Int32) := ((F_X1_there N s0).bind fun y3 => (if v1 = v2 then ((F_X1_right N 0).bind fun y5 => ((F_X2_lineOf N (((1 : Int32) <<< (v1 &&& 31)) ||| ((1 : Int32) <<< (v2 &&& 31))) c_now_line c_now_lines).bind fun y6 => (some (y6)))) else ((F_X1_right N 1).bind fun y8 => ((F_X2_lineOf N (((1 : Int32) <<< (v1 &&& 31)) ||| ((1 : Int32) <<< (v2 &&& 31))) c_now_line c_now_lines).bind fun y9 => (some (y9))))))
def F_X1_joined_26 (N : Nat) (c_now_line : (Nat → Int32)) (c_now_lines : Int32) (v1 : Int32) (v2 : Int32) : Option (Int32) := (F_X1_joined_27 N c_now_line c_now_lines 0 v1 v2)
def F_X1_joined (N : Nat) (v1 : Int32) (v2 : Int32) (c_now_line : (Nat → Int32)) (c_now_points : Int32) (c_now_lines : Int32) : Option (Int32) := ((F_X2_isPoint N v1 c_now_points).bind fun y1 => (if y1 = 0 then (F_X1_joined_26 N c_now_line c_now_lines v1 v2) else ((F_X2_isPoint N v2 c_now_points).bind fun y11 => (if y11 = 0 then (F_X1_joined_26 N c_now_line c_now_lines v1 v2) else (F_X1_joined_27 N c_now_line c_now_lines 1 v1 v2)))))
theorem cw_X1_joined {R : Room} {s : State} {args : Array Value} {own : String} {index lev mc ms : Nat} (hts : ∀ w ∈ lw_all, w.before args s = true) (hl : Cond.methodLink own index yX1_joined ∈ lw_all) (hR : (rmL lev mc ms).frames + 1 ≤ R.frames ∧ 8 + (3 + 11) + (rmL lev mc ms).locals ≤ R.locals) : CallW R s args own RX1 index yX1_joined cX1_joined 3 (some .int) (ws_ yX1_joined cX1_joined 3 (some .int)) (rmL lev mc ms) mc ms 2 := cwV 2 hts (lw_V hl q1416 q1417 q151 q1418) rfl rfl rfl (by decide +kernel) hR
set_option maxHeartbeats 4000000 in
theorem M_X1_joined {l : Launch} {G : GE} (hG : GC G) {N : Nat} {h0 : Nat} {ad : Nat → Nat} {c_listPoints : Int32} {c_listLines : Int32} {c_refused : (Nat → Int32)} {c_imageRefused : (Nat → Int32)} {c_hasImage : Int32} {c_tape : (Nat → Int32)} {c_taped : Int32} {c_faultPlace : Int32} {c_orbit : (Nat → Int32)} {c_lineFor : (Nat → Int32)} {c_dualities : Int32} {c_polarities : Int32} {c_shortest : Int32} {c_placeX : (Nat → Int32)} {c_placeY : (Nat → Int32)} {c_placeZ : (Nat → Int32)} {c_lies : (Nat → Int32)} {c_firstLies : (Nat → Int32)} {c_worth : (Nat → Int32)} {c_its : Int32} {c_now_x : (Nat → Int32)} {c_now_y : (Nat → Int32)} {c_tried_points : Int32} {c_tried_lines : Int32} {c_tried_line : (Nat → Int32)} {c_tried_x : (Nat → Int32)} {c_tried_y : (Nat → Int32)} {c_imageNow_points : Int32} {c_imageNow_lines : Int32} {c_imageNow_line : (Nat → Int32)} {c_imageNow_x : (Nat → Int32)} {c_imageNow_y : (Nat → Int32)} {v1 : Int32} {v2 : Int32} {c_now_line : (Nat → Int32)} {c_now_points : Int32} {c_now_lines : Int32} {ρ : (Int32)} (h : F_X1_joined N v1 v2 c_now_line c_now_points c_now_lines = some ρ) : MR l G yX1_joined cX1_joined 3 (some .int) 2 (cW h0 ad G.2.2 c_listPoints c_listLines c_refused c_imageRefused c_hasImage c_tape c_taped c_faultPlace c_orbit c_lineFor c_dualities c_polarities c_shortest c_placeX c_placeY c_placeZ c_lies c_firstLies c_worth c_its c_now_points c_now_lines c_now_line c_now_x c_now_y c_tried_points c_tried_lines c_tried_line c_tried_x c_tried_y c_imageNow_points c_imageNow_lines c_imageNow_line c_imageNow_x c_imageNow_y) [.ref h0, .int v1, .int v2] ρ := by
  rw [F_X1_joined] at h
  refine MR.start (rt := .int) hG (by decide) (Nat.le_of_ble_eq_true rfl) ?_
  intro p e s m args below meth c Q S hW0 hK hP hret ls hl
  obtain ⟨hx, hb, hml, hown, hts⟩ := id S
  have hl : lv_has ls 3 [(0, .ref h0), (1, .int v1), (2, .int v2)] := hl
  have S_X1_joined_27 : ∀ (s0 : Int32) (v1 : Int32) (v2 : Int32), F_X1_joined_27 N c_now_line c_now_lines s0 v1 v2 = some ρ → ∀ (ls : Array Slot), lv_has ls 3 [(0, .ref h0), (1, .int v1), (2, .int v2)] → W p l e (rmL 2 0 0) s m args below meth c s.heap [] 0 0 Q (F0 m 27 ls [.int s0]) := by
    intro s0 v1 v2 h ls hl
    rw [F_X1_joined_27] at h
    obtain ⟨y3, e3, h⟩ := ob_s h
    refine MV.callS (M_X1_there hG e3) S (cw_X1_there hts q1182 ⟨Nat.le_of_ble_eq_true rfl, Nat.le_of_ble_eq_true rfl⟩) hW0 vaP0 rfl hl.1 rfl (Nat.le_of_ble_eq_true rfl) dX1_joined_27 ⟨Nat.zero_le _, Nat.zero_le _⟩ ?_
    refine lv_iload_n hx hb dX1_joined_30 rfl (lv_at hl 1 rfl) ?_
    refine lv_iload_n hx hb dX1_joined_31 rfl (lv_at hl 2 rfl) ?_
    refine lv_icmp_eq (tgt := 39) hx hb dX1_joined_32 (by decide) (fun c4 => ?_) (fun c4 => ?_)
    · rw [if_pos c4] at h
      refine lv_iconst (v := 0) hx hb dX1_joined_39 (by decide) ?_
      obtain ⟨y5, e5, h⟩ := ob_s h
      refine MV.callS (M_X1_right hG e5) S (cw_X1_right hts q948 ⟨Nat.le_of_ble_eq_true rfl, Nat.le_of_ble_eq_true rfl⟩) hW0 vaP0 rfl hl.1 rfl (Nat.le_of_ble_eq_true rfl) dX1_joined_40 ⟨Nat.zero_le _, Nat.zero_le _⟩ ?_
      refine lv_aload_n hx hb dX1_joined_43 rfl (lv_at hl 0 rfl) ?_
      refine va_get (ci := 0) (v := .ref (ad 3)) (C := RX1) (T := TX1) (N := 28) hx hb hts in_X1 hown hK hP 0 rfl rfl 3 (by decide) (hts _ q580) (fun _ h9 => h9) rfl dX1_joined_44 ?_
      refine lv_iconst (v := 1) hx hb dX1_joined_47 (by decide) ?_
      refine lv_iload_n hx hb dX1_joined_48 rfl (lv_at hl 1 rfl) ?_
      refine lv_ishl hx hb dX1_joined_49 ?_
      refine lv_iconst (v := 1) hx hb dX1_joined_50 (by decide) ?_
      refine lv_iload_n hx hb dX1_joined_51 rfl (lv_at hl 2 rfl) ?_
      refine lv_ishl hx hb dX1_joined_52 ?_
      refine lv_ior hx hb dX1_joined_53 ?_
      obtain ⟨y6, e6, h⟩ := ob_s h
      refine MR.callV (q0 := 0) (M_X2_lineOf hG e6) S (cw_X2_lineOf hts q1218 ⟨Nat.le_of_ble_eq_true rfl, Nat.le_of_ble_eq_true rfl⟩) hW0 hK (hP.sub (ws' := (sW (ad 3) (fun k => ad (30 + k)) G.2.2 c_now_points c_now_lines c_now_line c_now_x c_now_y)) [1, 2, 3, 4] rfl) rfl rfl rfl hl.1 rfl (Nat.le_of_ble_eq_true rfl) dX1_joined_54 ⟨Nat.zero_le _, Nat.zero_le _⟩ ?_
      obtain rfl := Option.some.inj h
      exact hret dX1_joined_57 rfl
    · rw [if_neg c4] at h
      refine lv_iconst (v := 1) hx hb dX1_joined_35 (by decide) ?_
      refine lv_goto (tgt := 40) hx hb dX1_joined_36 (by decide) ?_
      obtain ⟨y8, e8, h⟩ := ob_s h
      refine MV.callS (M_X1_right hG e8) S (cw_X1_right hts q948 ⟨Nat.le_of_ble_eq_true rfl, Nat.le_of_ble_eq_true rfl⟩) hW0 vaP0 rfl hl.1 rfl (Nat.le_of_ble_eq_true rfl) dX1_joined_40 ⟨Nat.zero_le _, Nat.zero_le _⟩ ?_
      refine lv_aload_n hx hb dX1_joined_43 rfl (lv_at hl 0 rfl) ?_
      refine va_get (ci := 0) (v := .ref (ad 3)) (C := RX1) (T := TX1) (N := 28) hx hb hts in_X1 hown hK hP 0 rfl rfl 3 (by decide) (hts _ q580) (fun _ h9 => h9) rfl dX1_joined_44 ?_
      refine lv_iconst (v := 1) hx hb dX1_joined_47 (by decide) ?_
      refine lv_iload_n hx hb dX1_joined_48 rfl (lv_at hl 1 rfl) ?_
      refine lv_ishl hx hb dX1_joined_49 ?_
      refine lv_iconst (v := 1) hx hb dX1_joined_50 (by decide) ?_
      refine lv_iload_n hx hb dX1_joined_51 rfl (lv_at hl 2 rfl) ?_
      refine lv_ishl hx hb dX1_joined_52 ?_
      refine lv_ior hx hb dX1_joined_53 ?_
      obtain ⟨y9, e9, h⟩ := ob_s h
      refine MR.callV (q0 := 0) (M_X2_lineOf hG e9) S (cw_X2_lineOf hts q1218 ⟨Nat.le_of_ble_eq_true rfl, Nat.le_of_ble_eq_true rfl⟩) hW0 hK (hP.sub (ws' := (sW (ad 3) (fun k => ad (30 + k)) G.2.2 c_now_points c_now_lines c_now_line c_now_x c_now_y)) [1, 2, 3, 4] rfl) rfl rfl rfl hl.1 rfl (Nat.le_of_ble_eq_true rfl) dX1_joined_54 ⟨Nat.zero_le _, Nat.zero_le _⟩ ?_
      obtain rfl := Option.some.inj h
      exact hret dX1_joined_57 rfl
  have S_X1_joined_26 : ∀ (v1 : Int32) (v2 : Int32), F_X1_joined_26 N c_now_line c_now_lines v1 v2 = some ρ → ∀ (ls : Array Slot), lv_has ls 3 [(0, .ref h0), (1, .int v1), (2, .int v2)] → W p l e (rmL 2 0 0) s m args below meth c s.heap [] 0 0 Q (F0 m 26 ls []) := by
    intro v1 v2 h ls hl
    rw [F_X1_joined_26] at h
    refine lv_iconst (v := 0) hx hb dX1_joined_26 (by decide) ?_
    refine S_X1_joined_27 0 v1 v2 h  _ (lv_sub hl [0, 1, 2] rfl)
  refine lv_aload_n hx hb dX1_joined_0 rfl (lv_at hl 0 rfl) ?_
  refine va_get (ci := 0) (v := .ref (ad 3)) (C := RX1) (T := TX1) (N := 28) hx hb hts in_X1 hown hK hP 0 rfl rfl 3 (by decide) (hts _ q580) (fun _ h9 => h9) rfl dX1_joined_1 ?_
  refine lv_iload_n hx hb dX1_joined_4 rfl (lv_at hl 1 rfl) ?_
  obtain ⟨y1, e1, h⟩ := ob_s h
  refine MR.callV (q0 := 0) (M_X2_isPoint hG e1) S (cw_X2_isPoint hts q812 ⟨Nat.le_of_ble_eq_true rfl, Nat.le_of_ble_eq_true rfl⟩) hW0 hK (hP.sub (ws' := (sW (ad 3) (fun k => ad (30 + k)) G.2.2 c_now_points c_now_lines c_now_line c_now_x c_now_y)) [1, 2, 3, 4] rfl) rfl rfl rfl hl.1 rfl (Nat.le_of_ble_eq_true rfl) dX1_joined_5 ⟨Nat.zero_le _, Nat.zero_le _⟩ ?_
  refine lv_if_eq (tgt := 26) hx hb dX1_joined_8 (by decide) (fun c2 => ?_) (fun c2 => ?_)
  · rw [if_pos c2] at h
    refine S_X1_joined_26 v1 v2 h  _ (lv_sub hl [0, 1, 2] rfl)
  · rw [if_neg c2] at h
    refine lv_aload_n hx hb dX1_joined_11 rfl (lv_at hl 0 rfl) ?_
    refine va_get (ci := 0) (v := .ref (ad 3)) (C := RX1) (T := TX1) (N := 28) hx hb hts in_X1 hown hK hP 0 rfl rfl 3 (by decide) (hts _ q580) (fun _ h9 => h9) rfl dX1_joined_12 ?_
    refine lv_iload_n hx hb dX1_joined_15 rfl (lv_at hl 2 rfl) ?_
    obtain ⟨y11, e11, h⟩ := ob_s h
    refine MR.callV (q0 := 0) (M_X2_isPoint hG e11) S (cw_X2_isPoint hts q812 ⟨Nat.le_of_ble_eq_true rfl, Nat.le_of_ble_eq_true rfl⟩) hW0 hK (hP.sub (ws' := (sW (ad 3) (fun k => ad (30 + k)) G.2.2 c_now_points c_now_lines c_now_line c_now_x c_now_y)) [1, 2, 3, 4] rfl) rfl rfl rfl hl.1 rfl (Nat.le_of_ble_eq_true rfl) dX1_joined_16 ⟨Nat.zero_le _, Nat.zero_le _⟩ ?_
    refine lv_if_eq (tgt := 26) hx hb dX1_joined_19 (by decide) (fun c12 => ?_) (fun c12 => ?_)
    · rw [if_pos c12] at h
      refine S_X1_joined_26 v1 v2 h  _ (lv_sub hl [0, 1, 2] rfl)
    · rw [if_neg c12] at h
      refine lv_iconst (v := 1) hx hb dX1_joined_22 (by decide) ?_
      refine lv_goto (tgt := 27) hx hb dX1_joined_23 (by decide) ?_
      refine S_X1_joined_27 1 v1 v2 h  _ (lv_sub hl [0, 1, 2] rfl)
def F_X1_meet_48 (N : Nat) (c_now_line : (Nat → Int32)) (s0 : Int32) (v1 : Int32) (v2 : Int32) : Option (Int32) := ((F_X1_right N s0).bind fun y4 => ((F_X1_doMeet N v1 v2 c_now_line).bind fun y5 => (if y5 = 0 then (some ((-1))) else (ckI v1 12 (ckI v2 12 ((F_X1_lowest N ((c_now_line (Int32.toNatClampNeg v1)) &&& (c_now_line (Int32.toNatClampNeg v2)))).bind fun y10 => (some (y10))))))))
def F_X1_meet_35 (N : Nat) (c_now_line : (Nat → Int32)) (s0 : Int32) (v1 : Int32) (v2 : Int32) : Option (Int32) := ((F_X1_there N s0).bind fun y2 => (if v1 = v2 then (F_X1_meet_48 N c_now_line 0 v1 v2) else (F_X1_meet_48 N c_now_line 1 v1 v2)))
def F_X1_meet_34 (N : Nat) (c_now_line : (Nat → Int32)) (v1 : Int32) (v2 : Int32) : Option (Int32) := (F_X1_meet_35 N c_now_line 0 v1 v2)
def F_X1_meet (N : Nat) (v1 : Int32) (v2 : Int32) (c_now_line : (Nat → Int32)) (c_now_lines : Int32) : Option (Int32) := (if v1 < 0 then (F_X1_meet_34 N c_now_line v1 v2) else (if c_now_lines ≤ v1 then (F_X1_meet_34 N c_now_line v1 v2) else (if v2 < 0 then (F_X1_meet_34 N c_now_line v1 v2) else (if c_now_lines ≤ v2 then (F_X1_meet_34 N c_now_line v1 v2) else (F_X1_meet_35 N c_now_line 1 v1 v2)))))
theorem cw_X1_meet {R : Room} {s : State} {args : Array Value} {own : String} {index lev mc ms : Nat} (hts : ∀ w ∈ lw_all, w.before args s = true) (hl : Cond.methodLink own index yX1_meet ∈ lw_all) (hR : (rmL lev mc ms).frames + 1 ≤ R.frames ∧ 8 + (3 + 11) + (rmL lev mc ms).locals ≤ R.locals) : CallW R s args own RX1 index yX1_meet cX1_meet 3 (some .int) (ws_ yX1_meet cX1_meet 3 (some .int)) (rmL lev mc ms) mc ms 2 := cwV 2 hts (lw_V hl q1423 q1424 q151 q1425) rfl rfl rfl (by decide +kernel) hR
set_option maxHeartbeats 4000000 in
theorem M_X1_meet {l : Launch} {G : GE} (hG : GC G) {N : Nat} {h0 : Nat} {ad : Nat → Nat} {c_listPoints : Int32} {c_listLines : Int32} {c_refused : (Nat → Int32)} {c_imageRefused : (Nat → Int32)} {c_hasImage : Int32} {c_tape : (Nat → Int32)} {c_taped : Int32} {c_faultPlace : Int32} {c_orbit : (Nat → Int32)} {c_lineFor : (Nat → Int32)} {c_dualities : Int32} {c_polarities : Int32} {c_shortest : Int32} {c_placeX : (Nat → Int32)} {c_placeY : (Nat → Int32)} {c_placeZ : (Nat → Int32)} {c_lies : (Nat → Int32)} {c_firstLies : (Nat → Int32)} {c_worth : (Nat → Int32)} {c_its : Int32} {c_now_points : Int32} {c_now_x : (Nat → Int32)} {c_now_y : (Nat → Int32)} {c_tried_points : Int32} {c_tried_lines : Int32} {c_tried_line : (Nat → Int32)} {c_tried_x : (Nat → Int32)} {c_tried_y : (Nat → Int32)} {c_imageNow_points : Int32} {c_imageNow_lines : Int32} {c_imageNow_line : (Nat → Int32)} {c_imageNow_x : (Nat → Int32)} {c_imageNow_y : (Nat → Int32)} {v1 : Int32} {v2 : Int32} {c_now_line : (Nat → Int32)} {c_now_lines : Int32} {ρ : (Int32)} (h : F_X1_meet N v1 v2 c_now_line c_now_lines = some ρ) : MR l G yX1_meet cX1_meet 3 (some .int) 3 (cW h0 ad G.2.2 c_listPoints c_listLines c_refused c_imageRefused c_hasImage c_tape c_taped c_faultPlace c_orbit c_lineFor c_dualities c_polarities c_shortest c_placeX c_placeY c_placeZ c_lies c_firstLies c_worth c_its c_now_points c_now_lines c_now_line c_now_x c_now_y c_tried_points c_tried_lines c_tried_line c_tried_x c_tried_y c_imageNow_points c_imageNow_lines c_imageNow_line c_imageNow_x c_imageNow_y) [.ref h0, .int v1, .int v2] ρ := by
  rw [F_X1_meet] at h
  refine MR.start (rt := .int) hG (by decide) (Nat.le_of_ble_eq_true rfl) ?_
  intro p e s m args below meth c Q S hW0 hK hP hret ls hl
  obtain ⟨hx, hb, hml, hown, hts⟩ := id S
  have hl : lv_has ls 3 [(0, .ref h0), (1, .int v1), (2, .int v2)] := hl
  have S_X1_meet_48 : ∀ (s0 : Int32) (v1 : Int32) (v2 : Int32), F_X1_meet_48 N c_now_line s0 v1 v2 = some ρ → ∀ (ls : Array Slot), lv_has ls 3 [(0, .ref h0), (1, .int v1), (2, .int v2)] → W p l e (rmL 3 0 0) s m args below meth c s.heap [] 0 0 Q (F0 m 48 ls [.int s0]) := by
    intro s0 v1 v2 h ls hl
    rw [F_X1_meet_48] at h
    obtain ⟨y4, e4, h⟩ := ob_s h
    refine MV.callS (M_X1_right hG e4) S (cw_X1_right hts q948 ⟨Nat.le_of_ble_eq_true rfl, Nat.le_of_ble_eq_true rfl⟩) hW0 vaP0 rfl hl.1 rfl (Nat.le_of_ble_eq_true rfl) dX1_meet_48 ⟨Nat.zero_le _, Nat.zero_le _⟩ ?_
    refine lv_aload_n hx hb dX1_meet_51 rfl (lv_at hl 0 rfl) ?_
    refine lv_iload_n hx hb dX1_meet_52 rfl (lv_at hl 1 rfl) ?_
    refine lv_iload_n hx hb dX1_meet_53 rfl (lv_at hl 2 rfl) ?_
    obtain ⟨y5, e5, h⟩ := ob_s h
    refine MR.callV (q0 := 0) (M_X1_doMeet hG e5) S (cw_X1_doMeet hts q1394 ⟨Nat.le_of_ble_eq_true rfl, Nat.le_of_ble_eq_true rfl⟩) hW0 hK hP rfl rfl rfl hl.1 rfl (Nat.le_of_ble_eq_true rfl) dX1_meet_54 ⟨Nat.zero_le _, Nat.zero_le _⟩ ?_
    refine lv_if_eq (tgt := 85) hx hb dX1_meet_57 (by decide) (fun c6 => ?_) (fun c6 => ?_)
    · rw [if_pos c6] at h
      refine lv_iconst (v := (-1)) hx hb dX1_meet_85 (by decide) ?_
      obtain rfl := Option.some.inj h
      exact hret dX1_meet_86 rfl
    · rw [if_neg c6] at h
      refine lv_aload_n hx hb dX1_meet_60 rfl (lv_at hl 0 rfl) ?_
      refine va_get (ci := 0) (v := .ref (ad 3)) (C := RX1) (T := TX1) (N := 28) hx hb hts in_X1 hown hK hP 0 rfl rfl 3 (by decide) (hts _ q580) (fun _ h9 => h9) rfl dX1_meet_61 ?_
      refine va_getN (ci := 1) (v := .ref (ad 32)) (C := RX2) (T := TX2) (N := 5) hx hb hts in_X2 hown hK hP 1 rfl rfl 2 (by decide) (hG.nf hW0 q234) (fun _ h9 => h9) rfl dX1_meet_64 ?_
      refine lv_iload_n hx hb dX1_meet_67 rfl (lv_at hl 1 rfl) ?_
      obtain ⟨i8, h⟩ := ckI_s h
      refine va_iald (f := c_now_line) hx hb hK hP 2 0 rfl rfl i8 dX1_meet_68 ?_
      refine lv_aload_n hx hb dX1_meet_69 rfl (lv_at hl 0 rfl) ?_
      refine va_get (ci := 0) (v := .ref (ad 3)) (C := RX1) (T := TX1) (N := 28) hx hb hts in_X1 hown hK hP 0 rfl rfl 3 (by decide) (hts _ q580) (fun _ h9 => h9) rfl dX1_meet_70 ?_
      refine va_getN (ci := 1) (v := .ref (ad 32)) (C := RX2) (T := TX2) (N := 5) hx hb hts in_X2 hown hK hP 1 rfl rfl 2 (by decide) (hG.nf hW0 q234) (fun _ h9 => h9) rfl dX1_meet_73 ?_
      refine lv_iload_n hx hb dX1_meet_76 rfl (lv_at hl 2 rfl) ?_
      obtain ⟨i9, h⟩ := ckI_s h
      refine va_iald (f := c_now_line) hx hb hK hP 2 0 rfl rfl i9 dX1_meet_77 ?_
      refine lv_iand hx hb dX1_meet_78 ?_
      obtain ⟨y10, e10, h⟩ := ob_s h
      refine MR.callS (M_X1_lowest hG e10) S (cw_X1_lowest hts q1233 ⟨Nat.le_of_ble_eq_true rfl, Nat.le_of_ble_eq_true rfl⟩) hW0 vaP0 rfl hl.1 rfl (Nat.le_of_ble_eq_true rfl) dX1_meet_79 ⟨Nat.zero_le _, Nat.zero_le _⟩ ?_
      refine lv_goto (tgt := 86) hx hb dX1_meet_82 (by decide) ?_
      obtain rfl := Option.some.inj h
      exact hret dX1_meet_86 rfl
  have S_X1_meet_35 : ∀ (s0 : Int32) (v1 : Int32) (v2 : Int32), F_X1_meet_35 N c_now_line s0 v1 v2 = some ρ → ∀ (ls : Array Slot), lv_has ls 3 [(0, .ref h0), (1, .int v1), (2, .int v2)] → W p l e (rmL 3 0 0) s m args below meth c s.heap [] 0 0 Q (F0 m 35 ls [.int s0]) := by
    intro s0 v1 v2 h ls hl
    rw [F_X1_meet_35] at h
    obtain ⟨y2, e2, h⟩ := ob_s h
    refine MV.callS (M_X1_there hG e2) S (cw_X1_there hts q1182 ⟨Nat.le_of_ble_eq_true rfl, Nat.le_of_ble_eq_true rfl⟩) hW0 vaP0 rfl hl.1 rfl (Nat.le_of_ble_eq_true rfl) dX1_meet_35 ⟨Nat.zero_le _, Nat.zero_le _⟩ ?_
    refine lv_iload_n hx hb dX1_meet_38 rfl (lv_at hl 1 rfl) ?_
    refine lv_iload_n hx hb dX1_meet_39 rfl (lv_at hl 2 rfl) ?_
    refine lv_icmp_eq (tgt := 47) hx hb dX1_meet_40 (by decide) (fun c3 => ?_) (fun c3 => ?_)
    · rw [if_pos c3] at h
      refine lv_iconst (v := 0) hx hb dX1_meet_47 (by decide) ?_
      refine S_X1_meet_48 0 v1 v2 h  _ (lv_sub hl [0, 1, 2] rfl)
    · rw [if_neg c3] at h
      refine lv_iconst (v := 1) hx hb dX1_meet_43 (by decide) ?_
      refine lv_goto (tgt := 48) hx hb dX1_meet_44 (by decide) ?_
      refine S_X1_meet_48 1 v1 v2 h  _ (lv_sub hl [0, 1, 2] rfl)
  have S_X1_meet_34 : ∀ (v1 : Int32) (v2 : Int32), F_X1_meet_34 N c_now_line v1 v2 = some ρ → ∀ (ls : Array Slot), lv_has ls 3 [(0, .ref h0), (1, .int v1), (2, .int v2)] → W p l e (rmL 3 0 0) s m args below meth c s.heap [] 0 0 Q (F0 m 34 ls []) := by
    intro v1 v2 h ls hl
    rw [F_X1_meet_34] at h
    refine lv_iconst (v := 0) hx hb dX1_meet_34 (by decide) ?_
    refine S_X1_meet_35 0 v1 v2 h  _ (lv_sub hl [0, 1, 2] rfl)
  refine lv_iload_n hx hb dX1_meet_0 rfl (lv_at hl 1 rfl) ?_
  refine lv_if_lt (tgt := 34) hx hb dX1_meet_1 (by decide) (fun c1 => ?_) (fun c1 => ?_)
  · rw [if_pos c1] at h
    refine S_X1_meet_34 v1 v2 h  _ (lv_sub hl [0, 1, 2] rfl)
  · rw [if_neg c1] at h
    refine lv_iload_n hx hb dX1_meet_4 rfl (lv_at hl 1 rfl) ?_
    refine lv_aload_n hx hb dX1_meet_5 rfl (lv_at hl 0 rfl) ?_
    refine va_get (ci := 0) (v := .ref (ad 3)) (C := RX1) (T := TX1) (N := 28) hx hb hts in_X1 hown hK hP 0 rfl rfl 3 (by decide) (hts _ q580) (fun _ h9 => h9) rfl dX1_meet_6 ?_
    refine va_getN (ci := 1) (v := .int c_now_lines) (C := RX2) (T := TX2) (N := 5) hx hb hts in_X2 hown hK hP 1 rfl rfl 1 (by decide) (hG.nf hW0 q228) (fun _ h9 => h9) rfl dX1_meet_9 ?_
    refine lv_icmp_ge (tgt := 34) hx hb dX1_meet_12 (by decide) (fun c12 => ?_) (fun c12 => ?_)
    · rw [if_pos c12] at h
      refine S_X1_meet_34 v1 v2 h  _ (lv_sub hl [0, 1, 2] rfl)
    · rw [if_neg c12] at h
      refine lv_iload_n hx hb dX1_meet_15 rfl (lv_at hl 2 rfl) ?_
      refine lv_if_lt (tgt := 34) hx hb dX1_meet_16 (by decide) (fun c13 => ?_) (fun c13 => ?_)
      · rw [if_pos c13] at h
        refine S_X1_meet_34 v1 v2 h  _ (lv_sub hl [0, 1, 2] rfl)
      · rw [if_neg c13] at h
        refine lv_iload_n hx hb dX1_meet_19 rfl (lv_at hl 2 rfl) ?_
        refine lv_aload_n hx hb dX1_meet_20 rfl (lv_at hl 0 rfl) ?_
        refine va_get (ci := 0) (v := .ref (ad 3)) (C := RX1) (T := TX1) (N := 28) hx hb hts in_X1 hown hK hP 0 rfl rfl 3 (by decide) (hts _ q580) (fun _ h9 => h9) rfl dX1_meet_21 ?_
        refine va_getN (ci := 1) (v := .int c_now_lines) (C := RX2) (T := TX2) (N := 5) hx hb hts in_X2 hown hK hP 1 rfl rfl 1 (by decide) (hG.nf hW0 q228) (fun _ h9 => h9) rfl dX1_meet_24 ?_
        refine lv_icmp_ge (tgt := 34) hx hb dX1_meet_27 (by decide) (fun c14 => ?_) (fun c14 => ?_)
        · rw [if_pos c14] at h
          refine S_X1_meet_34 v1 v2 h  _ (lv_sub hl [0, 1, 2] rfl)
        · rw [if_neg c14] at h
          refine lv_iconst (v := 1) hx hb dX1_meet_30 (by decide) ?_
          refine lv_goto (tgt := 35) hx hb dX1_meet_31 (by decide) ?_
          refine S_X1_meet_35 1 v1 v2 h  _ (lv_sub hl [0, 1, 2] rfl)
def F_X1_isFree_2 (N : Nat) (n0 : Nat) (v1 : Int32) (v2 : Int32) (c_p0 : (Nat → Int32)) : Nat → Int32 → Option (Int32)
  | 0, _ => none
  | n + 1, v3 => (if v1 ≤ v3 then (some (1)) else (ckI v3 n0 ((F_J16_bitCount N ((c_p0 (Int32.toNatClampNeg v3)) &&& v2)).bind fun y4 => (if y4 ≤ 1 then (F_X1_isFree_2 N n0 v1 v2 c_p0 n (v3 + 1)) else (some (0))))))
def F_X1_isFree (N : Nat) (n0 : Nat) (v1 : Int32) (v2 : Int32) (c_p0 : (Nat → Int32)) : Option (Int32) := (F_X1_isFree_2 N n0 v1 v2 c_p0 N 0)
theorem cw_X1_isFree {R : Room} {s : State} {args : Array Value} {own : String} {index lev mc ms : Nat} (hts : ∀ w ∈ lw_all, w.before args s = true) (hl : Cond.methodLink own index yX1_isFree ∈ lw_all) (hR : (rmL lev mc ms).frames + 1 ≤ R.frames ∧ 8 + (4 + 11) + (rmL lev mc ms).locals ≤ R.locals) : CallB R s args own index yX1_isFree cX1_isFree 4 (some .boolean) (ws_ yX1_isFree cX1_isFree 4 (some .boolean)) (rmL lev mc ms) mc ms 3 ∧ (Cond.static yX1_isFree).before args s = true := va_cwS 3 hts (lw_S hl q1529 q151 q1530) rfl rfl rfl (by decide +kernel) hR
set_option maxHeartbeats 4000000 in
theorem M_X1_isFree {l : Launch} {G : GE} (hG : GC G) {N : Nat} {b0 : Nat} {n0 : Nat} {v1 : Int32} {v2 : Int32} {c_p0 : (Nat → Int32)} {ρ : (Int32)} (h : F_X1_isFree N n0 v1 v2 c_p0 = some ρ) : MR l G yX1_isFree cX1_isFree 4 (some .boolean) 2 [(b0, .inl (G.2.2 0, n0, .inl c_p0))] [.ref b0, .int v1, .int v2] ρ := by
  rw [F_X1_isFree] at h
  refine MR.start (rt := .boolean) hG (by decide) (Nat.le_of_ble_eq_true rfl) ?_
  intro p e s m args below meth c Q S hW0 hK hP hret ls hl
  obtain ⟨hx, hb, hml, hown, hts⟩ := id S
  have hl : lv_has ls 4 [(0, .ref b0), (1, .int v1), (2, .int v2)] := hl
  have S_X1_isFree_2 : ∀ (n : Nat) (v1 : Int32) (v2 : Int32) (v3 : Int32), F_X1_isFree_2 N n0 v1 v2 c_p0 n v3 = some ρ → ∀ (ls : Array Slot), lv_has ls 4 [(0, .ref b0), (1, .int v1), (2, .int v2), (3, .int v3)] → W p l e (rmL 2 0 0) s m args below meth c s.heap [] 0 0 Q (F0 m 2 ls []) := by
    intro n
    induction n with
    | zero =>
      intro v1 v2 v3 h
      exact absurd h (by simp [F_X1_isFree_2])
    | succ n ih =>
      intro v1 v2 v3 h ls hl
      rw [F_X1_isFree_2] at h
      refine lv_iload_n hx hb dX1_isFree_2 rfl (lv_at hl 3 rfl) ?_
      refine lv_iload_n hx hb dX1_isFree_3 rfl (lv_at hl 1 rfl) ?_
      refine lv_icmp_ge (tgt := 27) hx hb dX1_isFree_4 (by decide) (fun c1 => ?_) (fun c1 => ?_)
      · rw [if_pos c1] at h
        refine lv_iconst (v := 1) hx hb dX1_isFree_27 (by decide) ?_
        obtain rfl := Option.some.inj h
        exact hret dX1_isFree_28 rfl
      · rw [if_neg c1] at h
        refine lv_aload_n hx hb dX1_isFree_7 rfl (lv_at hl 0 rfl) ?_
        refine lv_iload_n hx hb dX1_isFree_8 rfl (lv_at hl 3 rfl) ?_
        obtain ⟨i3, h⟩ := ckI_s h
        refine va_iald (f := c_p0) hx hb hK hP 0 0 rfl rfl i3 dX1_isFree_9 ?_
        refine lv_iload_n hx hb dX1_isFree_10 rfl (lv_at hl 2 rfl) ?_
        refine lv_iand hx hb dX1_isFree_11 ?_
        obtain ⟨y4, e4, h⟩ := ob_s h
        refine MR.callS (M_J16_bitCount hG e4) S (cw_J16_bitCount hts q1204 ⟨Nat.le_of_ble_eq_true rfl, Nat.le_of_ble_eq_true rfl⟩) hW0 vaP0 rfl hl.1 rfl (Nat.le_of_ble_eq_true rfl) dX1_isFree_12 ⟨Nat.zero_le _, Nat.zero_le _⟩ ?_
        refine lv_iconst (v := 1) hx hb dX1_isFree_15 (by decide) ?_
        refine lv_icmp_le (tgt := 21) hx hb dX1_isFree_16 (by decide) (fun c5 => ?_) (fun c5 => ?_)
        · rw [if_pos c5] at h
          refine lv_iinc (v := (v3 + 1)) (lv' := [(3, .int (v3 + 1)), (0, .ref b0), (1, .int v1), (2, .int v2)]) hx hb dX1_isFree_21 hl (k := 3) rfl rfl (by decide) rfl (fun ls hl => ?_)
          refine lv_goto (tgt := 2) hx hb dX1_isFree_24 (by decide) ?_
          exact ih v1 v2 (v3 + 1) h _ (lv_sub hl [1, 2, 3, 0] rfl)
        · rw [if_neg c5] at h
          refine lv_iconst (v := 0) hx hb dX1_isFree_19 (by decide) ?_
          obtain rfl := Option.some.inj h
          exact hret dX1_isFree_20 rfl
  refine lv_iconst (v := 0) hx hb dX1_isFree_0 (by decide) ?_
  refine lv_istore_n (lv' := [(3, .int 0), (0, .ref b0), (1, .int v1), (2, .int v2)]) hx hb dX1_isFree_1 rfl hl (by decide) rfl (fun ls hl => ?_)
  refine S_X1_isFree_2 N v1 v2 0 h  _ (lv_sub hl [1, 2, 3, 0] rfl)
def F_X1_isOnSquare (N : Nat) (v0 : Int32) (v1 : Int32) (v2 : Int32) (v3 : Int32) : Option (Int32) := (ckP (¬ v0 = 0) (ckP (¬ v0 = 0) (ckP (¬ v0 = 0) (ckP (¬ v0 = 0) (ckP (¬ v0 = 0) (ckP (¬ v0 = 0) (ckP (¬ v0 = 0) (ckP (¬ v0 = 0) ((F_X1_span N ((v2 - v2 / v0 * v0) - (v1 - v1 / v0 * v0)) ((v2 / v0) - (v1 / v0)) ((v3 - v3 / v0 * v0) - (v1 - v1 / v0 * v0)) ((v3 / v0) - (v1 / v0))).bind fun y9 => (if y9 = 0 then (some (1)) else (some (0))))))))))))
theorem cw_X1_isOnSquare {R : Room} {s : State} {args : Array Value} {own : String} {index lev mc ms : Nat} (hts : ∀ w ∈ lw_all, w.before args s = true) (hl : Cond.methodLink own index yX1_isOnSquare ∈ lw_all) (hR : (rmL lev mc ms).frames + 1 ≤ R.frames ∧ 8 + (4 + 11) + (rmL lev mc ms).locals ≤ R.locals) : CallB R s args own index yX1_isOnSquare cX1_isOnSquare 4 (some .boolean) (ws_ yX1_isOnSquare cX1_isOnSquare 4 (some .boolean)) (rmL lev mc ms) mc ms 4 ∧ (Cond.static yX1_isOnSquare).before args s = true := va_cwS 4 hts (lw_S hl q1545 q151 q1546) rfl rfl rfl (by decide +kernel) hR
set_option maxHeartbeats 4000000 in
theorem M_X1_isOnSquare {l : Launch} {G : GE} (hG : GC G) {N : Nat} {v0 : Int32} {v1 : Int32} {v2 : Int32} {v3 : Int32} {ρ : (Int32)} (h : F_X1_isOnSquare N v0 v1 v2 v3 = some ρ) : MR l G yX1_isOnSquare cX1_isOnSquare 4 (some .boolean) 2 [] [.int v0, .int v1, .int v2, .int v3] ρ := by
  rw [F_X1_isOnSquare] at h
  refine MR.start (rt := .boolean) hG (by decide) (Nat.le_of_ble_eq_true rfl) ?_
  intro p e s m args below meth c Q S hW0 hK hP hret ls hl
  obtain ⟨hx, hb, hml, hown, hts⟩ := id S
  have hl : lv_has ls 4 [(0, .int v0), (1, .int v1), (2, .int v2), (3, .int v3)] := hl
  refine lv_iload_n hx hb dX1_isOnSquare_0 rfl (lv_at hl 2 rfl) ?_
  refine lv_iload_n hx hb dX1_isOnSquare_1 rfl (lv_at hl 0 rfl) ?_
  obtain ⟨i1, h⟩ := ckP_s h
  refine lv_irem hx hb dX1_isOnSquare_2 i1 ?_
  refine lv_iload_n hx hb dX1_isOnSquare_3 rfl (lv_at hl 1 rfl) ?_
  refine lv_iload_n hx hb dX1_isOnSquare_4 rfl (lv_at hl 0 rfl) ?_
  obtain ⟨i2, h⟩ := ckP_s h
  refine lv_irem hx hb dX1_isOnSquare_5 i2 ?_
  refine lv_isub hx hb dX1_isOnSquare_6 ?_
  refine lv_iload_n hx hb dX1_isOnSquare_7 rfl (lv_at hl 2 rfl) ?_
  refine lv_iload_n hx hb dX1_isOnSquare_8 rfl (lv_at hl 0 rfl) ?_
  obtain ⟨i3, h⟩ := ckP_s h
  refine lv_idiv hx hb dX1_isOnSquare_9 i3 ?_
  refine lv_iload_n hx hb dX1_isOnSquare_10 rfl (lv_at hl 1 rfl) ?_
  refine lv_iload_n hx hb dX1_isOnSquare_11 rfl (lv_at hl 0 rfl) ?_
  obtain ⟨i4, h⟩ := ckP_s h
  refine lv_idiv hx hb dX1_isOnSquare_12 i4 ?_
  refine lv_isub hx hb dX1_isOnSquare_13 ?_
  refine lv_iload_n hx hb dX1_isOnSquare_14 rfl (lv_at hl 3 rfl) ?_
  refine lv_iload_n hx hb dX1_isOnSquare_15 rfl (lv_at hl 0 rfl) ?_
  obtain ⟨i5, h⟩ := ckP_s h
  refine lv_irem hx hb dX1_isOnSquare_16 i5 ?_
  refine lv_iload_n hx hb dX1_isOnSquare_17 rfl (lv_at hl 1 rfl) ?_
  refine lv_iload_n hx hb dX1_isOnSquare_18 rfl (lv_at hl 0 rfl) ?_
  obtain ⟨i6, h⟩ := ckP_s h
  refine lv_irem hx hb dX1_isOnSquare_19 i6 ?_
  refine lv_isub hx hb dX1_isOnSquare_20 ?_
  refine lv_iload_n hx hb dX1_isOnSquare_21 rfl (lv_at hl 3 rfl) ?_
  refine lv_iload_n hx hb dX1_isOnSquare_22 rfl (lv_at hl 0 rfl) ?_
  obtain ⟨i7, h⟩ := ckP_s h
  refine lv_idiv hx hb dX1_isOnSquare_23 i7 ?_
  refine lv_iload_n hx hb dX1_isOnSquare_24 rfl (lv_at hl 1 rfl) ?_
  refine lv_iload_n hx hb dX1_isOnSquare_25 rfl (lv_at hl 0 rfl) ?_
  obtain ⟨i8, h⟩ := ckP_s h
  refine lv_idiv hx hb dX1_isOnSquare_26 i8 ?_
  refine lv_isub hx hb dX1_isOnSquare_27 ?_
  obtain ⟨y9, e9, h⟩ := ob_s h
  refine MR.callS (M_X1_span hG e9) S (cw_X1_span hts q1367 ⟨Nat.le_of_ble_eq_true rfl, Nat.le_of_ble_eq_true rfl⟩) hW0 vaP0 rfl hl.1 rfl (Nat.le_of_ble_eq_true rfl) dX1_isOnSquare_28 ⟨Nat.zero_le _, Nat.zero_le _⟩ ?_
  refine lv_if_ne (tgt := 38) hx hb dX1_isOnSquare_31 (by decide) (fun c10 => ?_) (fun c10 => ?_)
  · rw [if_neg c10] at h
    refine lv_iconst (v := 0) hx hb dX1_isOnSquare_38 (by decide) ?_
    obtain rfl := Option.some.inj h
    exact hret dX1_isOnSquare_39 rfl
  · rw [if_pos c10] at h
    refine lv_iconst (v := 1) hx hb dX1_isOnSquare_34 (by decide) ?_
    refine lv_goto (tgt := 39) hx hb dX1_isOnSquare_35 (by decide) ?_
    obtain rfl := Option.some.inj h
    exact hret dX1_isOnSquare_39 rfl
def F_X1_lambda_square_7 (N : Nat) (v0 : Int32) (v1 : Int32) (v2 : Int32) (v3 : Int32) : Option (Int32) := ((F_X1_isOnSquare N v0 v1 v2 v3).bind fun y1 => (ckP (y1 &&& 1 = y1) ((some (y1)))))
theorem cw_X1_lambda_square_7 {R : Room} {s : State} {args : Array Value} {own : String} {index lev mc ms : Nat} (hts : ∀ w ∈ lw_all, w.before args s = true) (hl : Cond.methodLink own index yX1_lambda_square_7 ∈ lw_all) (hR : (rmL lev mc ms).frames + 1 ≤ R.frames ∧ 8 + (4 + 11) + (rmL lev mc ms).locals ≤ R.locals) : CallB R s args own index yX1_lambda_square_7 cX1_lambda_square_7 4 (some .boolean) (ws_ yX1_lambda_square_7 cX1_lambda_square_7 4 (some .boolean)) (rmL lev mc ms) mc ms 4 ∧ (Cond.static yX1_lambda_square_7).before args s = true := va_cwS 4 hts (lw_S hl q1542 q151 q1543) rfl rfl rfl (by decide +kernel) hR
set_option maxHeartbeats 4000000 in
theorem M_X1_lambda_square_7 {l : Launch} {G : GE} (hG : GC G) {N : Nat} {v0 : Int32} {v1 : Int32} {v2 : Int32} {v3 : Int32} {ρ : (Int32)} (h : F_X1_lambda_square_7 N v0 v1 v2 v3 = some ρ) : MR l G yX1_lambda_square_7 cX1_lambda_square_7 4 (some .boolean) 3 [] [.int v0, .int v1, .int v2, .int v3] ρ := by
  rw [F_X1_lambda_square_7] at h
  refine MR.start (rt := .boolean) hG (by decide) (Nat.le_of_ble_eq_true rfl) ?_
  intro p e s m args below meth c Q S hW0 hK hP hret ls hl
  obtain ⟨hx, hb, hml, hown, hts⟩ := id S
  have hl : lv_has ls 4 [(0, .int v0), (1, .int v1), (2, .int v2), (3, .int v3)] := hl
  refine lv_iload_n hx hb dX1_lambda_square_7_0 rfl (lv_at hl 0 rfl) ?_
  refine lv_iload_n hx hb dX1_lambda_square_7_1 rfl (lv_at hl 1 rfl) ?_
  refine lv_iload_n hx hb dX1_lambda_square_7_2 rfl (lv_at hl 2 rfl) ?_
  refine lv_iload_n hx hb dX1_lambda_square_7_3 rfl (lv_at hl 3 rfl) ?_
  obtain ⟨y1, e1, h⟩ := ob_s h
  refine MR.callS (M_X1_isOnSquare hG e1) S (cw_X1_isOnSquare hts q1544 ⟨Nat.le_of_ble_eq_true rfl, Nat.le_of_ble_eq_true rfl⟩) hW0 vaP0 rfl hl.1 rfl (Nat.le_of_ble_eq_true rfl) dX1_lambda_square_7_4 ⟨Nat.zero_le _, Nat.zero_le _⟩ ?_
  obtain ⟨i3, h⟩ := ckP_s h
  obtain rfl := Option.some.inj h
  exact hret dX1_lambda_square_7_7 (nz_of i3)
def F_X1_laysPlane_54 (N : Nat) (s0 : Int32) (v2 : Int32) (v3 : Int32) (v4 : Int32) (v5 : Int32) (v6 : Int32) (c_placeX : (Nat → Int32)) (c_placeY : (Nat → Int32)) (c_placeZ : (Nat → Int32)) (k4 : Int32 → Int32 → (Nat → Int32) → (Nat → Int32) → (Nat → Int32) → Option (Int32 × (Nat → Int32) × (Nat → Int32) × (Nat → Int32))) : Option (Int32 × (Nat → Int32) × (Nat → Int32) × (Nat → Int32)) := (if s0 = 1 then (ckI v2 16 (ckI v2 16 (ckI v2 16 (k4 (v2 + 1) (v3 + 1) (upd c_placeX (Int32.toNatClampNeg v2) v4) (upd c_placeY (Int32.toNatClampNeg v2) v5) (upd c_placeZ (Int32.toNatClampNeg v2) v6))))) else (k4 v2 (v3 + 1) c_placeX c_placeY c_placeZ))
def F_X1_laysPlane_4 (N : Nat) (v1 : Int32) : Nat → Int32 → Int32 → (Nat → Int32) → (Nat → Int32) → (Nat → Int32) → Option (Int32 × (Nat → Int32) × (Nat → Int32) × (Nat → Int32))
  | 0, _, _, _, _, _ => none
  | n + 1, v2, v3, c_placeX, c_placeY, c_placeZ => (if ((v1 * v1) * v1) ≤ v3 then (some (v2, c_placeX, c_placeY, c_placeZ)) else (ckP (¬ (v1 * v1) = 0) (ckP (¬ v1 = 0) (ckP (¬ v1 = 0) (ckP (¬ v1 = 0) (if (v3 / (v1 * v1)) = 0 then (if ((v3 / v1) - (v3 / v1) / v1 * v1) = 0 then (F_X1_laysPlane_54 N (v3 - v3 / v1 * v1) v2 v3 (v3 / (v1 * v1)) ((v3 / v1) - (v3 / v1) / v1 * v1) (v3 - v3 / v1 * v1) c_placeX c_placeY c_placeZ (fun u2 u3 z_c_placeX z_c_placeY z_c_placeZ => (F_X1_laysPlane_4 N v1 n u2 u3 z_c_placeX z_c_placeY z_c_placeZ))) else (F_X1_laysPlane_54 N ((v3 / v1) - (v3 / v1) / v1 * v1) v2 v3 (v3 / (v1 * v1)) ((v3 / v1) - (v3 / v1) / v1 * v1) (v3 - v3 / v1 * v1) c_placeX c_placeY c_placeZ (fun u2 u3 z_c_placeX z_c_placeY z_c_placeZ => (F_X1_laysPlane_4 N v1 n u2 u3 z_c_placeX z_c_placeY z_c_placeZ)))) else (F_X1_laysPlane_54 N (v3 / (v1 * v1)) v2 v3 (v3 / (v1 * v1)) ((v3 / v1) - (v3 / v1) / v1 * v1) (v3 - v3 / v1 * v1) c_placeX c_placeY c_placeZ (fun u2 u3 z_c_placeX z_c_placeY z_c_placeZ => (F_X1_laysPlane_4 N v1 n u2 u3 z_c_placeX z_c_placeY z_c_placeZ)))))))))
def F_X1_laysPlane (N : Nat) (v1 : Int32) (c_placeX : (Nat → Int32)) (c_placeY : (Nat → Int32)) (c_placeZ : (Nat → Int32)) : Option (Int32 × (Nat → Int32) × (Nat → Int32) × (Nat → Int32)) := (F_X1_laysPlane_4 N v1 N 0 1 c_placeX c_placeY c_placeZ)
theorem cw_X1_laysPlane {R : Room} {s : State} {args : Array Value} {own : String} {index lev mc ms : Nat} (hts : ∀ w ∈ lw_all, w.before args s = true) (hl : Cond.methodLink own index yX1_laysPlane ∈ lw_all) (hR : (rmL lev mc ms).frames + 1 ≤ R.frames ∧ 8 + (7 + 11) + (rmL lev mc ms).locals ≤ R.locals) : CallW R s args own RX1 index yX1_laysPlane cX1_laysPlane 7 (some .int) (ws_ yX1_laysPlane cX1_laysPlane 7 (some .int)) (rmL lev mc ms) mc ms 1 := cwV 1 hts (lw_V hl q1568 qs57 q151 q1569) rfl rfl rfl (by decide +kernel) hR
set_option maxHeartbeats 4000000 in
theorem M_X1_laysPlane {l : Launch} {G : GE} (hG : GC G) {N : Nat} {h0 : Nat} {ad : Nat → Nat} {c_listPoints : Int32} {c_listLines : Int32} {c_refused : (Nat → Int32)} {c_imageRefused : (Nat → Int32)} {c_hasImage : Int32} {c_tape : (Nat → Int32)} {c_taped : Int32} {c_faultPlace : Int32} {c_orbit : (Nat → Int32)} {c_lineFor : (Nat → Int32)} {c_dualities : Int32} {c_polarities : Int32} {c_shortest : Int32} {c_lies : (Nat → Int32)} {c_firstLies : (Nat → Int32)} {c_worth : (Nat → Int32)} {c_its : Int32} {c_now_points : Int32} {c_now_lines : Int32} {c_now_line : (Nat → Int32)} {c_now_x : (Nat → Int32)} {c_now_y : (Nat → Int32)} {c_tried_points : Int32} {c_tried_lines : Int32} {c_tried_line : (Nat → Int32)} {c_tried_x : (Nat → Int32)} {c_tried_y : (Nat → Int32)} {c_imageNow_points : Int32} {c_imageNow_lines : Int32} {c_imageNow_line : (Nat → Int32)} {c_imageNow_x : (Nat → Int32)} {c_imageNow_y : (Nat → Int32)} {v1 : Int32} {c_placeX : (Nat → Int32)} {c_placeY : (Nat → Int32)} {c_placeZ : (Nat → Int32)} {ρ : (Int32 × (Nat → Int32) × (Nat → Int32) × (Nat → Int32))} (h : F_X1_laysPlane N v1 c_placeX c_placeY c_placeZ = some ρ) : MW l G yX1_laysPlane cX1_laysPlane 7 (some .int) 1 (cW h0 ad G.2.2 c_listPoints c_listLines c_refused c_imageRefused c_hasImage c_tape c_taped c_faultPlace c_orbit c_lineFor c_dualities c_polarities c_shortest c_placeX c_placeY c_placeZ c_lies c_firstLies c_worth c_its c_now_points c_now_lines c_now_line c_now_x c_now_y c_tried_points c_tried_lines c_tried_line c_tried_x c_tried_y c_imageNow_points c_imageNow_lines c_imageNow_line c_imageNow_x c_imageNow_y) [.ref h0, .int v1] (some (.int ρ.1)) (cW h0 ad G.2.2 c_listPoints c_listLines c_refused c_imageRefused c_hasImage c_tape c_taped c_faultPlace c_orbit c_lineFor c_dualities c_polarities c_shortest ρ.2.1 ρ.2.2.1 ρ.2.2.2 c_lies c_firstLies c_worth c_its c_now_points c_now_lines c_now_line c_now_x c_now_y c_tried_points c_tried_lines c_tried_line c_tried_x c_tried_y c_imageNow_points c_imageNow_lines c_imageNow_line c_imageNow_x c_imageNow_y) := by
  rw [F_X1_laysPlane] at h
  refine MW.start hG (by decide) (Nat.le_of_ble_eq_true rfl) ?_
  intro p e s m args below meth c Q A S hW0 hK hP hD hA hreti hretv ls hl
  have hS : va_S A s.heap s.heap [] := va_S.rf
  obtain ⟨hx, hb, hml, hown, hts⟩ := id S
  have hl : lv_has ls 7 [(0, .ref h0), (1, .int v1)] := hl
  have S_X1_laysPlane_54 : ∀ (s0 : Int32) (v1 : Int32) (v2 : Int32) (v3 : Int32) (v4 : Int32) (v5 : Int32) (v6 : Int32) (c_placeX : (Nat → Int32)) (c_placeY : (Nat → Int32)) (c_placeZ : (Nat → Int32)) (k4 : Int32 → Int32 → (Nat → Int32) → (Nat → Int32) → (Nat → Int32) → Option (Int32 × (Nat → Int32) × (Nat → Int32) × (Nat → Int32))), F_X1_laysPlane_54 N s0 v2 v3 v4 v5 v6 c_placeX c_placeY c_placeZ k4 = some ρ → (∀ (u2 : Int32) (u3 : Int32) (z_c_placeX : (Nat → Int32)) (z_c_placeY : (Nat → Int32)) (z_c_placeZ : (Nat → Int32)) (H : Heap) (locs : List Loc) (ls : Array Slot), k4 u2 u3 z_c_placeX z_c_placeY z_c_placeZ = some ρ → va_P G.2.1 vwCl (cW h0 ad G.2.2 c_listPoints c_listLines c_refused c_imageRefused c_hasImage c_tape c_taped c_faultPlace c_orbit c_lineFor c_dualities c_polarities c_shortest z_c_placeX z_c_placeY z_c_placeZ c_lies c_firstLies c_worth c_its c_now_points c_now_lines c_now_line c_now_x c_now_y c_tried_points c_tried_lines c_tried_line c_tried_x c_tried_y c_imageNow_points c_imageNow_lines c_imageNow_line c_imageNow_x c_imageNow_y) H → va_D A (cW h0 ad G.2.2 c_listPoints c_listLines c_refused c_imageRefused c_hasImage c_tape c_taped c_faultPlace c_orbit c_lineFor c_dualities c_polarities c_shortest z_c_placeX z_c_placeY z_c_placeZ c_lies c_firstLies c_worth c_its c_now_points c_now_lines c_now_line c_now_x c_now_y c_tried_points c_tried_lines c_tried_line c_tried_x c_tried_y c_imageNow_points c_imageNow_lines c_imageNow_line c_imageNow_x c_imageNow_y) → va_S A s.heap H locs → lv_has ls 7 [(0, .ref h0), (1, .int v1), (2, .int u2), (3, .int u3)] → W p l e (rmL 1 0 0) s m args below meth c H locs 0 0 Q (F0 m 4 ls [])) → ∀ (H : Heap) (locs : List Loc), va_P G.2.1 vwCl (cW h0 ad G.2.2 c_listPoints c_listLines c_refused c_imageRefused c_hasImage c_tape c_taped c_faultPlace c_orbit c_lineFor c_dualities c_polarities c_shortest c_placeX c_placeY c_placeZ c_lies c_firstLies c_worth c_its c_now_points c_now_lines c_now_line c_now_x c_now_y c_tried_points c_tried_lines c_tried_line c_tried_x c_tried_y c_imageNow_points c_imageNow_lines c_imageNow_line c_imageNow_x c_imageNow_y) H → va_D A (cW h0 ad G.2.2 c_listPoints c_listLines c_refused c_imageRefused c_hasImage c_tape c_taped c_faultPlace c_orbit c_lineFor c_dualities c_polarities c_shortest c_placeX c_placeY c_placeZ c_lies c_firstLies c_worth c_its c_now_points c_now_lines c_now_line c_now_x c_now_y c_tried_points c_tried_lines c_tried_line c_tried_x c_tried_y c_imageNow_points c_imageNow_lines c_imageNow_line c_imageNow_x c_imageNow_y) → va_S A s.heap H locs → ∀ (ls : Array Slot), lv_has ls 7 [(0, .ref h0), (1, .int v1), (2, .int v2), (3, .int v3), (4, .int v4), (5, .int v5), (6, .int v6)] → W p l e (rmL 1 0 0) s m args below meth c H locs 0 0 Q (F0 m 54 ls [.int s0]) := by
    intro s0 v1 v2 v3 v4 v5 v6 c_placeX c_placeY c_placeZ k4 h hk4 H locs hP hD hS ls hl
    rw [F_X1_laysPlane_54] at h
    refine lv_iconst (v := 1) hx hb dX1_laysPlane_54 (by decide) ?_
    refine lv_icmp_eq (tgt := 61) hx hb dX1_laysPlane_55 (by decide) (fun c9 => ?_) (fun c9 => ?_)
    · rw [if_pos c9] at h
      refine lv_aload_n hx hb dX1_laysPlane_61 rfl (lv_at hl 0 rfl) ?_
      refine va_get (ci := 0) (v := .ref (ad 21)) (C := RX1) (T := TX1) (N := 28) hx hb hts in_X1 hown hK hP 0 rfl rfl 21 (by decide) (hts _ q598) (fun _ h9 => h9) rfl dX1_laysPlane_62 ?_
      refine lv_iload_n hx hb dX1_laysPlane_65 rfl (lv_at hl 2 rfl) ?_
      refine lv_iload hx hb dX1_laysPlane_66 (lv_at hl 4 rfl) ?_
      obtain ⟨i10, h⟩ := ckI_s h
      refine va_iast (f := c_placeX) hx hb hK hP hD hS 18 0 rfl rfl i10 dX1_laysPlane_68 (fun H locs hP hD hS => ?_)
      have hP : va_P G.2.1 vwCl (cW h0 ad G.2.2 c_listPoints c_listLines c_refused c_imageRefused c_hasImage c_tape c_taped c_faultPlace c_orbit c_lineFor c_dualities c_polarities c_shortest (upd c_placeX (Int32.toNatClampNeg v2) v4) c_placeY c_placeZ c_lies c_firstLies c_worth c_its c_now_points c_now_lines c_now_line c_now_x c_now_y c_tried_points c_tried_lines c_tried_line c_tried_x c_tried_y c_imageNow_points c_imageNow_lines c_imageNow_line c_imageNow_x c_imageNow_y) H := hP
      have hD : va_D A (cW h0 ad G.2.2 c_listPoints c_listLines c_refused c_imageRefused c_hasImage c_tape c_taped c_faultPlace c_orbit c_lineFor c_dualities c_polarities c_shortest (upd c_placeX (Int32.toNatClampNeg v2) v4) c_placeY c_placeZ c_lies c_firstLies c_worth c_its c_now_points c_now_lines c_now_line c_now_x c_now_y c_tried_points c_tried_lines c_tried_line c_tried_x c_tried_y c_imageNow_points c_imageNow_lines c_imageNow_line c_imageNow_x c_imageNow_y) := hD
      refine lv_aload_n hx hb dX1_laysPlane_69 rfl (lv_at hl 0 rfl) ?_
      refine va_get (ci := 0) (v := .ref (ad 22)) (C := RX1) (T := TX1) (N := 28) hx hb hts in_X1 hown hK hP 0 rfl rfl 22 (by decide) (hts _ q599) (fun _ h9 => h9) rfl dX1_laysPlane_70 ?_
      refine lv_iload_n hx hb dX1_laysPlane_73 rfl (lv_at hl 2 rfl) ?_
      refine lv_iload hx hb dX1_laysPlane_74 (lv_at hl 5 rfl) ?_
      obtain ⟨i11, h⟩ := ckI_s h
      refine va_iast (f := c_placeY) hx hb hK hP hD hS 19 0 rfl rfl i11 dX1_laysPlane_76 (fun H locs hP hD hS => ?_)
      have hP : va_P G.2.1 vwCl (cW h0 ad G.2.2 c_listPoints c_listLines c_refused c_imageRefused c_hasImage c_tape c_taped c_faultPlace c_orbit c_lineFor c_dualities c_polarities c_shortest (upd c_placeX (Int32.toNatClampNeg v2) v4) (upd c_placeY (Int32.toNatClampNeg v2) v5) c_placeZ c_lies c_firstLies c_worth c_its c_now_points c_now_lines c_now_line c_now_x c_now_y c_tried_points c_tried_lines c_tried_line c_tried_x c_tried_y c_imageNow_points c_imageNow_lines c_imageNow_line c_imageNow_x c_imageNow_y) H := hP
      have hD : va_D A (cW h0 ad G.2.2 c_listPoints c_listLines c_refused c_imageRefused c_hasImage c_tape c_taped c_faultPlace c_orbit c_lineFor c_dualities c_polarities c_shortest (upd c_placeX (Int32.toNatClampNeg v2) v4) (upd c_placeY (Int32.toNatClampNeg v2) v5) c_placeZ c_lies c_firstLies c_worth c_its c_now_points c_now_lines c_now_line c_now_x c_now_y c_tried_points c_tried_lines c_tried_line c_tried_x c_tried_y c_imageNow_points c_imageNow_lines c_imageNow_line c_imageNow_x c_imageNow_y) := hD
      refine lv_aload_n hx hb dX1_laysPlane_77 rfl (lv_at hl 0 rfl) ?_
      refine va_get (ci := 0) (v := .ref (ad 23)) (C := RX1) (T := TX1) (N := 28) hx hb hts in_X1 hown hK hP 0 rfl rfl 23 (by decide) (hts _ q600) (fun _ h9 => h9) rfl dX1_laysPlane_78 ?_
      refine lv_iload_n hx hb dX1_laysPlane_81 rfl (lv_at hl 2 rfl) ?_
      refine lv_iload hx hb dX1_laysPlane_82 (lv_at hl 6 rfl) ?_
      obtain ⟨i12, h⟩ := ckI_s h
      refine va_iast (f := c_placeZ) hx hb hK hP hD hS 20 0 rfl rfl i12 dX1_laysPlane_84 (fun H locs hP hD hS => ?_)
      have hP : va_P G.2.1 vwCl (cW h0 ad G.2.2 c_listPoints c_listLines c_refused c_imageRefused c_hasImage c_tape c_taped c_faultPlace c_orbit c_lineFor c_dualities c_polarities c_shortest (upd c_placeX (Int32.toNatClampNeg v2) v4) (upd c_placeY (Int32.toNatClampNeg v2) v5) (upd c_placeZ (Int32.toNatClampNeg v2) v6) c_lies c_firstLies c_worth c_its c_now_points c_now_lines c_now_line c_now_x c_now_y c_tried_points c_tried_lines c_tried_line c_tried_x c_tried_y c_imageNow_points c_imageNow_lines c_imageNow_line c_imageNow_x c_imageNow_y) H := hP
      have hD : va_D A (cW h0 ad G.2.2 c_listPoints c_listLines c_refused c_imageRefused c_hasImage c_tape c_taped c_faultPlace c_orbit c_lineFor c_dualities c_polarities c_shortest (upd c_placeX (Int32.toNatClampNeg v2) v4) (upd c_placeY (Int32.toNatClampNeg v2) v5) (upd c_placeZ (Int32.toNatClampNeg v2) v6) c_lies c_firstLies c_worth c_its c_now_points c_now_lines c_now_line c_now_x c_now_y c_tried_points c_tried_lines c_tried_line c_tried_x c_tried_y c_imageNow_points c_imageNow_lines c_imageNow_line c_imageNow_x c_imageNow_y) := hD
      refine lv_iinc (v := (v2 + 1)) (lv' := [(2, .int (v2 + 1)), (0, .ref h0), (1, .int v1), (3, .int v3), (4, .int v4), (5, .int v5), (6, .int v6)]) hx hb dX1_laysPlane_85 hl (k := 2) rfl rfl (by decide) rfl (fun ls hl => ?_)
      refine lv_iinc (v := (v3 + 1)) (lv' := [(3, .int (v3 + 1)), (2, .int (v2 + 1)), (0, .ref h0), (1, .int v1), (4, .int v4), (5, .int v5), (6, .int v6)]) hx hb dX1_laysPlane_88 hl (k := 3) rfl rfl (by decide) rfl (fun ls hl => ?_)
      refine lv_goto (tgt := 4) hx hb dX1_laysPlane_91 (by decide) ?_
      exact hk4 (v2 + 1) (v3 + 1) (upd c_placeX (Int32.toNatClampNeg v2) v4) (upd c_placeY (Int32.toNatClampNeg v2) v5) (upd c_placeZ (Int32.toNatClampNeg v2) v6) _ _ _ h hP hD hS (lv_sub hl [2, 3, 1, 0] rfl)
    · rw [if_neg c9] at h
      refine lv_goto (tgt := 88) hx hb dX1_laysPlane_58 (by decide) ?_
      refine lv_iinc (v := (v3 + 1)) (lv' := [(3, .int (v3 + 1)), (0, .ref h0), (1, .int v1), (2, .int v2), (4, .int v4), (5, .int v5), (6, .int v6)]) hx hb dX1_laysPlane_88 hl (k := 3) rfl rfl (by decide) rfl (fun ls hl => ?_)
      refine lv_goto (tgt := 4) hx hb dX1_laysPlane_91 (by decide) ?_
      exact hk4 v2 (v3 + 1) c_placeX c_placeY c_placeZ _ _ _ h hP hD hS (lv_sub hl [1, 2, 3, 0] rfl)
  have S_X1_laysPlane_4 : ∀ (n : Nat) (v1 : Int32) (v2 : Int32) (v3 : Int32) (c_placeX : (Nat → Int32)) (c_placeY : (Nat → Int32)) (c_placeZ : (Nat → Int32)), F_X1_laysPlane_4 N v1 n v2 v3 c_placeX c_placeY c_placeZ = some ρ → ∀ (H : Heap) (locs : List Loc), va_P G.2.1 vwCl (cW h0 ad G.2.2 c_listPoints c_listLines c_refused c_imageRefused c_hasImage c_tape c_taped c_faultPlace c_orbit c_lineFor c_dualities c_polarities c_shortest c_placeX c_placeY c_placeZ c_lies c_firstLies c_worth c_its c_now_points c_now_lines c_now_line c_now_x c_now_y c_tried_points c_tried_lines c_tried_line c_tried_x c_tried_y c_imageNow_points c_imageNow_lines c_imageNow_line c_imageNow_x c_imageNow_y) H → va_D A (cW h0 ad G.2.2 c_listPoints c_listLines c_refused c_imageRefused c_hasImage c_tape c_taped c_faultPlace c_orbit c_lineFor c_dualities c_polarities c_shortest c_placeX c_placeY c_placeZ c_lies c_firstLies c_worth c_its c_now_points c_now_lines c_now_line c_now_x c_now_y c_tried_points c_tried_lines c_tried_line c_tried_x c_tried_y c_imageNow_points c_imageNow_lines c_imageNow_line c_imageNow_x c_imageNow_y) → va_S A s.heap H locs → ∀ (ls : Array Slot), lv_has ls 7 [(0, .ref h0), (1, .int v1), (2, .int v2), (3, .int v3)] → W p l e (rmL 1 0 0) s m args below meth c H locs 0 0 Q (F0 m 4 ls []) := by
    intro n
    induction n with
    | zero =>
      intro v1 v2 v3 c_placeX c_placeY c_placeZ h
      exact absurd h (by simp [F_X1_laysPlane_4])
    | succ n ih =>
      intro v1 v2 v3 c_placeX c_placeY c_placeZ h H locs hP hD hS ls hl
      rw [F_X1_laysPlane_4] at h
      refine lv_iload_n hx hb dX1_laysPlane_4 rfl (lv_at hl 3 rfl) ?_
      refine lv_iload_n hx hb dX1_laysPlane_5 rfl (lv_at hl 1 rfl) ?_
      refine lv_iload_n hx hb dX1_laysPlane_6 rfl (lv_at hl 1 rfl) ?_
      refine lv_imul hx hb dX1_laysPlane_7 ?_
      refine lv_iload_n hx hb dX1_laysPlane_8 rfl (lv_at hl 1 rfl) ?_
      refine lv_imul hx hb dX1_laysPlane_9 ?_
      refine lv_icmp_ge (tgt := 94) hx hb dX1_laysPlane_10 (by decide) (fun c1 => ?_) (fun c1 => ?_)
      · rw [if_pos c1] at h
        refine lv_iload_n hx hb dX1_laysPlane_94 rfl (lv_at hl 2 rfl) ?_
        obtain rfl := Option.some.inj h
        exact hreti rfl dX1_laysPlane_95 rfl rfl hP hD hS
      · rw [if_neg c1] at h
        refine lv_iload_n hx hb dX1_laysPlane_13 rfl (lv_at hl 3 rfl) ?_
        refine lv_iload_n hx hb dX1_laysPlane_14 rfl (lv_at hl 1 rfl) ?_
        refine lv_iload_n hx hb dX1_laysPlane_15 rfl (lv_at hl 1 rfl) ?_
        refine lv_imul hx hb dX1_laysPlane_16 ?_
        obtain ⟨i3, h⟩ := ckP_s h
        refine lv_idiv hx hb dX1_laysPlane_17 i3 ?_
        refine lv_istore (lv' := [(4, .int (v3 / (v1 * v1))), (0, .ref h0), (1, .int v1), (2, .int v2), (3, .int v3)]) hx hb dX1_laysPlane_18 hl (by decide) rfl (fun ls hl => ?_)
        refine lv_iload_n hx hb dX1_laysPlane_20 rfl (lv_at hl 4 rfl) ?_
        refine lv_iload_n hx hb dX1_laysPlane_21 rfl (lv_at hl 2 rfl) ?_
        obtain ⟨i4, h⟩ := ckP_s h
        refine lv_idiv hx hb dX1_laysPlane_22 i4 ?_
        refine lv_iload_n hx hb dX1_laysPlane_23 rfl (lv_at hl 2 rfl) ?_
        obtain ⟨i5, h⟩ := ckP_s h
        refine lv_irem hx hb dX1_laysPlane_24 i5 ?_
        refine lv_istore (lv' := [(5, .int ((v3 / v1) - (v3 / v1) / v1 * v1)), (4, .int (v3 / (v1 * v1))), (0, .ref h0), (1, .int v1), (2, .int v2), (3, .int v3)]) hx hb dX1_laysPlane_25 hl (by decide) rfl (fun ls hl => ?_)
        refine lv_iload_n hx hb dX1_laysPlane_27 rfl (lv_at hl 5 rfl) ?_
        refine lv_iload_n hx hb dX1_laysPlane_28 rfl (lv_at hl 3 rfl) ?_
        obtain ⟨i6, h⟩ := ckP_s h
        refine lv_irem hx hb dX1_laysPlane_29 i6 ?_
        refine lv_istore (lv' := [(6, .int (v3 - v3 / v1 * v1)), (5, .int ((v3 / v1) - (v3 / v1) / v1 * v1)), (4, .int (v3 / (v1 * v1))), (0, .ref h0), (1, .int v1), (2, .int v2), (3, .int v3)]) hx hb dX1_laysPlane_30 hl (by decide) rfl (fun ls hl => ?_)
        refine lv_iload hx hb dX1_laysPlane_32 (lv_at hl 2 rfl) ?_
        refine lv_if_eq (tgt := 42) hx hb dX1_laysPlane_34 (by decide) (fun c7 => ?_) (fun c7 => ?_)
        · rw [if_pos c7] at h
          refine lv_iload hx hb dX1_laysPlane_42 (lv_at hl 1 rfl) ?_
          refine lv_if_eq (tgt := 52) hx hb dX1_laysPlane_44 (by decide) (fun c8 => ?_) (fun c8 => ?_)
          · rw [if_pos c8] at h
            refine lv_iload hx hb dX1_laysPlane_52 (lv_at hl 0 rfl) ?_
            refine S_X1_laysPlane_54 (v3 - v3 / v1 * v1) v1 v2 v3 (v3 / (v1 * v1)) ((v3 / v1) - (v3 / v1) / v1 * v1) (v3 - v3 / v1 * v1) c_placeX c_placeY c_placeZ _ h (fun u2 u3 z_c_placeX z_c_placeY z_c_placeZ H locs ls h hP hD hS hl => ih v1 u2 u3 z_c_placeX z_c_placeY z_c_placeZ h H locs hP hD hS ls hl) _ _ hP hD hS _ (lv_sub hl [3, 4, 5, 6, 2, 1, 0] rfl)
          · rw [if_neg c8] at h
            refine lv_iload hx hb dX1_laysPlane_47 (lv_at hl 1 rfl) ?_
            refine lv_goto (tgt := 54) hx hb dX1_laysPlane_49 (by decide) ?_
            refine S_X1_laysPlane_54 ((v3 / v1) - (v3 / v1) / v1 * v1) v1 v2 v3 (v3 / (v1 * v1)) ((v3 / v1) - (v3 / v1) / v1 * v1) (v3 - v3 / v1 * v1) c_placeX c_placeY c_placeZ _ h (fun u2 u3 z_c_placeX z_c_placeY z_c_placeZ H locs ls h hP hD hS hl => ih v1 u2 u3 z_c_placeX z_c_placeY z_c_placeZ h H locs hP hD hS ls hl) _ _ hP hD hS _ (lv_sub hl [3, 4, 5, 6, 2, 1, 0] rfl)
        · rw [if_neg c7] at h
          refine lv_iload hx hb dX1_laysPlane_37 (lv_at hl 2 rfl) ?_
          refine lv_goto (tgt := 54) hx hb dX1_laysPlane_39 (by decide) ?_
          refine S_X1_laysPlane_54 (v3 / (v1 * v1)) v1 v2 v3 (v3 / (v1 * v1)) ((v3 / v1) - (v3 / v1) / v1 * v1) (v3 - v3 / v1 * v1) c_placeX c_placeY c_placeZ _ h (fun u2 u3 z_c_placeX z_c_placeY z_c_placeZ H locs ls h hP hD hS hl => ih v1 u2 u3 z_c_placeX z_c_placeY z_c_placeZ h H locs hP hD hS ls hl) _ _ hP hD hS _ (lv_sub hl [3, 4, 5, 6, 2, 1, 0] rfl)
  refine lv_iconst (v := 0) hx hb dX1_laysPlane_0 (by decide) ?_
  refine lv_istore_n (lv' := [(2, .int 0), (0, .ref h0), (1, .int v1)]) hx hb dX1_laysPlane_1 rfl hl (by decide) rfl (fun ls hl => ?_)
  refine lv_iconst (v := 1) hx hb dX1_laysPlane_2 (by decide) ?_
  refine lv_istore_n (lv' := [(3, .int 1), (2, .int 0), (0, .ref h0), (1, .int v1)]) hx hb dX1_laysPlane_3 rfl hl (by decide) rfl (fun ls hl => ?_)
  refine S_X1_laysPlane_4 N v1 0 1 c_placeX c_placeY c_placeZ h  _ _ hP hD hS _ (lv_sub hl [2, 3, 1, 0] rfl)
def F_X1_isOnPlane (N : Nat) (v1 : Int32) (v2 : Int32) (v3 : Int32) (v4 : Int32) (c_placeX : (Nat → Int32)) (c_placeY : (Nat → Int32)) (c_placeZ : (Nat → Int32)) : Option (Int32) := (ckI v2 16 (ckI v3 16 (ckI v3 16 (ckI v4 16 (ckI v4 16 ((F_X1_span N (c_placeY (Int32.toNatClampNeg v3)) (c_placeZ (Int32.toNatClampNeg v3)) (c_placeY (Int32.toNatClampNeg v4)) (c_placeZ (Int32.toNatClampNeg v4))).bind fun y6 => (ckI v2 16 (ckI v3 16 (ckI v3 16 (ckI v4 16 (ckI v4 16 ((F_X1_span N (c_placeX (Int32.toNatClampNeg v3)) (c_placeZ (Int32.toNatClampNeg v3)) (c_placeX (Int32.toNatClampNeg v4)) (c_placeZ (Int32.toNatClampNeg v4))).bind fun y12 => (ckI v2 16 (ckI v3 16 (ckI v3 16 (ckI v4 16 (ckI v4 16 ((F_X1_span N (c_placeX (Int32.toNatClampNeg v3)) (c_placeY (Int32.toNatClampNeg v3)) (c_placeX (Int32.toNatClampNeg v4)) (c_placeY (Int32.toNatClampNeg v4))).bind fun y18 => (ckP (¬ v1 = 0) (if (((((c_placeX (Int32.toNatClampNeg v2)) * y6) - ((c_placeY (Int32.toNatClampNeg v2)) * y12)) + ((c_placeZ (Int32.toNatClampNeg v2)) * y18)) - ((((c_placeX (Int32.toNatClampNeg v2)) * y6) - ((c_placeY (Int32.toNatClampNeg v2)) * y12)) + ((c_placeZ (Int32.toNatClampNeg v2)) * y18)) / v1 * v1) = 0 then (some (1)) else (some (0))))))))))))))))))))))
theorem cw_X1_isOnPlane {R : Room} {s : State} {args : Array Value} {own : String} {index lev mc ms : Nat} (hts : ∀ w ∈ lw_all, w.before args s = true) (hl : Cond.methodLink own index yX1_isOnPlane ∈ lw_all) (hR : (rmL lev mc ms).frames + 1 ≤ R.frames ∧ 8 + (6 + 11) + (rmL lev mc ms).locals ≤ R.locals) : CallW R s args own RX1 index yX1_isOnPlane cX1_isOnPlane 6 (some .boolean) (ws_ yX1_isOnPlane cX1_isOnPlane 6 (some .boolean)) (rmL lev mc ms) mc ms 4 := cwV 4 hts (lw_V hl q1575 qs59 q151 q1576) rfl rfl rfl (by decide +kernel) hR
set_option maxHeartbeats 4000000 in
theorem M_X1_isOnPlane {l : Launch} {G : GE} (hG : GC G) {N : Nat} {h0 : Nat} {ad : Nat → Nat} {c_listPoints : Int32} {c_listLines : Int32} {c_refused : (Nat → Int32)} {c_imageRefused : (Nat → Int32)} {c_hasImage : Int32} {c_tape : (Nat → Int32)} {c_taped : Int32} {c_faultPlace : Int32} {c_orbit : (Nat → Int32)} {c_lineFor : (Nat → Int32)} {c_dualities : Int32} {c_polarities : Int32} {c_shortest : Int32} {c_lies : (Nat → Int32)} {c_firstLies : (Nat → Int32)} {c_worth : (Nat → Int32)} {c_its : Int32} {c_now_points : Int32} {c_now_lines : Int32} {c_now_line : (Nat → Int32)} {c_now_x : (Nat → Int32)} {c_now_y : (Nat → Int32)} {c_tried_points : Int32} {c_tried_lines : Int32} {c_tried_line : (Nat → Int32)} {c_tried_x : (Nat → Int32)} {c_tried_y : (Nat → Int32)} {c_imageNow_points : Int32} {c_imageNow_lines : Int32} {c_imageNow_line : (Nat → Int32)} {c_imageNow_x : (Nat → Int32)} {c_imageNow_y : (Nat → Int32)} {v1 : Int32} {v2 : Int32} {v3 : Int32} {v4 : Int32} {c_placeX : (Nat → Int32)} {c_placeY : (Nat → Int32)} {c_placeZ : (Nat → Int32)} {ρ : (Int32)} (h : F_X1_isOnPlane N v1 v2 v3 v4 c_placeX c_placeY c_placeZ = some ρ) : MR l G yX1_isOnPlane cX1_isOnPlane 6 (some .boolean) 2 (cW h0 ad G.2.2 c_listPoints c_listLines c_refused c_imageRefused c_hasImage c_tape c_taped c_faultPlace c_orbit c_lineFor c_dualities c_polarities c_shortest c_placeX c_placeY c_placeZ c_lies c_firstLies c_worth c_its c_now_points c_now_lines c_now_line c_now_x c_now_y c_tried_points c_tried_lines c_tried_line c_tried_x c_tried_y c_imageNow_points c_imageNow_lines c_imageNow_line c_imageNow_x c_imageNow_y) [.ref h0, .int v1, .int v2, .int v3, .int v4] ρ := by
  rw [F_X1_isOnPlane] at h
  refine MR.start (rt := .boolean) hG (by decide) (Nat.le_of_ble_eq_true rfl) ?_
  intro p e s m args below meth c Q S hW0 hK hP hret ls hl
  obtain ⟨hx, hb, hml, hown, hts⟩ := id S
  have hl : lv_has ls 6 [(0, .ref h0), (1, .int v1), (2, .int v2), (3, .int v3), (4, .int v4)] := hl
  refine lv_aload_n hx hb dX1_isOnPlane_0 rfl (lv_at hl 0 rfl) ?_
  refine va_get (ci := 0) (v := .ref (ad 21)) (C := RX1) (T := TX1) (N := 28) hx hb hts in_X1 hown hK hP 0 rfl rfl 21 (by decide) (hts _ q598) (fun _ h9 => h9) rfl dX1_isOnPlane_1 ?_
  refine lv_iload_n hx hb dX1_isOnPlane_4 rfl (lv_at hl 2 rfl) ?_
  obtain ⟨i1, h⟩ := ckI_s h
  refine va_iald (f := c_placeX) hx hb hK hP 18 0 rfl rfl i1 dX1_isOnPlane_5 ?_
  refine lv_aload_n hx hb dX1_isOnPlane_6 rfl (lv_at hl 0 rfl) ?_
  refine va_get (ci := 0) (v := .ref (ad 22)) (C := RX1) (T := TX1) (N := 28) hx hb hts in_X1 hown hK hP 0 rfl rfl 22 (by decide) (hts _ q599) (fun _ h9 => h9) rfl dX1_isOnPlane_7 ?_
  refine lv_iload_n hx hb dX1_isOnPlane_10 rfl (lv_at hl 3 rfl) ?_
  obtain ⟨i2, h⟩ := ckI_s h
  refine va_iald (f := c_placeY) hx hb hK hP 19 0 rfl rfl i2 dX1_isOnPlane_11 ?_
  refine lv_aload_n hx hb dX1_isOnPlane_12 rfl (lv_at hl 0 rfl) ?_
  refine va_get (ci := 0) (v := .ref (ad 23)) (C := RX1) (T := TX1) (N := 28) hx hb hts in_X1 hown hK hP 0 rfl rfl 23 (by decide) (hts _ q600) (fun _ h9 => h9) rfl dX1_isOnPlane_13 ?_
  refine lv_iload_n hx hb dX1_isOnPlane_16 rfl (lv_at hl 3 rfl) ?_
  obtain ⟨i3, h⟩ := ckI_s h
  refine va_iald (f := c_placeZ) hx hb hK hP 20 0 rfl rfl i3 dX1_isOnPlane_17 ?_
  refine lv_aload_n hx hb dX1_isOnPlane_18 rfl (lv_at hl 0 rfl) ?_
  refine va_get (ci := 0) (v := .ref (ad 22)) (C := RX1) (T := TX1) (N := 28) hx hb hts in_X1 hown hK hP 0 rfl rfl 22 (by decide) (hts _ q599) (fun _ h9 => h9) rfl dX1_isOnPlane_19 ?_
  refine lv_iload hx hb dX1_isOnPlane_22 (lv_at hl 4 rfl) ?_
  obtain ⟨i4, h⟩ := ckI_s h
  refine va_iald (f := c_placeY) hx hb hK hP 19 0 rfl rfl i4 dX1_isOnPlane_24 ?_
  refine lv_aload_n hx hb dX1_isOnPlane_25 rfl (lv_at hl 0 rfl) ?_
  refine va_get (ci := 0) (v := .ref (ad 23)) (C := RX1) (T := TX1) (N := 28) hx hb hts in_X1 hown hK hP 0 rfl rfl 23 (by decide) (hts _ q600) (fun _ h9 => h9) rfl dX1_isOnPlane_26 ?_
  refine lv_iload hx hb dX1_isOnPlane_29 (lv_at hl 4 rfl) ?_
  obtain ⟨i5, h⟩ := ckI_s h
  refine va_iald (f := c_placeZ) hx hb hK hP 20 0 rfl rfl i5 dX1_isOnPlane_31 ?_
  obtain ⟨y6, e6, h⟩ := ob_s h
  refine MR.callS (M_X1_span hG e6) S (cw_X1_span hts q1367 ⟨Nat.le_of_ble_eq_true rfl, Nat.le_of_ble_eq_true rfl⟩) hW0 vaP0 rfl hl.1 rfl (Nat.le_of_ble_eq_true rfl) dX1_isOnPlane_32 ⟨Nat.zero_le _, Nat.zero_le _⟩ ?_
  refine lv_imul hx hb dX1_isOnPlane_35 ?_
  refine lv_aload_n hx hb dX1_isOnPlane_36 rfl (lv_at hl 0 rfl) ?_
  refine va_get (ci := 0) (v := .ref (ad 22)) (C := RX1) (T := TX1) (N := 28) hx hb hts in_X1 hown hK hP 0 rfl rfl 22 (by decide) (hts _ q599) (fun _ h9 => h9) rfl dX1_isOnPlane_37 ?_
  refine lv_iload_n hx hb dX1_isOnPlane_40 rfl (lv_at hl 2 rfl) ?_
  obtain ⟨i7, h⟩ := ckI_s h
  refine va_iald (f := c_placeY) hx hb hK hP 19 0 rfl rfl i7 dX1_isOnPlane_41 ?_
  refine lv_aload_n hx hb dX1_isOnPlane_42 rfl (lv_at hl 0 rfl) ?_
  refine va_get (ci := 0) (v := .ref (ad 21)) (C := RX1) (T := TX1) (N := 28) hx hb hts in_X1 hown hK hP 0 rfl rfl 21 (by decide) (hts _ q598) (fun _ h9 => h9) rfl dX1_isOnPlane_43 ?_
  refine lv_iload_n hx hb dX1_isOnPlane_46 rfl (lv_at hl 3 rfl) ?_
  obtain ⟨i8, h⟩ := ckI_s h
  refine va_iald (f := c_placeX) hx hb hK hP 18 0 rfl rfl i8 dX1_isOnPlane_47 ?_
  refine lv_aload_n hx hb dX1_isOnPlane_48 rfl (lv_at hl 0 rfl) ?_
  refine va_get (ci := 0) (v := .ref (ad 23)) (C := RX1) (T := TX1) (N := 28) hx hb hts in_X1 hown hK hP 0 rfl rfl 23 (by decide) (hts _ q600) (fun _ h9 => h9) rfl dX1_isOnPlane_49 ?_
  refine lv_iload_n hx hb dX1_isOnPlane_52 rfl (lv_at hl 3 rfl) ?_
  obtain ⟨i9, h⟩ := ckI_s h
  refine va_iald (f := c_placeZ) hx hb hK hP 20 0 rfl rfl i9 dX1_isOnPlane_53 ?_
  refine lv_aload_n hx hb dX1_isOnPlane_54 rfl (lv_at hl 0 rfl) ?_
  refine va_get (ci := 0) (v := .ref (ad 21)) (C := RX1) (T := TX1) (N := 28) hx hb hts in_X1 hown hK hP 0 rfl rfl 21 (by decide) (hts _ q598) (fun _ h9 => h9) rfl dX1_isOnPlane_55 ?_
  refine lv_iload hx hb dX1_isOnPlane_58 (lv_at hl 4 rfl) ?_
  obtain ⟨i10, h⟩ := ckI_s h
  refine va_iald (f := c_placeX) hx hb hK hP 18 0 rfl rfl i10 dX1_isOnPlane_60 ?_
  refine lv_aload_n hx hb dX1_isOnPlane_61 rfl (lv_at hl 0 rfl) ?_
  refine va_get (ci := 0) (v := .ref (ad 23)) (C := RX1) (T := TX1) (N := 28) hx hb hts in_X1 hown hK hP 0 rfl rfl 23 (by decide) (hts _ q600) (fun _ h9 => h9) rfl dX1_isOnPlane_62 ?_
  refine lv_iload hx hb dX1_isOnPlane_65 (lv_at hl 4 rfl) ?_
  obtain ⟨i11, h⟩ := ckI_s h
  refine va_iald (f := c_placeZ) hx hb hK hP 20 0 rfl rfl i11 dX1_isOnPlane_67 ?_
  obtain ⟨y12, e12, h⟩ := ob_s h
  refine MR.callS (M_X1_span hG e12) S (cw_X1_span hts q1367 ⟨Nat.le_of_ble_eq_true rfl, Nat.le_of_ble_eq_true rfl⟩) hW0 vaP0 rfl hl.1 rfl (Nat.le_of_ble_eq_true rfl) dX1_isOnPlane_68 ⟨Nat.zero_le _, Nat.zero_le _⟩ ?_
  refine lv_imul hx hb dX1_isOnPlane_71 ?_
  refine lv_isub hx hb dX1_isOnPlane_72 ?_
  refine lv_aload_n hx hb dX1_isOnPlane_73 rfl (lv_at hl 0 rfl) ?_
  refine va_get (ci := 0) (v := .ref (ad 23)) (C := RX1) (T := TX1) (N := 28) hx hb hts in_X1 hown hK hP 0 rfl rfl 23 (by decide) (hts _ q600) (fun _ h9 => h9) rfl dX1_isOnPlane_74 ?_
  refine lv_iload_n hx hb dX1_isOnPlane_77 rfl (lv_at hl 2 rfl) ?_
  obtain ⟨i13, h⟩ := ckI_s h
  refine va_iald (f := c_placeZ) hx hb hK hP 20 0 rfl rfl i13 dX1_isOnPlane_78 ?_
  refine lv_aload_n hx hb dX1_isOnPlane_79 rfl (lv_at hl 0 rfl) ?_
  refine va_get (ci := 0) (v := .ref (ad 21)) (C := RX1) (T := TX1) (N := 28) hx hb hts in_X1 hown hK hP 0 rfl rfl 21 (by decide) (hts _ q598) (fun _ h9 => h9) rfl dX1_isOnPlane_80 ?_
  refine lv_iload_n hx hb dX1_isOnPlane_83 rfl (lv_at hl 3 rfl) ?_
  obtain ⟨i14, h⟩ := ckI_s h
  refine va_iald (f := c_placeX) hx hb hK hP 18 0 rfl rfl i14 dX1_isOnPlane_84 ?_
  refine lv_aload_n hx hb dX1_isOnPlane_85 rfl (lv_at hl 0 rfl) ?_
  refine va_get (ci := 0) (v := .ref (ad 22)) (C := RX1) (T := TX1) (N := 28) hx hb hts in_X1 hown hK hP 0 rfl rfl 22 (by decide) (hts _ q599) (fun _ h9 => h9) rfl dX1_isOnPlane_86 ?_
  refine lv_iload_n hx hb dX1_isOnPlane_89 rfl (lv_at hl 3 rfl) ?_
  obtain ⟨i15, h⟩ := ckI_s h
  refine va_iald (f := c_placeY) hx hb hK hP 19 0 rfl rfl i15 dX1_isOnPlane_90 ?_
  refine lv_aload_n hx hb dX1_isOnPlane_91 rfl (lv_at hl 0 rfl) ?_
  refine va_get (ci := 0) (v := .ref (ad 21)) (C := RX1) (T := TX1) (N := 28) hx hb hts in_X1 hown hK hP 0 rfl rfl 21 (by decide) (hts _ q598) (fun _ h9 => h9) rfl dX1_isOnPlane_92 ?_
  refine lv_iload hx hb dX1_isOnPlane_95 (lv_at hl 4 rfl) ?_
  obtain ⟨i16, h⟩ := ckI_s h
  refine va_iald (f := c_placeX) hx hb hK hP 18 0 rfl rfl i16 dX1_isOnPlane_97 ?_
  refine lv_aload_n hx hb dX1_isOnPlane_98 rfl (lv_at hl 0 rfl) ?_
  refine va_get (ci := 0) (v := .ref (ad 22)) (C := RX1) (T := TX1) (N := 28) hx hb hts in_X1 hown hK hP 0 rfl rfl 22 (by decide) (hts _ q599) (fun _ h9 => h9) rfl dX1_isOnPlane_99 ?_
  refine lv_iload hx hb dX1_isOnPlane_102 (lv_at hl 4 rfl) ?_
  obtain ⟨i17, h⟩ := ckI_s h
  refine va_iald (f := c_placeY) hx hb hK hP 19 0 rfl rfl i17 dX1_isOnPlane_104 ?_
  obtain ⟨y18, e18, h⟩ := ob_s h
  refine MR.callS (M_X1_span hG e18) S (cw_X1_span hts q1367 ⟨Nat.le_of_ble_eq_true rfl, Nat.le_of_ble_eq_true rfl⟩) hW0 vaP0 rfl hl.1 rfl (Nat.le_of_ble_eq_true rfl) dX1_isOnPlane_105 ⟨Nat.zero_le _, Nat.zero_le _⟩ ?_
  refine lv_imul hx hb dX1_isOnPlane_108 ?_
  refine lv_iadd hx hb dX1_isOnPlane_109 ?_
  refine lv_istore (lv' := [(5, .int ((((c_placeX (Int32.toNatClampNeg v2)) * y6) - ((c_placeY (Int32.toNatClampNeg v2)) * y12)) + ((c_placeZ (Int32.toNatClampNeg v2)) * y18))), (0, .ref h0), (1, .int v1), (2, .int v2), (3, .int v3), (4, .int v4)]) hx hb dX1_isOnPlane_110 hl (by decide) rfl (fun ls hl => ?_)
  refine lv_iload hx hb dX1_isOnPlane_112 (lv_at hl 0 rfl) ?_
  refine lv_iload_n hx hb dX1_isOnPlane_114 rfl (lv_at hl 2 rfl) ?_
  obtain ⟨i19, h⟩ := ckP_s h
  refine lv_irem hx hb dX1_isOnPlane_115 i19 ?_
  refine lv_if_ne (tgt := 123) hx hb dX1_isOnPlane_116 (by decide) (fun c20 => ?_) (fun c20 => ?_)
  · rw [if_neg c20] at h
    refine lv_iconst (v := 0) hx hb dX1_isOnPlane_123 (by decide) ?_
    obtain rfl := Option.some.inj h
    exact hret dX1_isOnPlane_124 rfl
  · rw [if_pos c20] at h
    refine lv_iconst (v := 1) hx hb dX1_isOnPlane_119 (by decide) ?_
    refine lv_goto (tgt := 124) hx hb dX1_isOnPlane_120 (by decide) ?_
    obtain rfl := Option.some.inj h
    exact hret dX1_isOnPlane_124 rfl
def F_X1_lambda_plane_8 (N : Nat) (v1 : Int32) (v2 : Int32) (v3 : Int32) (v4 : Int32) (c_placeX : (Nat → Int32)) (c_placeY : (Nat → Int32)) (c_placeZ : (Nat → Int32)) : Option (Int32) := ((F_X1_isOnPlane N v1 v2 v3 v4 c_placeX c_placeY c_placeZ).bind fun y1 => (ckP (y1 &&& 1 = y1) ((some (y1)))))
theorem cw_X1_lambda_plane_8 {R : Room} {s : State} {args : Array Value} {own : String} {index lev mc ms : Nat} (hts : ∀ w ∈ lw_all, w.before args s = true) (hl : Cond.methodLink own index yX1_lambda_plane_8 ∈ lw_all) (hR : (rmL lev mc ms).frames + 1 ≤ R.frames ∧ 8 + (5 + 11) + (rmL lev mc ms).locals ≤ R.locals) : CallW R s args own RX1 index yX1_lambda_plane_8 cX1_lambda_plane_8 5 (some .boolean) (ws_ yX1_lambda_plane_8 cX1_lambda_plane_8 5 (some .boolean)) (rmL lev mc ms) mc ms 4 := cwV 4 hts (lw_V hl q1571 qs58 q151 q1572) rfl rfl rfl (by decide +kernel) hR
set_option maxHeartbeats 4000000 in
theorem M_X1_lambda_plane_8 {l : Launch} {G : GE} (hG : GC G) {N : Nat} {h0 : Nat} {ad : Nat → Nat} {c_listPoints : Int32} {c_listLines : Int32} {c_refused : (Nat → Int32)} {c_imageRefused : (Nat → Int32)} {c_hasImage : Int32} {c_tape : (Nat → Int32)} {c_taped : Int32} {c_faultPlace : Int32} {c_orbit : (Nat → Int32)} {c_lineFor : (Nat → Int32)} {c_dualities : Int32} {c_polarities : Int32} {c_shortest : Int32} {c_lies : (Nat → Int32)} {c_firstLies : (Nat → Int32)} {c_worth : (Nat → Int32)} {c_its : Int32} {c_now_points : Int32} {c_now_lines : Int32} {c_now_line : (Nat → Int32)} {c_now_x : (Nat → Int32)} {c_now_y : (Nat → Int32)} {c_tried_points : Int32} {c_tried_lines : Int32} {c_tried_line : (Nat → Int32)} {c_tried_x : (Nat → Int32)} {c_tried_y : (Nat → Int32)} {c_imageNow_points : Int32} {c_imageNow_lines : Int32} {c_imageNow_line : (Nat → Int32)} {c_imageNow_x : (Nat → Int32)} {c_imageNow_y : (Nat → Int32)} {v1 : Int32} {v2 : Int32} {v3 : Int32} {v4 : Int32} {c_placeX : (Nat → Int32)} {c_placeY : (Nat → Int32)} {c_placeZ : (Nat → Int32)} {ρ : (Int32)} (h : F_X1_lambda_plane_8 N v1 v2 v3 v4 c_placeX c_placeY c_placeZ = some ρ) : MR l G yX1_lambda_plane_8 cX1_lambda_plane_8 5 (some .boolean) 3 (cW h0 ad G.2.2 c_listPoints c_listLines c_refused c_imageRefused c_hasImage c_tape c_taped c_faultPlace c_orbit c_lineFor c_dualities c_polarities c_shortest c_placeX c_placeY c_placeZ c_lies c_firstLies c_worth c_its c_now_points c_now_lines c_now_line c_now_x c_now_y c_tried_points c_tried_lines c_tried_line c_tried_x c_tried_y c_imageNow_points c_imageNow_lines c_imageNow_line c_imageNow_x c_imageNow_y) [.ref h0, .int v1, .int v2, .int v3, .int v4] ρ := by
  rw [F_X1_lambda_plane_8] at h
  refine MR.start (rt := .boolean) hG (by decide) (Nat.le_of_ble_eq_true rfl) ?_
  intro p e s m args below meth c Q S hW0 hK hP hret ls hl
  obtain ⟨hx, hb, hml, hown, hts⟩ := id S
  have hl : lv_has ls 5 [(0, .ref h0), (1, .int v1), (2, .int v2), (3, .int v3), (4, .int v4)] := hl
  refine lv_aload_n hx hb dX1_lambda_plane_8_0 rfl (lv_at hl 0 rfl) ?_
  refine lv_iload_n hx hb dX1_lambda_plane_8_1 rfl (lv_at hl 1 rfl) ?_
  refine lv_iload_n hx hb dX1_lambda_plane_8_2 rfl (lv_at hl 2 rfl) ?_
  refine lv_iload_n hx hb dX1_lambda_plane_8_3 rfl (lv_at hl 3 rfl) ?_
  refine lv_iload hx hb dX1_lambda_plane_8_4 (lv_at hl 4 rfl) ?_
  obtain ⟨y1, e1, h⟩ := ob_s h
  refine MR.callV (q0 := 0) (M_X1_isOnPlane hG e1) S (cw_X1_isOnPlane hts q1573 ⟨Nat.le_of_ble_eq_true rfl, Nat.le_of_ble_eq_true rfl⟩) hW0 hK hP rfl rfl rfl hl.1 rfl (Nat.le_of_ble_eq_true rfl) dX1_lambda_plane_8_6 ⟨Nat.zero_le _, Nat.zero_le _⟩ ?_
  obtain ⟨i3, h⟩ := ckP_s h
  obtain rfl := Option.some.inj h
  exact hret dX1_lambda_plane_8_9 (nz_of i3)
def F_X1_meetsAll_2 (N : Nat) (v1 : Int32) (c_now_line : (Nat → Int32)) (c_now_lines : Int32) : Nat → Int32 → Option (Int32)
  | 0, _ => none
  | n + 1, v2 => (if c_now_lines ≤ v2 then (some (1)) else (ckI v2 12 (if ((c_now_line (Int32.toNatClampNeg v2)) &&& v1) = 0 then (some (0)) else (F_X1_meetsAll_2 N v1 c_now_line c_now_lines n (v2 + 1)))))
def F_X1_meetsAll (N : Nat) (v1 : Int32) (c_now_line : (Nat → Int32)) (c_now_lines : Int32) : Option (Int32) := (F_X1_meetsAll_2 N v1 c_now_line c_now_lines N 0)
theorem cw_X1_meetsAll {R : Room} {s : State} {args : Array Value} {own : String} {index lev mc ms : Nat} (hts : ∀ w ∈ lw_all, w.before args s = true) (hl : Cond.methodLink own index yX1_meetsAll ∈ lw_all) (hR : (rmL lev mc ms).frames + 1 ≤ R.frames ∧ 8 + (3 + 11) + (rmL lev mc ms).locals ≤ R.locals) : CallW R s args own RX1 index yX1_meetsAll cX1_meetsAll 3 (some .boolean) (ws_ yX1_meetsAll cX1_meetsAll 3 (some .boolean)) (rmL lev mc ms) mc ms 1 := cwV 1 hts (lw_V hl q1590 qs61 q151 q1591) rfl rfl rfl (by decide +kernel) hR
set_option maxHeartbeats 4000000 in
theorem M_X1_meetsAll {l : Launch} {G : GE} (hG : GC G) {N : Nat} {h0 : Nat} {ad : Nat → Nat} {c_listPoints : Int32} {c_listLines : Int32} {c_refused : (Nat → Int32)} {c_imageRefused : (Nat → Int32)} {c_hasImage : Int32} {c_tape : (Nat → Int32)} {c_taped : Int32} {c_faultPlace : Int32} {c_orbit : (Nat → Int32)} {c_lineFor : (Nat → Int32)} {c_dualities : Int32} {c_polarities : Int32} {c_shortest : Int32} {c_placeX : (Nat → Int32)} {c_placeY : (Nat → Int32)} {c_placeZ : (Nat → Int32)} {c_lies : (Nat → Int32)} {c_firstLies : (Nat → Int32)} {c_worth : (Nat → Int32)} {c_its : Int32} {c_now_points : Int32} {c_now_x : (Nat → Int32)} {c_now_y : (Nat → Int32)} {c_tried_points : Int32} {c_tried_lines : Int32} {c_tried_line : (Nat → Int32)} {c_tried_x : (Nat → Int32)} {c_tried_y : (Nat → Int32)} {c_imageNow_points : Int32} {c_imageNow_lines : Int32} {c_imageNow_line : (Nat → Int32)} {c_imageNow_x : (Nat → Int32)} {c_imageNow_y : (Nat → Int32)} {v1 : Int32} {c_now_line : (Nat → Int32)} {c_now_lines : Int32} {ρ : (Int32)} (h : F_X1_meetsAll N v1 c_now_line c_now_lines = some ρ) : MR l G yX1_meetsAll cX1_meetsAll 3 (some .boolean) 1 (cW h0 ad G.2.2 c_listPoints c_listLines c_refused c_imageRefused c_hasImage c_tape c_taped c_faultPlace c_orbit c_lineFor c_dualities c_polarities c_shortest c_placeX c_placeY c_placeZ c_lies c_firstLies c_worth c_its c_now_points c_now_lines c_now_line c_now_x c_now_y c_tried_points c_tried_lines c_tried_line c_tried_x c_tried_y c_imageNow_points c_imageNow_lines c_imageNow_line c_imageNow_x c_imageNow_y) [.ref h0, .int v1] ρ := by
  rw [F_X1_meetsAll] at h
  refine MR.start (rt := .boolean) hG (by decide) (Nat.le_of_ble_eq_true rfl) ?_
  intro p e s m args below meth c Q S hW0 hK hP hret ls hl
  obtain ⟨hx, hb, hml, hown, hts⟩ := id S
  have hl : lv_has ls 3 [(0, .ref h0), (1, .int v1)] := hl
  have S_X1_meetsAll_2 : ∀ (n : Nat) (v1 : Int32) (v2 : Int32), F_X1_meetsAll_2 N v1 c_now_line c_now_lines n v2 = some ρ → ∀ (ls : Array Slot), lv_has ls 3 [(0, .ref h0), (1, .int v1), (2, .int v2)] → W p l e (rmL 1 0 0) s m args below meth c s.heap [] 0 0 Q (F0 m 2 ls []) := by
    intro n
    induction n with
    | zero =>
      intro v1 v2 h
      exact absurd h (by simp [F_X1_meetsAll_2])
    | succ n ih =>
      intro v1 v2 h ls hl
      rw [F_X1_meetsAll_2] at h
      refine lv_iload_n hx hb dX1_meetsAll_2 rfl (lv_at hl 2 rfl) ?_
      refine lv_aload_n hx hb dX1_meetsAll_3 rfl (lv_at hl 0 rfl) ?_
      refine va_get (ci := 0) (v := .ref (ad 3)) (C := RX1) (T := TX1) (N := 28) hx hb hts in_X1 hown hK hP 0 rfl rfl 3 (by decide) (hts _ q580) (fun _ h9 => h9) rfl dX1_meetsAll_4 ?_
      refine va_getN (ci := 1) (v := .int c_now_lines) (C := RX2) (T := TX2) (N := 5) hx hb hts in_X2 hown hK hP 1 rfl rfl 1 (by decide) (hG.nf hW0 q228) (fun _ h9 => h9) rfl dX1_meetsAll_7 ?_
      refine lv_icmp_ge (tgt := 35) hx hb dX1_meetsAll_10 (by decide) (fun c1 => ?_) (fun c1 => ?_)
      · rw [if_pos c1] at h
        refine lv_iconst (v := 1) hx hb dX1_meetsAll_35 (by decide) ?_
        obtain rfl := Option.some.inj h
        exact hret dX1_meetsAll_36 rfl
      · rw [if_neg c1] at h
        refine lv_aload_n hx hb dX1_meetsAll_13 rfl (lv_at hl 0 rfl) ?_
        refine va_get (ci := 0) (v := .ref (ad 3)) (C := RX1) (T := TX1) (N := 28) hx hb hts in_X1 hown hK hP 0 rfl rfl 3 (by decide) (hts _ q580) (fun _ h9 => h9) rfl dX1_meetsAll_14 ?_
        refine va_getN (ci := 1) (v := .ref (ad 32)) (C := RX2) (T := TX2) (N := 5) hx hb hts in_X2 hown hK hP 1 rfl rfl 2 (by decide) (hG.nf hW0 q234) (fun _ h9 => h9) rfl dX1_meetsAll_17 ?_
        refine lv_iload_n hx hb dX1_meetsAll_20 rfl (lv_at hl 2 rfl) ?_
        obtain ⟨i3, h⟩ := ckI_s h
        refine va_iald (f := c_now_line) hx hb hK hP 2 0 rfl rfl i3 dX1_meetsAll_21 ?_
        refine lv_iload_n hx hb dX1_meetsAll_22 rfl (lv_at hl 1 rfl) ?_
        refine lv_iand hx hb dX1_meetsAll_23 ?_
        refine lv_if_ne (tgt := 29) hx hb dX1_meetsAll_24 (by decide) (fun c4 => ?_) (fun c4 => ?_)
        · rw [if_neg c4] at h
          refine lv_iinc (v := (v2 + 1)) (lv' := [(2, .int (v2 + 1)), (0, .ref h0), (1, .int v1)]) hx hb dX1_meetsAll_29 hl (k := 2) rfl rfl (by decide) rfl (fun ls hl => ?_)
          refine lv_goto (tgt := 2) hx hb dX1_meetsAll_32 (by decide) ?_
          exact ih v1 (v2 + 1) h _ (lv_sub hl [1, 2, 0] rfl)
        · rw [if_pos c4] at h
          refine lv_iconst (v := 0) hx hb dX1_meetsAll_27 (by decide) ?_
          obtain rfl := Option.some.inj h
          exact hret dX1_meetsAll_28 rfl
  refine lv_iconst (v := 0) hx hb dX1_meetsAll_0 (by decide) ?_
  refine lv_istore_n (lv' := [(2, .int 0), (0, .ref h0), (1, .int v1)]) hx hb dX1_meetsAll_1 rfl hl (by decide) rfl (fun ls hl => ?_)
  refine S_X1_meetsAll_2 N v1 0 h  _ (lv_sub hl [1, 2, 0] rfl)
def F_X1_cover_16 (N : Nat) (c_now_line : (Nat → Int32)) (c_now_lines : Int32) : Nat → Int32 → Int32 → Option (Int32)
  | 0, _, _ => none
  | n + 1, v1, v2 => (if v2 < 0 then (some (v1)) else ((F_X1_meetsAll N v2 c_now_line c_now_lines).bind fun y3 => (if y3 = 0 then (F_X1_cover_16 N c_now_line c_now_lines n v1 (v2 + (-1))) else ((F_J16_bitCount N v2).bind fun y5 => ((F_J16_bitCount N v1).bind fun y6 => (if y6 < y5 then (F_X1_cover_16 N c_now_line c_now_lines n v1 (v2 + (-1))) else (F_X1_cover_16 N c_now_line c_now_lines n v2 (v2 + (-1)))))))))
def F_X1_cover (N : Nat) (c_now_line : (Nat → Int32)) (c_now_points : Int32) (c_now_lines : Int32) : Option (Int32) := (F_X1_cover_16 N c_now_line c_now_lines N (((1 : Int32) <<< (c_now_points &&& 31)) - (1 : Int32)) ((((1 : Int32) <<< (c_now_points &&& 31)) - (1 : Int32)) - (1 : Int32)))
theorem cw_X1_cover {R : Room} {s : State} {args : Array Value} {own : String} {index lev mc ms : Nat} (hts : ∀ w ∈ lw_all, w.before args s = true) (hl : Cond.methodLink own index yX1_cover ∈ lw_all) (hR : (rmL lev mc ms).frames + 1 ≤ R.frames ∧ 8 + (3 + 11) + (rmL lev mc ms).locals ≤ R.locals) : CallW R s args own RX1 index yX1_cover cX1_cover 3 (some .int) (ws_ yX1_cover cX1_cover 3 (some .int)) (rmL lev mc ms) mc ms 0 := cwV 0 hts (lw_V hl q1586 qs60 q151 q1587) rfl rfl rfl (by decide +kernel) hR
set_option maxHeartbeats 4000000 in
theorem M_X1_cover {l : Launch} {G : GE} (hG : GC G) {N : Nat} {h0 : Nat} {ad : Nat → Nat} {c_listPoints : Int32} {c_listLines : Int32} {c_refused : (Nat → Int32)} {c_imageRefused : (Nat → Int32)} {c_hasImage : Int32} {c_tape : (Nat → Int32)} {c_taped : Int32} {c_faultPlace : Int32} {c_orbit : (Nat → Int32)} {c_lineFor : (Nat → Int32)} {c_dualities : Int32} {c_polarities : Int32} {c_shortest : Int32} {c_placeX : (Nat → Int32)} {c_placeY : (Nat → Int32)} {c_placeZ : (Nat → Int32)} {c_lies : (Nat → Int32)} {c_firstLies : (Nat → Int32)} {c_worth : (Nat → Int32)} {c_its : Int32} {c_now_x : (Nat → Int32)} {c_now_y : (Nat → Int32)} {c_tried_points : Int32} {c_tried_lines : Int32} {c_tried_line : (Nat → Int32)} {c_tried_x : (Nat → Int32)} {c_tried_y : (Nat → Int32)} {c_imageNow_points : Int32} {c_imageNow_lines : Int32} {c_imageNow_line : (Nat → Int32)} {c_imageNow_x : (Nat → Int32)} {c_imageNow_y : (Nat → Int32)} {c_now_line : (Nat → Int32)} {c_now_points : Int32} {c_now_lines : Int32} {ρ : (Int32)} (h : F_X1_cover N c_now_line c_now_points c_now_lines = some ρ) : MR l G yX1_cover cX1_cover 3 (some .int) 2 (cW h0 ad G.2.2 c_listPoints c_listLines c_refused c_imageRefused c_hasImage c_tape c_taped c_faultPlace c_orbit c_lineFor c_dualities c_polarities c_shortest c_placeX c_placeY c_placeZ c_lies c_firstLies c_worth c_its c_now_points c_now_lines c_now_line c_now_x c_now_y c_tried_points c_tried_lines c_tried_line c_tried_x c_tried_y c_imageNow_points c_imageNow_lines c_imageNow_line c_imageNow_x c_imageNow_y) [.ref h0] ρ := by
  rw [F_X1_cover] at h
  refine MR.start (rt := .int) hG (by decide) (Nat.le_of_ble_eq_true rfl) ?_
  intro p e s m args below meth c Q S hW0 hK hP hret ls hl
  obtain ⟨hx, hb, hml, hown, hts⟩ := id S
  have hl : lv_has ls 3 [(0, .ref h0)] := hl
  have S_X1_cover_16 : ∀ (n : Nat) (v1 : Int32) (v2 : Int32), F_X1_cover_16 N c_now_line c_now_lines n v1 v2 = some ρ → ∀ (ls : Array Slot), lv_has ls 3 [(0, .ref h0), (1, .int v1), (2, .int v2)] → W p l e (rmL 2 0 0) s m args below meth c s.heap [] 0 0 Q (F0 m 16 ls []) := by
    intro n
    induction n with
    | zero =>
      intro v1 v2 h
      exact absurd h (by simp [F_X1_cover_16])
    | succ n ih =>
      intro v1 v2 h ls hl
      rw [F_X1_cover_16] at h
      refine lv_iload_n hx hb dX1_cover_16 rfl (lv_at hl 2 rfl) ?_
      refine lv_if_lt (tgt := 47) hx hb dX1_cover_17 (by decide) (fun c1 => ?_) (fun c1 => ?_)
      · rw [if_pos c1] at h
        refine lv_iload_n hx hb dX1_cover_47 rfl (lv_at hl 1 rfl) ?_
        obtain rfl := Option.some.inj h
        exact hret dX1_cover_48 rfl
      · rw [if_neg c1] at h
        refine lv_aload_n hx hb dX1_cover_20 rfl (lv_at hl 0 rfl) ?_
        refine lv_iload_n hx hb dX1_cover_21 rfl (lv_at hl 2 rfl) ?_
        obtain ⟨y3, e3, h⟩ := ob_s h
        refine MR.callV (q0 := 0) (M_X1_meetsAll hG e3) S (cw_X1_meetsAll hts q1588 ⟨Nat.le_of_ble_eq_true rfl, Nat.le_of_ble_eq_true rfl⟩) hW0 hK hP rfl rfl rfl hl.1 rfl (Nat.le_of_ble_eq_true rfl) dX1_cover_22 ⟨Nat.zero_le _, Nat.zero_le _⟩ ?_
        refine lv_if_eq (tgt := 41) hx hb dX1_cover_25 (by decide) (fun c4 => ?_) (fun c4 => ?_)
        · rw [if_pos c4] at h
          refine lv_iinc (v := (v2 + (-1))) (lv' := [(2, .int (v2 + (-1))), (0, .ref h0), (1, .int v1)]) hx hb dX1_cover_41 hl (k := 2) rfl rfl (by decide) rfl (fun ls hl => ?_)
          refine lv_goto (tgt := 16) hx hb dX1_cover_44 (by decide) ?_
          exact ih v1 (v2 + (-1)) h _ (lv_sub hl [1, 2, 0] rfl)
        · rw [if_neg c4] at h
          refine lv_iload_n hx hb dX1_cover_28 rfl (lv_at hl 2 rfl) ?_
          obtain ⟨y5, e5, h⟩ := ob_s h
          refine MR.callS (M_J16_bitCount hG e5) S (cw_J16_bitCount hts q1204 ⟨Nat.le_of_ble_eq_true rfl, Nat.le_of_ble_eq_true rfl⟩) hW0 vaP0 rfl hl.1 rfl (Nat.le_of_ble_eq_true rfl) dX1_cover_29 ⟨Nat.zero_le _, Nat.zero_le _⟩ ?_
          refine lv_iload_n hx hb dX1_cover_32 rfl (lv_at hl 1 rfl) ?_
          obtain ⟨y6, e6, h⟩ := ob_s h
          refine MR.callS (M_J16_bitCount hG e6) S (cw_J16_bitCount hts q1204 ⟨Nat.le_of_ble_eq_true rfl, Nat.le_of_ble_eq_true rfl⟩) hW0 vaP0 rfl hl.1 rfl (Nat.le_of_ble_eq_true rfl) dX1_cover_33 ⟨Nat.zero_le _, Nat.zero_le _⟩ ?_
          refine lv_icmp_gt (tgt := 41) hx hb dX1_cover_36 (by decide) (fun c7 => ?_) (fun c7 => ?_)
          · rw [if_pos c7] at h
            refine lv_iinc (v := (v2 + (-1))) (lv' := [(2, .int (v2 + (-1))), (0, .ref h0), (1, .int v1)]) hx hb dX1_cover_41 hl (k := 2) rfl rfl (by decide) rfl (fun ls hl => ?_)
            refine lv_goto (tgt := 16) hx hb dX1_cover_44 (by decide) ?_
            exact ih v1 (v2 + (-1)) h _ (lv_sub hl [1, 2, 0] rfl)
          · rw [if_neg c7] at h
            refine lv_iload_n hx hb dX1_cover_39 rfl (lv_at hl 2 rfl) ?_
            refine lv_istore_n (lv' := [(1, .int v2), (0, .ref h0), (2, .int v2)]) hx hb dX1_cover_40 rfl hl (by decide) rfl (fun ls hl => ?_)
            refine lv_iinc (v := (v2 + (-1))) (lv' := [(2, .int (v2 + (-1))), (1, .int v2), (0, .ref h0)]) hx hb dX1_cover_41 hl (k := 2) rfl rfl (by decide) rfl (fun ls hl => ?_)
            refine lv_goto (tgt := 16) hx hb dX1_cover_44 (by decide) ?_
            exact ih v2 (v2 + (-1)) h _ (lv_sub hl [2, 1, 0] rfl)
  refine lv_iconst (v := 1) hx hb dX1_cover_0 (by decide) ?_
  refine lv_aload_n hx hb dX1_cover_1 rfl (lv_at hl 0 rfl) ?_
  refine va_get (ci := 0) (v := .ref (ad 3)) (C := RX1) (T := TX1) (N := 28) hx hb hts in_X1 hown hK hP 0 rfl rfl 3 (by decide) (hts _ q580) (fun _ h9 => h9) rfl dX1_cover_2 ?_
  refine va_getN (ci := 1) (v := .int c_now_points) (C := RX2) (T := TX2) (N := 5) hx hb hts in_X2 hown hK hP 1 rfl rfl 0 (by decide) (hG.nf hW0 q224) (fun _ h9 => h9) rfl dX1_cover_5 ?_
  refine lv_ishl hx hb dX1_cover_8 ?_
  refine lv_iconst (v := 1) hx hb dX1_cover_9 (by decide) ?_
  refine lv_isub hx hb dX1_cover_10 ?_
  refine lv_istore_n (lv' := [(1, .int (((1 : Int32) <<< (c_now_points &&& 31)) - (1 : Int32))), (0, .ref h0)]) hx hb dX1_cover_11 rfl hl (by decide) rfl (fun ls hl => ?_)
  refine lv_iload_n hx hb dX1_cover_12 rfl (lv_at hl 0 rfl) ?_
  refine lv_iconst (v := 1) hx hb dX1_cover_13 (by decide) ?_
  refine lv_isub hx hb dX1_cover_14 ?_
  refine lv_istore_n (lv' := [(2, .int ((((1 : Int32) <<< (c_now_points &&& 31)) - (1 : Int32)) - (1 : Int32))), (1, .int (((1 : Int32) <<< (c_now_points &&& 31)) - (1 : Int32))), (0, .ref h0)]) hx hb dX1_cover_15 rfl hl (by decide) rfl (fun ls hl => ?_)
  refine S_X1_cover_16 N (((1 : Int32) <<< (c_now_points &&& 31)) - (1 : Int32)) ((((1 : Int32) <<< (c_now_points &&& 31)) - (1 : Int32)) - (1 : Int32)) h  _ (lv_sub hl [2, 1, 0] rfl)
def F_X1_hasNone_2 (N : Nat) (v1 : Int32) (c_now_line : (Nat → Int32)) (c_now_lines : Int32) : Nat → Int32 → Option (Int32)
  | 0, _ => none
  | n + 1, v2 => (if c_now_lines ≤ v2 then (some (1)) else (ckI v2 12 (if ((c_now_line (Int32.toNatClampNeg v2)) &&& (v1 ^^^ (-1 : Int32))) = 0 then (some (0)) else (F_X1_hasNone_2 N v1 c_now_line c_now_lines n (v2 + 1)))))
def F_X1_hasNone (N : Nat) (v1 : Int32) (c_now_line : (Nat → Int32)) (c_now_lines : Int32) : Option (Int32) := (F_X1_hasNone_2 N v1 c_now_line c_now_lines N 0)
theorem cw_X1_hasNone {R : Room} {s : State} {args : Array Value} {own : String} {index lev mc ms : Nat} (hts : ∀ w ∈ lw_all, w.before args s = true) (hl : Cond.methodLink own index yX1_hasNone ∈ lw_all) (hR : (rmL lev mc ms).frames + 1 ≤ R.frames ∧ 8 + (3 + 11) + (rmL lev mc ms).locals ≤ R.locals) : CallW R s args own RX1 index yX1_hasNone cX1_hasNone 3 (some .boolean) (ws_ yX1_hasNone cX1_hasNone 3 (some .boolean)) (rmL lev mc ms) mc ms 1 := cwV 1 hts (lw_V hl q1598 qs63 q151 q1599) rfl rfl rfl (by decide +kernel) hR
set_option maxHeartbeats 4000000 in
theorem M_X1_hasNone {l : Launch} {G : GE} (hG : GC G) {N : Nat} {h0 : Nat} {ad : Nat → Nat} {c_listPoints : Int32} {c_listLines : Int32} {c_refused : (Nat → Int32)} {c_imageRefused : (Nat → Int32)} {c_hasImage : Int32} {c_tape : (Nat → Int32)} {c_taped : Int32} {c_faultPlace : Int32} {c_orbit : (Nat → Int32)} {c_lineFor : (Nat → Int32)} {c_dualities : Int32} {c_polarities : Int32} {c_shortest : Int32} {c_placeX : (Nat → Int32)} {c_placeY : (Nat → Int32)} {c_placeZ : (Nat → Int32)} {c_lies : (Nat → Int32)} {c_firstLies : (Nat → Int32)} {c_worth : (Nat → Int32)} {c_its : Int32} {c_now_points : Int32} {c_now_x : (Nat → Int32)} {c_now_y : (Nat → Int32)} {c_tried_points : Int32} {c_tried_lines : Int32} {c_tried_line : (Nat → Int32)} {c_tried_x : (Nat → Int32)} {c_tried_y : (Nat → Int32)} {c_imageNow_points : Int32} {c_imageNow_lines : Int32} {c_imageNow_line : (Nat → Int32)} {c_imageNow_x : (Nat → Int32)} {c_imageNow_y : (Nat → Int32)} {v1 : Int32} {c_now_line : (Nat → Int32)} {c_now_lines : Int32} {ρ : (Int32)} (h : F_X1_hasNone N v1 c_now_line c_now_lines = some ρ) : MR l G yX1_hasNone cX1_hasNone 3 (some .boolean) 1 (cW h0 ad G.2.2 c_listPoints c_listLines c_refused c_imageRefused c_hasImage c_tape c_taped c_faultPlace c_orbit c_lineFor c_dualities c_polarities c_shortest c_placeX c_placeY c_placeZ c_lies c_firstLies c_worth c_its c_now_points c_now_lines c_now_line c_now_x c_now_y c_tried_points c_tried_lines c_tried_line c_tried_x c_tried_y c_imageNow_points c_imageNow_lines c_imageNow_line c_imageNow_x c_imageNow_y) [.ref h0, .int v1] ρ := by
  rw [F_X1_hasNone] at h
  refine MR.start (rt := .boolean) hG (by decide) (Nat.le_of_ble_eq_true rfl) ?_
  intro p e s m args below meth c Q S hW0 hK hP hret ls hl
  obtain ⟨hx, hb, hml, hown, hts⟩ := id S
  have hl : lv_has ls 3 [(0, .ref h0), (1, .int v1)] := hl
  have S_X1_hasNone_2 : ∀ (n : Nat) (v1 : Int32) (v2 : Int32), F_X1_hasNone_2 N v1 c_now_line c_now_lines n v2 = some ρ → ∀ (ls : Array Slot), lv_has ls 3 [(0, .ref h0), (1, .int v1), (2, .int v2)] → W p l e (rmL 1 0 0) s m args below meth c s.heap [] 0 0 Q (F0 m 2 ls []) := by
    intro n
    induction n with
    | zero =>
      intro v1 v2 h
      exact absurd h (by simp [F_X1_hasNone_2])
    | succ n ih =>
      intro v1 v2 h ls hl
      rw [F_X1_hasNone_2] at h
      refine lv_iload_n hx hb dX1_hasNone_2 rfl (lv_at hl 2 rfl) ?_
      refine lv_aload_n hx hb dX1_hasNone_3 rfl (lv_at hl 0 rfl) ?_
      refine va_get (ci := 0) (v := .ref (ad 3)) (C := RX1) (T := TX1) (N := 28) hx hb hts in_X1 hown hK hP 0 rfl rfl 3 (by decide) (hts _ q580) (fun _ h9 => h9) rfl dX1_hasNone_4 ?_
      refine va_getN (ci := 1) (v := .int c_now_lines) (C := RX2) (T := TX2) (N := 5) hx hb hts in_X2 hown hK hP 1 rfl rfl 1 (by decide) (hG.nf hW0 q228) (fun _ h9 => h9) rfl dX1_hasNone_7 ?_
      refine lv_icmp_ge (tgt := 37) hx hb dX1_hasNone_10 (by decide) (fun c1 => ?_) (fun c1 => ?_)
      · rw [if_pos c1] at h
        refine lv_iconst (v := 1) hx hb dX1_hasNone_37 (by decide) ?_
        obtain rfl := Option.some.inj h
        exact hret dX1_hasNone_38 rfl
      · rw [if_neg c1] at h
        refine lv_aload_n hx hb dX1_hasNone_13 rfl (lv_at hl 0 rfl) ?_
        refine va_get (ci := 0) (v := .ref (ad 3)) (C := RX1) (T := TX1) (N := 28) hx hb hts in_X1 hown hK hP 0 rfl rfl 3 (by decide) (hts _ q580) (fun _ h9 => h9) rfl dX1_hasNone_14 ?_
        refine va_getN (ci := 1) (v := .ref (ad 32)) (C := RX2) (T := TX2) (N := 5) hx hb hts in_X2 hown hK hP 1 rfl rfl 2 (by decide) (hG.nf hW0 q234) (fun _ h9 => h9) rfl dX1_hasNone_17 ?_
        refine lv_iload_n hx hb dX1_hasNone_20 rfl (lv_at hl 2 rfl) ?_
        obtain ⟨i3, h⟩ := ckI_s h
        refine va_iald (f := c_now_line) hx hb hK hP 2 0 rfl rfl i3 dX1_hasNone_21 ?_
        refine lv_iload_n hx hb dX1_hasNone_22 rfl (lv_at hl 1 rfl) ?_
        refine lv_iconst (v := (-1)) hx hb dX1_hasNone_23 (by decide) ?_
        refine lv_ixor hx hb dX1_hasNone_24 ?_
        refine lv_iand hx hb dX1_hasNone_25 ?_
        refine lv_if_ne (tgt := 31) hx hb dX1_hasNone_26 (by decide) (fun c4 => ?_) (fun c4 => ?_)
        · rw [if_neg c4] at h
          refine lv_iinc (v := (v2 + 1)) (lv' := [(2, .int (v2 + 1)), (0, .ref h0), (1, .int v1)]) hx hb dX1_hasNone_31 hl (k := 2) rfl rfl (by decide) rfl (fun ls hl => ?_)
          refine lv_goto (tgt := 2) hx hb dX1_hasNone_34 (by decide) ?_
          exact ih v1 (v2 + 1) h _ (lv_sub hl [1, 2, 0] rfl)
        · rw [if_pos c4] at h
          refine lv_iconst (v := 0) hx hb dX1_hasNone_29 (by decide) ?_
          obtain rfl := Option.some.inj h
          exact hret dX1_hasNone_30 rfl
  refine lv_iconst (v := 0) hx hb dX1_hasNone_0 (by decide) ?_
  refine lv_istore_n (lv' := [(2, .int 0), (0, .ref h0), (1, .int v1)]) hx hb dX1_hasNone_1 rfl hl (by decide) rfl (fun ls hl => ?_)
  refine S_X1_hasNone_2 N v1 0 h  _ (lv_sub hl [1, 2, 0] rfl)
def F_X1_cap_4 (N : Nat) (c_now_line : (Nat → Int32)) (c_now_points : Int32) (c_now_lines : Int32) : Nat → Int32 → Int32 → Option (Int32)
  | 0, _, _ => none
  | n + 1, v1, v2 => (if ((1 : Int32) <<< (c_now_points &&& 31)) ≤ v2 then (some (v1)) else ((F_X1_hasNone N v2 c_now_line c_now_lines).bind fun y3 => (if y3 = 0 then (F_X1_cap_4 N c_now_line c_now_points c_now_lines n v1 (v2 + 1)) else ((F_J16_bitCount N v2).bind fun y5 => ((F_J16_bitCount N v1).bind fun y6 => (if y5 ≤ y6 then (F_X1_cap_4 N c_now_line c_now_points c_now_lines n v1 (v2 + 1)) else (F_X1_cap_4 N c_now_line c_now_points c_now_lines n v2 (v2 + 1))))))))
def F_X1_cap (N : Nat) (c_now_line : (Nat → Int32)) (c_now_points : Int32) (c_now_lines : Int32) : Option (Int32) := (F_X1_cap_4 N c_now_line c_now_points c_now_lines N 0 1)
theorem cw_X1_cap {R : Room} {s : State} {args : Array Value} {own : String} {index lev mc ms : Nat} (hts : ∀ w ∈ lw_all, w.before args s = true) (hl : Cond.methodLink own index yX1_cap ∈ lw_all) (hR : (rmL lev mc ms).frames + 1 ≤ R.frames ∧ 8 + (3 + 11) + (rmL lev mc ms).locals ≤ R.locals) : CallW R s args own RX1 index yX1_cap cX1_cap 3 (some .int) (ws_ yX1_cap cX1_cap 3 (some .int)) (rmL lev mc ms) mc ms 0 := cwV 0 hts (lw_V hl q1594 qs62 q151 q1595) rfl rfl rfl (by decide +kernel) hR
set_option maxHeartbeats 4000000 in
theorem M_X1_cap {l : Launch} {G : GE} (hG : GC G) {N : Nat} {h0 : Nat} {ad : Nat → Nat} {c_listPoints : Int32} {c_listLines : Int32} {c_refused : (Nat → Int32)} {c_imageRefused : (Nat → Int32)} {c_hasImage : Int32} {c_tape : (Nat → Int32)} {c_taped : Int32} {c_faultPlace : Int32} {c_orbit : (Nat → Int32)} {c_lineFor : (Nat → Int32)} {c_dualities : Int32} {c_polarities : Int32} {c_shortest : Int32} {c_placeX : (Nat → Int32)} {c_placeY : (Nat → Int32)} {c_placeZ : (Nat → Int32)} {c_lies : (Nat → Int32)} {c_firstLies : (Nat → Int32)} {c_worth : (Nat → Int32)} {c_its : Int32} {c_now_x : (Nat → Int32)} {c_now_y : (Nat → Int32)} {c_tried_points : Int32} {c_tried_lines : Int32} {c_tried_line : (Nat → Int32)} {c_tried_x : (Nat → Int32)} {c_tried_y : (Nat → Int32)} {c_imageNow_points : Int32} {c_imageNow_lines : Int32} {c_imageNow_line : (Nat → Int32)} {c_imageNow_x : (Nat → Int32)} {c_imageNow_y : (Nat → Int32)} {c_now_line : (Nat → Int32)} {c_now_points : Int32} {c_now_lines : Int32} {ρ : (Int32)} (h : F_X1_cap N c_now_line c_now_points c_now_lines = some ρ) : MR l G yX1_cap cX1_cap 3 (some .int) 2 (cW h0 ad G.2.2 c_listPoints c_listLines c_refused c_imageRefused c_hasImage c_tape c_taped c_faultPlace c_orbit c_lineFor c_dualities c_polarities c_shortest c_placeX c_placeY c_placeZ c_lies c_firstLies c_worth c_its c_now_points c_now_lines c_now_line c_now_x c_now_y c_tried_points c_tried_lines c_tried_line c_tried_x c_tried_y c_imageNow_points c_imageNow_lines c_imageNow_line c_imageNow_x c_imageNow_y) [.ref h0] ρ := by
  rw [F_X1_cap] at h
  refine MR.start (rt := .int) hG (by decide) (Nat.le_of_ble_eq_true rfl) ?_
  intro p e s m args below meth c Q S hW0 hK hP hret ls hl
  obtain ⟨hx, hb, hml, hown, hts⟩ := id S
  have hl : lv_has ls 3 [(0, .ref h0)] := hl
  have S_X1_cap_4 : ∀ (n : Nat) (v1 : Int32) (v2 : Int32), F_X1_cap_4 N c_now_line c_now_points c_now_lines n v1 v2 = some ρ → ∀ (ls : Array Slot), lv_has ls 3 [(0, .ref h0), (1, .int v1), (2, .int v2)] → W p l e (rmL 2 0 0) s m args below meth c s.heap [] 0 0 Q (F0 m 4 ls []) := by
    intro n
    induction n with
    | zero =>
      intro v1 v2 h
      exact absurd h (by simp [F_X1_cap_4])
    | succ n ih =>
      intro v1 v2 h ls hl
      rw [F_X1_cap_4] at h
      refine lv_iload_n hx hb dX1_cap_4 rfl (lv_at hl 2 rfl) ?_
      refine lv_iconst (v := 1) hx hb dX1_cap_5 (by decide) ?_
      refine lv_aload_n hx hb dX1_cap_6 rfl (lv_at hl 0 rfl) ?_
      refine va_get (ci := 0) (v := .ref (ad 3)) (C := RX1) (T := TX1) (N := 28) hx hb hts in_X1 hown hK hP 0 rfl rfl 3 (by decide) (hts _ q580) (fun _ h9 => h9) rfl dX1_cap_7 ?_
      refine va_getN (ci := 1) (v := .int c_now_points) (C := RX2) (T := TX2) (N := 5) hx hb hts in_X2 hown hK hP 1 rfl rfl 0 (by decide) (hG.nf hW0 q224) (fun _ h9 => h9) rfl dX1_cap_10 ?_
      refine lv_ishl hx hb dX1_cap_13 ?_
      refine lv_icmp_ge (tgt := 44) hx hb dX1_cap_14 (by decide) (fun c1 => ?_) (fun c1 => ?_)
      · rw [if_pos c1] at h
        refine lv_iload_n hx hb dX1_cap_44 rfl (lv_at hl 1 rfl) ?_
        obtain rfl := Option.some.inj h
        exact hret dX1_cap_45 rfl
      · rw [if_neg c1] at h
        refine lv_aload_n hx hb dX1_cap_17 rfl (lv_at hl 0 rfl) ?_
        refine lv_iload_n hx hb dX1_cap_18 rfl (lv_at hl 2 rfl) ?_
        obtain ⟨y3, e3, h⟩ := ob_s h
        refine MR.callV (q0 := 0) (M_X1_hasNone hG e3) S (cw_X1_hasNone hts q1596 ⟨Nat.le_of_ble_eq_true rfl, Nat.le_of_ble_eq_true rfl⟩) hW0 hK hP rfl rfl rfl hl.1 rfl (Nat.le_of_ble_eq_true rfl) dX1_cap_19 ⟨Nat.zero_le _, Nat.zero_le _⟩ ?_
        refine lv_if_eq (tgt := 38) hx hb dX1_cap_22 (by decide) (fun c4 => ?_) (fun c4 => ?_)
        · rw [if_pos c4] at h
          refine lv_iinc (v := (v2 + 1)) (lv' := [(2, .int (v2 + 1)), (0, .ref h0), (1, .int v1)]) hx hb dX1_cap_38 hl (k := 2) rfl rfl (by decide) rfl (fun ls hl => ?_)
          refine lv_goto (tgt := 4) hx hb dX1_cap_41 (by decide) ?_
          exact ih v1 (v2 + 1) h _ (lv_sub hl [1, 2, 0] rfl)
        · rw [if_neg c4] at h
          refine lv_iload_n hx hb dX1_cap_25 rfl (lv_at hl 2 rfl) ?_
          obtain ⟨y5, e5, h⟩ := ob_s h
          refine MR.callS (M_J16_bitCount hG e5) S (cw_J16_bitCount hts q1204 ⟨Nat.le_of_ble_eq_true rfl, Nat.le_of_ble_eq_true rfl⟩) hW0 vaP0 rfl hl.1 rfl (Nat.le_of_ble_eq_true rfl) dX1_cap_26 ⟨Nat.zero_le _, Nat.zero_le _⟩ ?_
          refine lv_iload_n hx hb dX1_cap_29 rfl (lv_at hl 1 rfl) ?_
          obtain ⟨y6, e6, h⟩ := ob_s h
          refine MR.callS (M_J16_bitCount hG e6) S (cw_J16_bitCount hts q1204 ⟨Nat.le_of_ble_eq_true rfl, Nat.le_of_ble_eq_true rfl⟩) hW0 vaP0 rfl hl.1 rfl (Nat.le_of_ble_eq_true rfl) dX1_cap_30 ⟨Nat.zero_le _, Nat.zero_le _⟩ ?_
          refine lv_icmp_le (tgt := 38) hx hb dX1_cap_33 (by decide) (fun c7 => ?_) (fun c7 => ?_)
          · rw [if_pos c7] at h
            refine lv_iinc (v := (v2 + 1)) (lv' := [(2, .int (v2 + 1)), (0, .ref h0), (1, .int v1)]) hx hb dX1_cap_38 hl (k := 2) rfl rfl (by decide) rfl (fun ls hl => ?_)
            refine lv_goto (tgt := 4) hx hb dX1_cap_41 (by decide) ?_
            exact ih v1 (v2 + 1) h _ (lv_sub hl [1, 2, 0] rfl)
          · rw [if_neg c7] at h
            refine lv_iload_n hx hb dX1_cap_36 rfl (lv_at hl 2 rfl) ?_
            refine lv_istore_n (lv' := [(1, .int v2), (0, .ref h0), (2, .int v2)]) hx hb dX1_cap_37 rfl hl (by decide) rfl (fun ls hl => ?_)
            refine lv_iinc (v := (v2 + 1)) (lv' := [(2, .int (v2 + 1)), (1, .int v2), (0, .ref h0)]) hx hb dX1_cap_38 hl (k := 2) rfl rfl (by decide) rfl (fun ls hl => ?_)
            refine lv_goto (tgt := 4) hx hb dX1_cap_41 (by decide) ?_
            exact ih v2 (v2 + 1) h _ (lv_sub hl [2, 1, 0] rfl)
  refine lv_iconst (v := 0) hx hb dX1_cap_0 (by decide) ?_
  refine lv_istore_n (lv' := [(1, .int 0), (0, .ref h0)]) hx hb dX1_cap_1 rfl hl (by decide) rfl (fun ls hl => ?_)
  refine lv_iconst (v := 1) hx hb dX1_cap_2 (by decide) ?_
  refine lv_istore_n (lv' := [(2, .int 1), (1, .int 0), (0, .ref h0)]) hx hb dX1_cap_3 rfl hl (by decide) rfl (fun ls hl => ?_)
  refine S_X1_cap_4 N 0 1 h  _ (lv_sub hl [2, 1, 0] rfl)
def F_X1_halves_17 (N : Nat) (v1 : Int32) (v2 : Int32) (c_now_line : (Nat → Int32)) (c_now_lines : Int32) : Nat → Int32 → Int32 → (Int32 → Option (Int32)) → Option (Int32)
  | 0, _, _, _ => none
  | n + 1, v3, v4, k64 => (if v2 < v4 then (k64 v3) else ((F_X1_hasNone N v4 c_now_line c_now_lines).bind fun y2 => (if y2 = 0 then (F_X1_halves_17 N v1 v2 c_now_line c_now_lines n v3 (v4 + 2) k64) else ((F_X1_hasNone N (v2 &&& (v4 ^^^ (-1 : Int32))) c_now_line c_now_lines).bind fun y4 => (if y4 = 0 then (F_X1_halves_17 N v1 v2 c_now_line c_now_lines n v3 (v4 + 2) k64) else (if v1 = 0 then (F_X1_halves_17 N v1 v2 c_now_line c_now_lines n (v3 + 1) (v4 + 2) k64) else (some (v4))))))))
def F_X1_halves (N : Nat) (v1 : Int32) (c_now_line : (Nat → Int32)) (c_now_points : Int32) (c_now_lines : Int32) : Option (Int32) := (F_X1_halves_17 N v1 (((1 : Int32) <<< (c_now_points &&& 31)) - (1 : Int32)) c_now_line c_now_lines N 0 1 (fun u3_8 => (if v1 = 0 then (some (u3_8)) else (some ((-1))))))
theorem cw_X1_halves {R : Room} {s : State} {args : Array Value} {own : String} {index lev mc ms : Nat} (hts : ∀ w ∈ lw_all, w.before args s = true) (hl : Cond.methodLink own index yX1_halves ∈ lw_all) (hR : (rmL lev mc ms).frames + 1 ≤ R.frames ∧ 8 + (5 + 11) + (rmL lev mc ms).locals ≤ R.locals) : CallW R s args own RX1 index yX1_halves cX1_halves 5 (some .int) (ws_ yX1_halves cX1_halves 5 (some .int)) (rmL lev mc ms) mc ms 1 := cwV 1 hts (lw_V hl q1602 qs64 q151 q1603) rfl rfl rfl (by decide +kernel) hR
set_option maxHeartbeats 4000000 in
theorem M_X1_halves {l : Launch} {G : GE} (hG : GC G) {N : Nat} {h0 : Nat} {ad : Nat → Nat} {c_listPoints : Int32} {c_listLines : Int32} {c_refused : (Nat → Int32)} {c_imageRefused : (Nat → Int32)} {c_hasImage : Int32} {c_tape : (Nat → Int32)} {c_taped : Int32} {c_faultPlace : Int32} {c_orbit : (Nat → Int32)} {c_lineFor : (Nat → Int32)} {c_dualities : Int32} {c_polarities : Int32} {c_shortest : Int32} {c_placeX : (Nat → Int32)} {c_placeY : (Nat → Int32)} {c_placeZ : (Nat → Int32)} {c_lies : (Nat → Int32)} {c_firstLies : (Nat → Int32)} {c_worth : (Nat → Int32)} {c_its : Int32} {c_now_x : (Nat → Int32)} {c_now_y : (Nat → Int32)} {c_tried_points : Int32} {c_tried_lines : Int32} {c_tried_line : (Nat → Int32)} {c_tried_x : (Nat → Int32)} {c_tried_y : (Nat → Int32)} {c_imageNow_points : Int32} {c_imageNow_lines : Int32} {c_imageNow_line : (Nat → Int32)} {c_imageNow_x : (Nat → Int32)} {c_imageNow_y : (Nat → Int32)} {v1 : Int32} {c_now_line : (Nat → Int32)} {c_now_points : Int32} {c_now_lines : Int32} {ρ : (Int32)} (h : F_X1_halves N v1 c_now_line c_now_points c_now_lines = some ρ) : MR l G yX1_halves cX1_halves 5 (some .int) 2 (cW h0 ad G.2.2 c_listPoints c_listLines c_refused c_imageRefused c_hasImage c_tape c_taped c_faultPlace c_orbit c_lineFor c_dualities c_polarities c_shortest c_placeX c_placeY c_placeZ c_lies c_firstLies c_worth c_its c_now_points c_now_lines c_now_line c_now_x c_now_y c_tried_points c_tried_lines c_tried_line c_tried_x c_tried_y c_imageNow_points c_imageNow_lines c_imageNow_line c_imageNow_x c_imageNow_y) [.ref h0, .int v1] ρ := by
  rw [F_X1_halves] at h
  refine MR.start (rt := .int) hG (by decide) (Nat.le_of_ble_eq_true rfl) ?_
  intro p e s m args below meth c Q S hW0 hK hP hret ls hl
  obtain ⟨hx, hb, hml, hown, hts⟩ := id S
  have hl : lv_has ls 5 [(0, .ref h0), (1, .int v1)] := hl
  have S_X1_halves_17 : ∀ (n : Nat) (v1 : Int32) (v2 : Int32) (v3 : Int32) (v4 : Int32) (k64 : Int32 → Option (Int32)), F_X1_halves_17 N v1 v2 c_now_line c_now_lines n v3 v4 k64 = some ρ → (∀ (u3 : Int32) (ls : Array Slot), k64 u3 = some ρ → lv_has ls 5 [(1, .int v1), (3, .int u3)] → W p l e (rmL 2 0 0) s m args below meth c s.heap [] 0 0 Q (F0 m 64 ls [])) → ∀ (ls : Array Slot), lv_has ls 5 [(0, .ref h0), (1, .int v1), (2, .int v2), (3, .int v3), (4, .int v4)] → W p l e (rmL 2 0 0) s m args below meth c s.heap [] 0 0 Q (F0 m 17 ls []) := by
    intro n
    induction n with
    | zero =>
      intro v1 v2 v3 v4 k64 h
      exact absurd h (by simp [F_X1_halves_17])
    | succ n ih =>
      intro v1 v2 v3 v4 k64 h hk64 ls hl
      rw [F_X1_halves_17] at h
      refine lv_iload hx hb dX1_halves_17 (lv_at hl 4 rfl) ?_
      refine lv_iload_n hx hb dX1_halves_19 rfl (lv_at hl 2 rfl) ?_
      refine lv_icmp_gt (tgt := 64) hx hb dX1_halves_20 (by decide) (fun c1 => ?_) (fun c1 => ?_)
      · rw [if_pos c1] at h
        exact hk64 v3 _ h (lv_sub hl [1, 3] rfl)
      · rw [if_neg c1] at h
        refine lv_aload_n hx hb dX1_halves_23 rfl (lv_at hl 0 rfl) ?_
        refine lv_iload hx hb dX1_halves_24 (lv_at hl 4 rfl) ?_
        obtain ⟨y2, e2, h⟩ := ob_s h
        refine MR.callV (q0 := 0) (M_X1_hasNone hG e2) S (cw_X1_hasNone hts q1596 ⟨Nat.le_of_ble_eq_true rfl, Nat.le_of_ble_eq_true rfl⟩) hW0 hK hP rfl rfl rfl hl.1 rfl (Nat.le_of_ble_eq_true rfl) dX1_halves_26 ⟨Nat.zero_le _, Nat.zero_le _⟩ ?_
        refine lv_if_eq (tgt := 58) hx hb dX1_halves_29 (by decide) (fun c3 => ?_) (fun c3 => ?_)
        · rw [if_pos c3] at h
          refine lv_iinc (v := (v4 + 2)) (lv' := [(4, .int (v4 + 2)), (0, .ref h0), (1, .int v1), (2, .int v2), (3, .int v3)]) hx hb dX1_halves_58 hl (k := 4) rfl rfl (by decide) rfl (fun ls hl => ?_)
          refine lv_goto (tgt := 17) hx hb dX1_halves_61 (by decide) ?_
          exact ih v1 v2 v3 (v4 + 2) _ h hk64 _ (lv_sub hl [1, 2, 3, 4, 0] rfl)
        · rw [if_neg c3] at h
          refine lv_aload_n hx hb dX1_halves_32 rfl (lv_at hl 0 rfl) ?_
          refine lv_iload_n hx hb dX1_halves_33 rfl (lv_at hl 2 rfl) ?_
          refine lv_iload hx hb dX1_halves_34 (lv_at hl 4 rfl) ?_
          refine lv_iconst (v := (-1)) hx hb dX1_halves_36 (by decide) ?_
          refine lv_ixor hx hb dX1_halves_37 ?_
          refine lv_iand hx hb dX1_halves_38 ?_
          obtain ⟨y4, e4, h⟩ := ob_s h
          refine MR.callV (q0 := 0) (M_X1_hasNone hG e4) S (cw_X1_hasNone hts q1596 ⟨Nat.le_of_ble_eq_true rfl, Nat.le_of_ble_eq_true rfl⟩) hW0 hK hP rfl rfl rfl hl.1 rfl (Nat.le_of_ble_eq_true rfl) dX1_halves_39 ⟨Nat.zero_le _, Nat.zero_le _⟩ ?_
          refine lv_if_ne (tgt := 48) hx hb dX1_halves_42 (by decide) (fun c5 => ?_) (fun c5 => ?_)
          · rw [if_neg c5] at h
            refine lv_iload_n hx hb dX1_halves_48 rfl (lv_at hl 1 rfl) ?_
            refine lv_if_eq (tgt := 55) hx hb dX1_halves_49 (by decide) (fun c6 => ?_) (fun c6 => ?_)
            · rw [if_pos c6] at h
              refine lv_iinc (v := (v3 + 1)) (lv' := [(3, .int (v3 + 1)), (0, .ref h0), (1, .int v1), (2, .int v2), (4, .int v4)]) hx hb dX1_halves_55 hl (k := 3) rfl rfl (by decide) rfl (fun ls hl => ?_)
              refine lv_iinc (v := (v4 + 2)) (lv' := [(4, .int (v4 + 2)), (3, .int (v3 + 1)), (0, .ref h0), (1, .int v1), (2, .int v2)]) hx hb dX1_halves_58 hl (k := 4) rfl rfl (by decide) rfl (fun ls hl => ?_)
              refine lv_goto (tgt := 17) hx hb dX1_halves_61 (by decide) ?_
              exact ih v1 v2 (v3 + 1) (v4 + 2) _ h hk64 _ (lv_sub hl [2, 3, 4, 1, 0] rfl)
            · rw [if_neg c6] at h
              refine lv_iload hx hb dX1_halves_52 (lv_at hl 4 rfl) ?_
              obtain rfl := Option.some.inj h
              exact hret dX1_halves_54 rfl
          · rw [if_pos c5] at h
            refine lv_goto (tgt := 58) hx hb dX1_halves_45 (by decide) ?_
            refine lv_iinc (v := (v4 + 2)) (lv' := [(4, .int (v4 + 2)), (0, .ref h0), (1, .int v1), (2, .int v2), (3, .int v3)]) hx hb dX1_halves_58 hl (k := 4) rfl rfl (by decide) rfl (fun ls hl => ?_)
            refine lv_goto (tgt := 17) hx hb dX1_halves_61 (by decide) ?_
            exact ih v1 v2 v3 (v4 + 2) _ h hk64 _ (lv_sub hl [1, 2, 3, 4, 0] rfl)
  refine lv_iconst (v := 1) hx hb dX1_halves_0 (by decide) ?_
  refine lv_aload_n hx hb dX1_halves_1 rfl (lv_at hl 0 rfl) ?_
  refine va_get (ci := 0) (v := .ref (ad 3)) (C := RX1) (T := TX1) (N := 28) hx hb hts in_X1 hown hK hP 0 rfl rfl 3 (by decide) (hts _ q580) (fun _ h9 => h9) rfl dX1_halves_2 ?_
  refine va_getN (ci := 1) (v := .int c_now_points) (C := RX2) (T := TX2) (N := 5) hx hb hts in_X2 hown hK hP 1 rfl rfl 0 (by decide) (hG.nf hW0 q224) (fun _ h9 => h9) rfl dX1_halves_5 ?_
  refine lv_ishl hx hb dX1_halves_8 ?_
  refine lv_iconst (v := 1) hx hb dX1_halves_9 (by decide) ?_
  refine lv_isub hx hb dX1_halves_10 ?_
  refine lv_istore_n (lv' := [(2, .int (((1 : Int32) <<< (c_now_points &&& 31)) - (1 : Int32))), (0, .ref h0), (1, .int v1)]) hx hb dX1_halves_11 rfl hl (by decide) rfl (fun ls hl => ?_)
  refine lv_iconst (v := 0) hx hb dX1_halves_12 (by decide) ?_
  refine lv_istore_n (lv' := [(3, .int 0), (2, .int (((1 : Int32) <<< (c_now_points &&& 31)) - (1 : Int32))), (0, .ref h0), (1, .int v1)]) hx hb dX1_halves_13 rfl hl (by decide) rfl (fun ls hl => ?_)
  refine lv_iconst (v := 1) hx hb dX1_halves_14 (by decide) ?_
  refine lv_istore (lv' := [(4, .int 1), (3, .int 0), (2, .int (((1 : Int32) <<< (c_now_points &&& 31)) - (1 : Int32))), (0, .ref h0), (1, .int v1)]) hx hb dX1_halves_15 hl (by decide) rfl (fun ls hl => ?_)
  refine S_X1_halves_17 N v1 (((1 : Int32) <<< (c_now_points &&& 31)) - (1 : Int32)) 0 1 _ h ?_ _ (lv_sub hl [3, 4, 2, 1, 0] rfl)
  · intro u3_8 ls h hl
    refine lv_iload_n hx hb dX1_halves_64 rfl (lv_at hl 0 rfl) ?_
    refine lv_if_eq (tgt := 72) hx hb dX1_halves_65 (by decide) (fun c9 => ?_) (fun c9 => ?_)
    · rw [if_pos c9] at h
      refine lv_iload_n hx hb dX1_halves_72 rfl (lv_at hl 1 rfl) ?_
      obtain rfl := Option.some.inj h
      exact hret dX1_halves_73 rfl
    · rw [if_neg c9] at h
      refine lv_iconst (v := (-1)) hx hb dX1_halves_68 (by decide) ?_
      refine lv_goto (tgt := 73) hx hb dX1_halves_69 (by decide) ?_
      obtain rfl := Option.some.inj h
      exact hret dX1_halves_73 rfl
def F_X1_parts_4 (N : Nat) (v1 : Int32) (c_now_line : (Nat → Int32)) (c_now_lines : Int32) : Nat → Int32 → Int32 → (Int32 → Option (Int32)) → Option (Int32)
  | 0, _, _, _ => none
  | n + 1, v2, v3, k60 => (if c_now_lines ≤ v3 then (k60 v2) else (if ((v1 >>> (v3 &&& 31)) &&& (1 : Int32)) = 0 then (F_X1_parts_4 N v1 c_now_line c_now_lines n v2 (v3 + 1) k60) else (ckI v3 12 (if (v2 &&& (c_now_line (Int32.toNatClampNeg v3))) = 0 then (ckI v3 12 (F_X1_parts_4 N v1 c_now_line c_now_lines n (v2 ||| (c_now_line (Int32.toNatClampNeg v3))) (v3 + 1) k60)) else (some (0))))))
def F_X1_parts (N : Nat) (v1 : Int32) (c_now_line : (Nat → Int32)) (c_now_points : Int32) (c_now_lines : Int32) : Option (Int32) := (F_X1_parts_4 N v1 c_now_line c_now_lines N 0 0 (fun u2_7 => (if u2_7 = (((1 : Int32) <<< (c_now_points &&& 31)) - (1 : Int32)) then (some (1)) else (some (0)))))
theorem cw_X1_parts {R : Room} {s : State} {args : Array Value} {own : String} {index lev mc ms : Nat} (hts : ∀ w ∈ lw_all, w.before args s = true) (hl : Cond.methodLink own index yX1_parts ∈ lw_all) (hR : (rmL lev mc ms).frames + 1 ≤ R.frames ∧ 8 + (4 + 11) + (rmL lev mc ms).locals ≤ R.locals) : CallW R s args own RX1 index yX1_parts cX1_parts 4 (some .boolean) (ws_ yX1_parts cX1_parts 4 (some .boolean)) (rmL lev mc ms) mc ms 1 := cwV 1 hts (lw_V hl q1610 qs66 q151 q1611) rfl rfl rfl (by decide +kernel) hR
set_option maxHeartbeats 4000000 in
theorem M_X1_parts {l : Launch} {G : GE} (hG : GC G) {N : Nat} {h0 : Nat} {ad : Nat → Nat} {c_listPoints : Int32} {c_listLines : Int32} {c_refused : (Nat → Int32)} {c_imageRefused : (Nat → Int32)} {c_hasImage : Int32} {c_tape : (Nat → Int32)} {c_taped : Int32} {c_faultPlace : Int32} {c_orbit : (Nat → Int32)} {c_lineFor : (Nat → Int32)} {c_dualities : Int32} {c_polarities : Int32} {c_shortest : Int32} {c_placeX : (Nat → Int32)} {c_placeY : (Nat → Int32)} {c_placeZ : (Nat → Int32)} {c_lies : (Nat → Int32)} {c_firstLies : (Nat → Int32)} {c_worth : (Nat → Int32)} {c_its : Int32} {c_now_x : (Nat → Int32)} {c_now_y : (Nat → Int32)} {c_tried_points : Int32} {c_tried_lines : Int32} {c_tried_line : (Nat → Int32)} {c_tried_x : (Nat → Int32)} {c_tried_y : (Nat → Int32)} {c_imageNow_points : Int32} {c_imageNow_lines : Int32} {c_imageNow_line : (Nat → Int32)} {c_imageNow_x : (Nat → Int32)} {c_imageNow_y : (Nat → Int32)} {v1 : Int32} {c_now_line : (Nat → Int32)} {c_now_points : Int32} {c_now_lines : Int32} {ρ : (Int32)} (h : F_X1_parts N v1 c_now_line c_now_points c_now_lines = some ρ) : MR l G yX1_parts cX1_parts 4 (some .boolean) 1 (cW h0 ad G.2.2 c_listPoints c_listLines c_refused c_imageRefused c_hasImage c_tape c_taped c_faultPlace c_orbit c_lineFor c_dualities c_polarities c_shortest c_placeX c_placeY c_placeZ c_lies c_firstLies c_worth c_its c_now_points c_now_lines c_now_line c_now_x c_now_y c_tried_points c_tried_lines c_tried_line c_tried_x c_tried_y c_imageNow_points c_imageNow_lines c_imageNow_line c_imageNow_x c_imageNow_y) [.ref h0, .int v1] ρ := by
  rw [F_X1_parts] at h
  refine MR.start (rt := .boolean) hG (by decide) (Nat.le_of_ble_eq_true rfl) ?_
  intro p e s m args below meth c Q S hW0 hK hP hret ls hl
  obtain ⟨hx, hb, hml, hown, hts⟩ := id S
  have hl : lv_has ls 4 [(0, .ref h0), (1, .int v1)] := hl
  have S_X1_parts_4 : ∀ (n : Nat) (v1 : Int32) (v2 : Int32) (v3 : Int32) (k60 : Int32 → Option (Int32)), F_X1_parts_4 N v1 c_now_line c_now_lines n v2 v3 k60 = some ρ → (∀ (u2 : Int32) (ls : Array Slot), k60 u2 = some ρ → lv_has ls 4 [(0, .ref h0), (2, .int u2)] → W p l e (rmL 1 0 0) s m args below meth c s.heap [] 0 0 Q (F0 m 60 ls [])) → ∀ (ls : Array Slot), lv_has ls 4 [(0, .ref h0), (1, .int v1), (2, .int v2), (3, .int v3)] → W p l e (rmL 1 0 0) s m args below meth c s.heap [] 0 0 Q (F0 m 4 ls []) := by
    intro n
    induction n with
    | zero =>
      intro v1 v2 v3 k60 h
      exact absurd h (by simp [F_X1_parts_4])
    | succ n ih =>
      intro v1 v2 v3 k60 h hk60 ls hl
      rw [F_X1_parts_4] at h
      refine lv_iload_n hx hb dX1_parts_4 rfl (lv_at hl 3 rfl) ?_
      refine lv_aload_n hx hb dX1_parts_5 rfl (lv_at hl 0 rfl) ?_
      refine va_get (ci := 0) (v := .ref (ad 3)) (C := RX1) (T := TX1) (N := 28) hx hb hts in_X1 hown hK hP 0 rfl rfl 3 (by decide) (hts _ q580) (fun _ h9 => h9) rfl dX1_parts_6 ?_
      refine va_getN (ci := 1) (v := .int c_now_lines) (C := RX2) (T := TX2) (N := 5) hx hb hts in_X2 hown hK hP 1 rfl rfl 1 (by decide) (hG.nf hW0 q228) (fun _ h9 => h9) rfl dX1_parts_9 ?_
      refine lv_icmp_ge (tgt := 60) hx hb dX1_parts_12 (by decide) (fun c1 => ?_) (fun c1 => ?_)
      · rw [if_pos c1] at h
        exact hk60 v2 _ h (lv_sub hl [0, 2] rfl)
      · rw [if_neg c1] at h
        refine lv_iload_n hx hb dX1_parts_15 rfl (lv_at hl 1 rfl) ?_
        refine lv_iload_n hx hb dX1_parts_16 rfl (lv_at hl 3 rfl) ?_
        refine lv_ishr hx hb dX1_parts_17 ?_
        refine lv_iconst (v := 1) hx hb dX1_parts_18 (by decide) ?_
        refine lv_iand hx hb dX1_parts_19 ?_
        refine lv_if_ne (tgt := 26) hx hb dX1_parts_20 (by decide) (fun c2 => ?_) (fun c2 => ?_)
        · rw [if_neg c2] at h
          refine lv_iload_n hx hb dX1_parts_26 rfl (lv_at hl 2 rfl) ?_
          refine lv_aload_n hx hb dX1_parts_27 rfl (lv_at hl 0 rfl) ?_
          refine va_get (ci := 0) (v := .ref (ad 3)) (C := RX1) (T := TX1) (N := 28) hx hb hts in_X1 hown hK hP 0 rfl rfl 3 (by decide) (hts _ q580) (fun _ h9 => h9) rfl dX1_parts_28 ?_
          refine va_getN (ci := 1) (v := .ref (ad 32)) (C := RX2) (T := TX2) (N := 5) hx hb hts in_X2 hown hK hP 1 rfl rfl 2 (by decide) (hG.nf hW0 q234) (fun _ h9 => h9) rfl dX1_parts_31 ?_
          refine lv_iload_n hx hb dX1_parts_34 rfl (lv_at hl 3 rfl) ?_
          obtain ⟨i3, h⟩ := ckI_s h
          refine va_iald (f := c_now_line) hx hb hK hP 2 0 rfl rfl i3 dX1_parts_35 ?_
          refine lv_iand hx hb dX1_parts_36 ?_
          refine lv_if_eq (tgt := 42) hx hb dX1_parts_37 (by decide) (fun c4 => ?_) (fun c4 => ?_)
          · rw [if_pos c4] at h
            refine lv_iload_n hx hb dX1_parts_42 rfl (lv_at hl 2 rfl) ?_
            refine lv_aload_n hx hb dX1_parts_43 rfl (lv_at hl 0 rfl) ?_
            refine va_get (ci := 0) (v := .ref (ad 3)) (C := RX1) (T := TX1) (N := 28) hx hb hts in_X1 hown hK hP 0 rfl rfl 3 (by decide) (hts _ q580) (fun _ h9 => h9) rfl dX1_parts_44 ?_
            refine va_getN (ci := 1) (v := .ref (ad 32)) (C := RX2) (T := TX2) (N := 5) hx hb hts in_X2 hown hK hP 1 rfl rfl 2 (by decide) (hG.nf hW0 q234) (fun _ h9 => h9) rfl dX1_parts_47 ?_
            refine lv_iload_n hx hb dX1_parts_50 rfl (lv_at hl 3 rfl) ?_
            obtain ⟨i5, h⟩ := ckI_s h
            refine va_iald (f := c_now_line) hx hb hK hP 2 0 rfl rfl i5 dX1_parts_51 ?_
            refine lv_ior hx hb dX1_parts_52 ?_
            refine lv_istore_n (lv' := [(2, .int (v2 ||| (c_now_line (Int32.toNatClampNeg v3)))), (0, .ref h0), (1, .int v1), (3, .int v3)]) hx hb dX1_parts_53 rfl hl (by decide) rfl (fun ls hl => ?_)
            refine lv_iinc (v := (v3 + 1)) (lv' := [(3, .int (v3 + 1)), (2, .int (v2 ||| (c_now_line (Int32.toNatClampNeg v3)))), (0, .ref h0), (1, .int v1)]) hx hb dX1_parts_54 hl (k := 3) rfl rfl (by decide) rfl (fun ls hl => ?_)
            refine lv_goto (tgt := 4) hx hb dX1_parts_57 (by decide) ?_
            exact ih v1 (v2 ||| (c_now_line (Int32.toNatClampNeg v3))) (v3 + 1) _ h hk60 _ (lv_sub hl [2, 3, 1, 0] rfl)
          · rw [if_neg c4] at h
            refine lv_iconst (v := 0) hx hb dX1_parts_40 (by decide) ?_
            obtain rfl := Option.some.inj h
            exact hret dX1_parts_41 rfl
        · rw [if_pos c2] at h
          refine lv_goto (tgt := 54) hx hb dX1_parts_23 (by decide) ?_
          refine lv_iinc (v := (v3 + 1)) (lv' := [(3, .int (v3 + 1)), (0, .ref h0), (1, .int v1), (2, .int v2)]) hx hb dX1_parts_54 hl (k := 3) rfl rfl (by decide) rfl (fun ls hl => ?_)
          refine lv_goto (tgt := 4) hx hb dX1_parts_57 (by decide) ?_
          exact ih v1 v2 (v3 + 1) _ h hk60 _ (lv_sub hl [1, 2, 3, 0] rfl)
  refine lv_iconst (v := 0) hx hb dX1_parts_0 (by decide) ?_
  refine lv_istore_n (lv' := [(2, .int 0), (0, .ref h0), (1, .int v1)]) hx hb dX1_parts_1 rfl hl (by decide) rfl (fun ls hl => ?_)
  refine lv_iconst (v := 0) hx hb dX1_parts_2 (by decide) ?_
  refine lv_istore_n (lv' := [(3, .int 0), (2, .int 0), (0, .ref h0), (1, .int v1)]) hx hb dX1_parts_3 rfl hl (by decide) rfl (fun ls hl => ?_)
  refine S_X1_parts_4 N v1 0 0 _ h ?_ _ (lv_sub hl [2, 3, 1, 0] rfl)
  · intro u2_7 ls h hl
    refine lv_iload_n hx hb dX1_parts_60 rfl (lv_at hl 1 rfl) ?_
    refine lv_iconst (v := 1) hx hb dX1_parts_61 (by decide) ?_
    refine lv_aload_n hx hb dX1_parts_62 rfl (lv_at hl 0 rfl) ?_
    refine va_get (ci := 0) (v := .ref (ad 3)) (C := RX1) (T := TX1) (N := 28) hx hb hts in_X1 hown hK hP 0 rfl rfl 3 (by decide) (hts _ q580) (fun _ h9 => h9) rfl dX1_parts_63 ?_
    refine va_getN (ci := 1) (v := .int c_now_points) (C := RX2) (T := TX2) (N := 5) hx hb hts in_X2 hown hK hP 1 rfl rfl 0 (by decide) (hG.nf hW0 q224) (fun _ h9 => h9) rfl dX1_parts_66 ?_
    refine lv_ishl hx hb dX1_parts_69 ?_
    refine lv_iconst (v := 1) hx hb dX1_parts_70 (by decide) ?_
    refine lv_isub hx hb dX1_parts_71 ?_
    refine lv_icmp_ne (tgt := 79) hx hb dX1_parts_72 (by decide) (fun c8 => ?_) (fun c8 => ?_)
    · rw [if_neg c8] at h
      refine lv_iconst (v := 0) hx hb dX1_parts_79 (by decide) ?_
      obtain rfl := Option.some.inj h
      exact hret dX1_parts_80 rfl
    · rw [if_pos c8] at h
      refine lv_iconst (v := 1) hx hb dX1_parts_75 (by decide) ?_
      refine lv_goto (tgt := 80) hx hb dX1_parts_76 (by decide) ?_
      obtain rfl := Option.some.inj h
      exact hret dX1_parts_80 rfl
def F_X1_spreads_4 (N : Nat) (v1 : Int32) (c_now_line : (Nat → Int32)) (c_now_points : Int32) (c_now_lines : Int32) : Nat → Int32 → Int32 → (Int32 → Option (Int32)) → Option (Int32)
  | 0, _, _, _ => none
  | n + 1, v2, v3, k43 => (if ((1 : Int32) <<< (c_now_lines &&& 31)) ≤ v3 then (k43 v2) else ((F_X1_parts N v3 c_now_line c_now_points c_now_lines).bind fun y2 => (if y2 = 0 then (F_X1_spreads_4 N v1 c_now_line c_now_points c_now_lines n v2 (v3 + 1) k43) else (if v1 = 0 then (F_X1_spreads_4 N v1 c_now_line c_now_points c_now_lines n (v2 + 1) (v3 + 1) k43) else (some (v3))))))
def F_X1_spreads (N : Nat) (v1 : Int32) (c_now_line : (Nat → Int32)) (c_now_points : Int32) (c_now_lines : Int32) : Option (Int32) := (F_X1_spreads_4 N v1 c_now_line c_now_points c_now_lines N 0 1 (fun u2_6 => (if v1 = 0 then (some (u2_6)) else (some ((-1))))))
theorem cw_X1_spreads {R : Room} {s : State} {args : Array Value} {own : String} {index lev mc ms : Nat} (hts : ∀ w ∈ lw_all, w.before args s = true) (hl : Cond.methodLink own index yX1_spreads ∈ lw_all) (hR : (rmL lev mc ms).frames + 1 ≤ R.frames ∧ 8 + (4 + 11) + (rmL lev mc ms).locals ≤ R.locals) : CallW R s args own RX1 index yX1_spreads cX1_spreads 4 (some .int) (ws_ yX1_spreads cX1_spreads 4 (some .int)) (rmL lev mc ms) mc ms 1 := cwV 1 hts (lw_V hl q1606 qs65 q151 q1607) rfl rfl rfl (by decide +kernel) hR
set_option maxHeartbeats 4000000 in
theorem M_X1_spreads {l : Launch} {G : GE} (hG : GC G) {N : Nat} {h0 : Nat} {ad : Nat → Nat} {c_listPoints : Int32} {c_listLines : Int32} {c_refused : (Nat → Int32)} {c_imageRefused : (Nat → Int32)} {c_hasImage : Int32} {c_tape : (Nat → Int32)} {c_taped : Int32} {c_faultPlace : Int32} {c_orbit : (Nat → Int32)} {c_lineFor : (Nat → Int32)} {c_dualities : Int32} {c_polarities : Int32} {c_shortest : Int32} {c_placeX : (Nat → Int32)} {c_placeY : (Nat → Int32)} {c_placeZ : (Nat → Int32)} {c_lies : (Nat → Int32)} {c_firstLies : (Nat → Int32)} {c_worth : (Nat → Int32)} {c_its : Int32} {c_now_x : (Nat → Int32)} {c_now_y : (Nat → Int32)} {c_tried_points : Int32} {c_tried_lines : Int32} {c_tried_line : (Nat → Int32)} {c_tried_x : (Nat → Int32)} {c_tried_y : (Nat → Int32)} {c_imageNow_points : Int32} {c_imageNow_lines : Int32} {c_imageNow_line : (Nat → Int32)} {c_imageNow_x : (Nat → Int32)} {c_imageNow_y : (Nat → Int32)} {v1 : Int32} {c_now_line : (Nat → Int32)} {c_now_points : Int32} {c_now_lines : Int32} {ρ : (Int32)} (h : F_X1_spreads N v1 c_now_line c_now_points c_now_lines = some ρ) : MR l G yX1_spreads cX1_spreads 4 (some .int) 2 (cW h0 ad G.2.2 c_listPoints c_listLines c_refused c_imageRefused c_hasImage c_tape c_taped c_faultPlace c_orbit c_lineFor c_dualities c_polarities c_shortest c_placeX c_placeY c_placeZ c_lies c_firstLies c_worth c_its c_now_points c_now_lines c_now_line c_now_x c_now_y c_tried_points c_tried_lines c_tried_line c_tried_x c_tried_y c_imageNow_points c_imageNow_lines c_imageNow_line c_imageNow_x c_imageNow_y) [.ref h0, .int v1] ρ := by
  rw [F_X1_spreads] at h
  refine MR.start (rt := .int) hG (by decide) (Nat.le_of_ble_eq_true rfl) ?_
  intro p e s m args below meth c Q S hW0 hK hP hret ls hl
  obtain ⟨hx, hb, hml, hown, hts⟩ := id S
  have hl : lv_has ls 4 [(0, .ref h0), (1, .int v1)] := hl
  have S_X1_spreads_4 : ∀ (n : Nat) (v1 : Int32) (v2 : Int32) (v3 : Int32) (k43 : Int32 → Option (Int32)), F_X1_spreads_4 N v1 c_now_line c_now_points c_now_lines n v2 v3 k43 = some ρ → (∀ (u2 : Int32) (ls : Array Slot), k43 u2 = some ρ → lv_has ls 4 [(1, .int v1), (2, .int u2)] → W p l e (rmL 2 0 0) s m args below meth c s.heap [] 0 0 Q (F0 m 43 ls [])) → ∀ (ls : Array Slot), lv_has ls 4 [(0, .ref h0), (1, .int v1), (2, .int v2), (3, .int v3)] → W p l e (rmL 2 0 0) s m args below meth c s.heap [] 0 0 Q (F0 m 4 ls []) := by
    intro n
    induction n with
    | zero =>
      intro v1 v2 v3 k43 h
      exact absurd h (by simp [F_X1_spreads_4])
    | succ n ih =>
      intro v1 v2 v3 k43 h hk43 ls hl
      rw [F_X1_spreads_4] at h
      refine lv_iload_n hx hb dX1_spreads_4 rfl (lv_at hl 3 rfl) ?_
      refine lv_iconst (v := 1) hx hb dX1_spreads_5 (by decide) ?_
      refine lv_aload_n hx hb dX1_spreads_6 rfl (lv_at hl 0 rfl) ?_
      refine va_get (ci := 0) (v := .ref (ad 3)) (C := RX1) (T := TX1) (N := 28) hx hb hts in_X1 hown hK hP 0 rfl rfl 3 (by decide) (hts _ q580) (fun _ h9 => h9) rfl dX1_spreads_7 ?_
      refine va_getN (ci := 1) (v := .int c_now_lines) (C := RX2) (T := TX2) (N := 5) hx hb hts in_X2 hown hK hP 1 rfl rfl 1 (by decide) (hG.nf hW0 q228) (fun _ h9 => h9) rfl dX1_spreads_10 ?_
      refine lv_ishl hx hb dX1_spreads_13 ?_
      refine lv_icmp_ge (tgt := 43) hx hb dX1_spreads_14 (by decide) (fun c1 => ?_) (fun c1 => ?_)
      · rw [if_pos c1] at h
        exact hk43 v2 _ h (lv_sub hl [1, 2] rfl)
      · rw [if_neg c1] at h
        refine lv_aload_n hx hb dX1_spreads_17 rfl (lv_at hl 0 rfl) ?_
        refine lv_iload_n hx hb dX1_spreads_18 rfl (lv_at hl 3 rfl) ?_
        obtain ⟨y2, e2, h⟩ := ob_s h
        refine MR.callV (q0 := 0) (M_X1_parts hG e2) S (cw_X1_parts hts q1608 ⟨Nat.le_of_ble_eq_true rfl, Nat.le_of_ble_eq_true rfl⟩) hW0 hK hP rfl rfl rfl hl.1 rfl (Nat.le_of_ble_eq_true rfl) dX1_spreads_19 ⟨Nat.zero_le _, Nat.zero_le _⟩ ?_
        refine lv_if_ne (tgt := 28) hx hb dX1_spreads_22 (by decide) (fun c3 => ?_) (fun c3 => ?_)
        · rw [if_neg c3] at h
          refine lv_iload_n hx hb dX1_spreads_28 rfl (lv_at hl 1 rfl) ?_
          refine lv_if_eq (tgt := 34) hx hb dX1_spreads_29 (by decide) (fun c4 => ?_) (fun c4 => ?_)
          · rw [if_pos c4] at h
            refine lv_iinc (v := (v2 + 1)) (lv' := [(2, .int (v2 + 1)), (0, .ref h0), (1, .int v1), (3, .int v3)]) hx hb dX1_spreads_34 hl (k := 2) rfl rfl (by decide) rfl (fun ls hl => ?_)
            refine lv_iinc (v := (v3 + 1)) (lv' := [(3, .int (v3 + 1)), (2, .int (v2 + 1)), (0, .ref h0), (1, .int v1)]) hx hb dX1_spreads_37 hl (k := 3) rfl rfl (by decide) rfl (fun ls hl => ?_)
            refine lv_goto (tgt := 4) hx hb dX1_spreads_40 (by decide) ?_
            exact ih v1 (v2 + 1) (v3 + 1) _ h hk43 _ (lv_sub hl [2, 3, 1, 0] rfl)
          · rw [if_neg c4] at h
            refine lv_iload_n hx hb dX1_spreads_32 rfl (lv_at hl 3 rfl) ?_
            obtain rfl := Option.some.inj h
            exact hret dX1_spreads_33 rfl
        · rw [if_pos c3] at h
          refine lv_goto (tgt := 37) hx hb dX1_spreads_25 (by decide) ?_
          refine lv_iinc (v := (v3 + 1)) (lv' := [(3, .int (v3 + 1)), (0, .ref h0), (1, .int v1), (2, .int v2)]) hx hb dX1_spreads_37 hl (k := 3) rfl rfl (by decide) rfl (fun ls hl => ?_)
          refine lv_goto (tgt := 4) hx hb dX1_spreads_40 (by decide) ?_
          exact ih v1 v2 (v3 + 1) _ h hk43 _ (lv_sub hl [1, 2, 3, 0] rfl)
  refine lv_iconst (v := 0) hx hb dX1_spreads_0 (by decide) ?_
  refine lv_istore_n (lv' := [(2, .int 0), (0, .ref h0), (1, .int v1)]) hx hb dX1_spreads_1 rfl hl (by decide) rfl (fun ls hl => ?_)
  refine lv_iconst (v := 1) hx hb dX1_spreads_2 (by decide) ?_
  refine lv_istore_n (lv' := [(3, .int 1), (2, .int 0), (0, .ref h0), (1, .int v1)]) hx hb dX1_spreads_3 rfl hl (by decide) rfl (fun ls hl => ?_)
  refine S_X1_spreads_4 N v1 0 1 _ h ?_ _ (lv_sub hl [2, 3, 1, 0] rfl)
  · intro u2_6 ls h hl
    refine lv_iload_n hx hb dX1_spreads_43 rfl (lv_at hl 0 rfl) ?_
    refine lv_if_eq (tgt := 51) hx hb dX1_spreads_44 (by decide) (fun c7 => ?_) (fun c7 => ?_)
    · rw [if_pos c7] at h
      refine lv_iload_n hx hb dX1_spreads_51 rfl (lv_at hl 1 rfl) ?_
      obtain rfl := Option.some.inj h
      exact hret dX1_spreads_52 rfl
    · rw [if_neg c7] at h
      refine lv_iconst (v := (-1)) hx hb dX1_spreads_47 (by decide) ?_
      refine lv_goto (tgt := 52) hx hb dX1_spreads_48 (by decide) ?_
      obtain rfl := Option.some.inj h
      exact hret dX1_spreads_52 rfl
def F_X1_set (N : Nat) (v1 : Int32) (c_now_line : (Nat → Int32)) (c_now_points : Int32) (c_now_lines : Int32) : Option (Int32) := ((F_X1_within N v1 0 5).bind fun y1 => ((F_X1_there N y1).bind fun y2 => (if v1 = 0 then ((F_X1_cover N c_now_line c_now_points c_now_lines).bind fun y4 => (some (y4))) else (if v1 = 1 then ((F_X1_cap N c_now_line c_now_points c_now_lines).bind fun y7 => (some (y7))) else (if v1 = 2 then (if v1 = 3 then ((F_X1_halves N 1 c_now_line c_now_points c_now_lines).bind fun y13 => (some (y13))) else ((F_X1_halves N 0 c_now_line c_now_points c_now_lines).bind fun y11 => (some (y11)))) else (if v1 = 3 then (if v1 = 3 then ((F_X1_halves N 1 c_now_line c_now_points c_now_lines).bind fun y19 => (some (y19))) else ((F_X1_halves N 0 c_now_line c_now_points c_now_lines).bind fun y17 => (some (y17)))) else (if v1 = 5 then ((F_X1_spreads N 1 c_now_line c_now_points c_now_lines).bind fun y24 => (some (y24))) else ((F_X1_spreads N 0 c_now_line c_now_points c_now_lines).bind fun y22 => (some (y22))))))))))
theorem cw_X1_set {R : Room} {s : State} {args : Array Value} {own : String} {index lev mc ms : Nat} (hts : ∀ w ∈ lw_all, w.before args s = true) (hl : Cond.methodLink own index yX1_set ∈ lw_all) (hR : (rmL lev mc ms).frames + 1 ≤ R.frames ∧ 8 + (2 + 11) + (rmL lev mc ms).locals ≤ R.locals) : CallW R s args own RX1 index yX1_set cX1_set 2 (some .int) (ws_ yX1_set cX1_set 2 (some .int)) (rmL lev mc ms) mc ms 1 := cwV 1 hts (lw_V hl q1581 q1582 q151 q1583) rfl rfl rfl (by decide +kernel) hR
set_option maxHeartbeats 4000000 in
theorem M_X1_set {l : Launch} {G : GE} (hG : GC G) {N : Nat} {h0 : Nat} {ad : Nat → Nat} {c_listPoints : Int32} {c_listLines : Int32} {c_refused : (Nat → Int32)} {c_imageRefused : (Nat → Int32)} {c_hasImage : Int32} {c_tape : (Nat → Int32)} {c_taped : Int32} {c_faultPlace : Int32} {c_orbit : (Nat → Int32)} {c_lineFor : (Nat → Int32)} {c_dualities : Int32} {c_polarities : Int32} {c_shortest : Int32} {c_placeX : (Nat → Int32)} {c_placeY : (Nat → Int32)} {c_placeZ : (Nat → Int32)} {c_lies : (Nat → Int32)} {c_firstLies : (Nat → Int32)} {c_worth : (Nat → Int32)} {c_its : Int32} {c_now_x : (Nat → Int32)} {c_now_y : (Nat → Int32)} {c_tried_points : Int32} {c_tried_lines : Int32} {c_tried_line : (Nat → Int32)} {c_tried_x : (Nat → Int32)} {c_tried_y : (Nat → Int32)} {c_imageNow_points : Int32} {c_imageNow_lines : Int32} {c_imageNow_line : (Nat → Int32)} {c_imageNow_x : (Nat → Int32)} {c_imageNow_y : (Nat → Int32)} {v1 : Int32} {c_now_line : (Nat → Int32)} {c_now_points : Int32} {c_now_lines : Int32} {ρ : (Int32)} (h : F_X1_set N v1 c_now_line c_now_points c_now_lines = some ρ) : MR l G yX1_set cX1_set 2 (some .int) 3 (cW h0 ad G.2.2 c_listPoints c_listLines c_refused c_imageRefused c_hasImage c_tape c_taped c_faultPlace c_orbit c_lineFor c_dualities c_polarities c_shortest c_placeX c_placeY c_placeZ c_lies c_firstLies c_worth c_its c_now_points c_now_lines c_now_line c_now_x c_now_y c_tried_points c_tried_lines c_tried_line c_tried_x c_tried_y c_imageNow_points c_imageNow_lines c_imageNow_line c_imageNow_x c_imageNow_y) [.ref h0, .int v1] ρ := by
  rw [F_X1_set] at h
  refine MR.start (rt := .int) hG (by decide) (Nat.le_of_ble_eq_true rfl) ?_
  intro p e s m args below meth c Q S hW0 hK hP hret ls hl
  obtain ⟨hx, hb, hml, hown, hts⟩ := id S
  have hl : lv_has ls 2 [(0, .ref h0), (1, .int v1)] := hl
  refine lv_iload_n hx hb dX1_set_0 rfl (lv_at hl 1 rfl) ?_
  refine lv_iconst (v := 0) hx hb dX1_set_1 (by decide) ?_
  refine lv_iconst (v := 5) hx hb dX1_set_2 (by decide) ?_
  obtain ⟨y1, e1, h⟩ := ob_s h
  refine MR.callS (M_X1_within hG e1) S (cw_X1_within hts q878 ⟨Nat.le_of_ble_eq_true rfl, Nat.le_of_ble_eq_true rfl⟩) hW0 vaP0 rfl hl.1 rfl (Nat.le_of_ble_eq_true rfl) dX1_set_3 ⟨Nat.zero_le _, Nat.zero_le _⟩ ?_
  obtain ⟨y2, e2, h⟩ := ob_s h
  refine MV.callS (M_X1_there hG e2) S (cw_X1_there hts q1182 ⟨Nat.le_of_ble_eq_true rfl, Nat.le_of_ble_eq_true rfl⟩) hW0 vaP0 rfl hl.1 rfl (Nat.le_of_ble_eq_true rfl) dX1_set_6 ⟨Nat.zero_le _, Nat.zero_le _⟩ ?_
  refine lv_iload_n hx hb dX1_set_9 rfl (lv_at hl 1 rfl) ?_
  by_cases c3 : v1 = 0
  · rw [if_pos c3] at h
    refine lv_tableIn (off := 30) (tgt := 40) hx hb dX1_set_10 (by rw [c3]; decide) (by rw [c3]; decide) (by rw [c3]; rfl) (by decide) ?_
    refine lv_aload_n hx hb dX1_set_40 rfl (lv_at hl 0 rfl) ?_
    obtain ⟨y4, e4, h⟩ := ob_s h
    refine MR.callV (q0 := 0) (M_X1_cover hG e4) S (cw_X1_cover hts q1584 ⟨Nat.le_of_ble_eq_true rfl, Nat.le_of_ble_eq_true rfl⟩) hW0 hK hP rfl rfl rfl hl.1 rfl (Nat.le_of_ble_eq_true rfl) dX1_set_41 ⟨Nat.zero_le _, Nat.zero_le _⟩ ?_
    refine lv_goto (tgt := 85) hx hb dX1_set_44 (by decide) ?_
    obtain rfl := Option.some.inj h
    exact hret dX1_set_85 rfl
  rw [if_neg c3] at h
  by_cases c6 : v1 = 1
  · rw [if_pos c6] at h
    refine lv_tableIn (off := 37) (tgt := 47) hx hb dX1_set_10 (by rw [c6]; decide) (by rw [c6]; decide) (by rw [c6]; rfl) (by decide) ?_
    refine lv_aload_n hx hb dX1_set_47 rfl (lv_at hl 0 rfl) ?_
    obtain ⟨y7, e7, h⟩ := ob_s h
    refine MR.callV (q0 := 0) (M_X1_cap hG e7) S (cw_X1_cap hts q1592 ⟨Nat.le_of_ble_eq_true rfl, Nat.le_of_ble_eq_true rfl⟩) hW0 hK hP rfl rfl rfl hl.1 rfl (Nat.le_of_ble_eq_true rfl) dX1_set_48 ⟨Nat.zero_le _, Nat.zero_le _⟩ ?_
    refine lv_goto (tgt := 85) hx hb dX1_set_51 (by decide) ?_
    obtain rfl := Option.some.inj h
    exact hret dX1_set_85 rfl
  rw [if_neg c6] at h
  by_cases c9 : v1 = 2
  · rw [if_pos c9] at h
    refine lv_tableIn (off := 44) (tgt := 54) hx hb dX1_set_10 (by rw [c9]; decide) (by rw [c9]; decide) (by rw [c9]; rfl) (by decide) ?_
    refine lv_aload_n hx hb dX1_set_54 rfl (lv_at hl 0 rfl) ?_
    refine lv_iload_n hx hb dX1_set_55 rfl (lv_at hl 1 rfl) ?_
    refine lv_iconst (v := 3) hx hb dX1_set_56 (by decide) ?_
    refine lv_icmp_ne (tgt := 64) hx hb dX1_set_57 (by decide) (fun c10 => ?_) (fun c10 => ?_)
    · rw [if_neg c10] at h
      refine lv_iconst (v := 0) hx hb dX1_set_64 (by decide) ?_
      obtain ⟨y11, e11, h⟩ := ob_s h
      refine MR.callV (q0 := 0) (M_X1_halves hG e11) S (cw_X1_halves hts q1600 ⟨Nat.le_of_ble_eq_true rfl, Nat.le_of_ble_eq_true rfl⟩) hW0 hK hP rfl rfl rfl hl.1 rfl (Nat.le_of_ble_eq_true rfl) dX1_set_65 ⟨Nat.zero_le _, Nat.zero_le _⟩ ?_
      refine lv_goto (tgt := 85) hx hb dX1_set_68 (by decide) ?_
      obtain rfl := Option.some.inj h
      exact hret dX1_set_85 rfl
    · rw [if_pos c10] at h
      refine lv_iconst (v := 1) hx hb dX1_set_60 (by decide) ?_
      refine lv_goto (tgt := 65) hx hb dX1_set_61 (by decide) ?_
      obtain ⟨y13, e13, h⟩ := ob_s h
      refine MR.callV (q0 := 0) (M_X1_halves hG e13) S (cw_X1_halves hts q1600 ⟨Nat.le_of_ble_eq_true rfl, Nat.le_of_ble_eq_true rfl⟩) hW0 hK hP rfl rfl rfl hl.1 rfl (Nat.le_of_ble_eq_true rfl) dX1_set_65 ⟨Nat.zero_le _, Nat.zero_le _⟩ ?_
      refine lv_goto (tgt := 85) hx hb dX1_set_68 (by decide) ?_
      obtain rfl := Option.some.inj h
      exact hret dX1_set_85 rfl
  rw [if_neg c9] at h
  by_cases c15 : v1 = 3
  · rw [if_pos c15] at h
    refine lv_tableIn (off := 44) (tgt := 54) hx hb dX1_set_10 (by rw [c15]; decide) (by rw [c15]; decide) (by rw [c15]; rfl) (by decide) ?_
    refine lv_aload_n hx hb dX1_set_54 rfl (lv_at hl 0 rfl) ?_
    refine lv_iload_n hx hb dX1_set_55 rfl (lv_at hl 1 rfl) ?_
    refine lv_iconst (v := 3) hx hb dX1_set_56 (by decide) ?_
    refine lv_icmp_ne (tgt := 64) hx hb dX1_set_57 (by decide) (fun c16 => ?_) (fun c16 => ?_)
    · rw [if_neg c16] at h
      refine lv_iconst (v := 0) hx hb dX1_set_64 (by decide) ?_
      obtain ⟨y17, e17, h⟩ := ob_s h
      refine MR.callV (q0 := 0) (M_X1_halves hG e17) S (cw_X1_halves hts q1600 ⟨Nat.le_of_ble_eq_true rfl, Nat.le_of_ble_eq_true rfl⟩) hW0 hK hP rfl rfl rfl hl.1 rfl (Nat.le_of_ble_eq_true rfl) dX1_set_65 ⟨Nat.zero_le _, Nat.zero_le _⟩ ?_
      refine lv_goto (tgt := 85) hx hb dX1_set_68 (by decide) ?_
      obtain rfl := Option.some.inj h
      exact hret dX1_set_85 rfl
    · rw [if_pos c16] at h
      refine lv_iconst (v := 1) hx hb dX1_set_60 (by decide) ?_
      refine lv_goto (tgt := 65) hx hb dX1_set_61 (by decide) ?_
      obtain ⟨y19, e19, h⟩ := ob_s h
      refine MR.callV (q0 := 0) (M_X1_halves hG e19) S (cw_X1_halves hts q1600 ⟨Nat.le_of_ble_eq_true rfl, Nat.le_of_ble_eq_true rfl⟩) hW0 hK hP rfl rfl rfl hl.1 rfl (Nat.le_of_ble_eq_true rfl) dX1_set_65 ⟨Nat.zero_le _, Nat.zero_le _⟩ ?_
      refine lv_goto (tgt := 85) hx hb dX1_set_68 (by decide) ?_
      obtain rfl := Option.some.inj h
      exact hret dX1_set_85 rfl
  rw [if_neg c15] at h
  refine lv_tableOut (tgt := 71) hx hb dX1_set_10 (sw_out v1 [0, 1, 2, 3] rfl (by simp [c3, c6, c9, c15])) (by decide) ?_
  refine lv_aload_n hx hb dX1_set_71 rfl (lv_at hl 0 rfl) ?_
  refine lv_iload_n hx hb dX1_set_72 rfl (lv_at hl 1 rfl) ?_
  refine lv_iconst (v := 5) hx hb dX1_set_73 (by decide) ?_
  refine lv_icmp_ne (tgt := 81) hx hb dX1_set_74 (by decide) (fun c21 => ?_) (fun c21 => ?_)
  · rw [if_neg c21] at h
    refine lv_iconst (v := 0) hx hb dX1_set_81 (by decide) ?_
    obtain ⟨y22, e22, h⟩ := ob_s h
    refine MR.callV (q0 := 0) (M_X1_spreads hG e22) S (cw_X1_spreads hts q1604 ⟨Nat.le_of_ble_eq_true rfl, Nat.le_of_ble_eq_true rfl⟩) hW0 hK hP rfl rfl rfl hl.1 rfl (Nat.le_of_ble_eq_true rfl) dX1_set_82 ⟨Nat.zero_le _, Nat.zero_le _⟩ ?_
    obtain rfl := Option.some.inj h
    exact hret dX1_set_85 rfl
  · rw [if_pos c21] at h
    refine lv_iconst (v := 1) hx hb dX1_set_77 (by decide) ?_
    refine lv_goto (tgt := 82) hx hb dX1_set_78 (by decide) ?_
    obtain ⟨y24, e24, h⟩ := ob_s h
    refine MR.callV (q0 := 0) (M_X1_spreads hG e24) S (cw_X1_spreads hts q1604 ⟨Nat.le_of_ble_eq_true rfl, Nat.le_of_ble_eq_true rfl⟩) hW0 hK hP rfl rfl rfl hl.1 rfl (Nat.le_of_ble_eq_true rfl) dX1_set_82 ⟨Nat.zero_le _, Nat.zero_le _⟩ ?_
    obtain rfl := Option.some.inj h
    exact hret dX1_set_85 rfl
def F_X1_far_62 (N : Nat) (v3 : Int32) (c_now_line : (Nat → Int32)) (c_now_lines : Int32) : Nat → Int32 → Int32 → (Int32 → Option (Int32)) → Option (Int32)
  | 0, _, _, _ => none
  | n + 1, v5, v6, k110 => (if c_now_lines ≤ v6 then (k110 v5) else (ckI v6 12 (if ((c_now_line (Int32.toNatClampNeg v6)) &&& v3) = 0 then (F_X1_far_62 N v3 c_now_line c_now_lines n v5 (v6 + 1) k110) else (ckI v6 12 (F_X1_far_62 N v3 c_now_line c_now_lines n (v5 ||| (c_now_line (Int32.toNatClampNeg v6))) (v6 + 1) k110)))))
def F_X1_far_37 (N : Nat) (v2 : Int32) (c_now_line : (Nat → Int32)) (c_now_lines : Int32) : Nat → Int32 → Int32 → Option (Int32)
  | 0, _, _ => none
  | n + 1, v3, v4 => (if 8 < v4 then (some ((-1))) else (if ((v3 >>> (v2 &&& 31)) &&& (1 : Int32)) = 1 then (some (v4)) else (F_X1_far_62 N v3 c_now_line c_now_lines N v3 0 (fun u5_11 => (F_X1_far_37 N v2 c_now_line c_now_lines n u5_11 (v4 + 1))))))
def F_X1_far_27 (N : Nat) (c_now_line : (Nat → Int32)) (c_now_lines : Int32) (s0 : Int32) (v1 : Int32) (v2 : Int32) : Option (Int32) := ((F_X1_there N s0).bind fun y3 => (F_X1_far_37 N v2 c_now_line c_now_lines N ((1 : Int32) <<< (v1 &&& 31)) 0))
def F_X1_far_26 (N : Nat) (c_now_line : (Nat → Int32)) (c_now_lines : Int32) (v1 : Int32) (v2 : Int32) : Option (Int32) := (F_X1_far_27 N c_now_line c_now_lines 0 v1 v2)
def F_X1_far (N : Nat) (v1 : Int32) (v2 : Int32) (c_now_line : (Nat → Int32)) (c_now_points : Int32) (c_now_lines : Int32) : Option (Int32) := ((F_X2_isPoint N v1 c_now_points).bind fun y1 => (if y1 = 0 then (F_X1_far_26 N c_now_line c_now_lines v1 v2) else ((F_X2_isPoint N v2 c_now_points).bind fun y13 => (if y13 = 0 then (F_X1_far_26 N c_now_line c_now_lines v1 v2) else (F_X1_far_27 N c_now_line c_now_lines 1 v1 v2)))))
theorem cw_X1_far {R : Room} {s : State} {args : Array Value} {own : String} {index lev mc ms : Nat} (hts : ∀ w ∈ lw_all, w.before args s = true) (hl : Cond.methodLink own index yX1_far ∈ lw_all) (hR : (rmL lev mc ms).frames + 1 ≤ R.frames ∧ 8 + (7 + 11) + (rmL lev mc ms).locals ≤ R.locals) : CallW R s args own RX1 index yX1_far cX1_far 7 (some .int) (ws_ yX1_far cX1_far 7 (some .int)) (rmL lev mc ms) mc ms 2 := cwV 2 hts (lw_V hl q1616 q1617 q151 q1618) rfl rfl rfl (by decide +kernel) hR
set_option maxHeartbeats 4000000 in
theorem M_X1_far {l : Launch} {G : GE} (hG : GC G) {N : Nat} {h0 : Nat} {ad : Nat → Nat} {c_listPoints : Int32} {c_listLines : Int32} {c_refused : (Nat → Int32)} {c_imageRefused : (Nat → Int32)} {c_hasImage : Int32} {c_tape : (Nat → Int32)} {c_taped : Int32} {c_faultPlace : Int32} {c_orbit : (Nat → Int32)} {c_lineFor : (Nat → Int32)} {c_dualities : Int32} {c_polarities : Int32} {c_shortest : Int32} {c_placeX : (Nat → Int32)} {c_placeY : (Nat → Int32)} {c_placeZ : (Nat → Int32)} {c_lies : (Nat → Int32)} {c_firstLies : (Nat → Int32)} {c_worth : (Nat → Int32)} {c_its : Int32} {c_now_x : (Nat → Int32)} {c_now_y : (Nat → Int32)} {c_tried_points : Int32} {c_tried_lines : Int32} {c_tried_line : (Nat → Int32)} {c_tried_x : (Nat → Int32)} {c_tried_y : (Nat → Int32)} {c_imageNow_points : Int32} {c_imageNow_lines : Int32} {c_imageNow_line : (Nat → Int32)} {c_imageNow_x : (Nat → Int32)} {c_imageNow_y : (Nat → Int32)} {v1 : Int32} {v2 : Int32} {c_now_line : (Nat → Int32)} {c_now_points : Int32} {c_now_lines : Int32} {ρ : (Int32)} (h : F_X1_far N v1 v2 c_now_line c_now_points c_now_lines = some ρ) : MR l G yX1_far cX1_far 7 (some .int) 2 (cW h0 ad G.2.2 c_listPoints c_listLines c_refused c_imageRefused c_hasImage c_tape c_taped c_faultPlace c_orbit c_lineFor c_dualities c_polarities c_shortest c_placeX c_placeY c_placeZ c_lies c_firstLies c_worth c_its c_now_points c_now_lines c_now_line c_now_x c_now_y c_tried_points c_tried_lines c_tried_line c_tried_x c_tried_y c_imageNow_points c_imageNow_lines c_imageNow_line c_imageNow_x c_imageNow_y) [.ref h0, .int v1, .int v2] ρ := by
  rw [F_X1_far] at h
  refine MR.start (rt := .int) hG (by decide) (Nat.le_of_ble_eq_true rfl) ?_
  intro p e s m args below meth c Q S hW0 hK hP hret ls hl
  obtain ⟨hx, hb, hml, hown, hts⟩ := id S
  have hl : lv_has ls 7 [(0, .ref h0), (1, .int v1), (2, .int v2)] := hl
  have S_X1_far_62 : ∀ (n : Nat) (v2 : Int32) (v3 : Int32) (v4 : Int32) (v5 : Int32) (v6 : Int32) (k110 : Int32 → Option (Int32)), F_X1_far_62 N v3 c_now_line c_now_lines n v5 v6 k110 = some ρ → (∀ (u5 : Int32) (ls : Array Slot), k110 u5 = some ρ → lv_has ls 7 [(0, .ref h0), (2, .int v2), (4, .int v4), (5, .int u5)] → W p l e (rmL 2 0 0) s m args below meth c s.heap [] 0 0 Q (F0 m 110 ls [])) → ∀ (ls : Array Slot), lv_has ls 7 [(0, .ref h0), (2, .int v2), (3, .int v3), (4, .int v4), (5, .int v5), (6, .int v6)] → W p l e (rmL 2 0 0) s m args below meth c s.heap [] 0 0 Q (F0 m 62 ls []) := by
    intro n
    induction n with
    | zero =>
      intro v2 v3 v4 v5 v6 k110 h
      exact absurd h (by simp [F_X1_far_62])
    | succ n ih =>
      intro v2 v3 v4 v5 v6 k110 h hk110 ls hl
      rw [F_X1_far_62] at h
      refine lv_iload hx hb dX1_far_62 (lv_at hl 5 rfl) ?_
      refine lv_aload_n hx hb dX1_far_64 rfl (lv_at hl 0 rfl) ?_
      refine va_get (ci := 0) (v := .ref (ad 3)) (C := RX1) (T := TX1) (N := 28) hx hb hts in_X1 hown hK hP 0 rfl rfl 3 (by decide) (hts _ q580) (fun _ h9 => h9) rfl dX1_far_65 ?_
      refine va_getN (ci := 1) (v := .int c_now_lines) (C := RX2) (T := TX2) (N := 5) hx hb hts in_X2 hown hK hP 1 rfl rfl 1 (by decide) (hG.nf hW0 q228) (fun _ h9 => h9) rfl dX1_far_68 ?_
      refine lv_icmp_ge (tgt := 110) hx hb dX1_far_71 (by decide) (fun c7 => ?_) (fun c7 => ?_)
      · rw [if_pos c7] at h
        exact hk110 v5 _ h (lv_sub hl [0, 1, 3, 4] rfl)
      · rw [if_neg c7] at h
        refine lv_aload_n hx hb dX1_far_74 rfl (lv_at hl 0 rfl) ?_
        refine va_get (ci := 0) (v := .ref (ad 3)) (C := RX1) (T := TX1) (N := 28) hx hb hts in_X1 hown hK hP 0 rfl rfl 3 (by decide) (hts _ q580) (fun _ h9 => h9) rfl dX1_far_75 ?_
        refine va_getN (ci := 1) (v := .ref (ad 32)) (C := RX2) (T := TX2) (N := 5) hx hb hts in_X2 hown hK hP 1 rfl rfl 2 (by decide) (hG.nf hW0 q234) (fun _ h9 => h9) rfl dX1_far_78 ?_
        refine lv_iload hx hb dX1_far_81 (lv_at hl 5 rfl) ?_
        obtain ⟨i8, h⟩ := ckI_s h
        refine va_iald (f := c_now_line) hx hb hK hP 2 0 rfl rfl i8 dX1_far_83 ?_
        refine lv_iload_n hx hb dX1_far_84 rfl (lv_at hl 2 rfl) ?_
        refine lv_iand hx hb dX1_far_85 ?_
        refine lv_if_eq (tgt := 104) hx hb dX1_far_86 (by decide) (fun c9 => ?_) (fun c9 => ?_)
        · rw [if_pos c9] at h
          refine lv_iinc (v := (v6 + 1)) (lv' := [(6, .int (v6 + 1)), (0, .ref h0), (2, .int v2), (3, .int v3), (4, .int v4), (5, .int v5)]) hx hb dX1_far_104 hl (k := 5) rfl rfl (by decide) rfl (fun ls hl => ?_)
          refine lv_goto (tgt := 62) hx hb dX1_far_107 (by decide) ?_
          exact ih v2 v3 v4 v5 (v6 + 1) _ h hk110 _ (lv_sub hl [1, 2, 3, 4, 5, 0] rfl)
        · rw [if_neg c9] at h
          refine lv_iload hx hb dX1_far_89 (lv_at hl 4 rfl) ?_
          refine lv_aload_n hx hb dX1_far_91 rfl (lv_at hl 0 rfl) ?_
          refine va_get (ci := 0) (v := .ref (ad 3)) (C := RX1) (T := TX1) (N := 28) hx hb hts in_X1 hown hK hP 0 rfl rfl 3 (by decide) (hts _ q580) (fun _ h9 => h9) rfl dX1_far_92 ?_
          refine va_getN (ci := 1) (v := .ref (ad 32)) (C := RX2) (T := TX2) (N := 5) hx hb hts in_X2 hown hK hP 1 rfl rfl 2 (by decide) (hG.nf hW0 q234) (fun _ h9 => h9) rfl dX1_far_95 ?_
          refine lv_iload hx hb dX1_far_98 (lv_at hl 5 rfl) ?_
          obtain ⟨i10, h⟩ := ckI_s h
          refine va_iald (f := c_now_line) hx hb hK hP 2 0 rfl rfl i10 dX1_far_100 ?_
          refine lv_ior hx hb dX1_far_101 ?_
          refine lv_istore (lv' := [(5, .int (v5 ||| (c_now_line (Int32.toNatClampNeg v6)))), (0, .ref h0), (2, .int v2), (3, .int v3), (4, .int v4), (6, .int v6)]) hx hb dX1_far_102 hl (by decide) rfl (fun ls hl => ?_)
          refine lv_iinc (v := (v6 + 1)) (lv' := [(6, .int (v6 + 1)), (5, .int (v5 ||| (c_now_line (Int32.toNatClampNeg v6)))), (0, .ref h0), (2, .int v2), (3, .int v3), (4, .int v4)]) hx hb dX1_far_104 hl (k := 5) rfl rfl (by decide) rfl (fun ls hl => ?_)
          refine lv_goto (tgt := 62) hx hb dX1_far_107 (by decide) ?_
          exact ih v2 v3 v4 (v5 ||| (c_now_line (Int32.toNatClampNeg v6))) (v6 + 1) _ h hk110 _ (lv_sub hl [2, 3, 4, 5, 1, 0] rfl)
  have S_X1_far_37 : ∀ (n : Nat) (v2 : Int32) (v3 : Int32) (v4 : Int32), F_X1_far_37 N v2 c_now_line c_now_lines n v3 v4 = some ρ → ∀ (ls : Array Slot), lv_has ls 7 [(0, .ref h0), (2, .int v2), (3, .int v3), (4, .int v4)] → W p l e (rmL 2 0 0) s m args below meth c s.heap [] 0 0 Q (F0 m 37 ls []) := by
    intro n
    induction n with
    | zero =>
      intro v2 v3 v4 h
      exact absurd h (by simp [F_X1_far_37])
    | succ n ih =>
      intro v2 v3 v4 h ls hl
      rw [F_X1_far_37] at h
      refine lv_iload hx hb dX1_far_37 (lv_at hl 3 rfl) ?_
      refine lv_bipush (v := 8) hx hb dX1_far_39 (by decide) ?_
      refine lv_icmp_gt (tgt := 119) hx hb dX1_far_41 (by decide) (fun c4 => ?_) (fun c4 => ?_)
      · rw [if_pos c4] at h
        refine lv_iconst (v := (-1)) hx hb dX1_far_119 (by decide) ?_
        obtain rfl := Option.some.inj h
        exact hret dX1_far_120 rfl
      · rw [if_neg c4] at h
        refine lv_iload_n hx hb dX1_far_44 rfl (lv_at hl 2 rfl) ?_
        refine lv_iload_n hx hb dX1_far_45 rfl (lv_at hl 1 rfl) ?_
        refine lv_ishr hx hb dX1_far_46 ?_
        refine lv_iconst (v := 1) hx hb dX1_far_47 (by decide) ?_
        refine lv_iand hx hb dX1_far_48 ?_
        refine lv_iconst (v := 1) hx hb dX1_far_49 (by decide) ?_
        refine lv_icmp_ne (tgt := 56) hx hb dX1_far_50 (by decide) (fun c6 => ?_) (fun c6 => ?_)
        · rw [if_neg c6] at h
          refine lv_iload_n hx hb dX1_far_56 rfl (lv_at hl 2 rfl) ?_
          refine lv_istore (lv' := [(5, .int v3), (0, .ref h0), (2, .int v2), (3, .int v3), (4, .int v4)]) hx hb dX1_far_57 hl (by decide) rfl (fun ls hl => ?_)
          refine lv_iconst (v := 0) hx hb dX1_far_59 (by decide) ?_
          refine lv_istore (lv' := [(6, .int 0), (5, .int v3), (0, .ref h0), (2, .int v2), (3, .int v3), (4, .int v4)]) hx hb dX1_far_60 hl (by decide) rfl (fun ls hl => ?_)
          refine S_X1_far_62 N v2 v3 v4 v3 0 _ h ?_ _ (lv_sub hl [2, 3, 4, 5, 1, 0] rfl)
          · intro u5_11 ls h hl
            refine lv_iload hx hb dX1_far_110 (lv_at hl 3 rfl) ?_
            refine lv_istore_n (lv' := [(3, .int u5_11), (0, .ref h0), (2, .int v2), (4, .int v4), (5, .int u5_11)]) hx hb dX1_far_112 rfl hl (by decide) rfl (fun ls hl => ?_)
            refine lv_iinc (v := (v4 + 1)) (lv' := [(4, .int (v4 + 1)), (3, .int u5_11), (0, .ref h0), (2, .int v2), (5, .int u5_11)]) hx hb dX1_far_113 hl (k := 3) rfl rfl (by decide) rfl (fun ls hl => ?_)
            refine lv_goto (tgt := 37) hx hb dX1_far_116 (by decide) ?_
            exact ih v2 u5_11 (v4 + 1) h _ (lv_sub hl [2, 3, 1, 0] rfl)
        · rw [if_pos c6] at h
          refine lv_iload hx hb dX1_far_53 (lv_at hl 3 rfl) ?_
          obtain rfl := Option.some.inj h
          exact hret dX1_far_55 rfl
  have S_X1_far_27 : ∀ (s0 : Int32) (v1 : Int32) (v2 : Int32), F_X1_far_27 N c_now_line c_now_lines s0 v1 v2 = some ρ → ∀ (ls : Array Slot), lv_has ls 7 [(0, .ref h0), (1, .int v1), (2, .int v2)] → W p l e (rmL 2 0 0) s m args below meth c s.heap [] 0 0 Q (F0 m 27 ls [.int s0]) := by
    intro s0 v1 v2 h ls hl
    rw [F_X1_far_27] at h
    obtain ⟨y3, e3, h⟩ := ob_s h
    refine MV.callS (M_X1_there hG e3) S (cw_X1_there hts q1182 ⟨Nat.le_of_ble_eq_true rfl, Nat.le_of_ble_eq_true rfl⟩) hW0 vaP0 rfl hl.1 rfl (Nat.le_of_ble_eq_true rfl) dX1_far_27 ⟨Nat.zero_le _, Nat.zero_le _⟩ ?_
    refine lv_iconst (v := 1) hx hb dX1_far_30 (by decide) ?_
    refine lv_iload_n hx hb dX1_far_31 rfl (lv_at hl 1 rfl) ?_
    refine lv_ishl hx hb dX1_far_32 ?_
    refine lv_istore_n (lv' := [(3, .int ((1 : Int32) <<< (v1 &&& 31))), (0, .ref h0), (1, .int v1), (2, .int v2)]) hx hb dX1_far_33 rfl hl (by decide) rfl (fun ls hl => ?_)
    refine lv_iconst (v := 0) hx hb dX1_far_34 (by decide) ?_
    refine lv_istore (lv' := [(4, .int 0), (3, .int ((1 : Int32) <<< (v1 &&& 31))), (0, .ref h0), (1, .int v1), (2, .int v2)]) hx hb dX1_far_35 hl (by decide) rfl (fun ls hl => ?_)
    refine S_X1_far_37 N v2 ((1 : Int32) <<< (v1 &&& 31)) 0 h  _ (lv_sub hl [2, 4, 1, 0] rfl)
  have S_X1_far_26 : ∀ (v1 : Int32) (v2 : Int32), F_X1_far_26 N c_now_line c_now_lines v1 v2 = some ρ → ∀ (ls : Array Slot), lv_has ls 7 [(0, .ref h0), (1, .int v1), (2, .int v2)] → W p l e (rmL 2 0 0) s m args below meth c s.heap [] 0 0 Q (F0 m 26 ls []) := by
    intro v1 v2 h ls hl
    rw [F_X1_far_26] at h
    refine lv_iconst (v := 0) hx hb dX1_far_26 (by decide) ?_
    refine S_X1_far_27 0 v1 v2 h  _ (lv_sub hl [0, 1, 2] rfl)
  refine lv_aload_n hx hb dX1_far_0 rfl (lv_at hl 0 rfl) ?_
  refine va_get (ci := 0) (v := .ref (ad 3)) (C := RX1) (T := TX1) (N := 28) hx hb hts in_X1 hown hK hP 0 rfl rfl 3 (by decide) (hts _ q580) (fun _ h9 => h9) rfl dX1_far_1 ?_
  refine lv_iload_n hx hb dX1_far_4 rfl (lv_at hl 1 rfl) ?_
  obtain ⟨y1, e1, h⟩ := ob_s h
  refine MR.callV (q0 := 0) (M_X2_isPoint hG e1) S (cw_X2_isPoint hts q812 ⟨Nat.le_of_ble_eq_true rfl, Nat.le_of_ble_eq_true rfl⟩) hW0 hK (hP.sub (ws' := (sW (ad 3) (fun k => ad (30 + k)) G.2.2 c_now_points c_now_lines c_now_line c_now_x c_now_y)) [1, 2, 3, 4] rfl) rfl rfl rfl hl.1 rfl (Nat.le_of_ble_eq_true rfl) dX1_far_5 ⟨Nat.zero_le _, Nat.zero_le _⟩ ?_
  refine lv_if_eq (tgt := 26) hx hb dX1_far_8 (by decide) (fun c2 => ?_) (fun c2 => ?_)
  · rw [if_pos c2] at h
    refine S_X1_far_26 v1 v2 h  _ (lv_sub hl [0, 1, 2] rfl)
  · rw [if_neg c2] at h
    refine lv_aload_n hx hb dX1_far_11 rfl (lv_at hl 0 rfl) ?_
    refine va_get (ci := 0) (v := .ref (ad 3)) (C := RX1) (T := TX1) (N := 28) hx hb hts in_X1 hown hK hP 0 rfl rfl 3 (by decide) (hts _ q580) (fun _ h9 => h9) rfl dX1_far_12 ?_
    refine lv_iload_n hx hb dX1_far_15 rfl (lv_at hl 2 rfl) ?_
    obtain ⟨y13, e13, h⟩ := ob_s h
    refine MR.callV (q0 := 0) (M_X2_isPoint hG e13) S (cw_X2_isPoint hts q812 ⟨Nat.le_of_ble_eq_true rfl, Nat.le_of_ble_eq_true rfl⟩) hW0 hK (hP.sub (ws' := (sW (ad 3) (fun k => ad (30 + k)) G.2.2 c_now_points c_now_lines c_now_line c_now_x c_now_y)) [1, 2, 3, 4] rfl) rfl rfl rfl hl.1 rfl (Nat.le_of_ble_eq_true rfl) dX1_far_16 ⟨Nat.zero_le _, Nat.zero_le _⟩ ?_
    refine lv_if_eq (tgt := 26) hx hb dX1_far_19 (by decide) (fun c14 => ?_) (fun c14 => ?_)
    · rw [if_pos c14] at h
      refine S_X1_far_26 v1 v2 h  _ (lv_sub hl [0, 1, 2] rfl)
    · rw [if_neg c14] at h
      refine lv_iconst (v := 1) hx hb dX1_far_22 (by decide) ?_
      refine lv_goto (tgt := 27) hx hb dX1_far_23 (by decide) ?_
      refine S_X1_far_27 1 v1 v2 h  _ (lv_sub hl [0, 1, 2] rfl)
def F_X1_draw (N : Nat) (v1 : Int32) (c_its : Int32) : Option (Int32 × Int32) := (ckP (¬ v1 = 0) (some ((((((c_its * (1103515245 : Int32)) + (12345 : Int32)) >>> ((16 : Int32) &&& 31)) &&& (32767 : Int32)) - ((((c_its * (1103515245 : Int32)) + (12345 : Int32)) >>> ((16 : Int32) &&& 31)) &&& (32767 : Int32)) / v1 * v1), ((c_its * (1103515245 : Int32)) + (12345 : Int32)))))
theorem cw_X1_draw {R : Room} {s : State} {args : Array Value} {own : String} {index lev mc ms : Nat} (hts : ∀ w ∈ lw_all, w.before args s = true) (hl : Cond.methodLink own index yX1_draw ∈ lw_all) (hR : (rmL lev mc ms).frames + 1 ≤ R.frames ∧ 8 + (2 + 11) + (rmL lev mc ms).locals ≤ R.locals) : CallW R s args own RX1 index yX1_draw cX1_draw 2 (some .int) (ws_ yX1_draw cX1_draw 2 (some .int)) (rmL lev mc ms) mc ms 1 := cwV 1 hts (lw_V hl q1648 qs70 q151 q1649) rfl rfl rfl (by decide +kernel) hR
set_option maxHeartbeats 4000000 in
theorem M_X1_draw {l : Launch} {G : GE} (hG : GC G) {N : Nat} {h0 : Nat} {ad : Nat → Nat} {c_listPoints : Int32} {c_listLines : Int32} {c_refused : (Nat → Int32)} {c_imageRefused : (Nat → Int32)} {c_hasImage : Int32} {c_tape : (Nat → Int32)} {c_taped : Int32} {c_faultPlace : Int32} {c_orbit : (Nat → Int32)} {c_lineFor : (Nat → Int32)} {c_dualities : Int32} {c_polarities : Int32} {c_shortest : Int32} {c_placeX : (Nat → Int32)} {c_placeY : (Nat → Int32)} {c_placeZ : (Nat → Int32)} {c_lies : (Nat → Int32)} {c_firstLies : (Nat → Int32)} {c_worth : (Nat → Int32)} {c_now_points : Int32} {c_now_lines : Int32} {c_now_line : (Nat → Int32)} {c_now_x : (Nat → Int32)} {c_now_y : (Nat → Int32)} {c_tried_points : Int32} {c_tried_lines : Int32} {c_tried_line : (Nat → Int32)} {c_tried_x : (Nat → Int32)} {c_tried_y : (Nat → Int32)} {c_imageNow_points : Int32} {c_imageNow_lines : Int32} {c_imageNow_line : (Nat → Int32)} {c_imageNow_x : (Nat → Int32)} {c_imageNow_y : (Nat → Int32)} {v1 : Int32} {c_its : Int32} {ρ : (Int32 × Int32)} (h : F_X1_draw N v1 c_its = some ρ) : MW l G yX1_draw cX1_draw 2 (some .int) 1 (cW h0 ad G.2.2 c_listPoints c_listLines c_refused c_imageRefused c_hasImage c_tape c_taped c_faultPlace c_orbit c_lineFor c_dualities c_polarities c_shortest c_placeX c_placeY c_placeZ c_lies c_firstLies c_worth c_its c_now_points c_now_lines c_now_line c_now_x c_now_y c_tried_points c_tried_lines c_tried_line c_tried_x c_tried_y c_imageNow_points c_imageNow_lines c_imageNow_line c_imageNow_x c_imageNow_y) [.ref h0, .int v1] (some (.int ρ.1)) (cW h0 ad G.2.2 c_listPoints c_listLines c_refused c_imageRefused c_hasImage c_tape c_taped c_faultPlace c_orbit c_lineFor c_dualities c_polarities c_shortest c_placeX c_placeY c_placeZ c_lies c_firstLies c_worth ρ.2 c_now_points c_now_lines c_now_line c_now_x c_now_y c_tried_points c_tried_lines c_tried_line c_tried_x c_tried_y c_imageNow_points c_imageNow_lines c_imageNow_line c_imageNow_x c_imageNow_y) := by
  rw [F_X1_draw] at h
  refine MW.start hG (by decide) (Nat.le_of_ble_eq_true rfl) ?_
  intro p e s m args below meth c Q A S hW0 hK hP hD hA hreti hretv ls hl
  have hS : va_S A s.heap s.heap [] := va_S.rf
  obtain ⟨hx, hb, hml, hown, hts⟩ := id S
  have hl : lv_has ls 2 [(0, .ref h0), (1, .int v1)] := hl
  refine lv_aload_n hx hb dX1_draw_0 rfl (lv_at hl 0 rfl) ?_
  refine lv_aload_n hx hb dX1_draw_1 rfl (lv_at hl 0 rfl) ?_
  refine va_get (ci := 0) (v := .int c_its) (C := RX1) (T := TX1) (N := 28) hx hb hts in_X1 hown hK hP 0 rfl rfl 27 (by decide) (hts _ q604) (fun _ h9 => h9) rfl dX1_draw_2 ?_
  refine lv_ldcw hx hb hown (hts _ q1650) dX1_draw_5 ?_
  refine lv_imul hx hb dX1_draw_8 ?_
  refine lv_sipush (v := 12345) hx hb dX1_draw_9 (by decide) ?_
  refine lv_iadd hx hb dX1_draw_12 ?_
  refine va_put (ci := 0) (v := .int ((c_its * (1103515245 : Int32)) + (12345 : Int32))) (ty := .int) (C := RX1) (T := TX1) (N := 28) hx hb hts in_X1 tyX1 tyX1_ok nmX1 hown hK hP hD hS 0 rfl rfl 27 (by decide) (hts _ q604) (fun _ h9 => h9) rfl (by decide +kernel) rfl rfl (Nat.le_of_ble_eq_true rfl) dX1_draw_13 (fun H locs hP hD hS => ?_)
  have hP : va_P G.2.1 vwCl (cW h0 ad G.2.2 c_listPoints c_listLines c_refused c_imageRefused c_hasImage c_tape c_taped c_faultPlace c_orbit c_lineFor c_dualities c_polarities c_shortest c_placeX c_placeY c_placeZ c_lies c_firstLies c_worth ((c_its * (1103515245 : Int32)) + (12345 : Int32)) c_now_points c_now_lines c_now_line c_now_x c_now_y c_tried_points c_tried_lines c_tried_line c_tried_x c_tried_y c_imageNow_points c_imageNow_lines c_imageNow_line c_imageNow_x c_imageNow_y) H := hP
  have hD : va_D A (cW h0 ad G.2.2 c_listPoints c_listLines c_refused c_imageRefused c_hasImage c_tape c_taped c_faultPlace c_orbit c_lineFor c_dualities c_polarities c_shortest c_placeX c_placeY c_placeZ c_lies c_firstLies c_worth ((c_its * (1103515245 : Int32)) + (12345 : Int32)) c_now_points c_now_lines c_now_line c_now_x c_now_y c_tried_points c_tried_lines c_tried_line c_tried_x c_tried_y c_imageNow_points c_imageNow_lines c_imageNow_line c_imageNow_x c_imageNow_y) := hD
  refine lv_aload_n hx hb dX1_draw_16 rfl (lv_at hl 0 rfl) ?_
  refine va_get (ci := 0) (v := .int ((c_its * (1103515245 : Int32)) + (12345 : Int32))) (C := RX1) (T := TX1) (N := 28) hx hb hts in_X1 hown hK hP 0 rfl rfl 27 (by decide) (hts _ q604) (fun _ h9 => h9) rfl dX1_draw_17 ?_
  refine lv_bipush (v := 16) hx hb dX1_draw_20 (by decide) ?_
  refine lv_ishr hx hb dX1_draw_22 ?_
  refine lv_sipush (v := 32767) hx hb dX1_draw_23 (by decide) ?_
  refine lv_iand hx hb dX1_draw_26 ?_
  refine lv_iload_n hx hb dX1_draw_27 rfl (lv_at hl 1 rfl) ?_
  obtain ⟨i1, h⟩ := ckP_s h
  refine lv_irem hx hb dX1_draw_28 i1 ?_
  obtain rfl := Option.some.inj h
  exact hreti rfl dX1_draw_29 rfl rfl hP hD hS
def F_X1_happens (N : Nat) (c_tried_line : (Nat → Int32)) (c_its : Int32) (c_tried_points : Int32) (c_tried_lines : Int32) : Option (Int32 × (Nat → Int32) × Int32 × Int32) := ((F_X1_draw N 3 c_its).bind fun y1 => (if y1.1 = 2 then (if c_tried_lines ≤ 0 then (some (0, c_tried_line, y1.2, c_tried_lines)) else ((F_X1_draw N c_tried_lines y1.2).bind fun y16 => ((F_X2_drops N y16.1 c_tried_line c_tried_lines).bind fun y17 => (some (0, y17.1, y16.2, y17.2))))) else ((F_X1_draw N c_tried_points y1.2).bind fun y3 => ((F_X1_draw N c_tried_points y3.2).bind fun y4 => ((F_X1_draw N c_tried_points y4.2).bind fun y5 => ((F_J16_bitCount N ((((1 : Int32) <<< (y3.1 &&& 31)) ||| ((1 : Int32) <<< (y4.1 &&& 31))) ||| ((1 : Int32) <<< (y5.1 &&& 31)))).bind fun y6 => (if y6 = 3 then ((F_X2_canAdd N ((((1 : Int32) <<< (y3.1 &&& 31)) ||| ((1 : Int32) <<< (y4.1 &&& 31))) ||| ((1 : Int32) <<< (y5.1 &&& 31))) c_tried_line c_tried_points c_tried_lines).bind fun y9 => (if y9 = 0 then (some (0, c_tried_line, y5.2, c_tried_lines)) else ((F_X2_adds N ((((1 : Int32) <<< (y3.1 &&& 31)) ||| ((1 : Int32) <<< (y4.1 &&& 31))) ||| ((1 : Int32) <<< (y5.1 &&& 31))) c_tried_line c_tried_lines).bind fun y11 => (some (1, y11.1, y5.2, y11.2))))) else (some (0, c_tried_line, y5.2, c_tried_lines)))))))))
theorem cw_X1_happens {R : Room} {s : State} {args : Array Value} {own : String} {index lev mc ms : Nat} (hts : ∀ w ∈ lw_all, w.before args s = true) (hl : Cond.methodLink own index yX1_happens ∈ lw_all) (hR : (rmL lev mc ms).frames + 1 ≤ R.frames ∧ 8 + (3 + 11) + (rmL lev mc ms).locals ≤ R.locals) : CallW R s args own RX1 index yX1_happens cX1_happens 3 (some .boolean) (ws_ yX1_happens cX1_happens 3 (some .boolean)) (rmL lev mc ms) mc ms 1 := cwV 1 hts (lw_V hl q1644 qs69 q151 q1645) rfl rfl rfl (by decide +kernel) hR
set_option maxHeartbeats 4000000 in
theorem M_X1_happens {l : Launch} {G : GE} (hG : GC G) {N : Nat} {h0 : Nat} {ad : Nat → Nat} {c_listPoints : Int32} {c_listLines : Int32} {c_refused : (Nat → Int32)} {c_imageRefused : (Nat → Int32)} {c_hasImage : Int32} {c_tape : (Nat → Int32)} {c_taped : Int32} {c_faultPlace : Int32} {c_orbit : (Nat → Int32)} {c_lineFor : (Nat → Int32)} {c_dualities : Int32} {c_polarities : Int32} {c_shortest : Int32} {c_placeX : (Nat → Int32)} {c_placeY : (Nat → Int32)} {c_placeZ : (Nat → Int32)} {c_lies : (Nat → Int32)} {c_firstLies : (Nat → Int32)} {c_worth : (Nat → Int32)} {c_now_points : Int32} {c_now_lines : Int32} {c_now_line : (Nat → Int32)} {c_now_x : (Nat → Int32)} {c_now_y : (Nat → Int32)} {c_tried_x : (Nat → Int32)} {c_tried_y : (Nat → Int32)} {c_imageNow_points : Int32} {c_imageNow_lines : Int32} {c_imageNow_line : (Nat → Int32)} {c_imageNow_x : (Nat → Int32)} {c_imageNow_y : (Nat → Int32)} {c_tried_line : (Nat → Int32)} {c_its : Int32} {c_tried_points : Int32} {c_tried_lines : Int32} {ρ : (Int32 × (Nat → Int32) × Int32 × Int32)} (h : F_X1_happens N c_tried_line c_its c_tried_points c_tried_lines = some ρ) : MW l G yX1_happens cX1_happens 3 (some .boolean) 4 (cW h0 ad G.2.2 c_listPoints c_listLines c_refused c_imageRefused c_hasImage c_tape c_taped c_faultPlace c_orbit c_lineFor c_dualities c_polarities c_shortest c_placeX c_placeY c_placeZ c_lies c_firstLies c_worth c_its c_now_points c_now_lines c_now_line c_now_x c_now_y c_tried_points c_tried_lines c_tried_line c_tried_x c_tried_y c_imageNow_points c_imageNow_lines c_imageNow_line c_imageNow_x c_imageNow_y) [.ref h0, .ref (ad 4)] (some (.int ρ.1)) (cW h0 ad G.2.2 c_listPoints c_listLines c_refused c_imageRefused c_hasImage c_tape c_taped c_faultPlace c_orbit c_lineFor c_dualities c_polarities c_shortest c_placeX c_placeY c_placeZ c_lies c_firstLies c_worth ρ.2.2.1 c_now_points c_now_lines c_now_line c_now_x c_now_y c_tried_points ρ.2.2.2 ρ.2.1 c_tried_x c_tried_y c_imageNow_points c_imageNow_lines c_imageNow_line c_imageNow_x c_imageNow_y) := by
  rw [F_X1_happens] at h
  refine MW.start hG (by decide) (Nat.le_of_ble_eq_true rfl) ?_
  intro p e s m args below meth c Q A S hW0 hK hP hD hA hreti hretv ls hl
  have hS : va_S A s.heap s.heap [] := va_S.rf
  obtain ⟨hx, hb, hml, hown, hts⟩ := id S
  have hl : lv_has ls 3 [(0, .ref h0), (1, .ref (ad 4))] := hl
  refine lv_aload_n hx hb dX1_happens_0 rfl (lv_at hl 0 rfl) ?_
  refine lv_iconst (v := 3) hx hb dX1_happens_1 (by decide) ?_
  obtain ⟨y1, e1, h⟩ := ob_s h
  refine MW.callV (q0 := 0) (M_X1_draw hG e1) S (cw_X1_draw hts q1646 ⟨Nat.le_of_ble_eq_true rfl, Nat.le_of_ble_eq_true rfl⟩) hW0 hK hP hD hS hA rfl rfl rfl hl.1 rfl (Nat.le_of_ble_eq_true rfl) dX1_happens_2 ⟨Nat.zero_le _, Nat.zero_le _⟩ (fun H locs hP hD hS => ?_)
  have hP : va_P G.2.1 vwCl (cW h0 ad G.2.2 c_listPoints c_listLines c_refused c_imageRefused c_hasImage c_tape c_taped c_faultPlace c_orbit c_lineFor c_dualities c_polarities c_shortest c_placeX c_placeY c_placeZ c_lies c_firstLies c_worth y1.2 c_now_points c_now_lines c_now_line c_now_x c_now_y c_tried_points c_tried_lines c_tried_line c_tried_x c_tried_y c_imageNow_points c_imageNow_lines c_imageNow_line c_imageNow_x c_imageNow_y) H := hP
  have hD : va_D A (cW h0 ad G.2.2 c_listPoints c_listLines c_refused c_imageRefused c_hasImage c_tape c_taped c_faultPlace c_orbit c_lineFor c_dualities c_polarities c_shortest c_placeX c_placeY c_placeZ c_lies c_firstLies c_worth y1.2 c_now_points c_now_lines c_now_line c_now_x c_now_y c_tried_points c_tried_lines c_tried_line c_tried_x c_tried_y c_imageNow_points c_imageNow_lines c_imageNow_line c_imageNow_x c_imageNow_y) := hD
  refine W.eq (g2 := F0 m 5 ls [.int y1.1]) rfl ?_
  refine lv_iconst (v := 2) hx hb dX1_happens_5 (by decide) ?_
  refine lv_icmp_ne (tgt := 30) hx hb dX1_happens_6 (by decide) (fun c2 => ?_) (fun c2 => ?_)
  · rw [if_neg c2] at h
    refine lv_iconst (v := 1) hx hb dX1_happens_30 (by decide) ?_
    refine lv_aload_n hx hb dX1_happens_31 rfl (lv_at hl 0 rfl) ?_
    refine lv_aload_n hx hb dX1_happens_32 rfl (lv_at hl 1 rfl) ?_
    refine va_getN (ci := 1) (v := .int c_tried_points) (C := RX2) (T := TX2) (N := 5) hx hb hts in_X2 hown hK hP 5 rfl rfl 0 (by decide) (hG.nf hW0 q224) (fun _ h9 => h9) rfl dX1_happens_33 ?_
    obtain ⟨y3, e3, h⟩ := ob_s h
    refine MW.callV (q0 := 0) (M_X1_draw hG e3) S (cw_X1_draw hts q1646 ⟨Nat.le_of_ble_eq_true rfl, Nat.le_of_ble_eq_true rfl⟩) hW0 hK hP hD hS hA rfl rfl rfl hl.1 rfl (Nat.le_of_ble_eq_true rfl) dX1_happens_36 ⟨Nat.zero_le _, Nat.zero_le _⟩ (fun H locs hP hD hS => ?_)
    have hP : va_P G.2.1 vwCl (cW h0 ad G.2.2 c_listPoints c_listLines c_refused c_imageRefused c_hasImage c_tape c_taped c_faultPlace c_orbit c_lineFor c_dualities c_polarities c_shortest c_placeX c_placeY c_placeZ c_lies c_firstLies c_worth y3.2 c_now_points c_now_lines c_now_line c_now_x c_now_y c_tried_points c_tried_lines c_tried_line c_tried_x c_tried_y c_imageNow_points c_imageNow_lines c_imageNow_line c_imageNow_x c_imageNow_y) H := hP
    have hD : va_D A (cW h0 ad G.2.2 c_listPoints c_listLines c_refused c_imageRefused c_hasImage c_tape c_taped c_faultPlace c_orbit c_lineFor c_dualities c_polarities c_shortest c_placeX c_placeY c_placeZ c_lies c_firstLies c_worth y3.2 c_now_points c_now_lines c_now_line c_now_x c_now_y c_tried_points c_tried_lines c_tried_line c_tried_x c_tried_y c_imageNow_points c_imageNow_lines c_imageNow_line c_imageNow_x c_imageNow_y) := hD
    refine W.eq (g2 := F0 m 39 ls [.int y3.1, .int 1]) rfl ?_
    refine lv_ishl hx hb dX1_happens_39 ?_
    refine lv_istore_n (lv' := [(2, .int ((1 : Int32) <<< (y3.1 &&& 31))), (0, .ref h0), (1, .ref (ad 4))]) hx hb dX1_happens_40 rfl hl (by decide) rfl (fun ls hl => ?_)
    refine lv_iload_n hx hb dX1_happens_41 rfl (lv_at hl 0 rfl) ?_
    refine lv_iconst (v := 1) hx hb dX1_happens_42 (by decide) ?_
    refine lv_aload_n hx hb dX1_happens_43 rfl (lv_at hl 1 rfl) ?_
    refine lv_aload_n hx hb dX1_happens_44 rfl (lv_at hl 2 rfl) ?_
    refine va_getN (ci := 1) (v := .int c_tried_points) (C := RX2) (T := TX2) (N := 5) hx hb hts in_X2 hown hK hP 5 rfl rfl 0 (by decide) (hG.nf hW0 q224) (fun _ h9 => h9) rfl dX1_happens_45 ?_
    obtain ⟨y4, e4, h⟩ := ob_s h
    refine MW.callV (q0 := 0) (M_X1_draw hG e4) S (cw_X1_draw hts q1646 ⟨Nat.le_of_ble_eq_true rfl, Nat.le_of_ble_eq_true rfl⟩) hW0 hK hP hD hS hA rfl rfl rfl hl.1 rfl (Nat.le_of_ble_eq_true rfl) dX1_happens_48 ⟨Nat.zero_le _, Nat.zero_le _⟩ (fun H locs hP hD hS => ?_)
    have hP : va_P G.2.1 vwCl (cW h0 ad G.2.2 c_listPoints c_listLines c_refused c_imageRefused c_hasImage c_tape c_taped c_faultPlace c_orbit c_lineFor c_dualities c_polarities c_shortest c_placeX c_placeY c_placeZ c_lies c_firstLies c_worth y4.2 c_now_points c_now_lines c_now_line c_now_x c_now_y c_tried_points c_tried_lines c_tried_line c_tried_x c_tried_y c_imageNow_points c_imageNow_lines c_imageNow_line c_imageNow_x c_imageNow_y) H := hP
    have hD : va_D A (cW h0 ad G.2.2 c_listPoints c_listLines c_refused c_imageRefused c_hasImage c_tape c_taped c_faultPlace c_orbit c_lineFor c_dualities c_polarities c_shortest c_placeX c_placeY c_placeZ c_lies c_firstLies c_worth y4.2 c_now_points c_now_lines c_now_line c_now_x c_now_y c_tried_points c_tried_lines c_tried_line c_tried_x c_tried_y c_imageNow_points c_imageNow_lines c_imageNow_line c_imageNow_x c_imageNow_y) := hD
    refine W.eq (g2 := F0 m 51 ls [.int y4.1, .int 1, .int ((1 : Int32) <<< (y3.1 &&& 31))]) rfl ?_
    refine lv_ishl hx hb dX1_happens_51 ?_
    refine lv_ior hx hb dX1_happens_52 ?_
    refine lv_istore_n (lv' := [(2, .int (((1 : Int32) <<< (y3.1 &&& 31)) ||| ((1 : Int32) <<< (y4.1 &&& 31)))), (0, .ref h0), (1, .ref (ad 4))]) hx hb dX1_happens_53 rfl hl (by decide) rfl (fun ls hl => ?_)
    refine lv_iload_n hx hb dX1_happens_54 rfl (lv_at hl 0 rfl) ?_
    refine lv_iconst (v := 1) hx hb dX1_happens_55 (by decide) ?_
    refine lv_aload_n hx hb dX1_happens_56 rfl (lv_at hl 1 rfl) ?_
    refine lv_aload_n hx hb dX1_happens_57 rfl (lv_at hl 2 rfl) ?_
    refine va_getN (ci := 1) (v := .int c_tried_points) (C := RX2) (T := TX2) (N := 5) hx hb hts in_X2 hown hK hP 5 rfl rfl 0 (by decide) (hG.nf hW0 q224) (fun _ h9 => h9) rfl dX1_happens_58 ?_
    obtain ⟨y5, e5, h⟩ := ob_s h
    refine MW.callV (q0 := 0) (M_X1_draw hG e5) S (cw_X1_draw hts q1646 ⟨Nat.le_of_ble_eq_true rfl, Nat.le_of_ble_eq_true rfl⟩) hW0 hK hP hD hS hA rfl rfl rfl hl.1 rfl (Nat.le_of_ble_eq_true rfl) dX1_happens_61 ⟨Nat.zero_le _, Nat.zero_le _⟩ (fun H locs hP hD hS => ?_)
    have hP : va_P G.2.1 vwCl (cW h0 ad G.2.2 c_listPoints c_listLines c_refused c_imageRefused c_hasImage c_tape c_taped c_faultPlace c_orbit c_lineFor c_dualities c_polarities c_shortest c_placeX c_placeY c_placeZ c_lies c_firstLies c_worth y5.2 c_now_points c_now_lines c_now_line c_now_x c_now_y c_tried_points c_tried_lines c_tried_line c_tried_x c_tried_y c_imageNow_points c_imageNow_lines c_imageNow_line c_imageNow_x c_imageNow_y) H := hP
    have hD : va_D A (cW h0 ad G.2.2 c_listPoints c_listLines c_refused c_imageRefused c_hasImage c_tape c_taped c_faultPlace c_orbit c_lineFor c_dualities c_polarities c_shortest c_placeX c_placeY c_placeZ c_lies c_firstLies c_worth y5.2 c_now_points c_now_lines c_now_line c_now_x c_now_y c_tried_points c_tried_lines c_tried_line c_tried_x c_tried_y c_imageNow_points c_imageNow_lines c_imageNow_line c_imageNow_x c_imageNow_y) := hD
    refine W.eq (g2 := F0 m 64 ls [.int y5.1, .int 1, .int (((1 : Int32) <<< (y3.1 &&& 31)) ||| ((1 : Int32) <<< (y4.1 &&& 31)))]) rfl ?_
    refine lv_ishl hx hb dX1_happens_64 ?_
    refine lv_ior hx hb dX1_happens_65 ?_
    refine lv_istore_n (lv' := [(2, .int ((((1 : Int32) <<< (y3.1 &&& 31)) ||| ((1 : Int32) <<< (y4.1 &&& 31))) ||| ((1 : Int32) <<< (y5.1 &&& 31)))), (0, .ref h0), (1, .ref (ad 4))]) hx hb dX1_happens_66 rfl hl (by decide) rfl (fun ls hl => ?_)
    refine lv_iload_n hx hb dX1_happens_67 rfl (lv_at hl 0 rfl) ?_
    obtain ⟨y6, e6, h⟩ := ob_s h
    refine MR.callS (M_J16_bitCount hG e6) S (cw_J16_bitCount hts q1204 ⟨Nat.le_of_ble_eq_true rfl, Nat.le_of_ble_eq_true rfl⟩) hW0 vaP0 rfl hl.1 rfl (Nat.le_of_ble_eq_true rfl) dX1_happens_68 ⟨Nat.zero_le _, Nat.zero_le _⟩ ?_
    refine lv_iconst (v := 3) hx hb dX1_happens_71 (by decide) ?_
    refine lv_icmp_ne (tgt := 83) hx hb dX1_happens_72 (by decide) (fun c7 => ?_) (fun c7 => ?_)
    · rw [if_neg c7] at h
      refine lv_iconst (v := 0) hx hb dX1_happens_83 (by decide) ?_
      obtain rfl := Option.some.inj h
      exact hreti rfl dX1_happens_84 rfl rfl hP hD hS
    · rw [if_pos c7] at h
      refine lv_aload_n hx hb dX1_happens_75 rfl (lv_at hl 2 rfl) ?_
      refine lv_iload_n hx hb dX1_happens_76 rfl (lv_at hl 0 rfl) ?_
      obtain ⟨y9, e9, h⟩ := ob_s h
      refine MR.callV (q0 := 0) (M_X2_canAdd hG e9) S (cw_X2_canAdd hts q678 ⟨Nat.le_of_ble_eq_true rfl, Nat.le_of_ble_eq_true rfl⟩) hW0 hK (hP.sub (ws' := (sW (ad 4) (fun k => ad (40 + k)) G.2.2 c_tried_points c_tried_lines c_tried_line c_tried_x c_tried_y)) [5, 6, 7, 8] rfl) rfl rfl rfl hl.1 rfl (Nat.le_of_ble_eq_true rfl) dX1_happens_77 ⟨Nat.zero_le _, Nat.zero_le _⟩ ?_
      refine lv_if_ne (tgt := 85) hx hb dX1_happens_80 (by decide) (fun c10 => ?_) (fun c10 => ?_)
      · rw [if_neg c10] at h
        refine lv_aload_n hx hb dX1_happens_85 rfl (lv_at hl 2 rfl) ?_
        refine lv_iload_n hx hb dX1_happens_86 rfl (lv_at hl 0 rfl) ?_
        obtain ⟨y11, e11, h⟩ := ob_s h
        refine MW.callVs (q0 := 0) (wc := (sW (ad 4) (fun k => ad (40 + k)) G.2.2 c_tried_points c_tried_lines c_tried_line c_tried_x c_tried_y)) (M_X2_adds hG e11) S (cw_X2_adds hts q796 ⟨Nat.le_of_ble_eq_true rfl, Nat.le_of_ble_eq_true rfl⟩) hW0 hK hP hD hS hA [5, 6, 7, 8] [0, 1, 2, 3, 4, 9, 10, 11, 12, 13, 14, 15, 16, 17, 18, 19, 20, 21, 22, 23] (wr := [(h0, .inr (0, [.ref (ad 0), .int c_listPoints, .int c_listLines, .ref (ad 3), .ref (ad 4), .ref (ad 5), .ref (ad 6), .ref (ad 7), .ref (ad 8), .ref (ad 9), .ref (ad 10), .ref (ad 11), .int c_hasImage, .ref (ad 13), .int c_taped, .int c_faultPlace, .ref (ad 16), .ref (ad 17), .int c_dualities, .int c_polarities, .int c_shortest, .ref (ad 21), .ref (ad 22), .ref (ad 23), .ref (ad 24), .ref (ad 25), .ref (ad 26), .int y5.2])), ((ad 3), .inr (1, [.int c_now_points, .int c_now_lines, .ref (ad 32), .ref (ad 33), .ref (ad 34)])), ((ad 32), .inl (G.2.2 0, 12, .inl c_now_line)), ((ad 33), .inl (G.2.2 0, 8, .inl c_now_x)), ((ad 34), .inl (G.2.2 0, 8, .inl c_now_y)), ((ad 5), .inr (1, [.int c_imageNow_points, .int c_imageNow_lines, .ref (ad 52), .ref (ad 53), .ref (ad 54)])), ((ad 52), .inl (G.2.2 0, 12, .inl c_imageNow_line)), ((ad 53), .inl (G.2.2 0, 8, .inl c_imageNow_x)), ((ad 54), .inl (G.2.2 0, 8, .inl c_imageNow_y)), ((ad 10), .inl (G.2.2 0, 2, .inl c_refused)), ((ad 11), .inl (G.2.2 0, 2, .inl c_imageRefused)), ((ad 13), .inl (G.2.2 1, 400, .inl c_tape)), ((ad 16), .inl (G.2.2 0, 8, .inl c_orbit)), ((ad 17), .inl (G.2.2 0, 8, .inl c_lineFor)), ((ad 21), .inl (G.2.2 0, 16, .inl c_placeX)), ((ad 22), .inl (G.2.2 0, 16, .inl c_placeY)), ((ad 23), .inl (G.2.2 0, 16, .inl c_placeZ)), ((ad 24), .inl (G.2.2 0, 8, .inl c_lies)), ((ad 25), .inl (G.2.2 0, 8, .inl c_firstLies)), ((ad 26), .inl (G.2.2 0, 65536, .inl c_worth))]) rfl rfl (by decide) (by decide) (by decide) rfl rfl rfl hl.1 rfl (Nat.le_of_ble_eq_true rfl) dX1_happens_87 ⟨Nat.zero_le _, Nat.zero_le _⟩ (fun H locs hP hD hS => ?_)
        have hP := hP.sub (ws' := (cW h0 ad G.2.2 c_listPoints c_listLines c_refused c_imageRefused c_hasImage c_tape c_taped c_faultPlace c_orbit c_lineFor c_dualities c_polarities c_shortest c_placeX c_placeY c_placeZ c_lies c_firstLies c_worth y5.2 c_now_points c_now_lines c_now_line c_now_x c_now_y c_tried_points y11.2 y11.1 c_tried_x c_tried_y c_imageNow_points c_imageNow_lines c_imageNow_line c_imageNow_x c_imageNow_y)) [0, 1, 2, 3, 4, 20, 21, 22, 23, 5, 6, 7, 8, 9, 10, 11, 12, 13, 14, 15, 16, 17, 18, 19] rfl
        have hD := hD.sub (ws' := (cW h0 ad G.2.2 c_listPoints c_listLines c_refused c_imageRefused c_hasImage c_tape c_taped c_faultPlace c_orbit c_lineFor c_dualities c_polarities c_shortest c_placeX c_placeY c_placeZ c_lies c_firstLies c_worth y5.2 c_now_points c_now_lines c_now_line c_now_x c_now_y c_tried_points y11.2 y11.1 c_tried_x c_tried_y c_imageNow_points c_imageNow_lines c_imageNow_line c_imageNow_x c_imageNow_y)) [0, 1, 2, 3, 4, 20, 21, 22, 23, 5, 6, 7, 8, 9, 10, 11, 12, 13, 14, 15, 16, 17, 18, 19] (by decide) rfl
        refine W.eq (g2 := F0 m 90 ls []) rfl ?_
        refine lv_iconst (v := 1) hx hb dX1_happens_90 (by decide) ?_
        obtain rfl := Option.some.inj h
        exact hreti rfl dX1_happens_91 rfl rfl hP hD hS
      · rw [if_pos c10] at h
        refine lv_iconst (v := 0) hx hb dX1_happens_83 (by decide) ?_
        obtain rfl := Option.some.inj h
        exact hreti rfl dX1_happens_84 rfl rfl hP hD hS
  · rw [if_pos c2] at h
    refine lv_aload_n hx hb dX1_happens_9 rfl (lv_at hl 1 rfl) ?_
    refine va_getN (ci := 1) (v := .int c_tried_lines) (C := RX2) (T := TX2) (N := 5) hx hb hts in_X2 hown hK hP 5 rfl rfl 1 (by decide) (hG.nf hW0 q228) (fun _ h9 => h9) rfl dX1_happens_10 ?_
    refine lv_if_le (tgt := 28) hx hb dX1_happens_13 (by decide) (fun c14 => ?_) (fun c14 => ?_)
    · rw [if_pos c14] at h
      refine lv_iconst (v := 0) hx hb dX1_happens_28 (by decide) ?_
      obtain rfl := Option.some.inj h
      exact hreti rfl dX1_happens_29 rfl rfl hP hD hS
    · rw [if_neg c14] at h
      refine lv_aload_n hx hb dX1_happens_16 rfl (lv_at hl 1 rfl) ?_
      refine lv_aload_n hx hb dX1_happens_17 rfl (lv_at hl 0 rfl) ?_
      refine lv_aload_n hx hb dX1_happens_18 rfl (lv_at hl 1 rfl) ?_
      refine va_getN (ci := 1) (v := .int c_tried_lines) (C := RX2) (T := TX2) (N := 5) hx hb hts in_X2 hown hK hP 5 rfl rfl 1 (by decide) (hG.nf hW0 q228) (fun _ h9 => h9) rfl dX1_happens_19 ?_
      obtain ⟨y16, e16, h⟩ := ob_s h
      refine MW.callV (q0 := 0) (M_X1_draw hG e16) S (cw_X1_draw hts q1646 ⟨Nat.le_of_ble_eq_true rfl, Nat.le_of_ble_eq_true rfl⟩) hW0 hK hP hD hS hA rfl rfl rfl hl.1 rfl (Nat.le_of_ble_eq_true rfl) dX1_happens_22 ⟨Nat.zero_le _, Nat.zero_le _⟩ (fun H locs hP hD hS => ?_)
      have hP : va_P G.2.1 vwCl (cW h0 ad G.2.2 c_listPoints c_listLines c_refused c_imageRefused c_hasImage c_tape c_taped c_faultPlace c_orbit c_lineFor c_dualities c_polarities c_shortest c_placeX c_placeY c_placeZ c_lies c_firstLies c_worth y16.2 c_now_points c_now_lines c_now_line c_now_x c_now_y c_tried_points c_tried_lines c_tried_line c_tried_x c_tried_y c_imageNow_points c_imageNow_lines c_imageNow_line c_imageNow_x c_imageNow_y) H := hP
      have hD : va_D A (cW h0 ad G.2.2 c_listPoints c_listLines c_refused c_imageRefused c_hasImage c_tape c_taped c_faultPlace c_orbit c_lineFor c_dualities c_polarities c_shortest c_placeX c_placeY c_placeZ c_lies c_firstLies c_worth y16.2 c_now_points c_now_lines c_now_line c_now_x c_now_y c_tried_points c_tried_lines c_tried_line c_tried_x c_tried_y c_imageNow_points c_imageNow_lines c_imageNow_line c_imageNow_x c_imageNow_y) := hD
      refine W.eq (g2 := F0 m 25 ls [.int y16.1, .ref (ad 4)]) rfl ?_
      obtain ⟨y17, e17, h⟩ := ob_s h
      refine MW.callVs (q0 := 0) (wc := (sW (ad 4) (fun k => ad (40 + k)) G.2.2 c_tried_points c_tried_lines c_tried_line c_tried_x c_tried_y)) (M_X2_drops hG e17) S (cw_X2_drops hts q804 ⟨Nat.le_of_ble_eq_true rfl, Nat.le_of_ble_eq_true rfl⟩) hW0 hK hP hD hS hA [5, 6, 7, 8] [0, 1, 2, 3, 4, 9, 10, 11, 12, 13, 14, 15, 16, 17, 18, 19, 20, 21, 22, 23] (wr := [(h0, .inr (0, [.ref (ad 0), .int c_listPoints, .int c_listLines, .ref (ad 3), .ref (ad 4), .ref (ad 5), .ref (ad 6), .ref (ad 7), .ref (ad 8), .ref (ad 9), .ref (ad 10), .ref (ad 11), .int c_hasImage, .ref (ad 13), .int c_taped, .int c_faultPlace, .ref (ad 16), .ref (ad 17), .int c_dualities, .int c_polarities, .int c_shortest, .ref (ad 21), .ref (ad 22), .ref (ad 23), .ref (ad 24), .ref (ad 25), .ref (ad 26), .int y16.2])), ((ad 3), .inr (1, [.int c_now_points, .int c_now_lines, .ref (ad 32), .ref (ad 33), .ref (ad 34)])), ((ad 32), .inl (G.2.2 0, 12, .inl c_now_line)), ((ad 33), .inl (G.2.2 0, 8, .inl c_now_x)), ((ad 34), .inl (G.2.2 0, 8, .inl c_now_y)), ((ad 5), .inr (1, [.int c_imageNow_points, .int c_imageNow_lines, .ref (ad 52), .ref (ad 53), .ref (ad 54)])), ((ad 52), .inl (G.2.2 0, 12, .inl c_imageNow_line)), ((ad 53), .inl (G.2.2 0, 8, .inl c_imageNow_x)), ((ad 54), .inl (G.2.2 0, 8, .inl c_imageNow_y)), ((ad 10), .inl (G.2.2 0, 2, .inl c_refused)), ((ad 11), .inl (G.2.2 0, 2, .inl c_imageRefused)), ((ad 13), .inl (G.2.2 1, 400, .inl c_tape)), ((ad 16), .inl (G.2.2 0, 8, .inl c_orbit)), ((ad 17), .inl (G.2.2 0, 8, .inl c_lineFor)), ((ad 21), .inl (G.2.2 0, 16, .inl c_placeX)), ((ad 22), .inl (G.2.2 0, 16, .inl c_placeY)), ((ad 23), .inl (G.2.2 0, 16, .inl c_placeZ)), ((ad 24), .inl (G.2.2 0, 8, .inl c_lies)), ((ad 25), .inl (G.2.2 0, 8, .inl c_firstLies)), ((ad 26), .inl (G.2.2 0, 65536, .inl c_worth))]) rfl rfl (by decide) (by decide) (by decide) rfl rfl rfl hl.1 rfl (Nat.le_of_ble_eq_true rfl) dX1_happens_25 ⟨Nat.zero_le _, Nat.zero_le _⟩ (fun H locs hP hD hS => ?_)
      have hP := hP.sub (ws' := (cW h0 ad G.2.2 c_listPoints c_listLines c_refused c_imageRefused c_hasImage c_tape c_taped c_faultPlace c_orbit c_lineFor c_dualities c_polarities c_shortest c_placeX c_placeY c_placeZ c_lies c_firstLies c_worth y16.2 c_now_points c_now_lines c_now_line c_now_x c_now_y c_tried_points y17.2 y17.1 c_tried_x c_tried_y c_imageNow_points c_imageNow_lines c_imageNow_line c_imageNow_x c_imageNow_y)) [0, 1, 2, 3, 4, 20, 21, 22, 23, 5, 6, 7, 8, 9, 10, 11, 12, 13, 14, 15, 16, 17, 18, 19] rfl
      have hD := hD.sub (ws' := (cW h0 ad G.2.2 c_listPoints c_listLines c_refused c_imageRefused c_hasImage c_tape c_taped c_faultPlace c_orbit c_lineFor c_dualities c_polarities c_shortest c_placeX c_placeY c_placeZ c_lies c_firstLies c_worth y16.2 c_now_points c_now_lines c_now_line c_now_x c_now_y c_tried_points y17.2 y17.1 c_tried_x c_tried_y c_imageNow_points c_imageNow_lines c_imageNow_line c_imageNow_x c_imageNow_y)) [0, 1, 2, 3, 4, 20, 21, 22, 23, 5, 6, 7, 8, 9, 10, 11, 12, 13, 14, 15, 16, 17, 18, 19] (by decide) rfl
      refine W.eq (g2 := F0 m 28 ls []) rfl ?_
      refine lv_iconst (v := 0) hx hb dX1_happens_28 (by decide) ?_
      obtain rfl := Option.some.inj h
      exact hreti rfl dX1_happens_29 rfl rfl hP hD hS
