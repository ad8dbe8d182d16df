set_option maxRecDepth 100000
set_option linter.unusedVariables false
def F_X3_place (N : Nat) (v1 : Int32) (v2 : Int32) (v3 : Int32) (c_now : (Nat → Int32)) (c_status : (Nat → Int32)) (c_past : (Nat → Int32)) (c_code : Int32) (c_acts : Int32) : Option (Int32 × (Nat → Int32) × (Nat → Int32) × (Nat → Int32) × Int32 × Int32) := ((F_X3_isPoint N v1 c_now).bind fun y1 => (if y1 = 0 then ((F_X3_refused N c_status).bind fun y3 => (ckP (y3.1 &&& 1 = y3.1) ((some (y3.1, c_now, y3.2, c_past, 0, c_acts))))) else ((F_X3_isIn N v2 (-9) 9).bind fun y6 => (if y6 = 0 then ((F_X3_refused N c_status).bind fun y8 => (ckP (y8.1 &&& 1 = y8.1) ((some (y8.1, c_now, y8.2, c_past, 0, c_acts))))) else ((F_X3_isIn N v3 (-9) 9).bind fun y11 => (if y11 = 0 then ((F_X3_refused N c_status).bind fun y17 => (ckP (y17.1 &&& 1 = y17.1) ((some (y17.1, c_now, y17.2, c_past, 0, c_acts))))) else ((F_X3_keep N c_now c_past c_acts).bind fun y13 => (ckI ((14 : Int32) + v1) 154 (ckI ((22 : Int32) + v1) 154 (some (1, (upd (upd c_now (Int32.toNatClampNeg ((14 : Int32) + v1)) v2) (Int32.toNatClampNeg ((22 : Int32) + v1)) v3), c_status, y13.1, 0, y13.2)))))))))))
theorem cw_X3_place {R : Room} {s : State} {args : Array Value} {own : String} {index lev mc ms : Nat} (hts : ∀ w ∈ lw_all, w.before args s = true) (hl : Cond.methodLink own index yX3_place ∈ lw_all) (hR : (rmL lev mc ms).frames + 1 ≤ R.frames ∧ 8 + (4 + 11) + (rmL lev mc ms).locals ≤ R.locals) : CallW R s args own RX3 index yX3_place cX3_place 4 (some .boolean) (ws_ yX3_place cX3_place 4 (some .boolean)) (rmL lev mc ms) mc ms 3 := cwV 3 hts (lw_V hl q2187 q2188 q172 q2189) rfl rfl rfl (by decide +kernel) hR
set_option maxHeartbeats 4000000 in
theorem M_X3_place {l : Launch} {G : GE} (hG : GC G) {N : Nat} {h0 : Nat} {ad : Nat → Nat} {c_read : (Nat → Int32)} {c_tape : (Nat → Int32)} {c_taped : Int32} {c_at : Int32} {c_textSize : Int32} {c_token : Int32} {c_number : Int32} {c_begins : Int32} {c_stops : Int32} {c_bad : Int32} {c_badPlace : Int32} {c_faultPlace : Int32} {c_clauses : Int32} {c_naming : (Nat → Int32)} {c_lineBy : (Nat → Int32)} {c_becomes : (Nat → Int32)} {c_dualLines : (Nat → Int32)} {c_on : (Nat → Int32)} {c_rowNow : (Nat → Int32)} {c_least : (Nat → Int32)} {c_wayFirst : (Nat → Int32)} {c_ways : Int32} {c_listPoints : Int32} {c_listLines : Int32} {c_listed : Int32} {c_list : (Nat → Int32)} {c_path : (Nat → Int32)} {c_places : (Nat → Int32)} {c_firstPlaces : (Nat → Int32)} {c_px : (Nat → Int32)} {c_py : (Nat → Int32)} {c_pz : (Nat → Int32)} {c_placeMany : Int32} {c_modulus : Int32} {c_drawn : Int32} {c_halvesMany : Int32} {c_halvesFirst : Int32} {c_spreadsMany : Int32} {c_spreadsFirst : Int32} {c_comesTo : (Nat → Int32)} {c_seedNow : Int32} {c_rowThen : (Nat → Int32)} {c_hasImage : Int32} {c_actsThen : Int32} {c_imageRow : (Nat → Int32)} {c_pastThen : (Nat → Int32)} {c_statusThen : (Nat → Int32)} {v1 : Int32} {v2 : Int32} {v3 : Int32} {c_now : (Nat → Int32)} {c_status : (Nat → Int32)} {c_past : (Nat → Int32)} {c_code : Int32} {c_acts : Int32} {ρ : (Int32 × (Nat → Int32) × (Nat → Int32) × (Nat → Int32) × Int32 × Int32)} (h : F_X3_place N v1 v2 v3 c_now c_status c_past c_code c_acts = some ρ) : MW l G yX3_place cX3_place 4 (some .boolean) 3 (mW h0 ad G.2.2 c_code c_now c_read c_status c_tape c_taped c_at c_textSize c_token c_number c_begins c_stops c_bad c_badPlace c_faultPlace c_clauses c_naming c_lineBy c_becomes c_dualLines c_on c_rowNow c_least c_wayFirst c_ways c_acts c_past c_listPoints c_listLines c_listed c_list c_path c_places c_firstPlaces c_px c_py c_pz c_placeMany c_modulus c_drawn c_halvesMany c_halvesFirst c_spreadsMany c_spreadsFirst c_comesTo c_seedNow c_rowThen c_hasImage c_actsThen c_imageRow c_pastThen c_statusThen) [.ref h0, .int v1, .int v2, .int v3] (some (.int ρ.1)) (mW h0 ad G.2.2 ρ.2.2.2.2.1 ρ.2.1 c_read ρ.2.2.1 c_tape c_taped c_at c_textSize c_token c_number c_begins c_stops c_bad c_badPlace c_faultPlace c_clauses c_naming c_lineBy c_becomes c_dualLines c_on c_rowNow c_least c_wayFirst c_ways ρ.2.2.2.2.2 ρ.2.2.2.1 c_listPoints c_listLines c_listed c_list c_path c_places c_firstPlaces c_px c_py c_pz c_placeMany c_modulus c_drawn c_halvesMany c_halvesFirst c_spreadsMany c_spreadsFirst c_comesTo c_seedNow c_rowThen c_hasImage c_actsThen c_imageRow c_pastThen c_statusThen) := by
  rw [F_X3_place] at h
  refine MW.start hG (by decide) (Nat.le_of_ble_eq_true rfl) ?_
  intro p e s m args below meth c Q A S hW0 hK hP hD hA hreti hretv ls hl
  have hS : va_S A s.heap s.heap [] := va_S.rf
  obtain ⟨hx, hb, hml, hown, hts⟩ := id S
  have hl : lv_has ls 4 [(0, .ref h0), (1, .int v1), (2, .int v2), (3, .int v3)] := hl
  refine lv_aload_n hx hb dX3_place_0 rfl (lv_at hl 0 rfl) ?_
  refine lv_iconst (v := 0) hx hb dX3_place_1 (by decide) ?_
  refine va_put (ci := 2) (v := .int 0) (ty := .int) (C := RX3) (T := TX3) (N := 52) hx hb hts in_X3 tyX3 tyX3_ok nmX3 hown hK hP hD hS 0 rfl rfl 0 (by decide) (hts _ q1658) (fun _ h9 => h9) rfl (by decide +kernel) rfl rfl (Nat.le_of_ble_eq_true rfl) dX3_place_2 (fun H locs hP hD hS => ?_)
  have hP : va_P G.2.1 vwCl (mW h0 ad G.2.2 0 c_now c_read c_status c_tape c_taped c_at c_textSize c_token c_number c_begins c_stops c_bad c_badPlace c_faultPlace c_clauses c_naming c_lineBy c_becomes c_dualLines c_on c_rowNow c_least c_wayFirst c_ways c_acts c_past c_listPoints c_listLines c_listed c_list c_path c_places c_firstPlaces c_px c_py c_pz c_placeMany c_modulus c_drawn c_halvesMany c_halvesFirst c_spreadsMany c_spreadsFirst c_comesTo c_seedNow c_rowThen c_hasImage c_actsThen c_imageRow c_pastThen c_statusThen) H := hP
  have hD : va_D A (mW h0 ad G.2.2 0 c_now c_read c_status c_tape c_taped c_at c_textSize c_token c_number c_begins c_stops c_bad c_badPlace c_faultPlace c_clauses c_naming c_lineBy c_becomes c_dualLines c_on c_rowNow c_least c_wayFirst c_ways c_acts c_past c_listPoints c_listLines c_listed c_list c_path c_places c_firstPlaces c_px c_py c_pz c_placeMany c_modulus c_drawn c_halvesMany c_halvesFirst c_spreadsMany c_spreadsFirst c_comesTo c_seedNow c_rowThen c_hasImage c_actsThen c_imageRow c_pastThen c_statusThen) := hD
  refine lv_aload_n hx hb dX3_place_5 rfl (lv_at hl 0 rfl) ?_
  refine lv_iload_n hx hb dX3_place_6 rfl (lv_at hl 1 rfl) ?_
  obtain ⟨y1, e1, h⟩ := ob_s h
  refine MR.callV (q0 := 0) (M_X3_isPoint hG e1) S (cw_X3_isPoint hts q2068 ⟨Nat.le_of_ble_eq_true rfl, Nat.le_of_ble_eq_true rfl⟩) hW0 hK hP rfl rfl rfl hl.1 rfl (Nat.le_of_ble_eq_true rfl) dX3_place_7 ⟨Nat.zero_le _, Nat.zero_le _⟩ ?_
  refine lv_if_eq (tgt := 35) hx hb dX3_place_10 (by decide) (fun c2 => ?_) (fun c2 => ?_)
  · rw [if_pos c2] at h
    refine lv_aload_n hx hb dX3_place_35 rfl (lv_at hl 0 rfl) ?_
    obtain ⟨y3, e3, h⟩ := ob_s h
    refine MW.callV (q0 := 0) (M_X3_refused hG e3) S (cw_X3_refused hts q2170 ⟨Nat.le_of_ble_eq_true rfl, Nat.le_of_ble_eq_true rfl⟩) hW0 hK hP hD hS hA rfl rfl rfl hl.1 rfl (Nat.le_of_ble_eq_true rfl) dX3_place_36 ⟨Nat.zero_le _, Nat.zero_le _⟩ (fun H locs hP hD hS => ?_)
    have hP : va_P G.2.1 vwCl (mW h0 ad G.2.2 0 c_now c_read y3.2 c_tape c_taped c_at c_textSize c_token c_number c_begins c_stops c_bad c_badPlace c_faultPlace c_clauses c_naming c_lineBy c_becomes c_dualLines c_on c_rowNow c_least c_wayFirst c_ways c_acts c_past c_listPoints c_listLines c_listed c_list c_path c_places c_firstPlaces c_px c_py c_pz c_placeMany c_modulus c_drawn c_halvesMany c_halvesFirst c_spreadsMany c_spreadsFirst c_comesTo c_seedNow c_rowThen c_hasImage c_actsThen c_imageRow c_pastThen c_statusThen) H := hP
    have hD : va_D A (mW h0 ad G.2.2 0 c_now c_read y3.2 c_tape c_taped c_at c_textSize c_token c_number c_begins c_stops c_bad c_badPlace c_faultPlace c_clauses c_naming c_lineBy c_becomes c_dualLines c_on c_rowNow c_least c_wayFirst c_ways c_acts c_past c_listPoints c_listLines c_listed c_list c_path c_places c_firstPlaces c_px c_py c_pz c_placeMany c_modulus c_drawn c_halvesMany c_halvesFirst c_spreadsMany c_spreadsFirst c_comesTo c_seedNow c_rowThen c_hasImage c_actsThen c_imageRow c_pastThen c_statusThen) := hD
    refine W.eq (g2 := F0 m 39 ls [.int y3.1]) rfl ?_
    obtain ⟨i5, h⟩ := ckP_s h
    obtain rfl := Option.some.inj h
    exact hreti rfl dX3_place_39 (nz_of i5) rfl hP hD hS
  · rw [if_neg c2] at h
    refine lv_iload_n hx hb dX3_place_13 rfl (lv_at hl 2 rfl) ?_
    refine lv_bipush (v := (-9)) hx hb dX3_place_14 (by decide) ?_
    refine lv_bipush (v := 9) hx hb dX3_place_16 (by decide) ?_
    obtain ⟨y6, e6, h⟩ := ob_s h
    refine MR.callS (M_X3_isIn hG e6) S (cw_X3_isIn hts q2061 ⟨Nat.le_of_ble_eq_true rfl, Nat.le_of_ble_eq_true rfl⟩) hW0 vaP0 rfl hl.1 rfl (Nat.le_of_ble_eq_true rfl) dX3_place_18 ⟨Nat.zero_le _, Nat.zero_le _⟩ ?_
    refine lv_if_eq (tgt := 35) hx hb dX3_place_21 (by decide) (fun c7 => ?_) (fun c7 => ?_)
    · rw [if_pos c7] at h
      refine lv_aload_n hx hb dX3_place_35 rfl (lv_at hl 0 rfl) ?_
      obtain ⟨y8, e8, h⟩ := ob_s h
      refine MW.callV (q0 := 0) (M_X3_refused hG e8) S (cw_X3_refused hts q2170 ⟨Nat.le_of_ble_eq_true rfl, Nat.le_of_ble_eq_true rfl⟩) hW0 hK hP hD hS hA rfl rfl rfl hl.1 rfl (Nat.le_of_ble_eq_true rfl) dX3_place_36 ⟨Nat.zero_le _, Nat.zero_le _⟩ (fun H locs hP hD hS => ?_)
      have hP : va_P G.2.1 vwCl (mW h0 ad G.2.2 0 c_now c_read y8.2 c_tape c_taped c_at c_textSize c_token c_number c_begins c_stops c_bad c_badPlace c_faultPlace c_clauses c_naming c_lineBy c_becomes c_dualLines c_on c_rowNow c_least c_wayFirst c_ways c_acts c_past c_listPoints c_listLines c_listed c_list c_path c_places c_firstPlaces c_px c_py c_pz c_placeMany c_modulus c_drawn c_halvesMany c_halvesFirst c_spreadsMany c_spreadsFirst c_comesTo c_seedNow c_rowThen c_hasImage c_actsThen c_imageRow c_pastThen c_statusThen) H := hP
      have hD : va_D A (mW h0 ad G.2.2 0 c_now c_read y8.2 c_tape c_taped c_at c_textSize c_token c_number c_begins c_stops c_bad c_badPlace c_faultPlace c_clauses c_naming c_lineBy c_becomes c_dualLines c_on c_rowNow c_least c_wayFirst c_ways c_acts c_past c_listPoints c_listLines c_listed c_list c_path c_places c_firstPlaces c_px c_py c_pz c_placeMany c_modulus c_drawn c_halvesMany c_halvesFirst c_spreadsMany c_spreadsFirst c_comesTo c_seedNow c_rowThen c_hasImage c_actsThen c_imageRow c_pastThen c_statusThen) := hD
      refine W.eq (g2 := F0 m 39 ls [.int y8.1]) rfl ?_
      obtain ⟨i10, h⟩ := ckP_s h
      obtain rfl := Option.some.inj h
      exact hreti rfl dX3_place_39 (nz_of i10) rfl hP hD hS
    · rw [if_neg c7] at h
      refine lv_iload_n hx hb dX3_place_24 rfl (lv_at hl 3 rfl) ?_
      refine lv_bipush (v := (-9)) hx hb dX3_place_25 (by decide) ?_
      refine lv_bipush (v := 9) hx hb dX3_place_27 (by decide) ?_
      obtain ⟨y11, e11, h⟩ := ob_s h
      refine MR.callS (M_X3_isIn hG e11) S (cw_X3_isIn hts q2061 ⟨Nat.le_of_ble_eq_true rfl, Nat.le_of_ble_eq_true rfl⟩) hW0 vaP0 rfl hl.1 rfl (Nat.le_of_ble_eq_true rfl) dX3_place_29 ⟨Nat.zero_le _, Nat.zero_le _⟩ ?_
      refine lv_if_ne (tgt := 40) hx hb dX3_place_32 (by decide) (fun c12 => ?_) (fun c12 => ?_)
      · rw [if_neg c12] at h
        refine lv_aload_n hx hb dX3_place_40 rfl (lv_at hl 0 rfl) ?_
        obtain ⟨y13, e13, h⟩ := ob_s h
        refine MW.callV (q0 := 0) (M_X3_keep hG e13) S (cw_X3_keep hts q2150 ⟨Nat.le_of_ble_eq_true rfl, Nat.le_of_ble_eq_true rfl⟩) hW0 hK hP hD hS hA rfl rfl rfl hl.1 rfl (Nat.le_of_ble_eq_true rfl) dX3_place_41 ⟨Nat.zero_le _, Nat.zero_le _⟩ (fun H locs hP hD hS => ?_)
        have hP : va_P G.2.1 vwCl (mW h0 ad G.2.2 0 c_now c_read c_status c_tape c_taped c_at c_textSize c_token c_number c_begins c_stops c_bad c_badPlace c_faultPlace c_clauses c_naming c_lineBy c_becomes c_dualLines c_on c_rowNow c_least c_wayFirst c_ways y13.2 y13.1 c_listPoints c_listLines c_listed c_list c_path c_places c_firstPlaces c_px c_py c_pz c_placeMany c_modulus c_drawn c_halvesMany c_halvesFirst c_spreadsMany c_spreadsFirst c_comesTo c_seedNow c_rowThen c_hasImage c_actsThen c_imageRow c_pastThen c_statusThen) H := hP
        have hD : va_D A (mW h0 ad G.2.2 0 c_now c_read c_status c_tape c_taped c_at c_textSize c_token c_number c_begins c_stops c_bad c_badPlace c_faultPlace c_clauses c_naming c_lineBy c_becomes c_dualLines c_on c_rowNow c_least c_wayFirst c_ways y13.2 y13.1 c_listPoints c_listLines c_listed c_list c_path c_places c_firstPlaces c_px c_py c_pz c_placeMany c_modulus c_drawn c_halvesMany c_halvesFirst c_spreadsMany c_spreadsFirst c_comesTo c_seedNow c_rowThen c_hasImage c_actsThen c_imageRow c_pastThen c_statusThen) := hD
        refine W.eq (g2 := F0 m 44 ls []) rfl ?_
        refine lv_aload_n hx hb dX3_place_44 rfl (lv_at hl 0 rfl) ?_
        refine va_get (ci := 2) (v := .ref (ad 1)) (C := RX3) (T := TX3) (N := 52) hx hb hts in_X3 hown hK hP 0 rfl rfl 1 (by decide) (hts _ q1659) (fun _ h9 => h9) rfl dX3_place_45 ?_
        refine lv_bipush (v := 14) hx hb dX3_place_48 (by decide) ?_
        refine lv_iload_n hx hb dX3_place_50 rfl (lv_at hl 1 rfl) ?_
        refine lv_iadd hx hb dX3_place_51 ?_
        refine lv_iload_n hx hb dX3_place_52 rfl (lv_at hl 2 rfl) ?_
        obtain ⟨i14, h⟩ := ckI_s h
        refine va_iast (f := c_now) hx hb hK hP hD hS 1 0 rfl rfl i14 dX3_place_53 (fun H locs hP hD hS => ?_)
        have hP : va_P G.2.1 vwCl (mW h0 ad G.2.2 0 (upd c_now (Int32.toNatClampNeg ((14 : Int32) + v1)) v2) c_read c_status c_tape c_taped c_at c_textSize c_token c_number c_begins c_stops c_bad c_badPlace c_faultPlace c_clauses c_naming c_lineBy c_becomes c_dualLines c_on c_rowNow c_least c_wayFirst c_ways y13.2 y13.1 c_listPoints c_listLines c_listed c_list c_path c_places c_firstPlaces c_px c_py c_pz c_placeMany c_modulus c_drawn c_halvesMany c_halvesFirst c_spreadsMany c_spreadsFirst c_comesTo c_seedNow c_rowThen c_hasImage c_actsThen c_imageRow c_pastThen c_statusThen) H := hP
        have hD : va_D A (mW h0 ad G.2.2 0 (upd c_now (Int32.toNatClampNeg ((14 : Int32) + v1)) v2) c_read c_status c_tape c_taped c_at c_textSize c_token c_number c_begins c_stops c_bad c_badPlace c_faultPlace c_clauses c_naming c_lineBy c_becomes c_dualLines c_on c_rowNow c_least c_wayFirst c_ways y13.2 y13.1 c_listPoints c_listLines c_listed c_list c_path c_places c_firstPlaces c_px c_py c_pz c_placeMany c_modulus c_drawn c_halvesMany c_halvesFirst c_spreadsMany c_spreadsFirst c_comesTo c_seedNow c_rowThen c_hasImage c_actsThen c_imageRow c_pastThen c_statusThen) := hD
        refine lv_aload_n hx hb dX3_place_54 rfl (lv_at hl 0 rfl) ?_
        refine va_get (ci := 2) (v := .ref (ad 1)) (C := RX3) (T := TX3) (N := 52) hx hb hts in_X3 hown hK hP 0 rfl rfl 1 (by decide) (hts _ q1659) (fun _ h9 => h9) rfl dX3_place_55 ?_
        refine lv_bipush (v := 22) hx hb dX3_place_58 (by decide) ?_
        refine lv_iload_n hx hb dX3_place_60 rfl (lv_at hl 1 rfl) ?_
        refine lv_iadd hx hb dX3_place_61 ?_
        refine lv_iload_n hx hb dX3_place_62 rfl (lv_at hl 3 rfl) ?_
        obtain ⟨i15, h⟩ := ckI_s h
        refine va_iast (f := (upd c_now (Int32.toNatClampNeg ((14 : Int32) + v1)) v2)) hx hb hK hP hD hS 1 0 rfl rfl i15 dX3_place_63 (fun H locs hP hD hS => ?_)
        have hP : va_P G.2.1 vwCl (mW h0 ad G.2.2 0 (upd (upd c_now (Int32.toNatClampNeg ((14 : Int32) + v1)) v2) (Int32.toNatClampNeg ((22 : Int32) + v1)) v3) c_read c_status c_tape c_taped c_at c_textSize c_token c_number c_begins c_stops c_bad c_badPlace c_faultPlace c_clauses c_naming c_lineBy c_becomes c_dualLines c_on c_rowNow c_least c_wayFirst c_ways y13.2 y13.1 c_listPoints c_listLines c_listed c_list c_path c_places c_firstPlaces c_px c_py c_pz c_placeMany c_modulus c_drawn c_halvesMany c_halvesFirst c_spreadsMany c_spreadsFirst c_comesTo c_seedNow c_rowThen c_hasImage c_actsThen c_imageRow c_pastThen c_statusThen) H := hP
        have hD : va_D A (mW h0 ad G.2.2 0 (upd (upd c_now (Int32.toNatClampNeg ((14 : Int32) + v1)) v2) (Int32.toNatClampNeg ((22 : Int32) + v1)) v3) c_read c_status c_tape c_taped c_at c_textSize c_token c_number c_begins c_stops c_bad c_badPlace c_faultPlace c_clauses c_naming c_lineBy c_becomes c_dualLines c_on c_rowNow c_least c_wayFirst c_ways y13.2 y13.1 c_listPoints c_listLines c_listed c_list c_path c_places c_firstPlaces c_px c_py c_pz c_placeMany c_modulus c_drawn c_halvesMany c_halvesFirst c_spreadsMany c_spreadsFirst c_comesTo c_seedNow c_rowThen c_hasImage c_actsThen c_imageRow c_pastThen c_statusThen) := hD
        refine lv_iconst (v := 1) hx hb dX3_place_64 (by decide) ?_
        obtain rfl := Option.some.inj h
        exact hreti rfl dX3_place_65 rfl rfl hP hD hS
      · rw [if_pos c12] at h
        refine lv_aload_n hx hb dX3_place_35 rfl (lv_at hl 0 rfl) ?_
        obtain ⟨y17, e17, h⟩ := ob_s h
        refine MW.callV (q0 := 0) (M_X3_refused hG e17) S (cw_X3_refused hts q2170 ⟨Nat.le_of_ble_eq_true rfl, Nat.le_of_ble_eq_true rfl⟩) hW0 hK hP hD hS hA rfl rfl rfl hl.1 rfl (Nat.le_of_ble_eq_true rfl) dX3_place_36 ⟨Nat.zero_le _, Nat.zero_le _⟩ (fun H locs hP hD hS => ?_)
        have hP : va_P G.2.1 vwCl (mW h0 ad G.2.2 0 c_now c_read y17.2 c_tape c_taped c_at c_textSize c_token c_number c_begins c_stops c_bad c_badPlace c_faultPlace c_clauses c_naming c_lineBy c_becomes c_dualLines c_on c_rowNow c_least c_wayFirst c_ways c_acts c_past c_listPoints c_listLines c_listed c_list c_path c_places c_firstPlaces c_px c_py c_pz c_placeMany c_modulus c_drawn c_halvesMany c_halvesFirst c_spreadsMany c_spreadsFirst c_comesTo c_seedNow c_rowThen c_hasImage c_actsThen c_imageRow c_pastThen c_statusThen) H := hP
        have hD : va_D A (mW h0 ad G.2.2 0 c_now c_read y17.2 c_tape c_taped c_at c_textSize c_token c_number c_begins c_stops c_bad c_badPlace c_faultPlace c_clauses c_naming c_lineBy c_becomes c_dualLines c_on c_rowNow c_least c_wayFirst c_ways c_acts c_past c_listPoints c_listLines c_listed c_list c_path c_places c_firstPlaces c_px c_py c_pz c_placeMany c_modulus c_drawn c_halvesMany c_halvesFirst c_spreadsMany c_spreadsFirst c_comesTo c_seedNow c_rowThen c_hasImage c_actsThen c_imageRow c_pastThen c_statusThen) := hD
        refine W.eq (g2 := F0 m 39 ls [.int y17.1]) rfl ?_
        obtain ⟨i19, h⟩ := ckP_s h
        obtain rfl := Option.some.inj h
        exact hreti rfl dX3_place_39 (nz_of i19) rfl hP hD hS
def F_X3_put_45 (N : Nat) (v1 : Int32) (v2 : Int32) (c_status : (Nat → Int32)) (c_past : (Nat → Int32)) (c_code : Int32) (c_acts : Int32) : Nat → Int32 → (Nat → Int32) → Option (Int32 × (Nat → Int32) × (Nat → Int32) × (Nat → Int32) × Int32 × Int32)
  | 0, _, _ => none
  | n + 1, v3, c_now => (if 30 ≤ v3 then (some (v2, c_now, c_status, c_past, c_code, c_acts)) else ((F_X3_shelfAt N v1).bind fun y10 => (ckI v3 154 (ckI ((y10 + (1 : Int32)) + v3) 154 (F_X3_put_45 N v1 v2 c_status c_past c_code c_acts n (v3 + 1) (upd c_now (Int32.toNatClampNeg ((y10 + (1 : Int32)) + v3)) (c_now (Int32.toNatClampNeg v3))))))))
def F_X3_put (N : Nat) (v1 : Int32) (c_now : (Nat → Int32)) (c_status : (Nat → Int32)) (c_past : (Nat → Int32)) (c_code : Int32) (c_acts : Int32) : Option (Int32 × (Nat → Int32) × (Nat → Int32) × (Nat → Int32) × Int32 × Int32) := ((F_X3_isIn N v1 0 3).bind fun y1 => (if y1 = 0 then ((F_X3_refuse N c_status).bind fun y13 => (some (y13.1, c_now, y13.2, c_past, 0, c_acts))) else ((F_X3_keep N c_now c_past c_acts).bind fun y3 => ((F_X3_shelfAt N v1).bind fun y4 => (ckI y4 154 ((F_X3_shelfAt N v1).bind fun y6 => (ckI y6 154 (F_X3_put_45 N v1 (c_now (Int32.toNatClampNeg y4)) c_status y3.1 0 y3.2 N 0 (upd c_now (Int32.toNatClampNeg y6) 1)))))))))
theorem cw_X3_put {R : Room} {s : State} {args : Array Value} {own : String} {index lev mc ms : Nat} (hts : ∀ w ∈ lw_all, w.before args s = true) (hl : Cond.methodLink own index yX3_put ∈ lw_all) (hR : (rmL lev mc ms).frames + 1 ≤ R.frames ∧ 8 + (4 + 11) + (rmL lev mc ms).locals ≤ R.locals) : CallW R s args own RX3 index yX3_put cX3_put 4 (some .int) (ws_ yX3_put cX3_put 4 (some .int)) (rmL lev mc ms) mc ms 1 := cwV 1 hts (lw_V hl q2191 q2192 q172 q2193) rfl rfl rfl (by decide +kernel) hR
set_option maxHeartbeats 4000000 in
theorem M_X3_put {l : Launch} {G : GE} (hG : GC G) {N : Nat} {h0 : Nat} {ad : Nat → Nat} {c_read : (Nat → Int32)} {c_tape : (Nat → Int32)} {c_taped : Int32} {c_at : Int32} {c_textSize : Int32} {c_token : Int32} {c_number : Int32} {c_begins : Int32} {c_stops : Int32} {c_bad : Int32} {c_badPlace : Int32} {c_faultPlace : Int32} {c_clauses : Int32} {c_naming : (Nat → Int32)} {c_lineBy : (Nat → Int32)} {c_becomes : (Nat → Int32)} {c_dualLines : (Nat → Int32)} {c_on : (Nat → Int32)} {c_rowNow : (Nat → Int32)} {c_least : (Nat → Int32)} {c_wayFirst : (Nat → Int32)} {c_ways : Int32} {c_listPoints : Int32} {c_listLines : Int32} {c_listed : Int32} {c_list : (Nat → Int32)} {c_path : (Nat → Int32)} {c_places : (Nat → Int32)} {c_firstPlaces : (Nat → Int32)} {c_px : (Nat → Int32)} {c_py : (Nat → Int32)} {c_pz : (Nat → Int32)} {c_placeMany : Int32} {c_modulus : Int32} {c_drawn : Int32} {c_halvesMany : Int32} {c_halvesFirst : Int32} {c_spreadsMany : Int32} {c_spreadsFirst : Int32} {c_comesTo : (Nat → Int32)} {c_seedNow : Int32} {c_rowThen : (Nat → Int32)} {c_hasImage : Int32} {c_actsThen : Int32} {c_imageRow : (Nat → Int32)} {c_pastThen : (Nat → Int32)} {c_statusThen : (Nat → Int32)} {v1 : Int32} {c_now : (Nat → Int32)} {c_status : (Nat → Int32)} {c_past : (Nat → Int32)} {c_code : Int32} {c_acts : Int32} {ρ : (Int32 × (Nat → Int32) × (Nat → Int32) × (Nat → Int32) × Int32 × Int32)} (h : F_X3_put N v1 c_now c_status c_past c_code c_acts = some ρ) : MW l G yX3_put cX3_put 4 (some .int) 2 (mW h0 ad G.2.2 c_code c_now c_read c_status c_tape c_taped c_at c_textSize c_token c_number c_begins c_stops c_bad c_badPlace c_faultPlace c_clauses c_naming c_lineBy c_becomes c_dualLines c_on c_rowNow c_least c_wayFirst c_ways c_acts c_past c_listPoints c_listLines c_listed c_list c_path c_places c_firstPlaces c_px c_py c_pz c_placeMany c_modulus c_drawn c_halvesMany c_halvesFirst c_spreadsMany c_spreadsFirst c_comesTo c_seedNow c_rowThen c_hasImage c_actsThen c_imageRow c_pastThen c_statusThen) [.ref h0, .int v1] (some (.int ρ.1)) (mW h0 ad G.2.2 ρ.2.2.2.2.1 ρ.2.1 c_read ρ.2.2.1 c_tape c_taped c_at c_textSize c_token c_number c_begins c_stops c_bad c_badPlace c_faultPlace c_clauses c_naming c_lineBy c_becomes c_dualLines c_on c_rowNow c_least c_wayFirst c_ways ρ.2.2.2.2.2 ρ.2.2.2.1 c_listPoints c_listLines c_listed c_list c_path c_places c_firstPlaces c_px c_py c_pz c_placeMany c_modulus c_drawn c_halvesMany c_halvesFirst c_spreadsMany c_spreadsFirst c_comesTo c_seedNow c_rowThen c_hasImage c_actsThen c_imageRow c_pastThen c_statusThen) := by
  rw [F_X3_put] at h
  refine MW.start hG (by decide) (Nat.le_of_ble_eq_true rfl) ?_
  intro p e s m args below meth c Q A S hW0 hK hP hD hA hreti hretv ls hl
  have hS : va_S A s.heap s.heap [] := va_S.rf
  obtain ⟨hx, hb, hml, hown, hts⟩ := id S
  have hl : lv_has ls 4 [(0, .ref h0), (1, .int v1)] := hl
  have S_X3_put_45 : ∀ (n : Nat) (v1 : Int32) (v2 : Int32) (v3 : Int32) (c_now : (Nat → Int32)) (c_status : (Nat → Int32)) (c_past : (Nat → Int32)) (c_code : Int32) (c_acts : Int32), F_X3_put_45 N v1 v2 c_status c_past c_code c_acts n v3 c_now = some ρ → ∀ (H : Heap) (locs : List Loc), va_P G.2.1 vwCl (mW h0 ad G.2.2 c_code c_now c_read c_status c_tape c_taped c_at c_textSize c_token c_number c_begins c_stops c_bad c_badPlace c_faultPlace c_clauses c_naming c_lineBy c_becomes c_dualLines c_on c_rowNow c_least c_wayFirst c_ways c_acts c_past c_listPoints c_listLines c_listed c_list c_path c_places c_firstPlaces c_px c_py c_pz c_placeMany c_modulus c_drawn c_halvesMany c_halvesFirst c_spreadsMany c_spreadsFirst c_comesTo c_seedNow c_rowThen c_hasImage c_actsThen c_imageRow c_pastThen c_statusThen) H → va_D A (mW h0 ad G.2.2 c_code c_now c_read c_status c_tape c_taped c_at c_textSize c_token c_number c_begins c_stops c_bad c_badPlace c_faultPlace c_clauses c_naming c_lineBy c_becomes c_dualLines c_on c_rowNow c_least c_wayFirst c_ways c_acts c_past c_listPoints c_listLines c_listed c_list c_path c_places c_firstPlaces c_px c_py c_pz c_placeMany c_modulus c_drawn c_halvesMany c_halvesFirst c_spreadsMany c_spreadsFirst c_comesTo c_seedNow c_rowThen c_hasImage c_actsThen c_imageRow c_pastThen c_statusThen) → va_S A s.heap H locs → ∀ (ls : Array Slot), lv_has ls 4 [(0, .ref h0), (1, .int v1), (2, .int v2), (3, .int v3)] → W p l e (rmL 2 0 0) s m args below meth c H locs 0 0 Q (F0 m 45 ls []) := by
    intro n
    induction n with
    | zero =>
      intro v1 v2 v3 c_now c_status c_past c_code c_acts h
      exact absurd h (by simp [F_X3_put_45])
    | succ n ih =>
      intro v1 v2 v3 c_now c_status c_past c_code c_acts h H locs hP hD hS ls hl
      rw [F_X3_put_45] at h
      refine lv_iload_n hx hb dX3_put_45 rfl (lv_at hl 3 rfl) ?_
      refine lv_bipush (v := 30) hx hb dX3_put_46 (by decide) ?_
      refine lv_icmp_ge (tgt := 76) hx hb dX3_put_48 (by decide) (fun c8 => ?_) (fun c8 => ?_)
      · rw [if_pos c8] at h
        refine lv_iload_n hx hb dX3_put_76 rfl (lv_at hl 2 rfl) ?_
        obtain rfl := Option.some.inj h
        exact hreti rfl dX3_put_77 rfl rfl hP hD hS
      · rw [if_neg c8] at h
        refine lv_aload_n hx hb dX3_put_51 rfl (lv_at hl 0 rfl) ?_
        refine va_get (ci := 2) (v := .ref (ad 1)) (C := RX3) (T := TX3) (N := 52) hx hb hts in_X3 hown hK hP 0 rfl rfl 1 (by decide) (hts _ q1659) (fun _ h9 => h9) rfl dX3_put_52 ?_
        refine lv_iload_n hx hb dX3_put_55 rfl (lv_at hl 1 rfl) ?_
        obtain ⟨y10, e10, h⟩ := ob_s h
        refine MR.callS (M_X3_shelfAt hG e10) S (cw_X3_shelfAt hts q2115 ⟨Nat.le_of_ble_eq_true rfl, Nat.le_of_ble_eq_true rfl⟩) hW0 vaP0 rfl hl.1 rfl (Nat.le_of_ble_eq_true rfl) dX3_put_56 ⟨Nat.zero_le _, Nat.zero_le _⟩ ?_
        refine lv_iconst (v := 1) hx hb dX3_put_59 (by decide) ?_
        refine lv_iadd hx hb dX3_put_60 ?_
        refine lv_iload_n hx hb dX3_put_61 rfl (lv_at hl 3 rfl) ?_
        refine lv_iadd hx hb dX3_put_62 ?_
        refine lv_aload_n hx hb dX3_put_63 rfl (lv_at hl 0 rfl) ?_
        refine va_get (ci := 2) (v := .ref (ad 1)) (C := RX3) (T := TX3) (N := 52) hx hb hts in_X3 hown hK hP 0 rfl rfl 1 (by decide) (hts _ q1659) (fun _ h9 => h9) rfl dX3_put_64 ?_
        refine lv_iload_n hx hb dX3_put_67 rfl (lv_at hl 3 rfl) ?_
        obtain ⟨i11, h⟩ := ckI_s h
        refine va_iald (f := c_now) hx hb hK hP 1 0 rfl rfl i11 dX3_put_68 ?_
        obtain ⟨i12, h⟩ := ckI_s h
        refine va_iast (f := c_now) hx hb hK hP hD hS 1 0 rfl rfl i12 dX3_put_69 (fun H locs hP hD hS => ?_)
        have hP : va_P G.2.1 vwCl (mW h0 ad G.2.2 c_code (upd c_now (Int32.toNatClampNeg ((y10 + (1 : Int32)) + v3)) (c_now (Int32.toNatClampNeg v3))) c_read c_status c_tape c_taped c_at c_textSize c_token c_number c_begins c_stops c_bad c_badPlace c_faultPlace c_clauses c_naming c_lineBy c_becomes c_dualLines c_on c_rowNow c_least c_wayFirst c_ways c_acts c_past c_listPoints c_listLines c_listed c_list c_path c_places c_firstPlaces c_px c_py c_pz c_placeMany c_modulus c_drawn c_halvesMany c_halvesFirst c_spreadsMany c_spreadsFirst c_comesTo c_seedNow c_rowThen c_hasImage c_actsThen c_imageRow c_pastThen c_statusThen) H := hP
        have hD : va_D A (mW h0 ad G.2.2 c_code (upd c_now (Int32.toNatClampNeg ((y10 + (1 : Int32)) + v3)) (c_now (Int32.toNatClampNeg v3))) c_read c_status c_tape c_taped c_at c_textSize c_token c_number c_begins c_stops c_bad c_badPlace c_faultPlace c_clauses c_naming c_lineBy c_becomes c_dualLines c_on c_rowNow c_least c_wayFirst c_ways c_acts c_past c_listPoints c_listLines c_listed c_list c_path c_places c_firstPlaces c_px c_py c_pz c_placeMany c_modulus c_drawn c_halvesMany c_halvesFirst c_spreadsMany c_spreadsFirst c_comesTo c_seedNow c_rowThen c_hasImage c_actsThen c_imageRow c_pastThen c_statusThen) := hD
        refine lv_iinc (v := (v3 + 1)) (lv' := [(3, .int (v3 + 1)), (0, .ref h0), (1, .int v1), (2, .int v2)]) hx hb dX3_put_70 hl (k := 3) rfl rfl (by decide) rfl (fun ls hl => ?_)
        refine lv_goto (tgt := 45) hx hb dX3_put_73 (by decide) ?_
        exact ih v1 v2 (v3 + 1) (upd c_now (Int32.toNatClampNeg ((y10 + (1 : Int32)) + v3)) (c_now (Int32.toNatClampNeg v3))) c_status c_past c_code c_acts h _ _ hP hD hS _ (lv_sub hl [1, 2, 3, 0] rfl)
  refine lv_aload_n hx hb dX3_put_0 rfl (lv_at hl 0 rfl) ?_
  refine lv_iconst (v := 0) hx hb dX3_put_1 (by decide) ?_
  refine va_put (ci := 2) (v := .int 0) (ty := .int) (C := RX3) (T := TX3) (N := 52) hx hb hts in_X3 tyX3 tyX3_ok nmX3 hown hK hP hD hS 0 rfl rfl 0 (by decide) (hts _ q1658) (fun _ h9 => h9) rfl (by decide +kernel) rfl rfl (Nat.le_of_ble_eq_true rfl) dX3_put_2 (fun H locs hP hD hS => ?_)
  have hP : va_P G.2.1 vwCl (mW h0 ad G.2.2 0 c_now c_read c_status c_tape c_taped c_at c_textSize c_token c_number c_begins c_stops c_bad c_badPlace c_faultPlace c_clauses c_naming c_lineBy c_becomes c_dualLines c_on c_rowNow c_least c_wayFirst c_ways c_acts c_past c_listPoints c_listLines c_listed c_list c_path c_places c_firstPlaces c_px c_py c_pz c_placeMany c_modulus c_drawn c_halvesMany c_halvesFirst c_spreadsMany c_spreadsFirst c_comesTo c_seedNow c_rowThen c_hasImage c_actsThen c_imageRow c_pastThen c_statusThen) H := hP
  have hD : va_D A (mW h0 ad G.2.2 0 c_now c_read c_status c_tape c_taped c_at c_textSize c_token c_number c_begins c_stops c_bad c_badPlace c_faultPlace c_clauses c_naming c_lineBy c_becomes c_dualLines c_on c_rowNow c_least c_wayFirst c_ways c_acts c_past c_listPoints c_listLines c_listed c_list c_path c_places c_firstPlaces c_px c_py c_pz c_placeMany c_modulus c_drawn c_halvesMany c_halvesFirst c_spreadsMany c_spreadsFirst c_comesTo c_seedNow c_rowThen c_hasImage c_actsThen c_imageRow c_pastThen c_statusThen) := hD
  refine lv_iload_n hx hb dX3_put_5 rfl (lv_at hl 1 rfl) ?_
  refine lv_iconst (v := 0) hx hb dX3_put_6 (by decide) ?_
  refine lv_iconst (v := 3) hx hb dX3_put_7 (by decide) ?_
  obtain ⟨y1, e1, h⟩ := ob_s h
  refine MR.callS (M_X3_isIn hG e1) S (cw_X3_isIn hts q2061 ⟨Nat.le_of_ble_eq_true rfl, Nat.le_of_ble_eq_true rfl⟩) hW0 vaP0 rfl hl.1 rfl (Nat.le_of_ble_eq_true rfl) dX3_put_8 ⟨Nat.zero_le _, Nat.zero_le _⟩ ?_
  refine lv_if_ne (tgt := 19) hx hb dX3_put_11 (by decide) (fun c2 => ?_) (fun c2 => ?_)
  · rw [if_neg c2] at h
    refine lv_aload_n hx hb dX3_put_19 rfl (lv_at hl 0 rfl) ?_
    obtain ⟨y3, e3, h⟩ := ob_s h
    refine MW.callV (q0 := 0) (M_X3_keep hG e3) S (cw_X3_keep hts q2150 ⟨Nat.le_of_ble_eq_true rfl, Nat.le_of_ble_eq_true rfl⟩) hW0 hK hP hD hS hA rfl rfl rfl hl.1 rfl (Nat.le_of_ble_eq_true rfl) dX3_put_20 ⟨Nat.zero_le _, Nat.zero_le _⟩ (fun H locs hP hD hS => ?_)
    have hP : va_P G.2.1 vwCl (mW h0 ad G.2.2 0 c_now c_read c_status c_tape c_taped c_at c_textSize c_token c_number c_begins c_stops c_bad c_badPlace c_faultPlace c_clauses c_naming c_lineBy c_becomes c_dualLines c_on c_rowNow c_least c_wayFirst c_ways y3.2 y3.1 c_listPoints c_listLines c_listed c_list c_path c_places c_firstPlaces c_px c_py c_pz c_placeMany c_modulus c_drawn c_halvesMany c_halvesFirst c_spreadsMany c_spreadsFirst c_comesTo c_seedNow c_rowThen c_hasImage c_actsThen c_imageRow c_pastThen c_statusThen) H := hP
    have hD : va_D A (mW h0 ad G.2.2 0 c_now c_read c_status c_tape c_taped c_at c_textSize c_token c_number c_begins c_stops c_bad c_badPlace c_faultPlace c_clauses c_naming c_lineBy c_becomes c_dualLines c_on c_rowNow c_least c_wayFirst c_ways y3.2 y3.1 c_listPoints c_listLines c_listed c_list c_path c_places c_firstPlaces c_px c_py c_pz c_placeMany c_modulus c_drawn c_halvesMany c_halvesFirst c_spreadsMany c_spreadsFirst c_comesTo c_seedNow c_rowThen c_hasImage c_actsThen c_imageRow c_pastThen c_statusThen) := hD
    refine W.eq (g2 := F0 m 23 ls []) rfl ?_
    refine lv_aload_n hx hb dX3_put_23 rfl (lv_at hl 0 rfl) ?_
    refine va_get (ci := 2) (v := .ref (ad 1)) (C := RX3) (T := TX3) (N := 52) hx hb hts in_X3 hown hK hP 0 rfl rfl 1 (by decide) (hts _ q1659) (fun _ h9 => h9) rfl dX3_put_24 ?_
    refine lv_iload_n hx hb dX3_put_27 rfl (lv_at hl 1 rfl) ?_
    obtain ⟨y4, e4, h⟩ := ob_s h
    refine MR.callS (M_X3_shelfAt hG e4) S (cw_X3_shelfAt hts q2115 ⟨Nat.le_of_ble_eq_true rfl, Nat.le_of_ble_eq_true rfl⟩) hW0 vaP0 rfl hl.1 rfl (Nat.le_of_ble_eq_true rfl) dX3_put_28 ⟨Nat.zero_le _, Nat.zero_le _⟩ ?_
    obtain ⟨i5, h⟩ := ckI_s h
    refine va_iald (f := c_now) hx hb hK hP 1 0 rfl rfl i5 dX3_put_31 ?_
    refine lv_istore_n (lv' := [(2, .int (c_now (Int32.toNatClampNeg y4))), (0, .ref h0), (1, .int v1)]) hx hb dX3_put_32 rfl hl (by decide) rfl (fun ls hl => ?_)
    refine lv_aload_n hx hb dX3_put_33 rfl (lv_at hl 1 rfl) ?_
    refine va_get (ci := 2) (v := .ref (ad 1)) (C := RX3) (T := TX3) (N := 52) hx hb hts in_X3 hown hK hP 0 rfl rfl 1 (by decide) (hts _ q1659) (fun _ h9 => h9) rfl dX3_put_34 ?_
    refine lv_iload_n hx hb dX3_put_37 rfl (lv_at hl 2 rfl) ?_
    obtain ⟨y6, e6, h⟩ := ob_s h
    refine MR.callS (M_X3_shelfAt hG e6) S (cw_X3_shelfAt hts q2115 ⟨Nat.le_of_ble_eq_true rfl, Nat.le_of_ble_eq_true rfl⟩) hW0 vaP0 rfl hl.1 rfl (Nat.le_of_ble_eq_true rfl) dX3_put_38 ⟨Nat.zero_le _, Nat.zero_le _⟩ ?_
    refine lv_iconst (v := 1) hx hb dX3_put_41 (by decide) ?_
    obtain ⟨i7, h⟩ := ckI_s h
    refine va_iast (f := c_now) hx hb hK hP hD hS 1 0 rfl rfl i7 dX3_put_42 (fun H locs hP hD hS => ?_)
    have hP : va_P G.2.1 vwCl (mW h0 ad G.2.2 0 (upd c_now (Int32.toNatClampNeg y6) 1) c_read c_status c_tape c_taped c_at c_textSize c_token c_number c_begins c_stops c_bad c_badPlace c_faultPlace c_clauses c_naming c_lineBy c_becomes c_dualLines c_on c_rowNow c_least c_wayFirst c_ways y3.2 y3.1 c_listPoints c_listLines c_listed c_list c_path c_places c_firstPlaces c_px c_py c_pz c_placeMany c_modulus c_drawn c_halvesMany c_halvesFirst c_spreadsMany c_spreadsFirst c_comesTo c_seedNow c_rowThen c_hasImage c_actsThen c_imageRow c_pastThen c_statusThen) H := hP
    have hD : va_D A (mW h0 ad G.2.2 0 (upd c_now (Int32.toNatClampNeg y6) 1) c_read c_status c_tape c_taped c_at c_textSize c_token c_number c_begins c_stops c_bad c_badPlace c_faultPlace c_clauses c_naming c_lineBy c_becomes c_dualLines c_on c_rowNow c_least c_wayFirst c_ways y3.2 y3.1 c_listPoints c_listLines c_listed c_list c_path c_places c_firstPlaces c_px c_py c_pz c_placeMany c_modulus c_drawn c_halvesMany c_halvesFirst c_spreadsMany c_spreadsFirst c_comesTo c_seedNow c_rowThen c_hasImage c_actsThen c_imageRow c_pastThen c_statusThen) := hD
    refine lv_iconst (v := 0) hx hb dX3_put_43 (by decide) ?_
    refine lv_istore_n (lv' := [(3, .int 0), (2, .int (c_now (Int32.toNatClampNeg y4))), (0, .ref h0), (1, .int v1)]) hx hb dX3_put_44 rfl hl (by decide) rfl (fun ls hl => ?_)
    refine S_X3_put_45 N v1 (c_now (Int32.toNatClampNeg y4)) 0 (upd c_now (Int32.toNatClampNeg y6) 1) c_status y3.1 0 y3.2 h  _ _ hP hD hS _ (lv_sub hl [2, 3, 1, 0] rfl)
  · rw [if_pos c2] at h
    refine lv_aload_n hx hb dX3_put_14 rfl (lv_at hl 0 rfl) ?_
    obtain ⟨y13, e13, h⟩ := ob_s h
    refine MW.callV (q0 := 0) (M_X3_refuse hG e13) S (cw_X3_refuse hts q2146 ⟨Nat.le_of_ble_eq_true rfl, Nat.le_of_ble_eq_true rfl⟩) hW0 hK hP hD hS hA rfl rfl rfl hl.1 rfl (Nat.le_of_ble_eq_true rfl) dX3_put_15 ⟨Nat.zero_le _, Nat.zero_le _⟩ (fun H locs hP hD hS => ?_)
    have hP : va_P G.2.1 vwCl (mW h0 ad G.2.2 0 c_now c_read y13.2 c_tape c_taped c_at c_textSize c_token c_number c_begins c_stops c_bad c_badPlace c_faultPlace c_clauses c_naming c_lineBy c_becomes c_dualLines c_on c_rowNow c_least c_wayFirst c_ways c_acts c_past c_listPoints c_listLines c_listed c_list c_path c_places c_firstPlaces c_px c_py c_pz c_placeMany c_modulus c_drawn c_halvesMany c_halvesFirst c_spreadsMany c_spreadsFirst c_comesTo c_seedNow c_rowThen c_hasImage c_actsThen c_imageRow c_pastThen c_statusThen) H := hP
    have hD : va_D A (mW h0 ad G.2.2 0 c_now c_read y13.2 c_tape c_taped c_at c_textSize c_token c_number c_begins c_stops c_bad c_badPlace c_faultPlace c_clauses c_naming c_lineBy c_becomes c_dualLines c_on c_rowNow c_least c_wayFirst c_ways c_acts c_past c_listPoints c_listLines c_listed c_list c_path c_places c_firstPlaces c_px c_py c_pz c_placeMany c_modulus c_drawn c_halvesMany c_halvesFirst c_spreadsMany c_spreadsFirst c_comesTo c_seedNow c_rowThen c_hasImage c_actsThen c_imageRow c_pastThen c_statusThen) := hD
    refine W.eq (g2 := F0 m 18 ls [.int y13.1]) rfl ?_
    obtain rfl := Option.some.inj h
    exact hreti rfl dX3_put_18 rfl rfl hP hD hS
def F_X3_take_24 (N : Nat) (v1 : Int32) (c_status : (Nat → Int32)) (c_past : (Nat → Int32)) (c_code : Int32) (c_acts : Int32) : Nat → Int32 → (Nat → Int32) → Option (Int32 × (Nat → Int32) × (Nat → Int32) × (Nat → Int32) × Int32 × Int32)
  | 0, _, _ => none
  | n + 1, v2, c_now => (if 30 ≤ v2 then ((F_X3_points N c_now).bind fun y5 => (some (y5, c_now, c_status, c_past, c_code, c_acts))) else ((F_X3_onShelf N v1 v2 c_now).bind fun y7 => (ckI v2 154 (F_X3_take_24 N v1 c_status c_past c_code c_acts n (v2 + 1) (upd c_now (Int32.toNatClampNeg v2) y7)))))
def F_X3_take (N : Nat) (v1 : Int32) (c_now : (Nat → Int32)) (c_status : (Nat → Int32)) (c_past : (Nat → Int32)) (c_code : Int32) (c_acts : Int32) : Option (Int32 × (Nat → Int32) × (Nat → Int32) × (Nat → Int32) × Int32 × Int32) := ((F_X3_hasShelf N v1 c_now).bind fun y1 => (if y1 = 0 then ((F_X3_refuse N c_status).bind fun y9 => (some (y9.1, c_now, y9.2, c_past, 0, c_acts))) else ((F_X3_keep N c_now c_past c_acts).bind fun y3 => (F_X3_take_24 N v1 c_status y3.1 0 y3.2 N 0 c_now))))
theorem cw_X3_take {R : Room} {s : State} {args : Array Value} {own : String} {index lev mc ms : Nat} (hts : ∀ w ∈ lw_all, w.before args s = true) (hl : Cond.methodLink own index yX3_take ∈ lw_all) (hR : (rmL lev mc ms).frames + 1 ≤ R.frames ∧ 8 + (3 + 11) + (rmL lev mc ms).locals ≤ R.locals) : CallW R s args own RX3 index yX3_take cX3_take 3 (some .int) (ws_ yX3_take cX3_take 3 (some .int)) (rmL lev mc ms) mc ms 1 := cwV 1 hts (lw_V hl q2195 q2196 q172 q2197) rfl rfl rfl (by decide +kernel) hR
set_option maxHeartbeats 4000000 in
theorem M_X3_take {l : Launch} {G : GE} (hG : GC G) {N : Nat} {h0 : Nat} {ad : Nat → Nat} {c_read : (Nat → Int32)} {c_tape : (Nat → Int32)} {c_taped : Int32} {c_at : Int32} {c_textSize : Int32} {c_token : Int32} {c_number : Int32} {c_begins : Int32} {c_stops : Int32} {c_bad : Int32} {c_badPlace : Int32} {c_faultPlace : Int32} {c_clauses : Int32} {c_naming : (Nat → Int32)} {c_lineBy : (Nat → Int32)} {c_becomes : (Nat → Int32)} {c_dualLines : (Nat → Int32)} {c_on : (Nat → Int32)} {c_rowNow : (Nat → Int32)} {c_least : (Nat → Int32)} {c_wayFirst : (Nat → Int32)} {c_ways : Int32} {c_listPoints : Int32} {c_listLines : Int32} {c_listed : Int32} {c_list : (Nat → Int32)} {c_path : (Nat → Int32)} {c_places : (Nat → Int32)} {c_firstPlaces : (Nat → Int32)} {c_px : (Nat → Int32)} {c_py : (Nat → Int32)} {c_pz : (Nat → Int32)} {c_placeMany : Int32} {c_modulus : Int32} {c_drawn : Int32} {c_halvesMany : Int32} {c_halvesFirst : Int32} {c_spreadsMany : Int32} {c_spreadsFirst : Int32} {c_comesTo : (Nat → Int32)} {c_seedNow : Int32} {c_rowThen : (Nat → Int32)} {c_hasImage : Int32} {c_actsThen : Int32} {c_imageRow : (Nat → Int32)} {c_pastThen : (Nat → Int32)} {c_statusThen : (Nat → Int32)} {v1 : Int32} {c_now : (Nat → Int32)} {c_status : (Nat → Int32)} {c_past : (Nat → Int32)} {c_code : Int32} {c_acts : Int32} {ρ : (Int32 × (Nat → Int32) × (Nat → Int32) × (Nat → Int32) × Int32 × Int32)} (h : F_X3_take N v1 c_now c_status c_past c_code c_acts = some ρ) : MW l G yX3_take cX3_take 3 (some .int) 3 (mW h0 ad G.2.2 c_code c_now c_read c_status c_tape c_taped c_at c_textSize c_token c_number c_begins c_stops c_bad c_badPlace c_faultPlace c_clauses c_naming c_lineBy c_becomes c_dualLines c_on c_rowNow c_least c_wayFirst c_ways c_acts c_past c_listPoints c_listLines c_listed c_list c_path c_places c_firstPlaces c_px c_py c_pz c_placeMany c_modulus c_drawn c_halvesMany c_halvesFirst c_spreadsMany c_spreadsFirst c_comesTo c_seedNow c_rowThen c_hasImage c_actsThen c_imageRow c_pastThen c_statusThen) [.ref h0, .int v1] (some (.int ρ.1)) (mW h0 ad G.2.2 ρ.2.2.2.2.1 ρ.2.1 c_read ρ.2.2.1 c_tape c_taped c_at c_textSize c_token c_number c_begins c_stops c_bad c_badPlace c_faultPlace c_clauses c_naming c_lineBy c_becomes c_dualLines c_on c_rowNow c_least c_wayFirst c_ways ρ.2.2.2.2.2 ρ.2.2.2.1 c_listPoints c_listLines c_listed c_list c_path c_places c_firstPlaces c_px c_py c_pz c_placeMany c_modulus c_drawn c_halvesMany c_halvesFirst c_spreadsMany c_spreadsFirst c_comesTo c_seedNow c_rowThen c_hasImage c_actsThen c_imageRow c_pastThen c_statusThen) := by
  rw [F_X3_take] at h
  refine MW.start hG (by decide) (Nat.le_of_ble_eq_true rfl) ?_
  intro p e s m args below meth c Q A S hW0 hK hP hD hA hreti hretv ls hl
  have hS : va_S A s.heap s.heap [] := va_S.rf
  obtain ⟨hx, hb, hml, hown, hts⟩ := id S
  have hl : lv_has ls 3 [(0, .ref h0), (1, .int v1)] := hl
  have S_X3_take_24 : ∀ (n : Nat) (v1 : Int32) (v2 : Int32) (c_now : (Nat → Int32)) (c_status : (Nat → Int32)) (c_past : (Nat → Int32)) (c_code : Int32) (c_acts : Int32), F_X3_take_24 N v1 c_status c_past c_code c_acts n v2 c_now = some ρ → ∀ (H : Heap) (locs : List Loc), va_P G.2.1 vwCl (mW h0 ad G.2.2 c_code c_now c_read c_status c_tape c_taped c_at c_textSize c_token c_number c_begins c_stops c_bad c_badPlace c_faultPlace c_clauses c_naming c_lineBy c_becomes c_dualLines c_on c_rowNow c_least c_wayFirst c_ways c_acts c_past c_listPoints c_listLines c_listed c_list c_path c_places c_firstPlaces c_px c_py c_pz c_placeMany c_modulus c_drawn c_halvesMany c_halvesFirst c_spreadsMany c_spreadsFirst c_comesTo c_seedNow c_rowThen c_hasImage c_actsThen c_imageRow c_pastThen c_statusThen) H → va_D A (mW h0 ad G.2.2 c_code c_now c_read c_status c_tape c_taped c_at c_textSize c_token c_number c_begins c_stops c_bad c_badPlace c_faultPlace c_clauses c_naming c_lineBy c_becomes c_dualLines c_on c_rowNow c_least c_wayFirst c_ways c_acts c_past c_listPoints c_listLines c_listed c_list c_path c_places c_firstPlaces c_px c_py c_pz c_placeMany c_modulus c_drawn c_halvesMany c_halvesFirst c_spreadsMany c_spreadsFirst c_comesTo c_seedNow c_rowThen c_hasImage c_actsThen c_imageRow c_pastThen c_statusThen) → va_S A s.heap H locs → ∀ (ls : Array Slot), lv_has ls 3 [(0, .ref h0), (1, .int v1), (2, .int v2)] → W p l e (rmL 3 0 0) s m args below meth c H locs 0 0 Q (F0 m 24 ls []) := by
    intro n
    induction n with
    | zero =>
      intro v1 v2 c_now c_status c_past c_code c_acts h
      exact absurd h (by simp [F_X3_take_24])
    | succ n ih =>
      intro v1 v2 c_now c_status c_past c_code c_acts h H locs hP hD hS ls hl
      rw [F_X3_take_24] at h
      refine lv_iload_n hx hb dX3_take_24 rfl (lv_at hl 2 rfl) ?_
      refine lv_bipush (v := 30) hx hb dX3_take_25 (by decide) ?_
      refine lv_icmp_ge (tgt := 48) hx hb dX3_take_27 (by decide) (fun c4 => ?_) (fun c4 => ?_)
      · rw [if_pos c4] at h
        refine lv_aload_n hx hb dX3_take_48 rfl (lv_at hl 0 rfl) ?_
        obtain ⟨y5, e5, h⟩ := ob_s h
        refine MR.callV (q0 := 0) (M_X3_points hG e5) S (cw_X3_points hts q1913 ⟨Nat.le_of_ble_eq_true rfl, Nat.le_of_ble_eq_true rfl⟩) hW0 hK hP rfl rfl rfl hl.1 rfl (Nat.le_of_ble_eq_true rfl) dX3_take_49 ⟨Nat.zero_le _, Nat.zero_le _⟩ ?_
        obtain rfl := Option.some.inj h
        exact hreti rfl dX3_take_52 rfl rfl hP hD hS
      · rw [if_neg c4] at h
        refine lv_aload_n hx hb dX3_take_30 rfl (lv_at hl 0 rfl) ?_
        refine va_get (ci := 2) (v := .ref (ad 1)) (C := RX3) (T := TX3) (N := 52) hx hb hts in_X3 hown hK hP 0 rfl rfl 1 (by decide) (hts _ q1659) (fun _ h9 => h9) rfl dX3_take_31 ?_
        refine lv_iload_n hx hb dX3_take_34 rfl (lv_at hl 2 rfl) ?_
        refine lv_aload_n hx hb dX3_take_35 rfl (lv_at hl 0 rfl) ?_
        refine lv_iload_n hx hb dX3_take_36 rfl (lv_at hl 1 rfl) ?_
        refine lv_iload_n hx hb dX3_take_37 rfl (lv_at hl 2 rfl) ?_
        obtain ⟨y7, e7, h⟩ := ob_s h
        refine MR.callV (q0 := 0) (M_X3_onShelf hG e7) S (cw_X3_onShelf hts q2122 ⟨Nat.le_of_ble_eq_true rfl, Nat.le_of_ble_eq_true rfl⟩) hW0 hK hP rfl rfl rfl hl.1 rfl (Nat.le_of_ble_eq_true rfl) dX3_take_38 ⟨Nat.zero_le _, Nat.zero_le _⟩ ?_
        obtain ⟨i8, h⟩ := ckI_s h
        refine va_iast (f := c_now) hx hb hK hP hD hS 1 0 rfl rfl i8 dX3_take_41 (fun H locs hP hD hS => ?_)
        have hP : va_P G.2.1 vwCl (mW h0 ad G.2.2 c_code (upd c_now (Int32.toNatClampNeg v2) y7) c_read c_status c_tape c_taped c_at c_textSize c_token c_number c_begins c_stops c_bad c_badPlace c_faultPlace c_clauses c_naming c_lineBy c_becomes c_dualLines c_on c_rowNow c_least c_wayFirst c_ways c_acts c_past c_listPoints c_listLines c_listed c_list c_path c_places c_firstPlaces c_px c_py c_pz c_placeMany c_modulus c_drawn c_halvesMany c_halvesFirst c_spreadsMany c_spreadsFirst c_comesTo c_seedNow c_rowThen c_hasImage c_actsThen c_imageRow c_pastThen c_statusThen) H := hP
        have hD : va_D A (mW h0 ad G.2.2 c_code (upd c_now (Int32.toNatClampNeg v2) y7) c_read c_status c_tape c_taped c_at c_textSize c_token c_number c_begins c_stops c_bad c_badPlace c_faultPlace c_clauses c_naming c_lineBy c_becomes c_dualLines c_on c_rowNow c_least c_wayFirst c_ways c_acts c_past c_listPoints c_listLines c_listed c_list c_path c_places c_firstPlaces c_px c_py c_pz c_placeMany c_modulus c_drawn c_halvesMany c_halvesFirst c_spreadsMany c_spreadsFirst c_comesTo c_seedNow c_rowThen c_hasImage c_actsThen c_imageRow c_pastThen c_statusThen) := hD
        refine lv_iinc (v := (v2 + 1)) (lv' := [(2, .int (v2 + 1)), (0, .ref h0), (1, .int v1)]) hx hb dX3_take_42 hl (k := 2) rfl rfl (by decide) rfl (fun ls hl => ?_)
        refine lv_goto (tgt := 24) hx hb dX3_take_45 (by decide) ?_
        exact ih v1 (v2 + 1) (upd c_now (Int32.toNatClampNeg v2) y7) c_status c_past c_code c_acts h _ _ hP hD hS _ (lv_sub hl [1, 2, 0] rfl)
  refine lv_aload_n hx hb dX3_take_0 rfl (lv_at hl 0 rfl) ?_
  refine lv_iconst (v := 0) hx hb dX3_take_1 (by decide) ?_
  refine va_put (ci := 2) (v := .int 0) (ty := .int) (C := RX3) (T := TX3) (N := 52) hx hb hts in_X3 tyX3 tyX3_ok nmX3 hown hK hP hD hS 0 rfl rfl 0 (by decide) (hts _ q1658) (fun _ h9 => h9) rfl (by decide +kernel) rfl rfl (Nat.le_of_ble_eq_true rfl) dX3_take_2 (fun H locs hP hD hS => ?_)
  have hP : va_P G.2.1 vwCl (mW h0 ad G.2.2 0 c_now c_read c_status c_tape c_taped c_at c_textSize c_token c_number c_begins c_stops c_bad c_badPlace c_faultPlace c_clauses c_naming c_lineBy c_becomes c_dualLines c_on c_rowNow c_least c_wayFirst c_ways c_acts c_past c_listPoints c_listLines c_listed c_list c_path c_places c_firstPlaces c_px c_py c_pz c_placeMany c_modulus c_drawn c_halvesMany c_halvesFirst c_spreadsMany c_spreadsFirst c_comesTo c_seedNow c_rowThen c_hasImage c_actsThen c_imageRow c_pastThen c_statusThen) H := hP
  have hD : va_D A (mW h0 ad G.2.2 0 c_now c_read c_status c_tape c_taped c_at c_textSize c_token c_number c_begins c_stops c_bad c_badPlace c_faultPlace c_clauses c_naming c_lineBy c_becomes c_dualLines c_on c_rowNow c_least c_wayFirst c_ways c_acts c_past c_listPoints c_listLines c_listed c_list c_path c_places c_firstPlaces c_px c_py c_pz c_placeMany c_modulus c_drawn c_halvesMany c_halvesFirst c_spreadsMany c_spreadsFirst c_comesTo c_seedNow c_rowThen c_hasImage c_actsThen c_imageRow c_pastThen c_statusThen) := hD
  refine lv_aload_n hx hb dX3_take_5 rfl (lv_at hl 0 rfl) ?_
  refine lv_iload_n hx hb dX3_take_6 rfl (lv_at hl 1 rfl) ?_
  obtain ⟨y1, e1, h⟩ := ob_s h
  refine MR.callV (q0 := 0) (M_X3_hasShelf hG e1) S (cw_X3_hasShelf hts q2111 ⟨Nat.le_of_ble_eq_true rfl, Nat.le_of_ble_eq_true rfl⟩) hW0 hK hP rfl rfl rfl hl.1 rfl (Nat.le_of_ble_eq_true rfl) dX3_take_7 ⟨Nat.zero_le _, Nat.zero_le _⟩ ?_
  refine lv_if_ne (tgt := 18) hx hb dX3_take_10 (by decide) (fun c2 => ?_) (fun c2 => ?_)
  · rw [if_neg c2] at h
    refine lv_aload_n hx hb dX3_take_18 rfl (lv_at hl 0 rfl) ?_
    obtain ⟨y3, e3, h⟩ := ob_s h
    refine MW.callV (q0 := 0) (M_X3_keep hG e3) S (cw_X3_keep hts q2150 ⟨Nat.le_of_ble_eq_true rfl, Nat.le_of_ble_eq_true rfl⟩) hW0 hK hP hD hS hA rfl rfl rfl hl.1 rfl (Nat.le_of_ble_eq_true rfl) dX3_take_19 ⟨Nat.zero_le _, Nat.zero_le _⟩ (fun H locs hP hD hS => ?_)
    have hP : va_P G.2.1 vwCl (mW h0 ad G.2.2 0 c_now c_read c_status c_tape c_taped c_at c_textSize c_token c_number c_begins c_stops c_bad c_badPlace c_faultPlace c_clauses c_naming c_lineBy c_becomes c_dualLines c_on c_rowNow c_least c_wayFirst c_ways y3.2 y3.1 c_listPoints c_listLines c_listed c_list c_path c_places c_firstPlaces c_px c_py c_pz c_placeMany c_modulus c_drawn c_halvesMany c_halvesFirst c_spreadsMany c_spreadsFirst c_comesTo c_seedNow c_rowThen c_hasImage c_actsThen c_imageRow c_pastThen c_statusThen) H := hP
    have hD : va_D A (mW h0 ad G.2.2 0 c_now c_read c_status c_tape c_taped c_at c_textSize c_token c_number c_begins c_stops c_bad c_badPlace c_faultPlace c_clauses c_naming c_lineBy c_becomes c_dualLines c_on c_rowNow c_least c_wayFirst c_ways y3.2 y3.1 c_listPoints c_listLines c_listed c_list c_path c_places c_firstPlaces c_px c_py c_pz c_placeMany c_modulus c_drawn c_halvesMany c_halvesFirst c_spreadsMany c_spreadsFirst c_comesTo c_seedNow c_rowThen c_hasImage c_actsThen c_imageRow c_pastThen c_statusThen) := hD
    refine W.eq (g2 := F0 m 22 ls []) rfl ?_
    refine lv_iconst (v := 0) hx hb dX3_take_22 (by decide) ?_
    refine lv_istore_n (lv' := [(2, .int 0), (0, .ref h0), (1, .int v1)]) hx hb dX3_take_23 rfl hl (by decide) rfl (fun ls hl => ?_)
    refine S_X3_take_24 N v1 0 c_now c_status y3.1 0 y3.2 h  _ _ hP hD hS _ (lv_sub hl [1, 2, 0] rfl)
  · rw [if_pos c2] at h
    refine lv_aload_n hx hb dX3_take_13 rfl (lv_at hl 0 rfl) ?_
    obtain ⟨y9, e9, h⟩ := ob_s h
    refine MW.callV (q0 := 0) (M_X3_refuse hG e9) S (cw_X3_refuse hts q2146 ⟨Nat.le_of_ble_eq_true rfl, Nat.le_of_ble_eq_true rfl⟩) hW0 hK hP hD hS hA rfl rfl rfl hl.1 rfl (Nat.le_of_ble_eq_true rfl) dX3_take_14 ⟨Nat.zero_le _, Nat.zero_le _⟩ (fun H locs hP hD hS => ?_)
    have hP : va_P G.2.1 vwCl (mW h0 ad G.2.2 0 c_now c_read y9.2 c_tape c_taped c_at c_textSize c_token c_number c_begins c_stops c_bad c_badPlace c_faultPlace c_clauses c_naming c_lineBy c_becomes c_dualLines c_on c_rowNow c_least c_wayFirst c_ways c_acts c_past c_listPoints c_listLines c_listed c_list c_path c_places c_firstPlaces c_px c_py c_pz c_placeMany c_modulus c_drawn c_halvesMany c_halvesFirst c_spreadsMany c_spreadsFirst c_comesTo c_seedNow c_rowThen c_hasImage c_actsThen c_imageRow c_pastThen c_statusThen) H := hP
    have hD : va_D A (mW h0 ad G.2.2 0 c_now c_read y9.2 c_tape c_taped c_at c_textSize c_token c_number c_begins c_stops c_bad c_badPlace c_faultPlace c_clauses c_naming c_lineBy c_becomes c_dualLines c_on c_rowNow c_least c_wayFirst c_ways c_acts c_past c_listPoints c_listLines c_listed c_list c_path c_places c_firstPlaces c_px c_py c_pz c_placeMany c_modulus c_drawn c_halvesMany c_halvesFirst c_spreadsMany c_spreadsFirst c_comesTo c_seedNow c_rowThen c_hasImage c_actsThen c_imageRow c_pastThen c_statusThen) := hD
    refine W.eq (g2 := F0 m 17 ls [.int y9.1]) rfl ?_
    obtain rfl := Option.some.inj h
    exact hreti rfl dX3_take_17 rfl rfl hP hD hS
def F_X3_undo_26 (N : Nat) (c_past : (Nat → Int32)) (c_code : Int32) (c_acts : Int32) : Nat → Int32 → (Nat → Int32) → Option (Int32 × (Nat → Int32) × Int32 × Int32)
  | 0, _, _ => none
  | n + 1, v1, c_now => (if 154 ≤ v1 then (some (c_acts, c_now, c_code, c_acts)) else (ckI (((154 : Int32) * c_acts) + v1) 6160 (ckI v1 154 (F_X3_undo_26 N c_past c_code c_acts n (v1 + 1) (upd c_now (Int32.toNatClampNeg v1) (c_past (Int32.toNatClampNeg (((154 : Int32) * c_acts) + v1))))))))
def F_X3_undo (N : Nat) (c_now : (Nat → Int32)) (c_past : (Nat → Int32)) (c_code : Int32) (c_acts : Int32) : Option (Int32 × (Nat → Int32) × Int32 × Int32) := (if c_acts = 0 then (some ((-1), c_now, 0, c_acts)) else (F_X3_undo_26 N c_past 0 (c_acts - (1 : Int32)) N 0 c_now))
theorem cw_X3_undo {R : Room} {s : State} {args : Array Value} {own : String} {index lev mc ms : Nat} (hts : ∀ w ∈ lw_all, w.before args s = true) (hl : Cond.methodLink own index yX3_undo ∈ lw_all) (hR : (rmL lev mc ms).frames + 1 ≤ R.frames ∧ 8 + (2 + 11) + (rmL lev mc ms).locals ≤ R.locals) : CallW R s args own RX3 index yX3_undo cX3_undo 2 (some .int) (ws_ yX3_undo cX3_undo 2 (some .int)) (rmL lev mc ms) mc ms 0 := cwV 0 hts (lw_V hl q2199 q2200 q172 q2201) rfl rfl rfl (by decide +kernel) hR
set_option maxHeartbeats 4000000 in
theorem M_X3_undo {l : Launch} {G : GE} (hG : GC G) {N : Nat} {h0 : Nat} {ad : Nat → Nat} {c_read : (Nat → Int32)} {c_status : (Nat → Int32)} {c_tape : (Nat → Int32)} {c_taped : Int32} {c_at : Int32} {c_textSize : Int32} {c_token : Int32} {c_number : Int32} {c_begins : Int32} {c_stops : Int32} {c_bad : Int32} {c_badPlace : Int32} {c_faultPlace : Int32} {c_clauses : Int32} {c_naming : (Nat → Int32)} {c_lineBy : (Nat → Int32)} {c_becomes : (Nat → Int32)} {c_dualLines : (Nat → Int32)} {c_on : (Nat → Int32)} {c_rowNow : (Nat → Int32)} {c_least : (Nat → Int32)} {c_wayFirst : (Nat → Int32)} {c_ways : Int32} {c_listPoints : Int32} {c_listLines : Int32} {c_listed : Int32} {c_list : (Nat → Int32)} {c_path : (Nat → Int32)} {c_places : (Nat → Int32)} {c_firstPlaces : (Nat → Int32)} {c_px : (Nat → Int32)} {c_py : (Nat → Int32)} {c_pz : (Nat → Int32)} {c_placeMany : Int32} {c_modulus : Int32} {c_drawn : Int32} {c_halvesMany : Int32} {c_halvesFirst : Int32} {c_spreadsMany : Int32} {c_spreadsFirst : Int32} {c_comesTo : (Nat → Int32)} {c_seedNow : Int32} {c_rowThen : (Nat → Int32)} {c_hasImage : Int32} {c_actsThen : Int32} {c_imageRow : (Nat → Int32)} {c_pastThen : (Nat → Int32)} {c_statusThen : (Nat → Int32)} {c_now : (Nat → Int32)} {c_past : (Nat → Int32)} {c_code : Int32} {c_acts : Int32} {ρ : (Int32 × (Nat → Int32) × Int32 × Int32)} (h : F_X3_undo N c_now c_past c_code c_acts = some ρ) : MW l G yX3_undo cX3_undo 2 (some .int) 1 (mW h0 ad G.2.2 c_code c_now c_read c_status c_tape c_taped c_at c_textSize c_token c_number c_begins c_stops c_bad c_badPlace c_faultPlace c_clauses c_naming c_lineBy c_becomes c_dualLines c_on c_rowNow c_least c_wayFirst c_ways c_acts c_past c_listPoints c_listLines c_listed c_list c_path c_places c_firstPlaces c_px c_py c_pz c_placeMany c_modulus c_drawn c_halvesMany c_halvesFirst c_spreadsMany c_spreadsFirst c_comesTo c_seedNow c_rowThen c_hasImage c_actsThen c_imageRow c_pastThen c_statusThen) [.ref h0] (some (.int ρ.1)) (mW h0 ad G.2.2 ρ.2.2.1 ρ.2.1 c_read c_status c_tape c_taped c_at c_textSize c_token c_number c_begins c_stops c_bad c_badPlace c_faultPlace c_clauses c_naming c_lineBy c_becomes c_dualLines c_on c_rowNow c_least c_wayFirst c_ways ρ.2.2.2 c_past c_listPoints c_listLines c_listed c_list c_path c_places c_firstPlaces c_px c_py c_pz c_placeMany c_modulus c_drawn c_halvesMany c_halvesFirst c_spreadsMany c_spreadsFirst c_comesTo c_seedNow c_rowThen c_hasImage c_actsThen c_imageRow c_pastThen c_statusThen) := by
  rw [F_X3_undo] at h
  refine MW.start hG (by decide) (Nat.le_of_ble_eq_true rfl) ?_
  intro p e s m args below meth c Q A S hW0 hK hP hD hA hreti hretv ls hl
  have hS : va_S A s.heap s.heap [] := va_S.rf
  obtain ⟨hx, hb, hml, hown, hts⟩ := id S
  have hl : lv_has ls 2 [(0, .ref h0)] := hl
  have S_X3_undo_26 : ∀ (n : Nat) (v1 : Int32) (c_now : (Nat → Int32)) (c_code : Int32) (c_acts : Int32), F_X3_undo_26 N c_past c_code c_acts n v1 c_now = some ρ → ∀ (H : Heap) (locs : List Loc), va_P G.2.1 vwCl (mW h0 ad G.2.2 c_code c_now c_read c_status c_tape c_taped c_at c_textSize c_token c_number c_begins c_stops c_bad c_badPlace c_faultPlace c_clauses c_naming c_lineBy c_becomes c_dualLines c_on c_rowNow c_least c_wayFirst c_ways c_acts c_past c_listPoints c_listLines c_listed c_list c_path c_places c_firstPlaces c_px c_py c_pz c_placeMany c_modulus c_drawn c_halvesMany c_halvesFirst c_spreadsMany c_spreadsFirst c_comesTo c_seedNow c_rowThen c_hasImage c_actsThen c_imageRow c_pastThen c_statusThen) H → va_D A (mW h0 ad G.2.2 c_code c_now c_read c_status c_tape c_taped c_at c_textSize c_token c_number c_begins c_stops c_bad c_badPlace c_faultPlace c_clauses c_naming c_lineBy c_becomes c_dualLines c_on c_rowNow c_least c_wayFirst c_ways c_acts c_past c_listPoints c_listLines c_listed c_list c_path c_places c_firstPlaces c_px c_py c_pz c_placeMany c_modulus c_drawn c_halvesMany c_halvesFirst c_spreadsMany c_spreadsFirst c_comesTo c_seedNow c_rowThen c_hasImage c_actsThen c_imageRow c_pastThen c_statusThen) → va_S A s.heap H locs → ∀ (ls : Array Slot), lv_has ls 2 [(0, .ref h0), (1, .int v1)] → W p l e (rmL 1 0 0) s m args below meth c H locs 0 0 Q (F0 m 26 ls []) := by
    intro n
    induction n with
    | zero =>
      intro v1 c_now c_code c_acts h
      exact absurd h (by simp [F_X3_undo_26])
    | succ n ih =>
      intro v1 c_now c_code c_acts h H locs hP hD hS ls hl
      rw [F_X3_undo_26] at h
      refine lv_iload_n hx hb dX3_undo_26 rfl (lv_at hl 1 rfl) ?_
      refine lv_sipush (v := 154) hx hb dX3_undo_27 (by decide) ?_
      refine lv_icmp_ge (tgt := 60) hx hb dX3_undo_30 (by decide) (fun c2 => ?_) (fun c2 => ?_)
      · rw [if_pos c2] at h
        refine lv_aload_n hx hb dX3_undo_60 rfl (lv_at hl 0 rfl) ?_
        refine va_get (ci := 2) (v := .int c_acts) (C := RX3) (T := TX3) (N := 52) hx hb hts in_X3 hown hK hP 0 rfl rfl 25 (by decide) (hts _ q1683) (fun _ h9 => h9) rfl dX3_undo_61 ?_
        obtain rfl := Option.some.inj h
        exact hreti rfl dX3_undo_64 rfl rfl hP hD hS
      · rw [if_neg c2] at h
        refine lv_aload_n hx hb dX3_undo_33 rfl (lv_at hl 0 rfl) ?_
        refine va_get (ci := 2) (v := .ref (ad 1)) (C := RX3) (T := TX3) (N := 52) hx hb hts in_X3 hown hK hP 0 rfl rfl 1 (by decide) (hts _ q1659) (fun _ h9 => h9) rfl dX3_undo_34 ?_
        refine lv_iload_n hx hb dX3_undo_37 rfl (lv_at hl 1 rfl) ?_
        refine lv_aload_n hx hb dX3_undo_38 rfl (lv_at hl 0 rfl) ?_
        refine va_get (ci := 2) (v := .ref (ad 26)) (C := RX3) (T := TX3) (N := 52) hx hb hts in_X3 hown hK hP 0 rfl rfl 26 (by decide) (hts _ q1684) (fun _ h9 => h9) rfl dX3_undo_39 ?_
        refine lv_sipush (v := 154) hx hb dX3_undo_42 (by decide) ?_
        refine lv_aload_n hx hb dX3_undo_45 rfl (lv_at hl 0 rfl) ?_
        refine va_get (ci := 2) (v := .int c_acts) (C := RX3) (T := TX3) (N := 52) hx hb hts in_X3 hown hK hP 0 rfl rfl 25 (by decide) (hts _ q1683) (fun _ h9 => h9) rfl dX3_undo_46 ?_
        refine lv_imul hx hb dX3_undo_49 ?_
        refine lv_iload_n hx hb dX3_undo_50 rfl (lv_at hl 1 rfl) ?_
        refine lv_iadd hx hb dX3_undo_51 ?_
        obtain ⟨i4, h⟩ := ckI_s h
        refine va_iald (f := c_past) hx hb hK hP 13 0 rfl rfl i4 dX3_undo_52 ?_
        obtain ⟨i5, h⟩ := ckI_s h
        refine va_iast (f := c_now) hx hb hK hP hD hS 1 0 rfl rfl i5 dX3_undo_53 (fun H locs hP hD hS => ?_)
        have hP : va_P G.2.1 vwCl (mW h0 ad G.2.2 c_code (upd c_now (Int32.toNatClampNeg v1) (c_past (Int32.toNatClampNeg (((154 : Int32) * c_acts) + v1)))) c_read c_status c_tape c_taped c_at c_textSize c_token c_number c_begins c_stops c_bad c_badPlace c_faultPlace c_clauses c_naming c_lineBy c_becomes c_dualLines c_on c_rowNow c_least c_wayFirst c_ways c_acts c_past c_listPoints c_listLines c_listed c_list c_path c_places c_firstPlaces c_px c_py c_pz c_placeMany c_modulus c_drawn c_halvesMany c_halvesFirst c_spreadsMany c_spreadsFirst c_comesTo c_seedNow c_rowThen c_hasImage c_actsThen c_imageRow c_pastThen c_statusThen) H := hP
        have hD : va_D A (mW h0 ad G.2.2 c_code (upd c_now (Int32.toNatClampNeg v1) (c_past (Int32.toNatClampNeg (((154 : Int32) * c_acts) + v1)))) c_read c_status c_tape c_taped c_at c_textSize c_token c_number c_begins c_stops c_bad c_badPlace c_faultPlace c_clauses c_naming c_lineBy c_becomes c_dualLines c_on c_rowNow c_least c_wayFirst c_ways c_acts c_past c_listPoints c_listLines c_listed c_list c_path c_places c_firstPlaces c_px c_py c_pz c_placeMany c_modulus c_drawn c_halvesMany c_halvesFirst c_spreadsMany c_spreadsFirst c_comesTo c_seedNow c_rowThen c_hasImage c_actsThen c_imageRow c_pastThen c_statusThen) := hD
        refine lv_iinc (v := (v1 + 1)) (lv' := [(1, .int (v1 + 1)), (0, .ref h0)]) hx hb dX3_undo_54 hl (k := 1) rfl rfl (by decide) rfl (fun ls hl => ?_)
        refine lv_goto (tgt := 26) hx hb dX3_undo_57 (by decide) ?_
        exact ih (v1 + 1) (upd c_now (Int32.toNatClampNeg v1) (c_past (Int32.toNatClampNeg (((154 : Int32) * c_acts) + v1)))) c_code c_acts h _ _ hP hD hS _ (lv_sub hl [1, 0] rfl)
  refine lv_aload_n hx hb dX3_undo_0 rfl (lv_at hl 0 rfl) ?_
  refine lv_iconst (v := 0) hx hb dX3_undo_1 (by decide) ?_
  refine va_put (ci := 2) (v := .int 0) (ty := .int) (C := RX3) (T := TX3) (N := 52) hx hb hts in_X3 tyX3 tyX3_ok nmX3 hown hK hP hD hS 0 rfl rfl 0 (by decide) (hts _ q1658) (fun _ h9 => h9) rfl (by decide +kernel) rfl rfl (Nat.le_of_ble_eq_true rfl) dX3_undo_2 (fun H locs hP hD hS => ?_)
  have hP : va_P G.2.1 vwCl (mW h0 ad G.2.2 0 c_now c_read c_status c_tape c_taped c_at c_textSize c_token c_number c_begins c_stops c_bad c_badPlace c_faultPlace c_clauses c_naming c_lineBy c_becomes c_dualLines c_on c_rowNow c_least c_wayFirst c_ways c_acts c_past c_listPoints c_listLines c_listed c_list c_path c_places c_firstPlaces c_px c_py c_pz c_placeMany c_modulus c_drawn c_halvesMany c_halvesFirst c_spreadsMany c_spreadsFirst c_comesTo c_seedNow c_rowThen c_hasImage c_actsThen c_imageRow c_pastThen c_statusThen) H := hP
  have hD : va_D A (mW h0 ad G.2.2 0 c_now c_read c_status c_tape c_taped c_at c_textSize c_token c_number c_begins c_stops c_bad c_badPlace c_faultPlace c_clauses c_naming c_lineBy c_becomes c_dualLines c_on c_rowNow c_least c_wayFirst c_ways c_acts c_past c_listPoints c_listLines c_listed c_list c_path c_places c_firstPlaces c_px c_py c_pz c_placeMany c_modulus c_drawn c_halvesMany c_halvesFirst c_spreadsMany c_spreadsFirst c_comesTo c_seedNow c_rowThen c_hasImage c_actsThen c_imageRow c_pastThen c_statusThen) := hD
  refine lv_aload_n hx hb dX3_undo_5 rfl (lv_at hl 0 rfl) ?_
  refine va_get (ci := 2) (v := .int c_acts) (C := RX3) (T := TX3) (N := 52) hx hb hts in_X3 hown hK hP 0 rfl rfl 25 (by decide) (hts _ q1683) (fun _ h9 => h9) rfl dX3_undo_6 ?_
  refine lv_if_ne (tgt := 14) hx hb dX3_undo_9 (by decide) (fun c1 => ?_) (fun c1 => ?_)
  · rw [if_neg c1] at h
    refine lv_aload_n hx hb dX3_undo_14 rfl (lv_at hl 0 rfl) ?_
    refine lv_dup hx hb dX3_undo_15 rfl ?_
    refine va_get (ci := 2) (v := .int c_acts) (C := RX3) (T := TX3) (N := 52) hx hb hts in_X3 hown hK hP 0 rfl rfl 25 (by decide) (hts _ q1683) (fun _ h9 => h9) rfl dX3_undo_16 ?_
    refine lv_iconst (v := 1) hx hb dX3_undo_19 (by decide) ?_
    refine lv_isub hx hb dX3_undo_20 ?_
    refine va_put (ci := 2) (v := .int (c_acts - (1 : Int32))) (ty := .int) (C := RX3) (T := TX3) (N := 52) hx hb hts in_X3 tyX3 tyX3_ok nmX3 hown hK hP hD hS 0 rfl rfl 25 (by decide) (hts _ q1683) (fun _ h9 => h9) rfl (by decide +kernel) rfl rfl (Nat.le_of_ble_eq_true rfl) dX3_undo_21 (fun H locs hP hD hS => ?_)
    have hP : va_P G.2.1 vwCl (mW h0 ad G.2.2 0 c_now c_read c_status c_tape c_taped c_at c_textSize c_token c_number c_begins c_stops c_bad c_badPlace c_faultPlace c_clauses c_naming c_lineBy c_becomes c_dualLines c_on c_rowNow c_least c_wayFirst c_ways (c_acts - (1 : Int32)) c_past c_listPoints c_listLines c_listed c_list c_path c_places c_firstPlaces c_px c_py c_pz c_placeMany c_modulus c_drawn c_halvesMany c_halvesFirst c_spreadsMany c_spreadsFirst c_comesTo c_seedNow c_rowThen c_hasImage c_actsThen c_imageRow c_pastThen c_statusThen) H := hP
    have hD : va_D A (mW h0 ad G.2.2 0 c_now c_read c_status c_tape c_taped c_at c_textSize c_token c_number c_begins c_stops c_bad c_badPlace c_faultPlace c_clauses c_naming c_lineBy c_becomes c_dualLines c_on c_rowNow c_least c_wayFirst c_ways (c_acts - (1 : Int32)) c_past c_listPoints c_listLines c_listed c_list c_path c_places c_firstPlaces c_px c_py c_pz c_placeMany c_modulus c_drawn c_halvesMany c_halvesFirst c_spreadsMany c_spreadsFirst c_comesTo c_seedNow c_rowThen c_hasImage c_actsThen c_imageRow c_pastThen c_statusThen) := hD
    refine lv_iconst (v := 0) hx hb dX3_undo_24 (by decide) ?_
    refine lv_istore_n (lv' := [(1, .int 0), (0, .ref h0)]) hx hb dX3_undo_25 rfl hl (by decide) rfl (fun ls hl => ?_)
    refine S_X3_undo_26 N 0 c_now 0 (c_acts - (1 : Int32)) h  _ _ hP hD hS _ (lv_sub hl [1, 0] rfl)
  · rw [if_pos c1] at h
    refine lv_iconst (v := (-1)) hx hb dX3_undo_12 (by decide) ?_
    obtain rfl := Option.some.inj h
    exact hreti rfl dX3_undo_13 rfl rfl hP hD hS
def F_X3_isLeast_16 (N : Nat) (v1 : Int32) (c_naming : (Nat → Int32)) (c_path : (Nat → Int32)) : Nat → Int32 → (Nat → Int32) → ((Nat → Int32) → Option (Int32 × (Nat → Int32) × (Nat → Int32))) → Option (Int32 × (Nat → Int32) × (Nat → Int32))
  | 0, _, _, _ => none
  | n + 1, v3, c_rowNow, k42 => (if v1 ≤ v3 then (k42 c_rowNow) else (ckI v3 7 ((F_X3_named N (c_path (Int32.toNatClampNeg v3)) c_naming).bind fun y6 => ((F_X3_putSorted N v3 y6 c_rowNow).bind fun y7 => (F_X3_isLeast_16 N v1 c_naming c_path n (v3 + 1) y7 k42)))))
def F_X3_isLeast_10 (N : Nat) (v1 : Int32) (c_path : (Nat → Int32)) (c_listPoints : Int32) : Nat → Int32 → (Nat → Int32) → (Nat → Int32) → Option (Int32 × (Nat → Int32) × (Nat → Int32))
  | 0, _, _, _ => none
  | n + 1, v2, c_naming, c_rowNow => (if v2 = 0 then (some (1, c_naming, c_rowNow)) else (F_X3_isLeast_16 N v1 c_naming c_path N 0 c_rowNow (fun c_rowNow_8 => ((F_X3_compare N 12 7 v1 c_rowNow_8 c_path).bind fun y9 => (if 0 ≤ y9 then ((F_X3_nextNaming N c_listPoints c_naming).bind fun y11 => (F_X3_isLeast_10 N v1 c_path c_listPoints n y11.1 y11.2 c_rowNow_8)) else (some (0, c_naming, c_rowNow_8)))))))
def F_X3_isLeast (N : Nat) (v1 : Int32) (c_naming : (Nat → Int32)) (c_rowNow : (Nat → Int32)) (c_path : (Nat → Int32)) (c_listPoints : Int32) : Option (Int32 × (Nat → Int32) × (Nat → Int32)) := ((F_X3_beginNaming N c_listPoints c_naming).bind fun y1 => (F_X3_isLeast_10 N v1 c_path c_listPoints N 1 y1 c_rowNow))
theorem cw_X3_isLeast {R : Room} {s : State} {args : Array Value} {own : String} {index lev mc ms : Nat} (hts : ∀ w ∈ lw_all, w.before args s = true) (hl : Cond.methodLink own index yX3_isLeast ∈ lw_all) (hR : (rmL lev mc ms).frames + 1 ≤ R.frames ∧ 8 + (4 + 11) + (rmL lev mc ms).locals ≤ R.locals) : CallW R s args own RX3 index yX3_isLeast cX3_isLeast 4 (some .boolean) (ws_ yX3_isLeast cX3_isLeast 4 (some .boolean)) (rmL lev mc ms) mc ms 1 := cwV 1 hts (lw_V hl q2212 qs135 q172 q2213) rfl rfl rfl (by decide +kernel) hR
set_option maxHeartbeats 4000000 in
theorem M_X3_isLeast {l : Launch} {G : GE} (hG : GC G) {N : Nat} {h0 : Nat} {ad : Nat → Nat} {c_code : Int32} {c_now : (Nat → Int32)} {c_read : (Nat → Int32)} {c_status : (Nat → Int32)} {c_tape : (Nat → Int32)} {c_taped : Int32} {c_at : Int32} {c_textSize : Int32} {c_token : Int32} {c_number : Int32} {c_begins : Int32} {c_stops : Int32} {c_bad : Int32} {c_badPlace : Int32} {c_faultPlace : Int32} {c_clauses : Int32} {c_lineBy : (Nat → Int32)} {c_becomes : (Nat → Int32)} {c_dualLines : (Nat → Int32)} {c_on : (Nat → Int32)} {c_least : (Nat → Int32)} {c_wayFirst : (Nat → Int32)} {c_ways : Int32} {c_acts : Int32} {c_past : (Nat → Int32)} {c_listLines : Int32} {c_listed : Int32} {c_list : (Nat → Int32)} {c_places : (Nat → Int32)} {c_firstPlaces : (Nat → Int32)} {c_px : (Nat → Int32)} {c_py : (Nat → Int32)} {c_pz : (Nat → Int32)} {c_placeMany : Int32} {c_modulus : Int32} {c_drawn : Int32} {c_halvesMany : Int32} {c_halvesFirst : Int32} {c_spreadsMany : Int32} {c_spreadsFirst : Int32} {c_comesTo : (Nat → Int32)} {c_seedNow : Int32} {c_rowThen : (Nat → Int32)} {c_hasImage : Int32} {c_actsThen : Int32} {c_imageRow : (Nat → Int32)} {c_pastThen : (Nat → Int32)} {c_statusThen : (Nat → Int32)} {v1 : Int32} {c_naming : (Nat → Int32)} {c_rowNow : (Nat → Int32)} {c_path : (Nat → Int32)} {c_listPoints : Int32} {ρ : (Int32 × (Nat → Int32) × (Nat → Int32))} (h : F_X3_isLeast N v1 c_naming c_rowNow c_path c_listPoints = some ρ) : MW l G yX3_isLeast cX3_isLeast 4 (some .boolean) 3 (mW h0 ad G.2.2 c_code c_now c_read c_status c_tape c_taped c_at c_textSize c_token c_number c_begins c_stops c_bad c_badPlace c_faultPlace c_clauses c_naming c_lineBy c_becomes c_dualLines c_on c_rowNow c_least c_wayFirst c_ways c_acts c_past c_listPoints c_listLines c_listed c_list c_path c_places c_firstPlaces c_px c_py c_pz c_placeMany c_modulus c_drawn c_halvesMany c_halvesFirst c_spreadsMany c_spreadsFirst c_comesTo c_seedNow c_rowThen c_hasImage c_actsThen c_imageRow c_pastThen c_statusThen) [.ref h0, .int v1] (some (.int ρ.1)) (mW h0 ad G.2.2 c_code c_now c_read c_status c_tape c_taped c_at c_textSize c_token c_number c_begins c_stops c_bad c_badPlace c_faultPlace c_clauses ρ.2.1 c_lineBy c_becomes c_dualLines c_on ρ.2.2 c_least c_wayFirst c_ways c_acts c_past c_listPoints c_listLines c_listed c_list c_path c_places c_firstPlaces c_px c_py c_pz c_placeMany c_modulus c_drawn c_halvesMany c_halvesFirst c_spreadsMany c_spreadsFirst c_comesTo c_seedNow c_rowThen c_hasImage c_actsThen c_imageRow c_pastThen c_statusThen) := by
  rw [F_X3_isLeast] at h
  refine MW.start hG (by decide) (Nat.le_of_ble_eq_true rfl) ?_
  intro p e s m args below meth c Q A S hW0 hK hP hD hA hreti hretv ls hl
  have hS : va_S A s.heap s.heap [] := va_S.rf
  obtain ⟨hx, hb, hml, hown, hts⟩ := id S
  have hl : lv_has ls 4 [(0, .ref h0), (1, .int v1)] := hl
  have S_X3_isLeast_16 : ∀ (n : Nat) (v1 : Int32) (v3 : Int32) (c_naming : (Nat → Int32)) (c_rowNow : (Nat → Int32)) (k42 : (Nat → Int32) → Option (Int32 × (Nat → Int32) × (Nat → Int32))), F_X3_isLeast_16 N v1 c_naming c_path n v3 c_rowNow k42 = some ρ → (∀ (z_c_rowNow : (Nat → Int32)) (H : Heap) (locs : List Loc) (ls : Array Slot), k42 z_c_rowNow = some ρ → va_P G.2.1 vwCl (mW h0 ad G.2.2 c_code c_now c_read c_status c_tape c_taped c_at c_textSize c_token c_number c_begins c_stops c_bad c_badPlace c_faultPlace c_clauses c_naming c_lineBy c_becomes c_dualLines c_on z_c_rowNow c_least c_wayFirst c_ways c_acts c_past c_listPoints c_listLines c_listed c_list c_path c_places c_firstPlaces c_px c_py c_pz c_placeMany c_modulus c_drawn c_halvesMany c_halvesFirst c_spreadsMany c_spreadsFirst c_comesTo c_seedNow c_rowThen c_hasImage c_actsThen c_imageRow c_pastThen c_statusThen) H → va_D A (mW h0 ad G.2.2 c_code c_now c_read c_status c_tape c_taped c_at c_textSize c_token c_number c_begins c_stops c_bad c_badPlace c_faultPlace c_clauses c_naming c_lineBy c_becomes c_dualLines c_on z_c_rowNow c_least c_wayFirst c_ways c_acts c_past c_listPoints c_listLines c_listed c_list c_path c_places c_firstPlaces c_px c_py c_pz c_placeMany c_modulus c_drawn c_halvesMany c_halvesFirst c_spreadsMany c_spreadsFirst c_comesTo c_seedNow c_rowThen c_hasImage c_actsThen c_imageRow c_pastThen c_statusThen) → va_S A s.heap H locs → lv_has ls 4 [(0, .ref h0), (1, .int v1)] → W p l e (rmL 3 0 0) s m args below meth c H locs 0 0 Q (F0 m 42 ls [])) → ∀ (H : Heap) (locs : List Loc), va_P G.2.1 vwCl (mW h0 ad G.2.2 c_code c_now c_read c_status c_tape c_taped c_at c_textSize c_token c_number c_begins c_stops c_bad c_badPlace c_faultPlace c_clauses c_naming c_lineBy c_becomes c_dualLines c_on c_rowNow c_least c_wayFirst c_ways c_acts c_past c_listPoints c_listLines c_listed c_list c_path c_places c_firstPlaces c_px c_py c_pz c_placeMany c_modulus c_drawn c_halvesMany c_halvesFirst c_spreadsMany c_spreadsFirst c_comesTo c_seedNow c_rowThen c_hasImage c_actsThen c_imageRow c_pastThen c_statusThen) H → va_D A (mW h0 ad G.2.2 c_code c_now c_read c_status c_tape c_taped c_at c_textSize c_token c_number c_begins c_stops c_bad c_badPlace c_faultPlace c_clauses c_naming c_lineBy c_becomes c_dualLines c_on c_rowNow c_least c_wayFirst c_ways c_acts c_past c_listPoints c_listLines c_listed c_list c_path c_places c_firstPlaces c_px c_py c_pz c_placeMany c_modulus c_drawn c_halvesMany c_halvesFirst c_spreadsMany c_spreadsFirst c_comesTo c_seedNow c_rowThen c_hasImage c_actsThen c_imageRow c_pastThen c_statusThen) → va_S A s.heap H locs → ∀ (ls : Array Slot), lv_has ls 4 [(0, .ref h0), (1, .int v1), (3, .int v3)] → W p l e (rmL 3 0 0) s m args below meth c H locs 0 0 Q (F0 m 16 ls []) := by
    intro n
    induction n with
    | zero =>
      intro v1 v3 c_naming c_rowNow k42 h
      exact absurd h (by simp [F_X3_isLeast_16])
    | succ n ih =>
      intro v1 v3 c_naming c_rowNow k42 h hk42 H locs hP hD hS ls hl
      rw [F_X3_isLeast_16] at h
      refine lv_iload_n hx hb dX3_isLeast_16 rfl (lv_at hl 2 rfl) ?_
      refine lv_iload_n hx hb dX3_isLeast_17 rfl (lv_at hl 1 rfl) ?_
      refine lv_icmp_ge (tgt := 42) hx hb dX3_isLeast_18 (by decide) (fun c4 => ?_) (fun c4 => ?_)
      · rw [if_pos c4] at h
        exact hk42 c_rowNow _ _ _ h hP hD hS (lv_sub hl [0, 1] rfl)
      · rw [if_neg c4] at h
        refine lv_aload_n hx hb dX3_isLeast_21 rfl (lv_at hl 0 rfl) ?_
        refine lv_iload_n hx hb dX3_isLeast_22 rfl (lv_at hl 2 rfl) ?_
        refine lv_aload_n hx hb dX3_isLeast_23 rfl (lv_at hl 0 rfl) ?_
        refine lv_aload_n hx hb dX3_isLeast_24 rfl (lv_at hl 0 rfl) ?_
        refine va_get (ci := 2) (v := .ref (ad 31)) (C := RX3) (T := TX3) (N := 52) hx hb hts in_X3 hown hK hP 0 rfl rfl 31 (by decide) (hts _ q1689) (fun _ h9 => h9) rfl dX3_isLeast_25 ?_
        refine lv_iload_n hx hb dX3_isLeast_28 rfl (lv_at hl 2 rfl) ?_
        obtain ⟨i5, h⟩ := ckI_s h
        refine va_iald (f := c_path) hx hb hK hP 15 0 rfl rfl i5 dX3_isLeast_29 ?_
        obtain ⟨y6, e6, h⟩ := ob_s h
        refine MR.callV (q0 := 0) (M_X3_named hG e6) S (cw_X3_named hts q1986 ⟨Nat.le_of_ble_eq_true rfl, Nat.le_of_ble_eq_true rfl⟩) hW0 hK hP rfl rfl rfl hl.1 rfl (Nat.le_of_ble_eq_true rfl) dX3_isLeast_30 ⟨Nat.zero_le _, Nat.zero_le _⟩ ?_
        obtain ⟨y7, e7, h⟩ := ob_s h
        refine MW.callV (q0 := 0) (M_X3_putSorted hG e7) S (cw_X3_putSorted hts q2092 ⟨Nat.le_of_ble_eq_true rfl, Nat.le_of_ble_eq_true rfl⟩) hW0 hK hP hD hS hA rfl rfl rfl hl.1 rfl (Nat.le_of_ble_eq_true rfl) dX3_isLeast_33 ⟨Nat.zero_le _, Nat.zero_le _⟩ (fun H locs hP hD hS => ?_)
        have hP : va_P G.2.1 vwCl (mW h0 ad G.2.2 c_code c_now c_read c_status c_tape c_taped c_at c_textSize c_token c_number c_begins c_stops c_bad c_badPlace c_faultPlace c_clauses c_naming c_lineBy c_becomes c_dualLines c_on y7 c_least c_wayFirst c_ways c_acts c_past c_listPoints c_listLines c_listed c_list c_path c_places c_firstPlaces c_px c_py c_pz c_placeMany c_modulus c_drawn c_halvesMany c_halvesFirst c_spreadsMany c_spreadsFirst c_comesTo c_seedNow c_rowThen c_hasImage c_actsThen c_imageRow c_pastThen c_statusThen) H := hP
        have hD : va_D A (mW h0 ad G.2.2 c_code c_now c_read c_status c_tape c_taped c_at c_textSize c_token c_number c_begins c_stops c_bad c_badPlace c_faultPlace c_clauses c_naming c_lineBy c_becomes c_dualLines c_on y7 c_least c_wayFirst c_ways c_acts c_past c_listPoints c_listLines c_listed c_list c_path c_places c_firstPlaces c_px c_py c_pz c_placeMany c_modulus c_drawn c_halvesMany c_halvesFirst c_spreadsMany c_spreadsFirst c_comesTo c_seedNow c_rowThen c_hasImage c_actsThen c_imageRow c_pastThen c_statusThen) := hD
        refine W.eq (g2 := F0 m 36 ls []) rfl ?_
        refine lv_iinc (v := (v3 + 1)) (lv' := [(3, .int (v3 + 1)), (0, .ref h0), (1, .int v1)]) hx hb dX3_isLeast_36 hl (k := 2) rfl rfl (by decide) rfl (fun ls hl => ?_)
        refine lv_goto (tgt := 16) hx hb dX3_isLeast_39 (by decide) ?_
        exact ih v1 (v3 + 1) c_naming y7 _ h hk42 _ _ hP hD hS _ (lv_sub hl [1, 2, 0] rfl)
  have S_X3_isLeast_10 : ∀ (n : Nat) (v1 : Int32) (v2 : Int32) (c_naming : (Nat → Int32)) (c_rowNow : (Nat → Int32)), F_X3_isLeast_10 N v1 c_path c_listPoints n v2 c_naming c_rowNow = some ρ → ∀ (H : Heap) (locs : List Loc), va_P G.2.1 vwCl (mW h0 ad G.2.2 c_code c_now c_read c_status c_tape c_taped c_at c_textSize c_token c_number c_begins c_stops c_bad c_badPlace c_faultPlace c_clauses c_naming c_lineBy c_becomes c_dualLines c_on c_rowNow c_least c_wayFirst c_ways c_acts c_past c_listPoints c_listLines c_listed c_list c_path c_places c_firstPlaces c_px c_py c_pz c_placeMany c_modulus c_drawn c_halvesMany c_halvesFirst c_spreadsMany c_spreadsFirst c_comesTo c_seedNow c_rowThen c_hasImage c_actsThen c_imageRow c_pastThen c_statusThen) H → va_D A (mW h0 ad G.2.2 c_code c_now c_read c_status c_tape c_taped c_at c_textSize c_token c_number c_begins c_stops c_bad c_badPlace c_faultPlace c_clauses c_naming c_lineBy c_becomes c_dualLines c_on c_rowNow c_least c_wayFirst c_ways c_acts c_past c_listPoints c_listLines c_listed c_list c_path c_places c_firstPlaces c_px c_py c_pz c_placeMany c_modulus c_drawn c_halvesMany c_halvesFirst c_spreadsMany c_spreadsFirst c_comesTo c_seedNow c_rowThen c_hasImage c_actsThen c_imageRow c_pastThen c_statusThen) → va_S A s.heap H locs → ∀ (ls : Array Slot), lv_has ls 4 [(0, .ref h0), (1, .int v1), (2, .int v2)] → W p l e (rmL 3 0 0) s m args below meth c H locs 0 0 Q (F0 m 10 ls []) := by
    intro n
    induction n with
    | zero =>
      intro v1 v2 c_naming c_rowNow h
      exact absurd h (by simp [F_X3_isLeast_10])
    | succ n ih =>
      intro v1 v2 c_naming c_rowNow h H locs hP hD hS ls hl
      rw [F_X3_isLeast_10] at h
      refine lv_iload_n hx hb dX3_isLeast_10 rfl (lv_at hl 2 rfl) ?_
      refine lv_if_eq (tgt := 71) hx hb dX3_isLeast_11 (by decide) (fun c2 => ?_) (fun c2 => ?_)
      · rw [if_pos c2] at h
        refine lv_iconst (v := 1) hx hb dX3_isLeast_71 (by decide) ?_
        obtain rfl := Option.some.inj h
        exact hreti rfl dX3_isLeast_72 rfl rfl hP hD hS
      · rw [if_neg c2] at h
        refine lv_iconst (v := 0) hx hb dX3_isLeast_14 (by decide) ?_
        refine lv_istore_n (lv' := [(3, .int 0), (0, .ref h0), (1, .int v1), (2, .int v2)]) hx hb dX3_isLeast_15 rfl hl (by decide) rfl (fun ls hl => ?_)
        refine S_X3_isLeast_16 N v1 0 c_naming c_rowNow _ h ?_ _ _ hP hD hS _ (lv_sub hl [1, 2, 0] rfl)
        · intro c_rowNow_8 H locs ls h hP hD hS hl
          refine lv_aload_n hx hb dX3_isLeast_42 rfl (lv_at hl 0 rfl) ?_
          refine va_get (ci := 2) (v := .ref (ad 21)) (C := RX3) (T := TX3) (N := 52) hx hb hts in_X3 hown hK hP 0 rfl rfl 21 (by decide) (hts _ q1679) (fun _ h9 => h9) rfl dX3_isLeast_43 ?_
          refine lv_aload_n hx hb dX3_isLeast_46 rfl (lv_at hl 0 rfl) ?_
          refine va_get (ci := 2) (v := .ref (ad 31)) (C := RX3) (T := TX3) (N := 52) hx hb hts in_X3 hown hK hP 0 rfl rfl 31 (by decide) (hts _ q1689) (fun _ h9 => h9) rfl dX3_isLeast_47 ?_
          refine lv_iload_n hx hb dX3_isLeast_50 rfl (lv_at hl 1 rfl) ?_
          obtain ⟨y9, e9, h⟩ := ob_s h
          refine MR.callS (M_X3_compare hG e9) S (cw_X3_compare hts q2096 ⟨Nat.le_of_ble_eq_true rfl, Nat.le_of_ble_eq_true rfl⟩) hW0 (hP.sub [10, 15] rfl) rfl hl.1 rfl (Nat.le_of_ble_eq_true rfl) dX3_isLeast_51 ⟨Nat.zero_le _, Nat.zero_le _⟩ ?_
          refine lv_if_ge (tgt := 59) hx hb dX3_isLeast_54 (by decide) (fun c10 => ?_) (fun c10 => ?_)
          · rw [if_pos c10] at h
            refine lv_aload_n hx hb dX3_isLeast_59 rfl (lv_at hl 0 rfl) ?_
            refine lv_aload_n hx hb dX3_isLeast_60 rfl (lv_at hl 0 rfl) ?_
            refine va_get (ci := 2) (v := .int c_listPoints) (C := RX3) (T := TX3) (N := 52) hx hb hts in_X3 hown hK hP 0 rfl rfl 27 (by decide) (hts _ q1685) (fun _ h9 => h9) rfl dX3_isLeast_61 ?_
            obtain ⟨y11, e11, h⟩ := ob_s h
            refine MW.callV (q0 := 0) (M_X3_nextNaming hG e11) S (cw_X3_nextNaming hts q1990 ⟨Nat.le_of_ble_eq_true rfl, Nat.le_of_ble_eq_true rfl⟩) hW0 hK hP hD hS hA rfl rfl rfl hl.1 rfl (Nat.le_of_ble_eq_true rfl) dX3_isLeast_64 ⟨Nat.zero_le _, Nat.zero_le _⟩ (fun H locs hP hD hS => ?_)
            have hP : va_P G.2.1 vwCl (mW h0 ad G.2.2 c_code c_now c_read c_status c_tape c_taped c_at c_textSize c_token c_number c_begins c_stops c_bad c_badPlace c_faultPlace c_clauses y11.2 c_lineBy c_becomes c_dualLines c_on c_rowNow_8 c_least c_wayFirst c_ways c_acts c_past c_listPoints c_listLines c_listed c_list c_path c_places c_firstPlaces c_px c_py c_pz c_placeMany c_modulus c_drawn c_halvesMany c_halvesFirst c_spreadsMany c_spreadsFirst c_comesTo c_seedNow c_rowThen c_hasImage c_actsThen c_imageRow c_pastThen c_statusThen) H := hP
            have hD : va_D A (mW h0 ad G.2.2 c_code c_now c_read c_status c_tape c_taped c_at c_textSize c_token c_number c_begins c_stops c_bad c_badPlace c_faultPlace c_clauses y11.2 c_lineBy c_becomes c_dualLines c_on c_rowNow_8 c_least c_wayFirst c_ways c_acts c_past c_listPoints c_listLines c_listed c_list c_path c_places c_firstPlaces c_px c_py c_pz c_placeMany c_modulus c_drawn c_halvesMany c_halvesFirst c_spreadsMany c_spreadsFirst c_comesTo c_seedNow c_rowThen c_hasImage c_actsThen c_imageRow c_pastThen c_statusThen) := hD
            refine W.eq (g2 := F0 m 67 ls [.int y11.1]) rfl ?_
            refine lv_istore_n (lv' := [(2, .int y11.1), (0, .ref h0), (1, .int v1)]) hx hb dX3_isLeast_67 rfl hl (by decide) rfl (fun ls hl => ?_)
            refine lv_goto (tgt := 10) hx hb dX3_isLeast_68 (by decide) ?_
            exact ih v1 y11.1 y11.2 c_rowNow_8 h _ _ hP hD hS _ (lv_sub hl [1, 2, 0] rfl)
          · rw [if_neg c10] at h
            refine lv_iconst (v := 0) hx hb dX3_isLeast_57 (by decide) ?_
            obtain rfl := Option.some.inj h
            exact hreti rfl dX3_isLeast_58 rfl rfl hP hD hS
  refine lv_iconst (v := 1) hx hb dX3_isLeast_0 (by decide) ?_
  refine lv_istore_n (lv' := [(2, .int 1), (0, .ref h0), (1, .int v1)]) hx hb dX3_isLeast_1 rfl hl (by decide) rfl (fun ls hl => ?_)
  refine lv_aload_n hx hb dX3_isLeast_2 rfl (lv_at hl 1 rfl) ?_
  refine lv_aload_n hx hb dX3_isLeast_3 rfl (lv_at hl 1 rfl) ?_
  refine va_get (ci := 2) (v := .int c_listPoints) (C := RX3) (T := TX3) (N := 52) hx hb hts in_X3 hown hK hP 0 rfl rfl 27 (by decide) (hts _ q1685) (fun _ h9 => h9) rfl dX3_isLeast_4 ?_
  obtain ⟨y1, e1, h⟩ := ob_s h
  refine MW.callV (q0 := 0) (M_X3_beginNaming hG e1) S (cw_X3_beginNaming hts q1978 ⟨Nat.le_of_ble_eq_true rfl, Nat.le_of_ble_eq_true rfl⟩) hW0 hK hP hD hS hA rfl rfl rfl hl.1 rfl (Nat.le_of_ble_eq_true rfl) dX3_isLeast_7 ⟨Nat.zero_le _, Nat.zero_le _⟩ (fun H locs hP hD hS => ?_)
  have hP : va_P G.2.1 vwCl (mW h0 ad G.2.2 c_code c_now c_read c_status c_tape c_taped c_at c_textSize c_token c_number c_begins c_stops c_bad c_badPlace c_faultPlace c_clauses y1 c_lineBy c_becomes c_dualLines c_on c_rowNow c_least c_wayFirst c_ways c_acts c_past c_listPoints c_listLines c_listed c_list c_path c_places c_firstPlaces c_px c_py c_pz c_placeMany c_modulus c_drawn c_halvesMany c_halvesFirst c_spreadsMany c_spreadsFirst c_comesTo c_seedNow c_rowThen c_hasImage c_actsThen c_imageRow c_pastThen c_statusThen) H := hP
  have hD : va_D A (mW h0 ad G.2.2 c_code c_now c_read c_status c_tape c_taped c_at c_textSize c_token c_number c_begins c_stops c_bad c_badPlace c_faultPlace c_clauses y1 c_lineBy c_becomes c_dualLines c_on c_rowNow c_least c_wayFirst c_ways c_acts c_past c_listPoints c_listLines c_listed c_list c_path c_places c_firstPlaces c_px c_py c_pz c_placeMany c_modulus c_drawn c_halvesMany c_halvesFirst c_spreadsMany c_spreadsFirst c_comesTo c_seedNow c_rowThen c_hasImage c_actsThen c_imageRow c_pastThen c_statusThen) := hD
  refine W.eq (g2 := F0 m 10 ls []) rfl ?_
  refine S_X3_isLeast_10 N v1 1 y1 c_rowNow h  _ _ hP hD hS _ (lv_sub hl [1, 2, 0] rfl)
def F_X3_listFrom_99 (N : Nat) (rc : Int32 → (Nat → Int32) → (Nat → Int32) → (Nat → Int32) → (Nat → Int32) → Int32 → Int32 → Int32 → Option ((Nat → Int32) × (Nat → Int32) × (Nat → Int32) × (Nat → Int32) × Int32)) (v1 : Int32) (v2 : Int32) (c_path : (Nat → Int32)) : Nat → Int32 → Int32 → (Int32 → Option ((Nat → Int32) × (Nat → Int32) × (Nat → Int32) × (Nat → Int32) × Int32)) → Option ((Nat → Int32) × (Nat → Int32) × (Nat → Int32) × (Nat → Int32) × Int32)
  | 0, _, _, _ => none
  | n + 1, v3, v4, k137 => (if v1 ≤ v4 then (k137 v3) else (if v3 = 0 then (k137 v3) else (ckI v4 7 ((F_X3_bits N ((c_path (Int32.toNatClampNeg v4)) &&& v2)).bind fun y11 => (if 2 ≤ y11 then (F_X3_listFrom_99 N rc v1 v2 c_path n 0 (v4 + 1) k137) else (F_X3_listFrom_99 N rc v1 v2 c_path n 1 (v4 + 1) k137))))))
def F_X3_listFrom_137 (N : Nat) (rc : Int32 → (Nat → Int32) → (Nat → Int32) → (Nat → Int32) → (Nat → Int32) → Int32 → Int32 → Int32 → Option ((Nat → Int32) × (Nat → Int32) × (Nat → Int32) × (Nat → Int32) × Int32)) (c_listPoints : Int32) (c_listLines : Int32) (v1 : Int32) (v2 : Int32) (v3 : Int32) (c_naming : (Nat → Int32)) (c_rowNow : (Nat → Int32)) (c_list : (Nat → Int32)) (c_path : (Nat → Int32)) (c_listed : Int32) (k72 : Int32 → (Nat → Int32) → (Nat → Int32) → (Nat → Int32) → (Nat → Int32) → Int32 → Option ((Nat → Int32) × (Nat → Int32) × (Nat → Int32) × (Nat → Int32) × Int32)) : Option ((Nat → Int32) × (Nat → Int32) × (Nat → Int32) × (Nat → Int32) × Int32) := (if v3 = 0 then (k72 (v2 + 1) c_naming c_rowNow c_list c_path c_listed) else (ckI v1 7 ((F_X3_isLeast N (v1 + (1 : Int32)) c_naming c_rowNow (upd c_path (Int32.toNatClampNeg v1) v2) c_listPoints).bind fun y16 => (if y16.1 = 0 then (k72 (v2 + 1) y16.2.1 y16.2.2 c_list (upd c_path (Int32.toNatClampNeg v1) v2) c_listed) else ((rc (v1 + (1 : Int32)) y16.2.1 y16.2.2 c_list (upd c_path (Int32.toNatClampNeg v1) v2) c_listPoints c_listLines c_listed).bind fun y18 => (k72 (v2 + 1) y18.1 y18.2.1 y18.2.2.1 y18.2.2.2.1 y18.2.2.2.2))))))
def F_X3_listFrom_95 (N : Nat) (rc : Int32 → (Nat → Int32) → (Nat → Int32) → (Nat → Int32) → (Nat → Int32) → Int32 → Int32 → Int32 → Option ((Nat → Int32) × (Nat → Int32) × (Nat → Int32) × (Nat → Int32) × Int32)) (c_listPoints : Int32) (c_listLines : Int32) (s0 : Int32) (v1 : Int32) (v2 : Int32) (c_naming : (Nat → Int32)) (c_rowNow : (Nat → Int32)) (c_list : (Nat → Int32)) (c_path : (Nat → Int32)) (c_listed : Int32) (k72 : Int32 → (Nat → Int32) → (Nat → Int32) → (Nat → Int32) → (Nat → Int32) → Int32 → Option ((Nat → Int32) × (Nat → Int32) × (Nat → Int32) × (Nat → Int32) × Int32)) : Option ((Nat → Int32) × (Nat → Int32) × (Nat → Int32) × (Nat → Int32) × Int32) := (F_X3_listFrom_99 N rc v1 v2 c_path N s0 0 (fun u3_13 => (F_X3_listFrom_137 N rc c_listPoints c_listLines v1 v2 u3_13 c_naming c_rowNow c_list c_path c_listed k72)))
def F_X3_listFrom_72 (N : Nat) (rc : Int32 → (Nat → Int32) → (Nat → Int32) → (Nat → Int32) → (Nat → Int32) → Int32 → Int32 → Int32 → Option ((Nat → Int32) × (Nat → Int32) × (Nat → Int32) × (Nat → Int32) × Int32)) (v1 : Int32) (c_listPoints : Int32) (c_listLines : Int32) : Nat → Int32 → (Nat → Int32) → (Nat → Int32) → (Nat → Int32) → (Nat → Int32) → Int32 → Option ((Nat → Int32) × (Nat → Int32) × (Nat → Int32) × (Nat → Int32) × Int32)
  | 0, _, _, _, _, _, _ => none
  | n + 1, v2, c_naming, c_rowNow, c_list, c_path, c_listed => (if ((1 : Int32) <<< (c_listPoints &&& 31)) ≤ v2 then (some (c_naming, c_rowNow, c_list, c_path, c_listed)) else ((F_X3_bits N v2).bind fun y6 => (if y6 = 3 then (F_X3_listFrom_95 N rc c_listPoints c_listLines 1 v1 v2 c_naming c_rowNow c_list c_path c_listed (fun u2 z_c_naming z_c_rowNow z_c_list z_c_path z_c_listed => (F_X3_listFrom_72 N rc v1 c_listPoints c_listLines n u2 z_c_naming z_c_rowNow z_c_list z_c_path z_c_listed))) else (F_X3_listFrom_95 N rc c_listPoints c_listLines 0 v1 v2 c_naming c_rowNow c_list c_path c_listed (fun u2 z_c_naming z_c_rowNow z_c_list z_c_path z_c_listed => (F_X3_listFrom_72 N rc v1 c_listPoints c_listLines n u2 z_c_naming z_c_rowNow z_c_list z_c_path z_c_listed))))))
def F_X3_listFrom_71 (N : Nat) (rc : Int32 → (Nat → Int32) → (Nat → Int32) → (Nat → Int32) → (Nat → Int32) → Int32 → Int32 → Int32 → Option ((Nat → Int32) × (Nat → Int32) × (Nat → Int32) × (Nat → Int32) × Int32)) (c_listPoints : Int32) (c_listLines : Int32) (s0 : Int32) (v1 : Int32) (c_naming : (Nat → Int32)) (c_rowNow : (Nat → Int32)) (c_list : (Nat → Int32)) (c_path : (Nat → Int32)) (c_listed : Int32) : Option ((Nat → Int32) × (Nat → Int32) × (Nat → Int32) × (Nat → Int32) × Int32) := (F_X3_listFrom_72 N rc v1 c_listPoints c_listLines N s0 c_naming c_rowNow c_list c_path c_listed)
def F_X3_listFrom_10 (N : Nat) (rc : Int32 → (Nat → Int32) → (Nat → Int32) → (Nat → Int32) → (Nat → Int32) → Int32 → Int32 → Int32 → Option ((Nat → Int32) × (Nat → Int32) × (Nat → Int32) × (Nat → Int32) × Int32)) (v1 : Int32) (c_naming : (Nat → Int32)) (c_rowNow : (Nat → Int32)) (c_path : (Nat → Int32)) : Nat → Int32 → (Nat → Int32) → Int32 → Option ((Nat → Int32) × (Nat → Int32) × (Nat → Int32) × (Nat → Int32) × Int32)
  | 0, _, _, _ => none
  | n + 1, v2, c_list, c_listed => (if v1 ≤ v2 then (some (c_naming, c_rowNow, c_list, c_path, (c_listed + (1 : Int32)))) else (ckI v2 7 (ckI (((7 : Int32) * c_listed) + v2) 14000 (F_X3_listFrom_10 N rc v1 c_naming c_rowNow c_path n (v2 + 1) (upd c_list (Int32.toNatClampNeg (((7 : Int32) * c_listed) + v2)) (c_path (Int32.toNatClampNeg v2))) c_listed))))
def F_X3_listFrom (N : Nat) : Nat → (v1 : Int32) → (c_naming : (Nat → Int32)) → (c_rowNow : (Nat → Int32)) → (c_list : (Nat → Int32)) → (c_path : (Nat → Int32)) → (c_listPoints : Int32) → (c_listLines : Int32) → (c_listed : Int32) → Option ((Nat → Int32) × (Nat → Int32) × (Nat → Int32) × (Nat → Int32) × Int32)
  | 0, _, _, _, _, _, _, _, _ => none
  | d + 1, v1, c_naming, c_rowNow, c_list, c_path, c_listPoints, c_listLines, c_listed => (if v1 = c_listLines then (F_X3_listFrom_10 N (F_X3_listFrom N d) v1 c_naming c_rowNow c_path N 0 c_list c_listed) else (if v1 = 0 then (F_X3_listFrom_71 N (F_X3_listFrom N d) c_listPoints c_listLines 7 v1 c_naming c_rowNow c_list c_path c_listed) else (ckI (v1 - (1 : Int32)) 7 (F_X3_listFrom_71 N (F_X3_listFrom N d) c_listPoints c_listLines ((c_path (Int32.toNatClampNeg (v1 - (1 : Int32)))) + (1 : Int32)) v1 c_naming c_rowNow c_list c_path c_listed))))
theorem cw_X3_listFrom {R : Room} {s : State} {args : Array Value} {own : String} {index lev mc ms : Nat} (hts : ∀ w ∈ lw_all, w.before args s = true) (hl : Cond.methodLink own index yX3_listFrom ∈ lw_all) (hR : (rmL lev mc ms).frames + 1 ≤ R.frames ∧ 8 + (5 + 11) + (rmL lev mc ms).locals ≤ R.locals) : CallW R s args own RX3 index yX3_listFrom cX3_listFrom 5 none (ws_ yX3_listFrom cX3_listFrom 5 none) (rmL lev mc ms) mc ms 1 := cwV 1 hts (lw_V hl q2208 qs134 q172 q2209) rfl rfl rfl (by decide +kernel) hR
set_option maxHeartbeats 4000000 in
theorem M_X3_listFrom {l : Launch} {G : GE} (hG : GC G) {N : Nat} {h0 : Nat} {ad : Nat → Nat} {c_code : Int32} {c_now : (Nat → Int32)} {c_read : (Nat → Int32)} {c_status : (Nat → Int32)} {c_tape : (Nat → Int32)} {c_taped : Int32} {c_at : Int32} {c_textSize : Int32} {c_token : Int32} {c_number : Int32} {c_begins : Int32} {c_stops : Int32} {c_bad : Int32} {c_badPlace : Int32} {c_faultPlace : Int32} {c_clauses : Int32} {c_lineBy : (Nat → Int32)} {c_becomes : (Nat → Int32)} {c_dualLines : (Nat → Int32)} {c_on : (Nat → Int32)} {c_least : (Nat → Int32)} {c_wayFirst : (Nat → Int32)} {c_ways : Int32} {c_acts : Int32} {c_past : (Nat → Int32)} {c_places : (Nat → Int32)} {c_firstPlaces : (Nat → Int32)} {c_px : (Nat → Int32)} {c_py : (Nat → Int32)} {c_pz : (Nat → Int32)} {c_placeMany : Int32} {c_modulus : Int32} {c_drawn : Int32} {c_halvesMany : Int32} {c_halvesFirst : Int32} {c_spreadsMany : Int32} {c_spreadsFirst : Int32} {c_comesTo : (Nat → Int32)} {c_seedNow : Int32} {c_rowThen : (Nat → Int32)} {c_hasImage : Int32} {c_actsThen : Int32} {c_imageRow : (Nat → Int32)} {c_pastThen : (Nat → Int32)} {c_statusThen : (Nat → Int32)} : ∀ (d : Nat) {v1 : Int32} {c_naming : (Nat → Int32)} {c_rowNow : (Nat → Int32)} {c_list : (Nat → Int32)} {c_path : (Nat → Int32)} {c_listPoints : Int32} {c_listLines : Int32} {c_listed : Int32} {ρ : ((Nat → Int32) × (Nat → Int32) × (Nat → Int32) × (Nat → Int32) × Int32)} (h : F_X3_listFrom N d v1 c_naming c_rowNow c_list c_path c_listPoints c_listLines c_listed = some ρ), MW l G yX3_listFrom cX3_listFrom 5 none (4 + d) (mW h0 ad G.2.2 c_code c_now c_read c_status c_tape c_taped c_at c_textSize c_token c_number c_begins c_stops c_bad c_badPlace c_faultPlace c_clauses c_naming c_lineBy c_becomes c_dualLines c_on c_rowNow c_least c_wayFirst c_ways c_acts c_past c_listPoints c_listLines c_listed c_list c_path c_places c_firstPlaces c_px c_py c_pz c_placeMany c_modulus c_drawn c_halvesMany c_halvesFirst c_spreadsMany c_spreadsFirst c_comesTo c_seedNow c_rowThen c_hasImage c_actsThen c_imageRow c_pastThen c_statusThen) [.ref h0, .int v1] none (mW h0 ad G.2.2 c_code c_now c_read c_status c_tape c_taped c_at c_textSize c_token c_number c_begins c_stops c_bad c_badPlace c_faultPlace c_clauses ρ.1 c_lineBy c_becomes c_dualLines c_on ρ.2.1 c_least c_wayFirst c_ways c_acts c_past c_listPoints c_listLines ρ.2.2.2.2 ρ.2.2.1 ρ.2.2.2.1 c_places c_firstPlaces c_px c_py c_pz c_placeMany c_modulus c_drawn c_halvesMany c_halvesFirst c_spreadsMany c_spreadsFirst c_comesTo c_seedNow c_rowThen c_hasImage c_actsThen c_imageRow c_pastThen c_statusThen) := by
  intro d
  induction d with
  | zero =>
    intro v1 c_naming c_rowNow c_list c_path c_listPoints c_listLines c_listed ρ h
    exact absurd h (by simp [F_X3_listFrom])
  | succ d ihd =>
    intro v1 c_naming c_rowNow c_list c_path c_listPoints c_listLines c_listed ρ h
    rw [F_X3_listFrom] at h
    refine MW.start hG (by decide) (Nat.le_of_ble_eq_true rfl) ?_
    intro p e s m args below meth c Q A S hW0 hK hP hD hA hreti hretv ls hl
    have hS : va_S A s.heap s.heap [] := va_S.rf
    obtain ⟨hx, hb, hml, hown, hts⟩ := id S
    have hl : lv_has ls 5 [(0, .ref h0), (1, .int v1)] := hl
    have S_X3_listFrom_99 : ∀ (n : Nat) (v1 : Int32) (v2 : Int32) (v3 : Int32) (v4 : Int32) (c_naming : (Nat → Int32)) (c_rowNow : (Nat → Int32)) (c_list : (Nat → Int32)) (c_path : (Nat → Int32)) (c_listed : Int32) (k137 : Int32 → Option ((Nat → Int32) × (Nat → Int32) × (Nat → Int32) × (Nat → Int32) × Int32)), F_X3_listFrom_99 N (F_X3_listFrom N d) v1 v2 c_path n v3 v4 k137 = some ρ → (∀ (u3 : Int32) (H : Heap) (locs : List Loc) (ls : Array Slot), k137 u3 = some ρ → va_P G.2.1 vwCl (mW h0 ad G.2.2 c_code c_now c_read c_status c_tape c_taped c_at c_textSize c_token c_number c_begins c_stops c_bad c_badPlace c_faultPlace c_clauses c_naming c_lineBy c_becomes c_dualLines c_on c_rowNow c_least c_wayFirst c_ways c_acts c_past c_listPoints c_listLines c_listed c_list c_path c_places c_firstPlaces c_px c_py c_pz c_placeMany c_modulus c_drawn c_halvesMany c_halvesFirst c_spreadsMany c_spreadsFirst c_comesTo c_seedNow c_rowThen c_hasImage c_actsThen c_imageRow c_pastThen c_statusThen) H → va_D A (mW h0 ad G.2.2 c_code c_now c_read c_status c_tape c_taped c_at c_textSize c_token c_number c_begins c_stops c_bad c_badPlace c_faultPlace c_clauses c_naming c_lineBy c_becomes c_dualLines c_on c_rowNow c_least c_wayFirst c_ways c_acts c_past c_listPoints c_listLines c_listed c_list c_path c_places c_firstPlaces c_px c_py c_pz c_placeMany c_modulus c_drawn c_halvesMany c_halvesFirst c_spreadsMany c_spreadsFirst c_comesTo c_seedNow c_rowThen c_hasImage c_actsThen c_imageRow c_pastThen c_statusThen) → va_S A s.heap H locs → lv_has ls 5 [(0, .ref h0), (1, .int v1), (2, .int v2), (3, .int u3)] → W p l e (rmL (4 + (d + 1)) 0 0) s m args below meth c H locs 0 0 Q (F0 m 137 ls [])) → ∀ (H : Heap) (locs : List Loc), va_P G.2.1 vwCl (mW h0 ad G.2.2 c_code c_now c_read c_status c_tape c_taped c_at c_textSize c_token c_number c_begins c_stops c_bad c_badPlace c_faultPlace c_clauses c_naming c_lineBy c_becomes c_dualLines c_on c_rowNow c_least c_wayFirst c_ways c_acts c_past c_listPoints c_listLines c_listed c_list c_path c_places c_firstPlaces c_px c_py c_pz c_placeMany c_modulus c_drawn c_halvesMany c_halvesFirst c_spreadsMany c_spreadsFirst c_comesTo c_seedNow c_rowThen c_hasImage c_actsThen c_imageRow c_pastThen c_statusThen) H → va_D A (mW h0 ad G.2.2 c_code c_now c_read c_status c_tape c_taped c_at c_textSize c_token c_number c_begins c_stops c_bad c_badPlace c_faultPlace c_clauses c_naming c_lineBy c_becomes c_dualLines c_on c_rowNow c_least c_wayFirst c_ways c_acts c_past c_listPoints c_listLines c_listed c_list c_path c_places c_firstPlaces c_px c_py c_pz c_placeMany c_modulus c_drawn c_halvesMany c_halvesFirst c_spreadsMany c_spreadsFirst c_comesTo c_seedNow c_rowThen c_hasImage c_actsThen c_imageRow c_pastThen c_statusThen) → va_S A s.heap H locs → ∀ (ls : Array Slot), lv_has ls 5 [(0, .ref h0), (1, .int v1), (2, .int v2), (3, .int v3), (4, .int v4)] → W p l e (rmL (4 + (d + 1)) 0 0) s m args below meth c H locs 0 0 Q (F0 m 99 ls []) := by
      intro n
      induction n with
      | zero =>
        intro v1 v2 v3 v4 c_naming c_rowNow c_list c_path c_listed k137 h
        exact absurd h (by simp [F_X3_listFrom_99])
      | succ n ih =>
        intro v1 v2 v3 v4 c_naming c_rowNow c_list c_path c_listed k137 h hk137 H locs hP hD hS ls hl
        rw [F_X3_listFrom_99] at h
        refine lv_iload hx hb dX3_listFrom_99 (lv_at hl 4 rfl) ?_
        refine lv_iload_n hx hb dX3_listFrom_101 rfl (lv_at hl 1 rfl) ?_
        refine lv_icmp_ge (tgt := 137) hx hb dX3_listFrom_102 (by decide) (fun c8 => ?_) (fun c8 => ?_)
        · rw [if_pos c8] at h
          exact hk137 v3 _ _ _ h hP hD hS (lv_sub hl [0, 1, 2, 3] rfl)
        · rw [if_neg c8] at h
          refine lv_iload_n hx hb dX3_listFrom_105 rfl (lv_at hl 3 rfl) ?_
          refine lv_if_eq (tgt := 137) hx hb dX3_listFrom_106 (by decide) (fun c9 => ?_) (fun c9 => ?_)
          · rw [if_pos c9] at h
            exact hk137 v3 _ _ _ h hP hD hS (lv_sub hl [0, 1, 2, 3] rfl)
          · rw [if_neg c9] at h
            refine lv_aload_n hx hb dX3_listFrom_109 rfl (lv_at hl 0 rfl) ?_
            refine va_get (ci := 2) (v := .ref (ad 31)) (C := RX3) (T := TX3) (N := 52) hx hb hts in_X3 hown hK hP 0 rfl rfl 31 (by decide) (hts _ q1689) (fun _ h9 => h9) rfl dX3_listFrom_110 ?_
            refine lv_iload hx hb dX3_listFrom_113 (lv_at hl 4 rfl) ?_
            obtain ⟨i10, h⟩ := ckI_s h
            refine va_iald (f := c_path) hx hb hK hP 15 0 rfl rfl i10 dX3_listFrom_115 ?_
            refine lv_iload_n hx hb dX3_listFrom_116 rfl (lv_at hl 2 rfl) ?_
            refine lv_iand hx hb dX3_listFrom_117 ?_
            obtain ⟨y11, e11, h⟩ := ob_s h
            refine MR.callS (M_X3_bits hG e11) S (cw_X3_bits hts q1896 ⟨by dsimp only; omega, by dsimp only; omega⟩) hW0 vaP0 rfl hl.1 rfl (Nat.le_of_ble_eq_true rfl) dX3_listFrom_118 ⟨Nat.zero_le _, Nat.zero_le _⟩ ?_
            refine lv_iconst (v := 2) hx hb dX3_listFrom_121 (by decide) ?_
            refine lv_icmp_ge (tgt := 129) hx hb dX3_listFrom_122 (by decide) (fun c12 => ?_) (fun c12 => ?_)
            · rw [if_pos c12] at h
              refine lv_iconst (v := 0) hx hb dX3_listFrom_129 (by decide) ?_
              refine lv_istore_n (lv' := [(3, .int 0), (0, .ref h0), (1, .int v1), (2, .int v2), (4, .int v4)]) hx hb dX3_listFrom_130 rfl hl (by decide) rfl (fun ls hl => ?_)
              refine lv_iinc (v := (v4 + 1)) (lv' := [(4, .int (v4 + 1)), (3, .int 0), (0, .ref h0), (1, .int v1), (2, .int v2)]) hx hb dX3_listFrom_131 hl (k := 4) rfl rfl (by decide) rfl (fun ls hl => ?_)
              refine lv_goto (tgt := 99) hx hb dX3_listFrom_134 (by decide) ?_
              exact ih v1 v2 0 (v4 + 1) c_naming c_rowNow c_list c_path c_listed _ h hk137 _ _ hP hD hS _ (lv_sub hl [2, 3, 4, 1, 0] rfl)
            · rw [if_neg c12] at h
              refine lv_iconst (v := 1) hx hb dX3_listFrom_125 (by decide) ?_
              refine lv_goto (tgt := 130) hx hb dX3_listFrom_126 (by decide) ?_
              refine lv_istore_n (lv' := [(3, .int 1), (0, .ref h0), (1, .int v1), (2, .int v2), (4, .int v4)]) hx hb dX3_listFrom_130 rfl hl (by decide) rfl (fun ls hl => ?_)
              refine lv_iinc (v := (v4 + 1)) (lv' := [(4, .int (v4 + 1)), (3, .int 1), (0, .ref h0), (1, .int v1), (2, .int v2)]) hx hb dX3_listFrom_131 hl (k := 4) rfl rfl (by decide) rfl (fun ls hl => ?_)
              refine lv_goto (tgt := 99) hx hb dX3_listFrom_134 (by decide) ?_
              exact ih v1 v2 1 (v4 + 1) c_naming c_rowNow c_list c_path c_listed _ h hk137 _ _ hP hD hS _ (lv_sub hl [2, 3, 4, 1, 0] rfl)
    have S_X3_listFrom_137 : ∀ (v1 : Int32) (v2 : Int32) (v3 : Int32) (c_naming : (Nat → Int32)) (c_rowNow : (Nat → Int32)) (c_list : (Nat → Int32)) (c_path : (Nat → Int32)) (c_listed : Int32) (k72 : Int32 → (Nat → Int32) → (Nat → Int32) → (Nat → Int32) → (Nat → Int32) → Int32 → Option ((Nat → Int32) × (Nat → Int32) × (Nat → Int32) × (Nat → Int32) × Int32)), F_X3_listFrom_137 N (F_X3_listFrom N d) c_listPoints c_listLines v1 v2 v3 c_naming c_rowNow c_list c_path c_listed k72 = some ρ → (∀ (u2 : Int32) (z_c_naming : (Nat → Int32)) (z_c_rowNow : (Nat → Int32)) (z_c_list : (Nat → Int32)) (z_c_path : (Nat → Int32)) (z_c_listed : Int32) (H : Heap) (locs : List Loc) (ls : Array Slot), k72 u2 z_c_naming z_c_rowNow z_c_list z_c_path z_c_listed = some ρ → va_P G.2.1 vwCl (mW h0 ad G.2.2 c_code c_now c_read c_status c_tape c_taped c_at c_textSize c_token c_number c_begins c_stops c_bad c_badPlace c_faultPlace c_clauses z_c_naming c_lineBy c_becomes c_dualLines c_on z_c_rowNow c_least c_wayFirst c_ways c_acts c_past c_listPoints c_listLines z_c_listed z_c_list z_c_path c_places c_firstPlaces c_px c_py c_pz c_placeMany c_modulus c_drawn c_halvesMany c_halvesFirst c_spreadsMany c_spreadsFirst c_comesTo c_seedNow c_rowThen c_hasImage c_actsThen c_imageRow c_pastThen c_statusThen) H → va_D A (mW h0 ad G.2.2 c_code c_now c_read c_status c_tape c_taped c_at c_textSize c_token c_number c_begins c_stops c_bad c_badPlace c_faultPlace c_clauses z_c_naming c_lineBy c_becomes c_dualLines c_on z_c_rowNow c_least c_wayFirst c_ways c_acts c_past c_listPoints c_listLines z_c_listed z_c_list z_c_path c_places c_firstPlaces c_px c_py c_pz c_placeMany c_modulus c_drawn c_halvesMany c_halvesFirst c_spreadsMany c_spreadsFirst c_comesTo c_seedNow c_rowThen c_hasImage c_actsThen c_imageRow c_pastThen c_statusThen) → va_S A s.heap H locs → lv_has ls 5 [(0, .ref h0), (1, .int v1), (2, .int u2)] → W p l e (rmL (4 + (d + 1)) 0 0) s m args below meth c H locs 0 0 Q (F0 m 72 ls [])) → ∀ (H : Heap) (locs : List Loc), va_P G.2.1 vwCl (mW h0 ad G.2.2 c_code c_now c_read c_status c_tape c_taped c_at c_textSize c_token c_number c_begins c_stops c_bad c_badPlace c_faultPlace c_clauses c_naming c_lineBy c_becomes c_dualLines c_on c_rowNow c_least c_wayFirst c_ways c_acts c_past c_listPoints c_listLines c_listed c_list c_path c_places c_firstPlaces c_px c_py c_pz c_placeMany c_modulus c_drawn c_halvesMany c_halvesFirst c_spreadsMany c_spreadsFirst c_comesTo c_seedNow c_rowThen c_hasImage c_actsThen c_imageRow c_pastThen c_statusThen) H → va_D A (mW h0 ad G.2.2 c_code c_now c_read c_status c_tape c_taped c_at c_textSize c_token c_number c_begins c_stops c_bad c_badPlace c_faultPlace c_clauses c_naming c_lineBy c_becomes c_dualLines c_on c_rowNow c_least c_wayFirst c_ways c_acts c_past c_listPoints c_listLines c_listed c_list c_path c_places c_firstPlaces c_px c_py c_pz c_placeMany c_modulus c_drawn c_halvesMany c_halvesFirst c_spreadsMany c_spreadsFirst c_comesTo c_seedNow c_rowThen c_hasImage c_actsThen c_imageRow c_pastThen c_statusThen) → va_S A s.heap H locs → ∀ (ls : Array Slot), lv_has ls 5 [(0, .ref h0), (1, .int v1), (2, .int v2), (3, .int v3)] → W p l e (rmL (4 + (d + 1)) 0 0) s m args below meth c H locs 0 0 Q (F0 m 137 ls []) := by
      intro v1 v2 v3 c_naming c_rowNow c_list c_path c_listed k72 h hk72 H locs hP hD hS ls hl
      rw [F_X3_listFrom_137] at h
      refine lv_iload_n hx hb dX3_listFrom_137 rfl (lv_at hl 3 rfl) ?_
      refine lv_if_ne (tgt := 144) hx hb dX3_listFrom_138 (by decide) (fun c14 => ?_) (fun c14 => ?_)
      · rw [if_neg c14] at h
        refine lv_aload_n hx hb dX3_listFrom_144 rfl (lv_at hl 0 rfl) ?_
        refine va_get (ci := 2) (v := .ref (ad 31)) (C := RX3) (T := TX3) (N := 52) hx hb hts in_X3 hown hK hP 0 rfl rfl 31 (by decide) (hts _ q1689) (fun _ h9 => h9) rfl dX3_listFrom_145 ?_
        refine lv_iload_n hx hb dX3_listFrom_148 rfl (lv_at hl 1 rfl) ?_
        refine lv_iload_n hx hb dX3_listFrom_149 rfl (lv_at hl 2 rfl) ?_
        obtain ⟨i15, h⟩ := ckI_s h
        refine va_iast (f := c_path) hx hb hK hP hD hS 15 0 rfl rfl i15 dX3_listFrom_150 (fun H locs hP hD hS => ?_)
        have hP : va_P G.2.1 vwCl (mW h0 ad G.2.2 c_code c_now c_read c_status c_tape c_taped c_at c_textSize c_token c_number c_begins c_stops c_bad c_badPlace c_faultPlace c_clauses c_naming c_lineBy c_becomes c_dualLines c_on c_rowNow c_least c_wayFirst c_ways c_acts c_past c_listPoints c_listLines c_listed c_list (upd c_path (Int32.toNatClampNeg v1) v2) c_places c_firstPlaces c_px c_py c_pz c_placeMany c_modulus c_drawn c_halvesMany c_halvesFirst c_spreadsMany c_spreadsFirst c_comesTo c_seedNow c_rowThen c_hasImage c_actsThen c_imageRow c_pastThen c_statusThen) H := hP
        have hD : va_D A (mW h0 ad G.2.2 c_code c_now c_read c_status c_tape c_taped c_at c_textSize c_token c_number c_begins c_stops c_bad c_badPlace c_faultPlace c_clauses c_naming c_lineBy c_becomes c_dualLines c_on c_rowNow c_least c_wayFirst c_ways c_acts c_past c_listPoints c_listLines c_listed c_list (upd c_path (Int32.toNatClampNeg v1) v2) c_places c_firstPlaces c_px c_py c_pz c_placeMany c_modulus c_drawn c_halvesMany c_halvesFirst c_spreadsMany c_spreadsFirst c_comesTo c_seedNow c_rowThen c_hasImage c_actsThen c_imageRow c_pastThen c_statusThen) := hD
        refine lv_aload_n hx hb dX3_listFrom_151 rfl (lv_at hl 0 rfl) ?_
        refine lv_iload_n hx hb dX3_listFrom_152 rfl (lv_at hl 1 rfl) ?_
        refine lv_iconst (v := 1) hx hb dX3_listFrom_153 (by decide) ?_
        refine lv_iadd hx hb dX3_listFrom_154 ?_
        obtain ⟨y16, e16, h⟩ := ob_s h
        refine MW.callV (q0 := 0) (M_X3_isLeast hG e16) S (cw_X3_isLeast hts q2210 ⟨by dsimp only; omega, by dsimp only; omega⟩) hW0 hK hP hD hS hA rfl rfl rfl hl.1 rfl (Nat.le_of_ble_eq_true rfl) dX3_listFrom_155 ⟨Nat.zero_le _, Nat.zero_le _⟩ (fun H locs hP hD hS => ?_)
        have hP : va_P G.2.1 vwCl (mW h0 ad G.2.2 c_code c_now c_read c_status c_tape c_taped c_at c_textSize c_token c_number c_begins c_stops c_bad c_badPlace c_faultPlace c_clauses y16.2.1 c_lineBy c_becomes c_dualLines c_on y16.2.2 c_least c_wayFirst c_ways c_acts c_past c_listPoints c_listLines c_listed c_list (upd c_path (Int32.toNatClampNeg v1) v2) c_places c_firstPlaces c_px c_py c_pz c_placeMany c_modulus c_drawn c_halvesMany c_halvesFirst c_spreadsMany c_spreadsFirst c_comesTo c_seedNow c_rowThen c_hasImage c_actsThen c_imageRow c_pastThen c_statusThen) H := hP
        have hD : va_D A (mW h0 ad G.2.2 c_code c_now c_read c_status c_tape c_taped c_at c_textSize c_token c_number c_begins c_stops c_bad c_badPlace c_faultPlace c_clauses y16.2.1 c_lineBy c_becomes c_dualLines c_on y16.2.2 c_least c_wayFirst c_ways c_acts c_past c_listPoints c_listLines c_listed c_list (upd c_path (Int32.toNatClampNeg v1) v2) c_places c_firstPlaces c_px c_py c_pz c_placeMany c_modulus c_drawn c_halvesMany c_halvesFirst c_spreadsMany c_spreadsFirst c_comesTo c_seedNow c_rowThen c_hasImage c_actsThen c_imageRow c_pastThen c_statusThen) := hD
        refine W.eq (g2 := F0 m 158 ls [.int y16.1]) rfl ?_
        refine lv_if_eq (tgt := 168) hx hb dX3_listFrom_158 (by decide) (fun c17 => ?_) (fun c17 => ?_)
        · rw [if_pos c17] at h
          refine lv_iinc (v := (v2 + 1)) (lv' := [(2, .int (v2 + 1)), (0, .ref h0), (1, .int v1), (3, .int v3)]) hx hb dX3_listFrom_168 hl (k := 2) rfl rfl (by decide) rfl (fun ls hl => ?_)
          refine lv_goto (tgt := 72) hx hb dX3_listFrom_171 (by decide) ?_
          exact hk72 (v2 + 1) y16.2.1 y16.2.2 c_list (upd c_path (Int32.toNatClampNeg v1) v2) c_listed _ _ _ h hP hD hS (lv_sub hl [1, 2, 0] rfl)
        · rw [if_neg c17] at h
          refine lv_aload_n hx hb dX3_listFrom_161 rfl (lv_at hl 0 rfl) ?_
          refine lv_iload_n hx hb dX3_listFrom_162 rfl (lv_at hl 1 rfl) ?_
          refine lv_iconst (v := 1) hx hb dX3_listFrom_163 (by decide) ?_
          refine lv_iadd hx hb dX3_listFrom_164 ?_
          obtain ⟨y18, e18, h⟩ := ob_s h
          refine MW.callV (q0 := 0) (ihd e18) S (cw_X3_listFrom hts q2206 ⟨by dsimp only; omega, by dsimp only; omega⟩) hW0 hK hP hD hS hA rfl rfl rfl hl.1 rfl (Nat.le_of_ble_eq_true rfl) dX3_listFrom_165 ⟨Nat.zero_le _, Nat.zero_le _⟩ (fun H locs hP hD hS => ?_)
          have hP : va_P G.2.1 vwCl (mW h0 ad G.2.2 c_code c_now c_read c_status c_tape c_taped c_at c_textSize c_token c_number c_begins c_stops c_bad c_badPlace c_faultPlace c_clauses y18.1 c_lineBy c_becomes c_dualLines c_on y18.2.1 c_least c_wayFirst c_ways c_acts c_past c_listPoints c_listLines y18.2.2.2.2 y18.2.2.1 y18.2.2.2.1 c_places c_firstPlaces c_px c_py c_pz c_placeMany c_modulus c_drawn c_halvesMany c_halvesFirst c_spreadsMany c_spreadsFirst c_comesTo c_seedNow c_rowThen c_hasImage c_actsThen c_imageRow c_pastThen c_statusThen) H := hP
          have hD : va_D A (mW h0 ad G.2.2 c_code c_now c_read c_status c_tape c_taped c_at c_textSize c_token c_number c_begins c_stops c_bad c_badPlace c_faultPlace c_clauses y18.1 c_lineBy c_becomes c_dualLines c_on y18.2.1 c_least c_wayFirst c_ways c_acts c_past c_listPoints c_listLines y18.2.2.2.2 y18.2.2.1 y18.2.2.2.1 c_places c_firstPlaces c_px c_py c_pz c_placeMany c_modulus c_drawn c_halvesMany c_halvesFirst c_spreadsMany c_spreadsFirst c_comesTo c_seedNow c_rowThen c_hasImage c_actsThen c_imageRow c_pastThen c_statusThen) := hD
          refine W.eq (g2 := F0 m 168 ls []) rfl ?_
          refine lv_iinc (v := (v2 + 1)) (lv' := [(2, .int (v2 + 1)), (0, .ref h0), (1, .int v1), (3, .int v3)]) hx hb dX3_listFrom_168 hl (k := 2) rfl rfl (by decide) rfl (fun ls hl => ?_)
          refine lv_goto (tgt := 72) hx hb dX3_listFrom_171 (by decide) ?_
          exact hk72 (v2 + 1) y18.1 y18.2.1 y18.2.2.1 y18.2.2.2.1 y18.2.2.2.2 _ _ _ h hP hD hS (lv_sub hl [1, 2, 0] rfl)
      · rw [if_pos c14] at h
        refine lv_goto (tgt := 168) hx hb dX3_listFrom_141 (by decide) ?_
        refine lv_iinc (v := (v2 + 1)) (lv' := [(2, .int (v2 + 1)), (0, .ref h0), (1, .int v1), (3, .int v3)]) hx hb dX3_listFrom_168 hl (k := 2) rfl rfl (by decide) rfl (fun ls hl => ?_)
        refine lv_goto (tgt := 72) hx hb dX3_listFrom_171 (by decide) ?_
        exact hk72 (v2 + 1) c_naming c_rowNow c_list c_path c_listed _ _ _ h hP hD hS (lv_sub hl [1, 2, 0] rfl)
    have S_X3_listFrom_95 : ∀ (s0 : Int32) (v1 : Int32) (v2 : Int32) (c_naming : (Nat → Int32)) (c_rowNow : (Nat → Int32)) (c_list : (Nat → Int32)) (c_path : (Nat → Int32)) (c_listed : Int32) (k72 : Int32 → (Nat → Int32) → (Nat → Int32) → (Nat → Int32) → (Nat → Int32) → Int32 → Option ((Nat → Int32) × (Nat → Int32) × (Nat → Int32) × (Nat → Int32) × Int32)), F_X3_listFrom_95 N (F_X3_listFrom N d) c_listPoints c_listLines s0 v1 v2 c_naming c_rowNow c_list c_path c_listed k72 = some ρ → (∀ (u2 : Int32) (z_c_naming : (Nat → Int32)) (z_c_rowNow : (Nat → Int32)) (z_c_list : (Nat → Int32)) (z_c_path : (Nat → Int32)) (z_c_listed : Int32) (H : Heap) (locs : List Loc) (ls : Array Slot), k72 u2 z_c_naming z_c_rowNow z_c_list z_c_path z_c_listed = some ρ → va_P G.2.1 vwCl (mW h0 ad G.2.2 c_code c_now c_read c_status c_tape c_taped c_at c_textSize c_token c_number c_begins c_stops c_bad c_badPlace c_faultPlace c_clauses z_c_naming c_lineBy c_becomes c_dualLines c_on z_c_rowNow c_least c_wayFirst c_ways c_acts c_past c_listPoints c_listLines z_c_listed z_c_list z_c_path c_places c_firstPlaces c_px c_py c_pz c_placeMany c_modulus c_drawn c_halvesMany c_halvesFirst c_spreadsMany c_spreadsFirst c_comesTo c_seedNow c_rowThen c_hasImage c_actsThen c_imageRow c_pastThen c_statusThen) H → va_D A (mW h0 ad G.2.2 c_code c_now c_read c_status c_tape c_taped c_at c_textSize c_token c_number c_begins c_stops c_bad c_badPlace c_faultPlace c_clauses z_c_naming c_lineBy c_becomes c_dualLines c_on z_c_rowNow c_least c_wayFirst c_ways c_acts c_past c_listPoints c_listLines z_c_listed z_c_list z_c_path c_places c_firstPlaces c_px c_py c_pz c_placeMany c_modulus c_drawn c_halvesMany c_halvesFirst c_spreadsMany c_spreadsFirst c_comesTo c_seedNow c_rowThen c_hasImage c_actsThen c_imageRow c_pastThen c_statusThen) → va_S A s.heap H locs → lv_has ls 5 [(0, .ref h0), (1, .int v1), (2, .int u2)] → W p l e (rmL (4 + (d + 1)) 0 0) s m args below meth c H locs 0 0 Q (F0 m 72 ls [])) → ∀ (H : Heap) (locs : List Loc), va_P G.2.1 vwCl (mW h0 ad G.2.2 c_code c_now c_read c_status c_tape c_taped c_at c_textSize c_token c_number c_begins c_stops c_bad c_badPlace c_faultPlace c_clauses c_naming c_lineBy c_becomes c_dualLines c_on c_rowNow c_least c_wayFirst c_ways c_acts c_past c_listPoints c_listLines c_listed c_list c_path c_places c_firstPlaces c_px c_py c_pz c_placeMany c_modulus c_drawn c_halvesMany c_halvesFirst c_spreadsMany c_spreadsFirst c_comesTo c_seedNow c_rowThen c_hasImage c_actsThen c_imageRow c_pastThen c_statusThen) H → va_D A (mW h0 ad G.2.2 c_code c_now c_read c_status c_tape c_taped c_at c_textSize c_token c_number c_begins c_stops c_bad c_badPlace c_faultPlace c_clauses c_naming c_lineBy c_becomes c_dualLines c_on c_rowNow c_least c_wayFirst c_ways c_acts c_past c_listPoints c_listLines c_listed c_list c_path c_places c_firstPlaces c_px c_py c_pz c_placeMany c_modulus c_drawn c_halvesMany c_halvesFirst c_spreadsMany c_spreadsFirst c_comesTo c_seedNow c_rowThen c_hasImage c_actsThen c_imageRow c_pastThen c_statusThen) → va_S A s.heap H locs → ∀ (ls : Array Slot), lv_has ls 5 [(0, .ref h0), (1, .int v1), (2, .int v2)] → W p l e (rmL (4 + (d + 1)) 0 0) s m args below meth c H locs 0 0 Q (F0 m 95 ls [.int s0]) := by
      intro s0 v1 v2 c_naming c_rowNow c_list c_path c_listed k72 h hk72 H locs hP hD hS ls hl
      rw [F_X3_listFrom_95] at h
      refine lv_istore_n (lv' := [(3, .int s0), (0, .ref h0), (1, .int v1), (2, .int v2)]) hx hb dX3_listFrom_95 rfl hl (by decide) rfl (fun ls hl => ?_)
      refine lv_iconst (v := 0) hx hb dX3_listFrom_96 (by decide) ?_
      refine lv_istore (lv' := [(4, .int 0), (3, .int s0), (0, .ref h0), (1, .int v1), (2, .int v2)]) hx hb dX3_listFrom_97 hl (by decide) rfl (fun ls hl => ?_)
      refine S_X3_listFrom_99 N v1 v2 s0 0 c_naming c_rowNow c_list c_path c_listed _ h ?_ _ _ hP hD hS _ (lv_sub hl [2, 3, 4, 1, 0] rfl)
      · intro u3_13 H locs ls h hP hD hS hl
        refine S_X3_listFrom_137 v1 v2 u3_13 c_naming c_rowNow c_list c_path c_listed _ h hk72 _ _ hP hD hS _ (lv_sub hl [0, 1, 2, 3] rfl)
    have S_X3_listFrom_72 : ∀ (n : Nat) (v1 : Int32) (v2 : Int32) (c_naming : (Nat → Int32)) (c_rowNow : (Nat → Int32)) (c_list : (Nat → Int32)) (c_path : (Nat → Int32)) (c_listed : Int32), F_X3_listFrom_72 N (F_X3_listFrom N d) v1 c_listPoints c_listLines n v2 c_naming c_rowNow c_list c_path c_listed = some ρ → ∀ (H : Heap) (locs : List Loc), va_P G.2.1 vwCl (mW h0 ad G.2.2 c_code c_now c_read c_status c_tape c_taped c_at c_textSize c_token c_number c_begins c_stops c_bad c_badPlace c_faultPlace c_clauses c_naming c_lineBy c_becomes c_dualLines c_on c_rowNow c_least c_wayFirst c_ways c_acts c_past c_listPoints c_listLines c_listed c_list c_path c_places c_firstPlaces c_px c_py c_pz c_placeMany c_modulus c_drawn c_halvesMany c_halvesFirst c_spreadsMany c_spreadsFirst c_comesTo c_seedNow c_rowThen c_hasImage c_actsThen c_imageRow c_pastThen c_statusThen) H → va_D A (mW h0 ad G.2.2 c_code c_now c_read c_status c_tape c_taped c_at c_textSize c_token c_number c_begins c_stops c_bad c_badPlace c_faultPlace c_clauses c_naming c_lineBy c_becomes c_dualLines c_on c_rowNow c_least c_wayFirst c_ways c_acts c_past c_listPoints c_listLines c_listed c_list c_path c_places c_firstPlaces c_px c_py c_pz c_placeMany c_modulus c_drawn c_halvesMany c_halvesFirst c_spreadsMany c_spreadsFirst c_comesTo c_seedNow c_rowThen c_hasImage c_actsThen c_imageRow c_pastThen c_statusThen) → va_S A s.heap H locs → ∀ (ls : Array Slot), lv_has ls 5 [(0, .ref h0), (1, .int v1), (2, .int v2)] → W p l e (rmL (4 + (d + 1)) 0 0) s m args below meth c H locs 0 0 Q (F0 m 72 ls []) := by
      intro n
      induction n with
      | zero =>
        intro v1 v2 c_naming c_rowNow c_list c_path c_listed h
        exact absurd h (by simp [F_X3_listFrom_72])
      | succ n ih =>
        intro v1 v2 c_naming c_rowNow c_list c_path c_listed h H locs hP hD hS ls hl
        rw [F_X3_listFrom_72] at h
        refine lv_iload_n hx hb dX3_listFrom_72 rfl (lv_at hl 2 rfl) ?_
        refine lv_iconst (v := 1) hx hb dX3_listFrom_73 (by decide) ?_
        refine lv_aload_n hx hb dX3_listFrom_74 rfl (lv_at hl 0 rfl) ?_
        refine va_get (ci := 2) (v := .int c_listPoints) (C := RX3) (T := TX3) (N := 52) hx hb hts in_X3 hown hK hP 0 rfl rfl 27 (by decide) (hts _ q1685) (fun _ h9 => h9) rfl dX3_listFrom_75 ?_
        refine lv_ishl hx hb dX3_listFrom_78 ?_
        refine lv_icmp_ge (tgt := 174) hx hb dX3_listFrom_79 (by decide) (fun c4 => ?_) (fun c4 => ?_)
        · rw [if_pos c4] at h
          obtain rfl := Option.some.inj h
          exact hretv rfl dX3_listFrom_174 rfl hP hD hS
        · rw [if_neg c4] at h
          refine lv_iload_n hx hb dX3_listFrom_82 rfl (lv_at hl 2 rfl) ?_
          obtain ⟨y6, e6, h⟩ := ob_s h
          refine MR.callS (M_X3_bits hG e6) S (cw_X3_bits hts q1896 ⟨by dsimp only; omega, by dsimp only; omega⟩) hW0 vaP0 rfl hl.1 rfl (Nat.le_of_ble_eq_true rfl) dX3_listFrom_83 ⟨Nat.zero_le _, Nat.zero_le _⟩ ?_
          refine lv_iconst (v := 3) hx hb dX3_listFrom_86 (by decide) ?_
          refine lv_icmp_ne (tgt := 94) hx hb dX3_listFrom_87 (by decide) (fun c7 => ?_) (fun c7 => ?_)
          · rw [if_neg c7] at h
            refine lv_iconst (v := 0) hx hb dX3_listFrom_94 (by decide) ?_
            refine S_X3_listFrom_95 0 v1 v2 c_naming c_rowNow c_list c_path c_listed _ h (fun u2 z_c_naming z_c_rowNow z_c_list z_c_path z_c_listed H locs ls h hP hD hS hl => ih v1 u2 z_c_naming z_c_rowNow z_c_list z_c_path z_c_listed h H locs hP hD hS ls hl) _ _ hP hD hS _ (lv_sub hl [0, 1, 2] rfl)
          · rw [if_pos c7] at h
            refine lv_iconst (v := 1) hx hb dX3_listFrom_90 (by decide) ?_
            refine lv_goto (tgt := 95) hx hb dX3_listFrom_91 (by decide) ?_
            refine S_X3_listFrom_95 1 v1 v2 c_naming c_rowNow c_list c_path c_listed _ h (fun u2 z_c_naming z_c_rowNow z_c_list z_c_path z_c_listed H locs ls h hP hD hS hl => ih v1 u2 z_c_naming z_c_rowNow z_c_list z_c_path z_c_listed h H locs hP hD hS ls hl) _ _ hP hD hS _ (lv_sub hl [0, 1, 2] rfl)
    have S_X3_listFrom_71 : ∀ (s0 : Int32) (v1 : Int32) (c_naming : (Nat → Int32)) (c_rowNow : (Nat → Int32)) (c_list : (Nat → Int32)) (c_path : (Nat → Int32)) (c_listed : Int32), F_X3_listFrom_71 N (F_X3_listFrom N d) c_listPoints c_listLines s0 v1 c_naming c_rowNow c_list c_path c_listed = some ρ → ∀ (H : Heap) (locs : List Loc), va_P G.2.1 vwCl (mW h0 ad G.2.2 c_code c_now c_read c_status c_tape c_taped c_at c_textSize c_token c_number c_begins c_stops c_bad c_badPlace c_faultPlace c_clauses c_naming c_lineBy c_becomes c_dualLines c_on c_rowNow c_least c_wayFirst c_ways c_acts c_past c_listPoints c_listLines c_listed c_list c_path c_places c_firstPlaces c_px c_py c_pz c_placeMany c_modulus c_drawn c_halvesMany c_halvesFirst c_spreadsMany c_spreadsFirst c_comesTo c_seedNow c_rowThen c_hasImage c_actsThen c_imageRow c_pastThen c_statusThen) H → va_D A (mW h0 ad G.2.2 c_code c_now c_read c_status c_tape c_taped c_at c_textSize c_token c_number c_begins c_stops c_bad c_badPlace c_faultPlace c_clauses c_naming c_lineBy c_becomes c_dualLines c_on c_rowNow c_least c_wayFirst c_ways c_acts c_past c_listPoints c_listLines c_listed c_list c_path c_places c_firstPlaces c_px c_py c_pz c_placeMany c_modulus c_drawn c_halvesMany c_halvesFirst c_spreadsMany c_spreadsFirst c_comesTo c_seedNow c_rowThen c_hasImage c_actsThen c_imageRow c_pastThen c_statusThen) → va_S A s.heap H locs → ∀ (ls : Array Slot), lv_has ls 5 [(0, .ref h0), (1, .int v1)] → W p l e (rmL (4 + (d + 1)) 0 0) s m args below meth c H locs 0 0 Q (F0 m 71 ls [.int s0]) := by
      intro s0 v1 c_naming c_rowNow c_list c_path c_listed h H locs hP hD hS ls hl
      rw [F_X3_listFrom_71] at h
      refine lv_istore_n (lv' := [(2, .int s0), (0, .ref h0), (1, .int v1)]) hx hb dX3_listFrom_71 rfl hl (by decide) rfl (fun ls hl => ?_)
      refine S_X3_listFrom_72 N v1 s0 c_naming c_rowNow c_list c_path c_listed h  _ _ hP hD hS _ (lv_sub hl [1, 2, 0] rfl)
    have S_X3_listFrom_10 : ∀ (n : Nat) (v1 : Int32) (v2 : Int32) (c_naming : (Nat → Int32)) (c_rowNow : (Nat → Int32)) (c_list : (Nat → Int32)) (c_path : (Nat → Int32)) (c_listed : Int32), F_X3_listFrom_10 N (F_X3_listFrom N d) v1 c_naming c_rowNow c_path n v2 c_list c_listed = some ρ → ∀ (H : Heap) (locs : List Loc), va_P G.2.1 vwCl (mW h0 ad G.2.2 c_code c_now c_read c_status c_tape c_taped c_at c_textSize c_token c_number c_begins c_stops c_bad c_badPlace c_faultPlace c_clauses c_naming c_lineBy c_becomes c_dualLines c_on c_rowNow c_least c_wayFirst c_ways c_acts c_past c_listPoints c_listLines c_listed c_list c_path c_places c_firstPlaces c_px c_py c_pz c_placeMany c_modulus c_drawn c_halvesMany c_halvesFirst c_spreadsMany c_spreadsFirst c_comesTo c_seedNow c_rowThen c_hasImage c_actsThen c_imageRow c_pastThen c_statusThen) H → va_D A (mW h0 ad G.2.2 c_code c_now c_read c_status c_tape c_taped c_at c_textSize c_token c_number c_begins c_stops c_bad c_badPlace c_faultPlace c_clauses c_naming c_lineBy c_becomes c_dualLines c_on c_rowNow c_least c_wayFirst c_ways c_acts c_past c_listPoints c_listLines c_listed c_list c_path c_places c_firstPlaces c_px c_py c_pz c_placeMany c_modulus c_drawn c_halvesMany c_halvesFirst c_spreadsMany c_spreadsFirst c_comesTo c_seedNow c_rowThen c_hasImage c_actsThen c_imageRow c_pastThen c_statusThen) → va_S A s.heap H locs → ∀ (ls : Array Slot), lv_has ls 5 [(0, .ref h0), (1, .int v1), (2, .int v2)] → W p l e (rmL (4 + (d + 1)) 0 0) s m args below meth c H locs 0 0 Q (F0 m 10 ls []) := by
      intro n
      induction n with
      | zero =>
        intro v1 v2 c_naming c_rowNow c_list c_path c_listed h
        exact absurd h (by simp [F_X3_listFrom_10])
      | succ n ih =>
        intro v1 v2 c_naming c_rowNow c_list c_path c_listed h H locs hP hD hS ls hl
        rw [F_X3_listFrom_10] at h
        refine lv_iload_n hx hb dX3_listFrom_10 rfl (lv_at hl 2 rfl) ?_
        refine lv_iload_n hx hb dX3_listFrom_11 rfl (lv_at hl 1 rfl) ?_
        refine lv_icmp_ge (tgt := 41) hx hb dX3_listFrom_12 (by decide) (fun c19 => ?_) (fun c19 => ?_)
        · rw [if_pos c19] at h
          refine lv_aload_n hx hb dX3_listFrom_41 rfl (lv_at hl 0 rfl) ?_
          refine lv_dup hx hb dX3_listFrom_42 rfl ?_
          refine va_get (ci := 2) (v := .int c_listed) (C := RX3) (T := TX3) (N := 52) hx hb hts in_X3 hown hK hP 0 rfl rfl 29 (by decide) (hts _ q1687) (fun _ h9 => h9) rfl dX3_listFrom_43 ?_
          refine lv_iconst (v := 1) hx hb dX3_listFrom_46 (by decide) ?_
          refine lv_iadd hx hb dX3_listFrom_47 ?_
          refine va_put (ci := 2) (v := .int (c_listed + (1 : Int32))) (ty := .int) (C := RX3) (T := TX3) (N := 52) hx hb hts in_X3 tyX3 tyX3_ok nmX3 hown hK hP hD hS 0 rfl rfl 29 (by decide) (hts _ q1687) (fun _ h9 => h9) rfl (by decide +kernel) rfl rfl (Nat.le_of_ble_eq_true rfl) dX3_listFrom_48 (fun H locs hP hD hS => ?_)
          have hP : va_P G.2.1 vwCl (mW h0 ad G.2.2 c_code c_now c_read c_status c_tape c_taped c_at c_textSize c_token c_number c_begins c_stops c_bad c_badPlace c_faultPlace c_clauses c_naming c_lineBy c_becomes c_dualLines c_on c_rowNow c_least c_wayFirst c_ways c_acts c_past c_listPoints c_listLines (c_listed + (1 : Int32)) c_list c_path c_places c_firstPlaces c_px c_py c_pz c_placeMany c_modulus c_drawn c_halvesMany c_halvesFirst c_spreadsMany c_spreadsFirst c_comesTo c_seedNow c_rowThen c_hasImage c_actsThen c_imageRow c_pastThen c_statusThen) H := hP
          have hD : va_D A (mW h0 ad G.2.2 c_code c_now c_read c_status c_tape c_taped c_at c_textSize c_token c_number c_begins c_stops c_bad c_badPlace c_faultPlace c_clauses c_naming c_lineBy c_becomes c_dualLines c_on c_rowNow c_least c_wayFirst c_ways c_acts c_past c_listPoints c_listLines (c_listed + (1 : Int32)) c_list c_path c_places c_firstPlaces c_px c_py c_pz c_placeMany c_modulus c_drawn c_halvesMany c_halvesFirst c_spreadsMany c_spreadsFirst c_comesTo c_seedNow c_rowThen c_hasImage c_actsThen c_imageRow c_pastThen c_statusThen) := hD
          obtain rfl := Option.some.inj h
          exact hretv rfl dX3_listFrom_51 rfl hP hD hS
        · rw [if_neg c19] at h
          refine lv_aload_n hx hb dX3_listFrom_15 rfl (lv_at hl 0 rfl) ?_
          refine va_get (ci := 2) (v := .ref (ad 30)) (C := RX3) (T := TX3) (N := 52) hx hb hts in_X3 hown hK hP 0 rfl rfl 30 (by decide) (hts _ q1688) (fun _ h9 => h9) rfl dX3_listFrom_16 ?_
          refine lv_bipush (v := 7) hx hb dX3_listFrom_19 (by decide) ?_
          refine lv_aload_n hx hb dX3_listFrom_21 rfl (lv_at hl 0 rfl) ?_
          refine va_get (ci := 2) (v := .int c_listed) (C := RX3) (T := TX3) (N := 52) hx hb hts in_X3 hown hK hP 0 rfl rfl 29 (by decide) (hts _ q1687) (fun _ h9 => h9) rfl dX3_listFrom_22 ?_
          refine lv_imul hx hb dX3_listFrom_25 ?_
          refine lv_iload_n hx hb dX3_listFrom_26 rfl (lv_at hl 2 rfl) ?_
          refine lv_iadd hx hb dX3_listFrom_27 ?_
          refine lv_aload_n hx hb dX3_listFrom_28 rfl (lv_at hl 0 rfl) ?_
          refine va_get (ci := 2) (v := .ref (ad 31)) (C := RX3) (T := TX3) (N := 52) hx hb hts in_X3 hown hK hP 0 rfl rfl 31 (by decide) (hts _ q1689) (fun _ h9 => h9) rfl dX3_listFrom_29 ?_
          refine lv_iload_n hx hb dX3_listFrom_32 rfl (lv_at hl 2 rfl) ?_
          obtain ⟨i21, h⟩ := ckI_s h
          refine va_iald (f := c_path) hx hb hK hP 15 0 rfl rfl i21 dX3_listFrom_33 ?_
          obtain ⟨i22, h⟩ := ckI_s h
          refine va_iast (f := c_list) hx hb hK hP hD hS 14 0 rfl rfl i22 dX3_listFrom_34 (fun H locs hP hD hS => ?_)
          have hP : va_P G.2.1 vwCl (mW h0 ad G.2.2 c_code c_now c_read c_status c_tape c_taped c_at c_textSize c_token c_number c_begins c_stops c_bad c_badPlace c_faultPlace c_clauses c_naming c_lineBy c_becomes c_dualLines c_on c_rowNow c_least c_wayFirst c_ways c_acts c_past c_listPoints c_listLines c_listed (upd c_list (Int32.toNatClampNeg (((7 : Int32) * c_listed) + v2)) (c_path (Int32.toNatClampNeg v2))) c_path c_places c_firstPlaces c_px c_py c_pz c_placeMany c_modulus c_drawn c_halvesMany c_halvesFirst c_spreadsMany c_spreadsFirst c_comesTo c_seedNow c_rowThen c_hasImage c_actsThen c_imageRow c_pastThen c_statusThen) H := hP
          have hD : va_D A (mW h0 ad G.2.2 c_code c_now c_read c_status c_tape c_taped c_at c_textSize c_token c_number c_begins c_stops c_bad c_badPlace c_faultPlace c_clauses c_naming c_lineBy c_becomes c_dualLines c_on c_rowNow c_least c_wayFirst c_ways c_acts c_past c_listPoints c_listLines c_listed (upd c_list (Int32.toNatClampNeg (((7 : Int32) * c_listed) + v2)) (c_path (Int32.toNatClampNeg v2))) c_path c_places c_firstPlaces c_px c_py c_pz c_placeMany c_modulus c_drawn c_halvesMany c_halvesFirst c_spreadsMany c_spreadsFirst c_comesTo c_seedNow c_rowThen c_hasImage c_actsThen c_imageRow c_pastThen c_statusThen) := hD
          refine lv_iinc (v := (v2 + 1)) (lv' := [(2, .int (v2 + 1)), (0, .ref h0), (1, .int v1)]) hx hb dX3_listFrom_35 hl (k := 2) rfl rfl (by decide) rfl (fun ls hl => ?_)
          refine lv_goto (tgt := 10) hx hb dX3_listFrom_38 (by decide) ?_
          exact ih v1 (v2 + 1) c_naming c_rowNow (upd c_list (Int32.toNatClampNeg (((7 : Int32) * c_listed) + v2)) (c_path (Int32.toNatClampNeg v2))) c_path c_listed h _ _ hP hD hS _ (lv_sub hl [1, 2, 0] rfl)
    refine lv_iload_n hx hb dX3_listFrom_0 rfl (lv_at hl 1 rfl) ?_
    refine lv_aload_n hx hb dX3_listFrom_1 rfl (lv_at hl 0 rfl) ?_
    refine va_get (ci := 2) (v := .int c_listLines) (C := RX3) (T := TX3) (N := 52) hx hb hts in_X3 hown hK hP 0 rfl rfl 28 (by decide) (hts _ q1686) (fun _ h9 => h9) rfl dX3_listFrom_2 ?_
    refine lv_icmp_ne (tgt := 52) hx hb dX3_listFrom_5 (by decide) (fun c1 => ?_) (fun c1 => ?_)
    · rw [if_neg c1] at h
      refine lv_iload_n hx hb dX3_listFrom_52 rfl (lv_at hl 1 rfl) ?_
      refine lv_if_ne (tgt := 61) hx hb dX3_listFrom_53 (by decide) (fun c2 => ?_) (fun c2 => ?_)
      · rw [if_neg c2] at h
        refine lv_aload_n hx hb dX3_listFrom_61 rfl (lv_at hl 0 rfl) ?_
        refine va_get (ci := 2) (v := .ref (ad 31)) (C := RX3) (T := TX3) (N := 52) hx hb hts in_X3 hown hK hP 0 rfl rfl 31 (by decide) (hts _ q1689) (fun _ h9 => h9) rfl dX3_listFrom_62 ?_
        refine lv_iload_n hx hb dX3_listFrom_65 rfl (lv_at hl 1 rfl) ?_
        refine lv_iconst (v := 1) hx hb dX3_listFrom_66 (by decide) ?_
        refine lv_isub hx hb dX3_listFrom_67 ?_
        obtain ⟨i3, h⟩ := ckI_s h
        refine va_iald (f := c_path) hx hb hK hP 15 0 rfl rfl i3 dX3_listFrom_68 ?_
        refine lv_iconst (v := 1) hx hb dX3_listFrom_69 (by decide) ?_
        refine lv_iadd hx hb dX3_listFrom_70 ?_
        refine S_X3_listFrom_71 ((c_path (Int32.toNatClampNeg (v1 - (1 : Int32)))) + (1 : Int32)) v1 c_naming c_rowNow c_list c_path c_listed h  _ _ hP hD hS _ (lv_sub hl [0, 1] rfl)
      · rw [if_pos c2] at h
        refine lv_bipush (v := 7) hx hb dX3_listFrom_56 (by decide) ?_
        refine lv_goto (tgt := 71) hx hb dX3_listFrom_58 (by decide) ?_
        refine S_X3_listFrom_71 7 v1 c_naming c_rowNow c_list c_path c_listed h  _ _ hP hD hS _ (lv_sub hl [0, 1] rfl)
    · rw [if_pos c1] at h
      refine lv_iconst (v := 0) hx hb dX3_listFrom_8 (by decide) ?_
      refine lv_istore_n (lv' := [(2, .int 0), (0, .ref h0), (1, .int v1)]) hx hb dX3_listFrom_9 rfl hl (by decide) rfl (fun ls hl => ?_)
      refine S_X3_listFrom_10 N v1 0 c_naming c_rowNow c_list c_path c_listed h  _ _ hP hD hS _ (lv_sub hl [1, 2, 0] rfl)
def F_X3_list_67 (N : Nat) (c_naming : (Nat → Int32)) (c_rowNow : (Nat → Int32)) (c_path : (Nat → Int32)) (c_listPoints : Int32) (c_listLines : Int32) (v2 : Int32) (v3 : Int32) (v4 : Int32) (c_list : (Nat → Int32)) (c_code : Int32) (c_listed : Int32) : Option (Int32 × (Nat → Int32) × (Nat → Int32) × (Nat → Int32) × (Nat → Int32) × Int32 × Int32 × Int32 × Int32) := (if v3 = (-1) then (some (c_listed, c_naming, c_rowNow, c_list, c_path, c_code, c_listPoints, c_listLines, c_listed)) else ((F_X3_isIn N v3 0 (c_listed - (1 : Int32))).bind fun y10 => (if y10 = 0 then ((F_X3_fail N 2 c_code).bind fun y12 => (some (y12.1, c_naming, c_rowNow, c_list, c_path, y12.2, c_listPoints, c_listLines, c_listed))) else ((F_X3_isIn N v4 0 (v2 - (1 : Int32))).bind fun y14 => (if y14 = 0 then ((F_X3_fail N 2 c_code).bind fun y16 => (some (y16.1, c_naming, c_rowNow, c_list, c_path, y16.2, c_listPoints, c_listLines, c_listed))) else (ckI (((7 : Int32) * v3) + v4) 14000 (some ((c_list (Int32.toNatClampNeg (((7 : Int32) * v3) + v4))), c_naming, c_rowNow, c_list, c_path, c_code, c_listPoints, c_listLines, c_listed))))))))
def F_X3_list_47 (N : Nat) (v1 : Int32) (v2 : Int32) (v3 : Int32) (v4 : Int32) (c_naming : (Nat → Int32)) (c_rowNow : (Nat → Int32)) (c_list : (Nat → Int32)) (c_path : (Nat → Int32)) (c_code : Int32) (c_listPoints : Int32) (c_listLines : Int32) (c_listed : Int32) : Option (Int32 × (Nat → Int32) × (Nat → Int32) × (Nat → Int32) × (Nat → Int32) × Int32 × Int32 × Int32 × Int32) := ((F_X3_listFrom N 16 0 c_naming c_rowNow c_list c_path v1 v2 0).bind fun y8 => (F_X3_list_67 N y8.1 y8.2.1 y8.2.2.2.1 v1 v2 v2 v3 v4 y8.2.2.1 c_code y8.2.2.2.2))
def F_X3_list (N : Nat) (v1 : Int32) (v2 : Int32) (v3 : Int32) (v4 : Int32) (c_naming : (Nat → Int32)) (c_rowNow : (Nat → Int32)) (c_list : (Nat → Int32)) (c_path : (Nat → Int32)) (c_code : Int32) (c_listPoints : Int32) (c_listLines : Int32) (c_listed : Int32) : Option (Int32 × (Nat → Int32) × (Nat → Int32) × (Nat → Int32) × (Nat → Int32) × Int32 × Int32 × Int32 × Int32) := ((F_X3_isIn N v1 3 7).bind fun y1 => (if y1 = 0 then ((F_X3_fail N 1 0).bind fun y3 => (some (y3.1, c_naming, c_rowNow, c_list, c_path, y3.2, c_listPoints, c_listLines, c_listed))) else ((F_X3_isIn N v2 0 7).bind fun y5 => (if y5 = 0 then ((F_X3_fail N 1 0).bind fun y22 => (some (y22.1, c_naming, c_rowNow, c_list, c_path, y22.2, c_listPoints, c_listLines, c_listed))) else (if v1 = c_listPoints then (if v2 = c_listLines then (F_X3_list_67 N c_naming c_rowNow c_path c_listPoints c_listLines v2 v3 v4 c_list 0 c_listed) else (F_X3_list_47 N v1 v2 v3 v4 c_naming c_rowNow c_list c_path 0 c_listPoints c_listLines c_listed)) else (F_X3_list_47 N v1 v2 v3 v4 c_naming c_rowNow c_list c_path 0 c_listPoints c_listLines c_listed))))))
theorem cw_X3_list {R : Room} {s : State} {args : Array Value} {own : String} {index lev mc ms : Nat} (hts : ∀ w ∈ lw_all, w.before args s = true) (hl : Cond.methodLink own index yX3_list ∈ lw_all) (hR : (rmL lev mc ms).frames + 1 ≤ R.frames ∧ 8 + (5 + 11) + (rmL lev mc ms).locals ≤ R.locals) : CallW R s args own RX3 index yX3_list cX3_list 5 (some .int) (ws_ yX3_list cX3_list 5 (some .int)) (rmL lev mc ms) mc ms 4 := cwV 4 hts (lw_V hl q2203 q2204 q172 q2205) rfl rfl rfl (by decide +kernel) hR
set_option maxHeartbeats 4000000 in
theorem M_X3_list {l : Launch} {G : GE} (hG : GC G) {N : Nat} {h0 : Nat} {ad : Nat → Nat} {c_now : (Nat → Int32)} {c_read : (Nat → Int32)} {c_status : (Nat → Int32)} {c_tape : (Nat → Int32)} {c_taped : Int32} {c_at : Int32} {c_textSize : Int32} {c_token : Int32} {c_number : Int32} {c_begins : Int32} {c_stops : Int32} {c_bad : Int32} {c_badPlace : Int32} {c_faultPlace : Int32} {c_clauses : Int32} {c_lineBy : (Nat → Int32)} {c_becomes : (Nat → Int32)} {c_dualLines : (Nat → Int32)} {c_on : (Nat → Int32)} {c_least : (Nat → Int32)} {c_wayFirst : (Nat → Int32)} {c_ways : Int32} {c_acts : Int32} {c_past : (Nat → Int32)} {c_places : (Nat → Int32)} {c_firstPlaces : (Nat → Int32)} {c_px : (Nat → Int32)} {c_py : (Nat → Int32)} {c_pz : (Nat → Int32)} {c_placeMany : Int32} {c_modulus : Int32} {c_drawn : Int32} {c_halvesMany : Int32} {c_halvesFirst : Int32} {c_spreadsMany : Int32} {c_spreadsFirst : Int32} {c_comesTo : (Nat → Int32)} {c_seedNow : Int32} {c_rowThen : (Nat → Int32)} {c_hasImage : Int32} {c_actsThen : Int32} {c_imageRow : (Nat → Int32)} {c_pastThen : (Nat → Int32)} {c_statusThen : (Nat → Int32)} {v1 : Int32} {v2 : Int32} {v3 : Int32} {v4 : Int32} {c_naming : (Nat → Int32)} {c_rowNow : (Nat → Int32)} {c_list : (Nat → Int32)} {c_path : (Nat → Int32)} {c_code : Int32} {c_listPoints : Int32} {c_listLines : Int32} {c_listed : Int32} {ρ : (Int32 × (Nat → Int32) × (Nat → Int32) × (Nat → Int32) × (Nat → Int32) × Int32 × Int32 × Int32 × Int32)} (h : F_X3_list N v1 v2 v3 v4 c_naming c_rowNow c_list c_path c_code c_listPoints c_listLines c_listed = some ρ) : MW l G yX3_list cX3_list 5 (some .int) 21 (mW h0 ad G.2.2 c_code c_now c_read c_status c_tape c_taped c_at c_textSize c_token c_number c_begins c_stops c_bad c_badPlace c_faultPlace c_clauses c_naming c_lineBy c_becomes c_dualLines c_on c_rowNow c_least c_wayFirst c_ways c_acts c_past c_listPoints c_listLines c_listed c_list c_path c_places c_firstPlaces c_px c_py c_pz c_placeMany c_modulus c_drawn c_halvesMany c_halvesFirst c_spreadsMany c_spreadsFirst c_comesTo c_seedNow c_rowThen c_hasImage c_actsThen c_imageRow c_pastThen c_statusThen) [.ref h0, .int v1, .int v2, .int v3, .int v4] (some (.int ρ.1)) (mW h0 ad G.2.2 ρ.2.2.2.2.2.1 c_now c_read c_status c_tape c_taped c_at c_textSize c_token c_number c_begins c_stops c_bad c_badPlace c_faultPlace c_clauses ρ.2.1 c_lineBy c_becomes c_dualLines c_on ρ.2.2.1 c_least c_wayFirst c_ways c_acts c_past ρ.2.2.2.2.2.2.1 ρ.2.2.2.2.2.2.2.1 ρ.2.2.2.2.2.2.2.2 ρ.2.2.2.1 ρ.2.2.2.2.1 c_places c_firstPlaces c_px c_py c_pz c_placeMany c_modulus c_drawn c_halvesMany c_halvesFirst c_spreadsMany c_spreadsFirst c_comesTo c_seedNow c_rowThen c_hasImage c_actsThen c_imageRow c_pastThen c_statusThen) := by
  rw [F_X3_list] at h
  refine MW.start hG (by decide) (Nat.le_of_ble_eq_true rfl) ?_
  intro p e s m args below meth c Q A S hW0 hK hP hD hA hreti hretv ls hl
  have hS : va_S A s.heap s.heap [] := va_S.rf
  obtain ⟨hx, hb, hml, hown, hts⟩ := id S
  have hl : lv_has ls 5 [(0, .ref h0), (1, .int v1), (2, .int v2), (3, .int v3), (4, .int v4)] := hl
  have S_X3_list_67 : ∀ (v2 : Int32) (v3 : Int32) (v4 : Int32) (c_naming : (Nat → Int32)) (c_rowNow : (Nat → Int32)) (c_list : (Nat → Int32)) (c_path : (Nat → Int32)) (c_code : Int32) (c_listPoints : Int32) (c_listLines : Int32) (c_listed : Int32), F_X3_list_67 N c_naming c_rowNow c_path c_listPoints c_listLines v2 v3 v4 c_list c_code c_listed = some ρ → ∀ (H : Heap) (locs : List Loc), va_P G.2.1 vwCl (mW h0 ad G.2.2 c_code c_now c_read c_status c_tape c_taped c_at c_textSize c_token c_number c_begins c_stops c_bad c_badPlace c_faultPlace c_clauses c_naming c_lineBy c_becomes c_dualLines c_on c_rowNow c_least c_wayFirst c_ways c_acts c_past c_listPoints c_listLines c_listed c_list c_path c_places c_firstPlaces c_px c_py c_pz c_placeMany c_modulus c_drawn c_halvesMany c_halvesFirst c_spreadsMany c_spreadsFirst c_comesTo c_seedNow c_rowThen c_hasImage c_actsThen c_imageRow c_pastThen c_statusThen) H → va_D A (mW h0 ad G.2.2 c_code c_now c_read c_status c_tape c_taped c_at c_textSize c_token c_number c_begins c_stops c_bad c_badPlace c_faultPlace c_clauses c_naming c_lineBy c_becomes c_dualLines c_on c_rowNow c_least c_wayFirst c_ways c_acts c_past c_listPoints c_listLines c_listed c_list c_path c_places c_firstPlaces c_px c_py c_pz c_placeMany c_modulus c_drawn c_halvesMany c_halvesFirst c_spreadsMany c_spreadsFirst c_comesTo c_seedNow c_rowThen c_hasImage c_actsThen c_imageRow c_pastThen c_statusThen) → va_S A s.heap H locs → ∀ (ls : Array Slot), lv_has ls 5 [(0, .ref h0), (2, .int v2), (3, .int v3), (4, .int v4)] → W p l e (rmL 21 0 0) s m args below meth c H locs 0 0 Q (F0 m 67 ls []) := by
    intro v2 v3 v4 c_naming c_rowNow c_list c_path c_code c_listPoints c_listLines c_listed h H locs hP hD hS ls hl
    rw [F_X3_list_67] at h
    refine lv_iload_n hx hb dX3_list_67 rfl (lv_at hl 2 rfl) ?_
    refine lv_iconst (v := (-1)) hx hb dX3_list_68 (by decide) ?_
    refine lv_icmp_ne (tgt := 77) hx hb dX3_list_69 (by decide) (fun c9 => ?_) (fun c9 => ?_)
    · rw [if_neg c9] at h
      refine lv_iload_n hx hb dX3_list_77 rfl (lv_at hl 2 rfl) ?_
      refine lv_iconst (v := 0) hx hb dX3_list_78 (by decide) ?_
      refine lv_aload_n hx hb dX3_list_79 rfl (lv_at hl 0 rfl) ?_
      refine va_get (ci := 2) (v := .int c_listed) (C := RX3) (T := TX3) (N := 52) hx hb hts in_X3 hown hK hP 0 rfl rfl 29 (by decide) (hts _ q1687) (fun _ h9 => h9) rfl dX3_list_80 ?_
      refine lv_iconst (v := 1) hx hb dX3_list_83 (by decide) ?_
      refine lv_isub hx hb dX3_list_84 ?_
      obtain ⟨y10, e10, h⟩ := ob_s h
      refine MR.callS (M_X3_isIn hG e10) S (cw_X3_isIn hts q2061 ⟨Nat.le_of_ble_eq_true rfl, Nat.le_of_ble_eq_true rfl⟩) hW0 vaP0 rfl hl.1 rfl (Nat.le_of_ble_eq_true rfl) dX3_list_85 ⟨Nat.zero_le _, Nat.zero_le _⟩ ?_
      refine lv_if_eq (tgt := 118) hx hb dX3_list_88 (by decide) (fun c11 => ?_) (fun c11 => ?_)
      · rw [if_pos c11] at h
        refine lv_aload_n hx hb dX3_list_118 rfl (lv_at hl 0 rfl) ?_
        refine lv_iconst (v := 2) hx hb dX3_list_119 (by decide) ?_
        obtain ⟨y12, e12, h⟩ := ob_s h
        refine MW.callV (q0 := 0) (M_X3_fail hG e12) S (cw_X3_fail hts q1827 ⟨Nat.le_of_ble_eq_true rfl, Nat.le_of_ble_eq_true rfl⟩) hW0 hK hP hD hS hA rfl rfl rfl hl.1 rfl (Nat.le_of_ble_eq_true rfl) dX3_list_120 ⟨Nat.zero_le _, Nat.zero_le _⟩ (fun H locs hP hD hS => ?_)
        have hP : va_P G.2.1 vwCl (mW h0 ad G.2.2 y12.2 c_now c_read c_status c_tape c_taped c_at c_textSize c_token c_number c_begins c_stops c_bad c_badPlace c_faultPlace c_clauses c_naming c_lineBy c_becomes c_dualLines c_on c_rowNow c_least c_wayFirst c_ways c_acts c_past c_listPoints c_listLines c_listed c_list c_path c_places c_firstPlaces c_px c_py c_pz c_placeMany c_modulus c_drawn c_halvesMany c_halvesFirst c_spreadsMany c_spreadsFirst c_comesTo c_seedNow c_rowThen c_hasImage c_actsThen c_imageRow c_pastThen c_statusThen) H := hP
        have hD : va_D A (mW h0 ad G.2.2 y12.2 c_now c_read c_status c_tape c_taped c_at c_textSize c_token c_number c_begins c_stops c_bad c_badPlace c_faultPlace c_clauses c_naming c_lineBy c_becomes c_dualLines c_on c_rowNow c_least c_wayFirst c_ways c_acts c_past c_listPoints c_listLines c_listed c_list c_path c_places c_firstPlaces c_px c_py c_pz c_placeMany c_modulus c_drawn c_halvesMany c_halvesFirst c_spreadsMany c_spreadsFirst c_comesTo c_seedNow c_rowThen c_hasImage c_actsThen c_imageRow c_pastThen c_statusThen) := hD
        refine W.eq (g2 := F0 m 123 ls [.int y12.1]) rfl ?_
        obtain rfl := Option.some.inj h
        exact hreti rfl dX3_list_123 rfl rfl hP hD hS
      · rw [if_neg c11] at h
        refine lv_iload hx hb dX3_list_91 (lv_at hl 3 rfl) ?_
        refine lv_iconst (v := 0) hx hb dX3_list_93 (by decide) ?_
        refine lv_iload_n hx hb dX3_list_94 rfl (lv_at hl 1 rfl) ?_
        refine lv_iconst (v := 1) hx hb dX3_list_95 (by decide) ?_
        refine lv_isub hx hb dX3_list_96 ?_
        obtain ⟨y14, e14, h⟩ := ob_s h
        refine MR.callS (M_X3_isIn hG e14) S (cw_X3_isIn hts q2061 ⟨Nat.le_of_ble_eq_true rfl, Nat.le_of_ble_eq_true rfl⟩) hW0 vaP0 rfl hl.1 rfl (Nat.le_of_ble_eq_true rfl) dX3_list_97 ⟨Nat.zero_le _, Nat.zero_le _⟩ ?_
        refine lv_if_eq (tgt := 118) hx hb dX3_list_100 (by decide) (fun c15 => ?_) (fun c15 => ?_)
        · rw [if_pos c15] at h
          refine lv_aload_n hx hb dX3_list_118 rfl (lv_at hl 0 rfl) ?_
          refine lv_iconst (v := 2) hx hb dX3_list_119 (by decide) ?_
          obtain ⟨y16, e16, h⟩ := ob_s h
          refine MW.callV (q0 := 0) (M_X3_fail hG e16) S (cw_X3_fail hts q1827 ⟨Nat.le_of_ble_eq_true rfl, Nat.le_of_ble_eq_true rfl⟩) hW0 hK hP hD hS hA rfl rfl rfl hl.1 rfl (Nat.le_of_ble_eq_true rfl) dX3_list_120 ⟨Nat.zero_le _, Nat.zero_le _⟩ (fun H locs hP hD hS => ?_)
          have hP : va_P G.2.1 vwCl (mW h0 ad G.2.2 y16.2 c_now c_read c_status c_tape c_taped c_at c_textSize c_token c_number c_begins c_stops c_bad c_badPlace c_faultPlace c_clauses c_naming c_lineBy c_becomes c_dualLines c_on c_rowNow c_least c_wayFirst c_ways c_acts c_past c_listPoints c_listLines c_listed c_list c_path c_places c_firstPlaces c_px c_py c_pz c_placeMany c_modulus c_drawn c_halvesMany c_halvesFirst c_spreadsMany c_spreadsFirst c_comesTo c_seedNow c_rowThen c_hasImage c_actsThen c_imageRow c_pastThen c_statusThen) H := hP
          have hD : va_D A (mW h0 ad G.2.2 y16.2 c_now c_read c_status c_tape c_taped c_at c_textSize c_token c_number c_begins c_stops c_bad c_badPlace c_faultPlace c_clauses c_naming c_lineBy c_becomes c_dualLines c_on c_rowNow c_least c_wayFirst c_ways c_acts c_past c_listPoints c_listLines c_listed c_list c_path c_places c_firstPlaces c_px c_py c_pz c_placeMany c_modulus c_drawn c_halvesMany c_halvesFirst c_spreadsMany c_spreadsFirst c_comesTo c_seedNow c_rowThen c_hasImage c_actsThen c_imageRow c_pastThen c_statusThen) := hD
          refine W.eq (g2 := F0 m 123 ls [.int y16.1]) rfl ?_
          obtain rfl := Option.some.inj h
          exact hreti rfl dX3_list_123 rfl rfl hP hD hS
        · rw [if_neg c15] at h
          refine lv_aload_n hx hb dX3_list_103 rfl (lv_at hl 0 rfl) ?_
          refine va_get (ci := 2) (v := .ref (ad 30)) (C := RX3) (T := TX3) (N := 52) hx hb hts in_X3 hown hK hP 0 rfl rfl 30 (by decide) (hts _ q1688) (fun _ h9 => h9) rfl dX3_list_104 ?_
          refine lv_bipush (v := 7) hx hb dX3_list_107 (by decide) ?_
          refine lv_iload_n hx hb dX3_list_109 rfl (lv_at hl 2 rfl) ?_
          refine lv_imul hx hb dX3_list_110 ?_
          refine lv_iload hx hb dX3_list_111 (lv_at hl 3 rfl) ?_
          refine lv_iadd hx hb dX3_list_113 ?_
          obtain ⟨i18, h⟩ := ckI_s h
          refine va_iald (f := c_list) hx hb hK hP 14 0 rfl rfl i18 dX3_list_114 ?_
          refine lv_goto (tgt := 123) hx hb dX3_list_115 (by decide) ?_
          obtain rfl := Option.some.inj h
          exact hreti rfl dX3_list_123 rfl rfl hP hD hS
    · rw [if_pos c9] at h
      refine lv_aload_n hx hb dX3_list_72 rfl (lv_at hl 0 rfl) ?_
      refine va_get (ci := 2) (v := .int c_listed) (C := RX3) (T := TX3) (N := 52) hx hb hts in_X3 hown hK hP 0 rfl rfl 29 (by decide) (hts _ q1687) (fun _ h9 => h9) rfl dX3_list_73 ?_
      obtain rfl := Option.some.inj h
      exact hreti rfl dX3_list_76 rfl rfl hP hD hS
  have S_X3_list_47 : ∀ (v1 : Int32) (v2 : Int32) (v3 : Int32) (v4 : Int32) (c_naming : (Nat → Int32)) (c_rowNow : (Nat → Int32)) (c_list : (Nat → Int32)) (c_path : (Nat → Int32)) (c_code : Int32) (c_listPoints : Int32) (c_listLines : Int32) (c_listed : Int32), F_X3_list_47 N v1 v2 v3 v4 c_naming c_rowNow c_list c_path c_code c_listPoints c_listLines c_listed = some ρ → ∀ (H : Heap) (locs : List Loc), va_P G.2.1 vwCl (mW h0 ad G.2.2 c_code c_now c_read c_status c_tape c_taped c_at c_textSize c_token c_number c_begins c_stops c_bad c_badPlace c_faultPlace c_clauses c_naming c_lineBy c_becomes c_dualLines c_on c_rowNow c_least c_wayFirst c_ways c_acts c_past c_listPoints c_listLines c_listed c_list c_path c_places c_firstPlaces c_px c_py c_pz c_placeMany c_modulus c_drawn c_halvesMany c_halvesFirst c_spreadsMany c_spreadsFirst c_comesTo c_seedNow c_rowThen c_hasImage c_actsThen c_imageRow c_pastThen c_statusThen) H → va_D A (mW h0 ad G.2.2 c_code c_now c_read c_status c_tape c_taped c_at c_textSize c_token c_number c_begins c_stops c_bad c_badPlace c_faultPlace c_clauses c_naming c_lineBy c_becomes c_dualLines c_on c_rowNow c_least c_wayFirst c_ways c_acts c_past c_listPoints c_listLines c_listed c_list c_path c_places c_firstPlaces c_px c_py c_pz c_placeMany c_modulus c_drawn c_halvesMany c_halvesFirst c_spreadsMany c_spreadsFirst c_comesTo c_seedNow c_rowThen c_hasImage c_actsThen c_imageRow c_pastThen c_statusThen) → va_S A s.heap H locs → ∀ (ls : Array Slot), lv_has ls 5 [(0, .ref h0), (1, .int v1), (2, .int v2), (3, .int v3), (4, .int v4)] → W p l e (rmL 21 0 0) s m args below meth c H locs 0 0 Q (F0 m 47 ls []) := by
    intro v1 v2 v3 v4 c_naming c_rowNow c_list c_path c_code c_listPoints c_listLines c_listed h H locs hP hD hS ls hl
    rw [F_X3_list_47] at h
    refine lv_aload_n hx hb dX3_list_47 rfl (lv_at hl 0 rfl) ?_
    refine lv_iload_n hx hb dX3_list_48 rfl (lv_at hl 1 rfl) ?_
    refine va_put (ci := 2) (v := .int v1) (ty := .int) (C := RX3) (T := TX3) (N := 52) hx hb hts in_X3 tyX3 tyX3_ok nmX3 hown hK hP hD hS 0 rfl rfl 27 (by decide) (hts _ q1685) (fun _ h9 => h9) rfl (by decide +kernel) rfl rfl (Nat.le_of_ble_eq_true rfl) dX3_list_49 (fun H locs hP hD hS => ?_)
    have hP : va_P G.2.1 vwCl (mW h0 ad G.2.2 c_code c_now c_read c_status c_tape c_taped c_at c_textSize c_token c_number c_begins c_stops c_bad c_badPlace c_faultPlace c_clauses c_naming c_lineBy c_becomes c_dualLines c_on c_rowNow c_least c_wayFirst c_ways c_acts c_past v1 c_listLines c_listed c_list c_path c_places c_firstPlaces c_px c_py c_pz c_placeMany c_modulus c_drawn c_halvesMany c_halvesFirst c_spreadsMany c_spreadsFirst c_comesTo c_seedNow c_rowThen c_hasImage c_actsThen c_imageRow c_pastThen c_statusThen) H := hP
    have hD : va_D A (mW h0 ad G.2.2 c_code c_now c_read c_status c_tape c_taped c_at c_textSize c_token c_number c_begins c_stops c_bad c_badPlace c_faultPlace c_clauses c_naming c_lineBy c_becomes c_dualLines c_on c_rowNow c_least c_wayFirst c_ways c_acts c_past v1 c_listLines c_listed c_list c_path c_places c_firstPlaces c_px c_py c_pz c_placeMany c_modulus c_drawn c_halvesMany c_halvesFirst c_spreadsMany c_spreadsFirst c_comesTo c_seedNow c_rowThen c_hasImage c_actsThen c_imageRow c_pastThen c_statusThen) := hD
    refine lv_aload_n hx hb dX3_list_52 rfl (lv_at hl 0 rfl) ?_
    refine lv_iload_n hx hb dX3_list_53 rfl (lv_at hl 2 rfl) ?_
    refine va_put (ci := 2) (v := .int v2) (ty := .int) (C := RX3) (T := TX3) (N := 52) hx hb hts in_X3 tyX3 tyX3_ok nmX3 hown hK hP hD hS 0 rfl rfl 28 (by decide) (hts _ q1686) (fun _ h9 => h9) rfl (by decide +kernel) rfl rfl (Nat.le_of_ble_eq_true rfl) dX3_list_54 (fun H locs hP hD hS => ?_)
    have hP : va_P G.2.1 vwCl (mW h0 ad G.2.2 c_code c_now c_read c_status c_tape c_taped c_at c_textSize c_token c_number c_begins c_stops c_bad c_badPlace c_faultPlace c_clauses c_naming c_lineBy c_becomes c_dualLines c_on c_rowNow c_least c_wayFirst c_ways c_acts c_past v1 v2 c_listed c_list c_path c_places c_firstPlaces c_px c_py c_pz c_placeMany c_modulus c_drawn c_halvesMany c_halvesFirst c_spreadsMany c_spreadsFirst c_comesTo c_seedNow c_rowThen c_hasImage c_actsThen c_imageRow c_pastThen c_statusThen) H := hP
    have hD : va_D A (mW h0 ad G.2.2 c_code c_now c_read c_status c_tape c_taped c_at c_textSize c_token c_number c_begins c_stops c_bad c_badPlace c_faultPlace c_clauses c_naming c_lineBy c_becomes c_dualLines c_on c_rowNow c_least c_wayFirst c_ways c_acts c_past v1 v2 c_listed c_list c_path c_places c_firstPlaces c_px c_py c_pz c_placeMany c_modulus c_drawn c_halvesMany c_halvesFirst c_spreadsMany c_spreadsFirst c_comesTo c_seedNow c_rowThen c_hasImage c_actsThen c_imageRow c_pastThen c_statusThen) := hD
    refine lv_aload_n hx hb dX3_list_57 rfl (lv_at hl 0 rfl) ?_
    refine lv_iconst (v := 0) hx hb dX3_list_58 (by decide) ?_
    refine va_put (ci := 2) (v := .int 0) (ty := .int) (C := RX3) (T := TX3) (N := 52) hx hb hts in_X3 tyX3 tyX3_ok nmX3 hown hK hP hD hS 0 rfl rfl 29 (by decide) (hts _ q1687) (fun _ h9 => h9) rfl (by decide +kernel) rfl rfl (Nat.le_of_ble_eq_true rfl) dX3_list_59 (fun H locs hP hD hS => ?_)
    have hP : va_P G.2.1 vwCl (mW h0 ad G.2.2 c_code c_now c_read c_status c_tape c_taped c_at c_textSize c_token c_number c_begins c_stops c_bad c_badPlace c_faultPlace c_clauses c_naming c_lineBy c_becomes c_dualLines c_on c_rowNow c_least c_wayFirst c_ways c_acts c_past v1 v2 0 c_list c_path c_places c_firstPlaces c_px c_py c_pz c_placeMany c_modulus c_drawn c_halvesMany c_halvesFirst c_spreadsMany c_spreadsFirst c_comesTo c_seedNow c_rowThen c_hasImage c_actsThen c_imageRow c_pastThen c_statusThen) H := hP
    have hD : va_D A (mW h0 ad G.2.2 c_code c_now c_read c_status c_tape c_taped c_at c_textSize c_token c_number c_begins c_stops c_bad c_badPlace c_faultPlace c_clauses c_naming c_lineBy c_becomes c_dualLines c_on c_rowNow c_least c_wayFirst c_ways c_acts c_past v1 v2 0 c_list c_path c_places c_firstPlaces c_px c_py c_pz c_placeMany c_modulus c_drawn c_halvesMany c_halvesFirst c_spreadsMany c_spreadsFirst c_comesTo c_seedNow c_rowThen c_hasImage c_actsThen c_imageRow c_pastThen c_statusThen) := hD
    refine lv_aload_n hx hb dX3_list_62 rfl (lv_at hl 0 rfl) ?_
    refine lv_iconst (v := 0) hx hb dX3_list_63 (by decide) ?_
    obtain ⟨y8, e8, h⟩ := ob_s h
    refine MW.callV (q0 := 0) (M_X3_listFrom hG 16 e8) S (cw_X3_listFrom hts q2206 ⟨Nat.le_of_ble_eq_true rfl, Nat.le_of_ble_eq_true rfl⟩) hW0 hK hP hD hS hA rfl rfl rfl hl.1 rfl (Nat.le_of_ble_eq_true rfl) dX3_list_64 ⟨Nat.zero_le _, Nat.zero_le _⟩ (fun H locs hP hD hS => ?_)
    have hP : va_P G.2.1 vwCl (mW h0 ad G.2.2 c_code c_now c_read c_status c_tape c_taped c_at c_textSize c_token c_number c_begins c_stops c_bad c_badPlace c_faultPlace c_clauses y8.1 c_lineBy c_becomes c_dualLines c_on y8.2.1 c_least c_wayFirst c_ways c_acts c_past v1 v2 y8.2.2.2.2 y8.2.2.1 y8.2.2.2.1 c_places c_firstPlaces c_px c_py c_pz c_placeMany c_modulus c_drawn c_halvesMany c_halvesFirst c_spreadsMany c_spreadsFirst c_comesTo c_seedNow c_rowThen c_hasImage c_actsThen c_imageRow c_pastThen c_statusThen) H := hP
    have hD : va_D A (mW h0 ad G.2.2 c_code c_now c_read c_status c_tape c_taped c_at c_textSize c_token c_number c_begins c_stops c_bad c_badPlace c_faultPlace c_clauses y8.1 c_lineBy c_becomes c_dualLines c_on y8.2.1 c_least c_wayFirst c_ways c_acts c_past v1 v2 y8.2.2.2.2 y8.2.2.1 y8.2.2.2.1 c_places c_firstPlaces c_px c_py c_pz c_placeMany c_modulus c_drawn c_halvesMany c_halvesFirst c_spreadsMany c_spreadsFirst c_comesTo c_seedNow c_rowThen c_hasImage c_actsThen c_imageRow c_pastThen c_statusThen) := hD
    refine W.eq (g2 := F0 m 67 ls []) rfl ?_
    refine S_X3_list_67 v2 v3 v4 y8.1 y8.2.1 y8.2.2.1 y8.2.2.2.1 c_code v1 v2 y8.2.2.2.2 h  _ _ hP hD hS _ (lv_sub hl [0, 2, 3, 4] rfl)
  refine lv_aload_n hx hb dX3_list_0 rfl (lv_at hl 0 rfl) ?_
  refine lv_iconst (v := 0) hx hb dX3_list_1 (by decide) ?_
  refine va_put (ci := 2) (v := .int 0) (ty := .int) (C := RX3) (T := TX3) (N := 52) hx hb hts in_X3 tyX3 tyX3_ok nmX3 hown hK hP hD hS 0 rfl rfl 0 (by decide) (hts _ q1658) (fun _ h9 => h9) rfl (by decide +kernel) rfl rfl (Nat.le_of_ble_eq_true rfl) dX3_list_2 (fun H locs hP hD hS => ?_)
  have hP : va_P G.2.1 vwCl (mW h0 ad G.2.2 0 c_now c_read c_status c_tape c_taped c_at c_textSize c_token c_number c_begins c_stops c_bad c_badPlace c_faultPlace c_clauses c_naming c_lineBy c_becomes c_dualLines c_on c_rowNow c_least c_wayFirst c_ways c_acts c_past c_listPoints c_listLines c_listed c_list c_path c_places c_firstPlaces c_px c_py c_pz c_placeMany c_modulus c_drawn c_halvesMany c_halvesFirst c_spreadsMany c_spreadsFirst c_comesTo c_seedNow c_rowThen c_hasImage c_actsThen c_imageRow c_pastThen c_statusThen) H := hP
  have hD : va_D A (mW h0 ad G.2.2 0 c_now c_read c_status c_tape c_taped c_at c_textSize c_token c_number c_begins c_stops c_bad c_badPlace c_faultPlace c_clauses c_naming c_lineBy c_becomes c_dualLines c_on c_rowNow c_least c_wayFirst c_ways c_acts c_past c_listPoints c_listLines c_listed c_list c_path c_places c_firstPlaces c_px c_py c_pz c_placeMany c_modulus c_drawn c_halvesMany c_halvesFirst c_spreadsMany c_spreadsFirst c_comesTo c_seedNow c_rowThen c_hasImage c_actsThen c_imageRow c_pastThen c_statusThen) := hD
  refine lv_iload_n hx hb dX3_list_5 rfl (lv_at hl 1 rfl) ?_
  refine lv_iconst (v := 3) hx hb dX3_list_6 (by decide) ?_
  refine lv_bipush (v := 7) hx hb dX3_list_7 (by decide) ?_
  obtain ⟨y1, e1, h⟩ := ob_s h
  refine MR.callS (M_X3_isIn hG e1) S (cw_X3_isIn hts q2061 ⟨Nat.le_of_ble_eq_true rfl, Nat.le_of_ble_eq_true rfl⟩) hW0 vaP0 rfl hl.1 rfl (Nat.le_of_ble_eq_true rfl) dX3_list_9 ⟨Nat.zero_le _, Nat.zero_le _⟩ ?_
  refine lv_if_eq (tgt := 25) hx hb dX3_list_12 (by decide) (fun c2 => ?_) (fun c2 => ?_)
  · rw [if_pos c2] at h
    refine lv_aload_n hx hb dX3_list_25 rfl (lv_at hl 0 rfl) ?_
    refine lv_iconst (v := 1) hx hb dX3_list_26 (by decide) ?_
    obtain ⟨y3, e3, h⟩ := ob_s h
    refine MW.callV (q0 := 0) (M_X3_fail hG e3) S (cw_X3_fail hts q1827 ⟨Nat.le_of_ble_eq_true rfl, Nat.le_of_ble_eq_true rfl⟩) hW0 hK hP hD hS hA rfl rfl rfl hl.1 rfl (Nat.le_of_ble_eq_true rfl) dX3_list_27 ⟨Nat.zero_le _, Nat.zero_le _⟩ (fun H locs hP hD hS => ?_)
    have hP : va_P G.2.1 vwCl (mW h0 ad G.2.2 y3.2 c_now c_read c_status c_tape c_taped c_at c_textSize c_token c_number c_begins c_stops c_bad c_badPlace c_faultPlace c_clauses c_naming c_lineBy c_becomes c_dualLines c_on c_rowNow c_least c_wayFirst c_ways c_acts c_past c_listPoints c_listLines c_listed c_list c_path c_places c_firstPlaces c_px c_py c_pz c_placeMany c_modulus c_drawn c_halvesMany c_halvesFirst c_spreadsMany c_spreadsFirst c_comesTo c_seedNow c_rowThen c_hasImage c_actsThen c_imageRow c_pastThen c_statusThen) H := hP
    have hD : va_D A (mW h0 ad G.2.2 y3.2 c_now c_read c_status c_tape c_taped c_at c_textSize c_token c_number c_begins c_stops c_bad c_badPlace c_faultPlace c_clauses c_naming c_lineBy c_becomes c_dualLines c_on c_rowNow c_least c_wayFirst c_ways c_acts c_past c_listPoints c_listLines c_listed c_list c_path c_places c_firstPlaces c_px c_py c_pz c_placeMany c_modulus c_drawn c_halvesMany c_halvesFirst c_spreadsMany c_spreadsFirst c_comesTo c_seedNow c_rowThen c_hasImage c_actsThen c_imageRow c_pastThen c_statusThen) := hD
    refine W.eq (g2 := F0 m 30 ls [.int y3.1]) rfl ?_
    obtain rfl := Option.some.inj h
    exact hreti rfl dX3_list_30 rfl rfl hP hD hS
  · rw [if_neg c2] at h
    refine lv_iload_n hx hb dX3_list_15 rfl (lv_at hl 2 rfl) ?_
    refine lv_iconst (v := 0) hx hb dX3_list_16 (by decide) ?_
    refine lv_bipush (v := 7) hx hb dX3_list_17 (by decide) ?_
    obtain ⟨y5, e5, h⟩ := ob_s h
    refine MR.callS (M_X3_isIn hG e5) S (cw_X3_isIn hts q2061 ⟨Nat.le_of_ble_eq_true rfl, Nat.le_of_ble_eq_true rfl⟩) hW0 vaP0 rfl hl.1 rfl (Nat.le_of_ble_eq_true rfl) dX3_list_19 ⟨Nat.zero_le _, Nat.zero_le _⟩ ?_
    refine lv_if_ne (tgt := 31) hx hb dX3_list_22 (by decide) (fun c6 => ?_) (fun c6 => ?_)
    · rw [if_neg c6] at h
      refine lv_iload_n hx hb dX3_list_31 rfl (lv_at hl 1 rfl) ?_
      refine lv_aload_n hx hb dX3_list_32 rfl (lv_at hl 0 rfl) ?_
      refine va_get (ci := 2) (v := .int c_listPoints) (C := RX3) (T := TX3) (N := 52) hx hb hts in_X3 hown hK hP 0 rfl rfl 27 (by decide) (hts _ q1685) (fun _ h9 => h9) rfl dX3_list_33 ?_
      refine lv_icmp_ne (tgt := 47) hx hb dX3_list_36 (by decide) (fun c7 => ?_) (fun c7 => ?_)
      · rw [if_neg c7] at h
        refine S_X3_list_47 v1 v2 v3 v4 c_naming c_rowNow c_list c_path 0 c_listPoints c_listLines c_listed h  _ _ hP hD hS _ (lv_sub hl [0, 1, 2, 3, 4] rfl)
      · rw [if_pos c7] at h
        refine lv_iload_n hx hb dX3_list_39 rfl (lv_at hl 2 rfl) ?_
        refine lv_aload_n hx hb dX3_list_40 rfl (lv_at hl 0 rfl) ?_
        refine va_get (ci := 2) (v := .int c_listLines) (C := RX3) (T := TX3) (N := 52) hx hb hts in_X3 hown hK hP 0 rfl rfl 28 (by decide) (hts _ q1686) (fun _ h9 => h9) rfl dX3_list_41 ?_
        refine lv_icmp_eq (tgt := 67) hx hb dX3_list_44 (by decide) (fun c21 => ?_) (fun c21 => ?_)
        · rw [if_pos c21] at h
          refine S_X3_list_67 v2 v3 v4 c_naming c_rowNow c_list c_path 0 c_listPoints c_listLines c_listed h  _ _ hP hD hS _ (lv_sub hl [0, 2, 3, 4] rfl)
        · rw [if_neg c21] at h
          refine S_X3_list_47 v1 v2 v3 v4 c_naming c_rowNow c_list c_path 0 c_listPoints c_listLines c_listed h  _ _ hP hD hS _ (lv_sub hl [0, 1, 2, 3, 4] rfl)
    · rw [if_pos c6] at h
      refine lv_aload_n hx hb dX3_list_25 rfl (lv_at hl 0 rfl) ?_
      refine lv_iconst (v := 1) hx hb dX3_list_26 (by decide) ?_
      obtain ⟨y22, e22, h⟩ := ob_s h
      refine MW.callV (q0 := 0) (M_X3_fail hG e22) S (cw_X3_fail hts q1827 ⟨Nat.le_of_ble_eq_true rfl, Nat.le_of_ble_eq_true rfl⟩) hW0 hK hP hD hS hA rfl rfl rfl hl.1 rfl (Nat.le_of_ble_eq_true rfl) dX3_list_27 ⟨Nat.zero_le _, Nat.zero_le _⟩ (fun H locs hP hD hS => ?_)
      have hP : va_P G.2.1 vwCl (mW h0 ad G.2.2 y22.2 c_now c_read c_status c_tape c_taped c_at c_textSize c_token c_number c_begins c_stops c_bad c_badPlace c_faultPlace c_clauses c_naming c_lineBy c_becomes c_dualLines c_on c_rowNow c_least c_wayFirst c_ways c_acts c_past c_listPoints c_listLines c_listed c_list c_path c_places c_firstPlaces c_px c_py c_pz c_placeMany c_modulus c_drawn c_halvesMany c_halvesFirst c_spreadsMany c_spreadsFirst c_comesTo c_seedNow c_rowThen c_hasImage c_actsThen c_imageRow c_pastThen c_statusThen) H := hP
      have hD : va_D A (mW h0 ad G.2.2 y22.2 c_now c_read c_status c_tape c_taped c_at c_textSize c_token c_number c_begins c_stops c_bad c_badPlace c_faultPlace c_clauses c_naming c_lineBy c_becomes c_dualLines c_on c_rowNow c_least c_wayFirst c_ways c_acts c_past c_listPoints c_listLines c_listed c_list c_path c_places c_firstPlaces c_px c_py c_pz c_placeMany c_modulus c_drawn c_halvesMany c_halvesFirst c_spreadsMany c_spreadsFirst c_comesTo c_seedNow c_rowThen c_hasImage c_actsThen c_imageRow c_pastThen c_statusThen) := hD
      refine W.eq (g2 := F0 m 30 ls [.int y22.1]) rfl ?_
      obtain rfl := Option.some.inj h
      exact hreti rfl dX3_list_30 rfl rfl hP hD hS
def F_X3_layPlace (N : Nat) (v1 : Int32) (v2 : Int32) (v3 : Int32) (c_px : (Nat → Int32)) (c_py : (Nat → Int32)) (c_pz : (Nat → Int32)) (c_placeMany : Int32) : Option ((Nat → Int32) × (Nat → Int32) × (Nat → Int32) × Int32) := (ckI c_placeMany 16 (ckI c_placeMany 16 (ckI c_placeMany 16 (some ((upd c_px (Int32.toNatClampNeg c_placeMany) v1), (upd c_py (Int32.toNatClampNeg c_placeMany) v2), (upd c_pz (Int32.toNatClampNeg c_placeMany) v3), (c_placeMany + (1 : Int32)))))))
theorem cw_X3_layPlace {R : Room} {s : State} {args : Array Value} {own : String} {index lev mc ms : Nat} (hts : ∀ w ∈ lw_all, w.before args s = true) (hl : Cond.methodLink own index yX3_layPlace ∈ lw_all) (hR : (rmL lev mc ms).frames + 1 ≤ R.frames ∧ 8 + (4 + 11) + (rmL lev mc ms).locals ≤ R.locals) : CallW R s args own RX3 index yX3_layPlace cX3_layPlace 4 none (ws_ yX3_layPlace cX3_layPlace 4 none) (rmL lev mc ms) mc ms 3 := cwV 3 hts (lw_V hl q2220 qs136 q172 q2221) rfl rfl rfl (by decide +kernel) hR
set_option maxHeartbeats 4000000 in
theorem M_X3_layPlace {l : Launch} {G : GE} (hG : GC G) {N : Nat} {h0 : Nat} {ad : Nat → Nat} {c_code : Int32} {c_now : (Nat → Int32)} {c_read : (Nat → Int32)} {c_status : (Nat → Int32)} {c_tape : (Nat → Int32)} {c_taped : Int32} {c_at : Int32} {c_textSize : Int32} {c_token : Int32} {c_number : Int32} {c_begins : Int32} {c_stops : Int32} {c_bad : Int32} {c_badPlace : Int32} {c_faultPlace : Int32} {c_clauses : Int32} {c_naming : (Nat → Int32)} {c_lineBy : (Nat → Int32)} {c_becomes : (Nat → Int32)} {c_dualLines : (Nat → Int32)} {c_on : (Nat → Int32)} {c_rowNow : (Nat → Int32)} {c_least : (Nat → Int32)} {c_wayFirst : (Nat → Int32)} {c_ways : Int32} {c_acts : Int32} {c_past : (Nat → Int32)} {c_listPoints : Int32} {c_listLines : Int32} {c_listed : Int32} {c_list : (Nat → Int32)} {c_path : (Nat → Int32)} {c_places : (Nat → Int32)} {c_firstPlaces : (Nat → Int32)} {c_modulus : Int32} {c_drawn : Int32} {c_halvesMany : Int32} {c_halvesFirst : Int32} {c_spreadsMany : Int32} {c_spreadsFirst : Int32} {c_comesTo : (Nat → Int32)} {c_seedNow : Int32} {c_rowThen : (Nat → Int32)} {c_hasImage : Int32} {c_actsThen : Int32} {c_imageRow : (Nat → Int32)} {c_pastThen : (Nat → Int32)} {c_statusThen : (Nat → Int32)} {v1 : Int32} {v2 : Int32} {v3 : Int32} {c_px : (Nat → Int32)} {c_py : (Nat → Int32)} {c_pz : (Nat → Int32)} {c_placeMany : Int32} {ρ : ((Nat → Int32) × (Nat → Int32) × (Nat → Int32) × Int32)} (h : F_X3_layPlace N v1 v2 v3 c_px c_py c_pz c_placeMany = some ρ) : MW l G yX3_layPlace cX3_layPlace 4 none 1 (mW h0 ad G.2.2 c_code c_now c_read c_status c_tape c_taped c_at c_textSize c_token c_number c_begins c_stops c_bad c_badPlace c_faultPlace c_clauses c_naming c_lineBy c_becomes c_dualLines c_on c_rowNow c_least c_wayFirst c_ways c_acts c_past c_listPoints c_listLines c_listed c_list c_path c_places c_firstPlaces c_px c_py c_pz c_placeMany c_modulus c_drawn c_halvesMany c_halvesFirst c_spreadsMany c_spreadsFirst c_comesTo c_seedNow c_rowThen c_hasImage c_actsThen c_imageRow c_pastThen c_statusThen) [.ref h0, .int v1, .int v2, .int v3] none (mW h0 ad G.2.2 c_code c_now c_read c_status c_tape c_taped c_at c_textSize c_token c_number c_begins c_stops c_bad c_badPlace c_faultPlace c_clauses c_naming c_lineBy c_becomes c_dualLines c_on c_rowNow c_least c_wayFirst c_ways c_acts c_past c_listPoints c_listLines c_listed c_list c_path c_places c_firstPlaces ρ.1 ρ.2.1 ρ.2.2.1 ρ.2.2.2 c_modulus c_drawn c_halvesMany c_halvesFirst c_spreadsMany c_spreadsFirst c_comesTo c_seedNow c_rowThen c_hasImage c_actsThen c_imageRow c_pastThen c_statusThen) := by
  rw [F_X3_layPlace] at h
  refine MW.start hG (by decide) (Nat.le_of_ble_eq_true rfl) ?_
  intro p e s m args below meth c Q A S hW0 hK hP hD hA hreti hretv ls hl
  have hS : va_S A s.heap s.heap [] := va_S.rf
  obtain ⟨hx, hb, hml, hown, hts⟩ := id S
  have hl : lv_has ls 4 [(0, .ref h0), (1, .int v1), (2, .int v2), (3, .int v3)] := hl
  refine lv_aload_n hx hb dX3_layPlace_0 rfl (lv_at hl 0 rfl) ?_
  refine va_get (ci := 2) (v := .ref (ad 34)) (C := RX3) (T := TX3) (N := 52) hx hb hts in_X3 hown hK hP 0 rfl rfl 34 (by decide) (hts _ q1692) (fun _ h9 => h9) rfl dX3_layPlace_1 ?_
  refine lv_aload_n hx hb dX3_layPlace_4 rfl (lv_at hl 0 rfl) ?_
  refine va_get (ci := 2) (v := .int c_placeMany) (C := RX3) (T := TX3) (N := 52) hx hb hts in_X3 hown hK hP 0 rfl rfl 37 (by decide) (hts _ q1695) (fun _ h9 => h9) rfl dX3_layPlace_5 ?_
  refine lv_iload_n hx hb dX3_layPlace_8 rfl (lv_at hl 1 rfl) ?_
  obtain ⟨i1, h⟩ := ckI_s h
  refine va_iast (f := c_px) hx hb hK hP hD hS 18 0 rfl rfl i1 dX3_layPlace_9 (fun H locs hP hD hS => ?_)
  have hP : va_P G.2.1 vwCl (mW h0 ad G.2.2 c_code c_now c_read c_status c_tape c_taped c_at c_textSize c_token c_number c_begins c_stops c_bad c_badPlace c_faultPlace c_clauses c_naming c_lineBy c_becomes c_dualLines c_on c_rowNow c_least c_wayFirst c_ways c_acts c_past c_listPoints c_listLines c_listed c_list c_path c_places c_firstPlaces (upd c_px (Int32.toNatClampNeg c_placeMany) v1) c_py c_pz c_placeMany c_modulus c_drawn c_halvesMany c_halvesFirst c_spreadsMany c_spreadsFirst c_comesTo c_seedNow c_rowThen c_hasImage c_actsThen c_imageRow c_pastThen c_statusThen) H := hP
  have hD : va_D A (mW h0 ad G.2.2 c_code c_now c_read c_status c_tape c_taped c_at c_textSize c_token c_number c_begins c_stops c_bad c_badPlace c_faultPlace c_clauses c_naming c_lineBy c_becomes c_dualLines c_on c_rowNow c_least c_wayFirst c_ways c_acts c_past c_listPoints c_listLines c_listed c_list c_path c_places c_firstPlaces (upd c_px (Int32.toNatClampNeg c_placeMany) v1) c_py c_pz c_placeMany c_modulus c_drawn c_halvesMany c_halvesFirst c_spreadsMany c_spreadsFirst c_comesTo c_seedNow c_rowThen c_hasImage c_actsThen c_imageRow c_pastThen c_statusThen) := hD
  refine lv_aload_n hx hb dX3_layPlace_10 rfl (lv_at hl 0 rfl) ?_
  refine va_get (ci := 2) (v := .ref (ad 35)) (C := RX3) (T := TX3) (N := 52) hx hb hts in_X3 hown hK hP 0 rfl rfl 35 (by decide) (hts _ q1693) (fun _ h9 => h9) rfl dX3_layPlace_11 ?_
  refine lv_aload_n hx hb dX3_layPlace_14 rfl (lv_at hl 0 rfl) ?_
  refine va_get (ci := 2) (v := .int c_placeMany) (C := RX3) (T := TX3) (N := 52) hx hb hts in_X3 hown hK hP 0 rfl rfl 37 (by decide) (hts _ q1695) (fun _ h9 => h9) rfl dX3_layPlace_15 ?_
  refine lv_iload_n hx hb dX3_layPlace_18 rfl (lv_at hl 2 rfl) ?_
  obtain ⟨i2, h⟩ := ckI_s h
  refine va_iast (f := c_py) hx hb hK hP hD hS 19 0 rfl rfl i2 dX3_layPlace_19 (fun H locs hP hD hS => ?_)
  have hP : va_P G.2.1 vwCl (mW h0 ad G.2.2 c_code c_now c_read c_status c_tape c_taped c_at c_textSize c_token c_number c_begins c_stops c_bad c_badPlace c_faultPlace c_clauses c_naming c_lineBy c_becomes c_dualLines c_on c_rowNow c_least c_wayFirst c_ways c_acts c_past c_listPoints c_listLines c_listed c_list c_path c_places c_firstPlaces (upd c_px (Int32.toNatClampNeg c_placeMany) v1) (upd c_py (Int32.toNatClampNeg c_placeMany) v2) c_pz c_placeMany c_modulus c_drawn c_halvesMany c_halvesFirst c_spreadsMany c_spreadsFirst c_comesTo c_seedNow c_rowThen c_hasImage c_actsThen c_imageRow c_pastThen c_statusThen) H := hP
  have hD : va_D A (mW h0 ad G.2.2 c_code c_now c_read c_status c_tape c_taped c_at c_textSize c_token c_number c_begins c_stops c_bad c_badPlace c_faultPlace c_clauses c_naming c_lineBy c_becomes c_dualLines c_on c_rowNow c_least c_wayFirst c_ways c_acts c_past c_listPoints c_listLines c_listed c_list c_path c_places c_firstPlaces (upd c_px (Int32.toNatClampNeg c_placeMany) v1) (upd c_py (Int32.toNatClampNeg c_placeMany) v2) c_pz c_placeMany c_modulus c_drawn c_halvesMany c_halvesFirst c_spreadsMany c_spreadsFirst c_comesTo c_seedNow c_rowThen c_hasImage c_actsThen c_imageRow c_pastThen c_statusThen) := hD
  refine lv_aload_n hx hb dX3_layPlace_20 rfl (lv_at hl 0 rfl) ?_
  refine va_get (ci := 2) (v := .ref (ad 36)) (C := RX3) (T := TX3) (N := 52) hx hb hts in_X3 hown hK hP 0 rfl rfl 36 (by decide) (hts _ q1694) (fun _ h9 => h9) rfl dX3_layPlace_21 ?_
  refine lv_aload_n hx hb dX3_layPlace_24 rfl (lv_at hl 0 rfl) ?_
  refine va_get (ci := 2) (v := .int c_placeMany) (C := RX3) (T := TX3) (N := 52) hx hb hts in_X3 hown hK hP 0 rfl rfl 37 (by decide) (hts _ q1695) (fun _ h9 => h9) rfl dX3_layPlace_25 ?_
  refine lv_iload_n hx hb dX3_layPlace_28 rfl (lv_at hl 3 rfl) ?_
  obtain ⟨i3, h⟩ := ckI_s h
  refine va_iast (f := c_pz) hx hb hK hP hD hS 20 0 rfl rfl i3 dX3_layPlace_29 (fun H locs hP hD hS => ?_)
  have hP : va_P G.2.1 vwCl (mW h0 ad G.2.2 c_code c_now c_read c_status c_tape c_taped c_at c_textSize c_token c_number c_begins c_stops c_bad c_badPlace c_faultPlace c_clauses c_naming c_lineBy c_becomes c_dualLines c_on c_rowNow c_least c_wayFirst c_ways c_acts c_past c_listPoints c_listLines c_listed c_list c_path c_places c_firstPlaces (upd c_px (Int32.toNatClampNeg c_placeMany) v1) (upd c_py (Int32.toNatClampNeg c_placeMany) v2) (upd c_pz (Int32.toNatClampNeg c_placeMany) v3) c_placeMany c_modulus c_drawn c_halvesMany c_halvesFirst c_spreadsMany c_spreadsFirst c_comesTo c_seedNow c_rowThen c_hasImage c_actsThen c_imageRow c_pastThen c_statusThen) H := hP
  have hD : va_D A (mW h0 ad G.2.2 c_code c_now c_read c_status c_tape c_taped c_at c_textSize c_token c_number c_begins c_stops c_bad c_badPlace c_faultPlace c_clauses c_naming c_lineBy c_becomes c_dualLines c_on c_rowNow c_least c_wayFirst c_ways c_acts c_past c_listPoints c_listLines c_listed c_list c_path c_places c_firstPlaces (upd c_px (Int32.toNatClampNeg c_placeMany) v1) (upd c_py (Int32.toNatClampNeg c_placeMany) v2) (upd c_pz (Int32.toNatClampNeg c_placeMany) v3) c_placeMany c_modulus c_drawn c_halvesMany c_halvesFirst c_spreadsMany c_spreadsFirst c_comesTo c_seedNow c_rowThen c_hasImage c_actsThen c_imageRow c_pastThen c_statusThen) := hD
  refine lv_aload_n hx hb dX3_layPlace_30 rfl (lv_at hl 0 rfl) ?_
  refine lv_dup hx hb dX3_layPlace_31 rfl ?_
  refine va_get (ci := 2) (v := .int c_placeMany) (C := RX3) (T := TX3) (N := 52) hx hb hts in_X3 hown hK hP 0 rfl rfl 37 (by decide) (hts _ q1695) (fun _ h9 => h9) rfl dX3_layPlace_32 ?_
  refine lv_iconst (v := 1) hx hb dX3_layPlace_35 (by decide) ?_
  refine lv_iadd hx hb dX3_layPlace_36 ?_
  refine va_put (ci := 2) (v := .int (c_placeMany + (1 : Int32))) (ty := .int) (C := RX3) (T := TX3) (N := 52) hx hb hts in_X3 tyX3 tyX3_ok nmX3 hown hK hP hD hS 0 rfl rfl 37 (by decide) (hts _ q1695) (fun _ h9 => h9) rfl (by decide +kernel) rfl rfl (Nat.le_of_ble_eq_true rfl) dX3_layPlace_37 (fun H locs hP hD hS => ?_)
  have hP : va_P G.2.1 vwCl (mW h0 ad G.2.2 c_code c_now c_read c_status c_tape c_taped c_at c_textSize c_token c_number c_begins c_stops c_bad c_badPlace c_faultPlace c_clauses c_naming c_lineBy c_becomes c_dualLines c_on c_rowNow c_least c_wayFirst c_ways c_acts c_past c_listPoints c_listLines c_listed c_list c_path c_places c_firstPlaces (upd c_px (Int32.toNatClampNeg c_placeMany) v1) (upd c_py (Int32.toNatClampNeg c_placeMany) v2) (upd c_pz (Int32.toNatClampNeg c_placeMany) v3) (c_placeMany + (1 : Int32)) c_modulus c_drawn c_halvesMany c_halvesFirst c_spreadsMany c_spreadsFirst c_comesTo c_seedNow c_rowThen c_hasImage c_actsThen c_imageRow c_pastThen c_statusThen) H := hP
  have hD : va_D A (mW h0 ad G.2.2 c_code c_now c_read c_status c_tape c_taped c_at c_textSize c_token c_number c_begins c_stops c_bad c_badPlace c_faultPlace c_clauses c_naming c_lineBy c_becomes c_dualLines c_on c_rowNow c_least c_wayFirst c_ways c_acts c_past c_listPoints c_listLines c_listed c_list c_path c_places c_firstPlaces (upd c_px (Int32.toNatClampNeg c_placeMany) v1) (upd c_py (Int32.toNatClampNeg c_placeMany) v2) (upd c_pz (Int32.toNatClampNeg c_placeMany) v3) (c_placeMany + (1 : Int32)) c_modulus c_drawn c_halvesMany c_halvesFirst c_spreadsMany c_spreadsFirst c_comesTo c_seedNow c_rowThen c_hasImage c_actsThen c_imageRow c_pastThen c_statusThen) := hD
  obtain rfl := Option.some.inj h
  exact hretv rfl dX3_layPlace_40 rfl hP hD hS
def F_X3_areInLineOn (N : Nat) (v1 : Int32) (v2 : Int32) (v3 : Int32) (c_px : (Nat → Int32)) (c_py : (Nat → Int32)) (c_pz : (Nat → Int32)) (c_modulus : Int32) : Option (Int32) := (if c_modulus = 0 then (ckI v1 16 (ckI v1 16 (ckI v2 16 (ckI v2 16 (ckI v3 16 (ckI v3 16 ((F_X3_areInLine N (c_px (Int32.toNatClampNeg v1)) (c_py (Int32.toNatClampNeg v1)) (c_px (Int32.toNatClampNeg v2)) (c_py (Int32.toNatClampNeg v2)) (c_px (Int32.toNatClampNeg v3)) (c_py (Int32.toNatClampNeg v3))).bind fun y27 => (ckP (y27 &&& 1 = y27) ((some (y27))))))))))) else (ckI v1 16 (ckI v2 16 (ckI v3 16 (ckI v3 16 (ckI v2 16 (ckI v1 16 (ckI v2 16 (ckI v3 16 (ckI v3 16 (ckI v2 16 (ckI v1 16 (ckI v2 16 (ckI v3 16 (ckI v3 16 (ckI v2 16 (ckP (¬ c_modulus = 0) (if (((((c_px (Int32.toNatClampNeg v1)) * (((c_py (Int32.toNatClampNeg v2)) * (c_pz (Int32.toNatClampNeg v3))) - ((c_py (Int32.toNatClampNeg v3)) * (c_pz (Int32.toNatClampNeg v2))))) - ((c_py (Int32.toNatClampNeg v1)) * (((c_px (Int32.toNatClampNeg v2)) * (c_pz (Int32.toNatClampNeg v3))) - ((c_px (Int32.toNatClampNeg v3)) * (c_pz (Int32.toNatClampNeg v2)))))) + ((c_pz (Int32.toNatClampNeg v1)) * (((c_px (Int32.toNatClampNeg v2)) * (c_py (Int32.toNatClampNeg v3))) - ((c_px (Int32.toNatClampNeg v3)) * (c_py (Int32.toNatClampNeg v2)))))) - ((((c_px (Int32.toNatClampNeg v1)) * (((c_py (Int32.toNatClampNeg v2)) * (c_pz (Int32.toNatClampNeg v3))) - ((c_py (Int32.toNatClampNeg v3)) * (c_pz (Int32.toNatClampNeg v2))))) - ((c_py (Int32.toNatClampNeg v1)) * (((c_px (Int32.toNatClampNeg v2)) * (c_pz (Int32.toNatClampNeg v3))) - ((c_px (Int32.toNatClampNeg v3)) * (c_pz (Int32.toNatClampNeg v2)))))) + ((c_pz (Int32.toNatClampNeg v1)) * (((c_px (Int32.toNatClampNeg v2)) * (c_py (Int32.toNatClampNeg v3))) - ((c_px (Int32.toNatClampNeg v3)) * (c_py (Int32.toNatClampNeg v2)))))) / c_modulus * c_modulus) = 0 then (some (1)) else (some (0))))))))))))))))))))
theorem cw_X3_areInLineOn {R : Room} {s : State} {args : Array Value} {own : String} {index lev mc ms : Nat} (hts : ∀ w ∈ lw_all, w.before args s = true) (hl : Cond.methodLink own index yX3_areInLineOn ∈ lw_all) (hR : (rmL lev mc ms).frames + 1 ≤ R.frames ∧ 8 + (5 + 11) + (rmL lev mc ms).locals ≤ R.locals) : CallW R s args own RX3 index yX3_areInLineOn cX3_areInLineOn 5 (some .boolean) (ws_ yX3_areInLineOn cX3_areInLineOn 5 (some .boolean)) (rmL lev mc ms) mc ms 3 := cwV 3 hts (lw_V hl q2232 qs139 q172 q2233) rfl rfl rfl (by decide +kernel) hR
set_option maxHeartbeats 4000000 in
theorem M_X3_areInLineOn {l : Launch} {G : GE} (hG : GC G) {N : Nat} {h0 : Nat} {ad : Nat → Nat} {c_code : Int32} {c_now : (Nat → Int32)} {c_read : (Nat → Int32)} {c_status : (Nat → Int32)} {c_tape : (Nat → Int32)} {c_taped : Int32} {c_at : Int32} {c_textSize : Int32} {c_token : Int32} {c_number : Int32} {c_begins : Int32} {c_stops : Int32} {c_bad : Int32} {c_badPlace : Int32} {c_faultPlace : Int32} {c_clauses : Int32} {c_naming : (Nat → Int32)} {c_lineBy : (Nat → Int32)} {c_becomes : (Nat → Int32)} {c_dualLines : (Nat → Int32)} {c_on : (Nat → Int32)} {c_rowNow : (Nat → Int32)} {c_least : (Nat → Int32)} {c_wayFirst : (Nat → Int32)} {c_ways : Int32} {c_acts : Int32} {c_past : (Nat → Int32)} {c_listPoints : Int32} {c_listLines : Int32} {c_listed : Int32} {c_list : (Nat → Int32)} {c_path : (Nat → Int32)} {c_places : (Nat → Int32)} {c_firstPlaces : (Nat → Int32)} {c_placeMany : Int32} {c_drawn : Int32} {c_halvesMany : Int32} {c_halvesFirst : Int32} {c_spreadsMany : Int32} {c_spreadsFirst : Int32} {c_comesTo : (Nat → Int32)} {c_seedNow : Int32} {c_rowThen : (Nat → Int32)} {c_hasImage : Int32} {c_actsThen : Int32} {c_imageRow : (Nat → Int32)} {c_pastThen : (Nat → Int32)} {c_statusThen : (Nat → Int32)} {v1 : Int32} {v2 : Int32} {v3 : Int32} {c_px : (Nat → Int32)} {c_py : (Nat → Int32)} {c_pz : (Nat → Int32)} {c_modulus : Int32} {ρ : (Int32)} (h : F_X3_areInLineOn N v1 v2 v3 c_px c_py c_pz c_modulus = some ρ) : MR l G yX3_areInLineOn cX3_areInLineOn 5 (some .boolean) 2 (mW h0 ad G.2.2 c_code c_now c_read c_status c_tape c_taped c_at c_textSize c_token c_number c_begins c_stops c_bad c_badPlace c_faultPlace c_clauses c_naming c_lineBy c_becomes c_dualLines c_on c_rowNow c_least c_wayFirst c_ways c_acts c_past c_listPoints c_listLines c_listed c_list c_path c_places c_firstPlaces c_px c_py c_pz c_placeMany c_modulus c_drawn c_halvesMany c_halvesFirst c_spreadsMany c_spreadsFirst c_comesTo c_seedNow c_rowThen c_hasImage c_actsThen c_imageRow c_pastThen c_statusThen) [.ref h0, .int v1, .int v2, .int v3] ρ := by
  rw [F_X3_areInLineOn] at h
  refine MR.start (rt := .boolean) hG (by decide) (Nat.le_of_ble_eq_true rfl) ?_
  intro p e s m args below meth c Q S hW0 hK hP hret ls hl
  obtain ⟨hx, hb, hml, hown, hts⟩ := id S
  have hl : lv_has ls 5 [(0, .ref h0), (1, .int v1), (2, .int v2), (3, .int v3)] := hl
  refine lv_aload_n hx hb dX3_areInLineOn_0 rfl (lv_at hl 0 rfl) ?_
  refine va_get (ci := 2) (v := .int c_modulus) (C := RX3) (T := TX3) (N := 52) hx hb hts in_X3 hown hK hP 0 rfl rfl 38 (by decide) (hts _ q1696) (fun _ h9 => h9) rfl dX3_areInLineOn_1 ?_
  refine lv_if_ne (tgt := 47) hx hb dX3_areInLineOn_4 (by decide) (fun c1 => ?_) (fun c1 => ?_)
  · rw [if_neg c1] at h
    refine lv_aload_n hx hb dX3_areInLineOn_47 rfl (lv_at hl 0 rfl) ?_
    refine va_get (ci := 2) (v := .ref (ad 34)) (C := RX3) (T := TX3) (N := 52) hx hb hts in_X3 hown hK hP 0 rfl rfl 34 (by decide) (hts _ q1692) (fun _ h9 => h9) rfl dX3_areInLineOn_48 ?_
    refine lv_iload_n hx hb dX3_areInLineOn_51 rfl (lv_at hl 1 rfl) ?_
    obtain ⟨i2, h⟩ := ckI_s h
    refine va_iald (f := c_px) hx hb hK hP 18 0 rfl rfl i2 dX3_areInLineOn_52 ?_
    refine lv_aload_n hx hb dX3_areInLineOn_53 rfl (lv_at hl 0 rfl) ?_
    refine va_get (ci := 2) (v := .ref (ad 35)) (C := RX3) (T := TX3) (N := 52) hx hb hts in_X3 hown hK hP 0 rfl rfl 35 (by decide) (hts _ q1693) (fun _ h9 => h9) rfl dX3_areInLineOn_54 ?_
    refine lv_iload_n hx hb dX3_areInLineOn_57 rfl (lv_at hl 2 rfl) ?_
    obtain ⟨i3, h⟩ := ckI_s h
    refine va_iald (f := c_py) hx hb hK hP 19 0 rfl rfl i3 dX3_areInLineOn_58 ?_
    refine lv_aload_n hx hb dX3_areInLineOn_59 rfl (lv_at hl 0 rfl) ?_
    refine va_get (ci := 2) (v := .ref (ad 36)) (C := RX3) (T := TX3) (N := 52) hx hb hts in_X3 hown hK hP 0 rfl rfl 36 (by decide) (hts _ q1694) (fun _ h9 => h9) rfl dX3_areInLineOn_60 ?_
    refine lv_iload_n hx hb dX3_areInLineOn_63 rfl (lv_at hl 3 rfl) ?_
    obtain ⟨i4, h⟩ := ckI_s h
    refine va_iald (f := c_pz) hx hb hK hP 20 0 rfl rfl i4 dX3_areInLineOn_64 ?_
    refine lv_imul hx hb dX3_areInLineOn_65 ?_
    refine lv_aload_n hx hb dX3_areInLineOn_66 rfl (lv_at hl 0 rfl) ?_
    refine va_get (ci := 2) (v := .ref (ad 35)) (C := RX3) (T := TX3) (N := 52) hx hb hts in_X3 hown hK hP 0 rfl rfl 35 (by decide) (hts _ q1693) (fun _ h9 => h9) rfl dX3_areInLineOn_67 ?_
    refine lv_iload_n hx hb dX3_areInLineOn_70 rfl (lv_at hl 3 rfl) ?_
    obtain ⟨i5, h⟩ := ckI_s h
    refine va_iald (f := c_py) hx hb hK hP 19 0 rfl rfl i5 dX3_areInLineOn_71 ?_
    refine lv_aload_n hx hb dX3_areInLineOn_72 rfl (lv_at hl 0 rfl) ?_
    refine va_get (ci := 2) (v := .ref (ad 36)) (C := RX3) (T := TX3) (N := 52) hx hb hts in_X3 hown hK hP 0 rfl rfl 36 (by decide) (hts _ q1694) (fun _ h9 => h9) rfl dX3_areInLineOn_73 ?_
    refine lv_iload_n hx hb dX3_areInLineOn_76 rfl (lv_at hl 2 rfl) ?_
    obtain ⟨i6, h⟩ := ckI_s h
    refine va_iald (f := c_pz) hx hb hK hP 20 0 rfl rfl i6 dX3_areInLineOn_77 ?_
    refine lv_imul hx hb dX3_areInLineOn_78 ?_
    refine lv_isub hx hb dX3_areInLineOn_79 ?_
    refine lv_imul hx hb dX3_areInLineOn_80 ?_
    refine lv_aload_n hx hb dX3_areInLineOn_81 rfl (lv_at hl 0 rfl) ?_
    refine va_get (ci := 2) (v := .ref (ad 35)) (C := RX3) (T := TX3) (N := 52) hx hb hts in_X3 hown hK hP 0 rfl rfl 35 (by decide) (hts _ q1693) (fun _ h9 => h9) rfl dX3_areInLineOn_82 ?_
    refine lv_iload_n hx hb dX3_areInLineOn_85 rfl (lv_at hl 1 rfl) ?_
    obtain ⟨i7, h⟩ := ckI_s h
    refine va_iald (f := c_py) hx hb hK hP 19 0 rfl rfl i7 dX3_areInLineOn_86 ?_
    refine lv_aload_n hx hb dX3_areInLineOn_87 rfl (lv_at hl 0 rfl) ?_
    refine va_get (ci := 2) (v := .ref (ad 34)) (C := RX3) (T := TX3) (N := 52) hx hb hts in_X3 hown hK hP 0 rfl rfl 34 (by decide) (hts _ q1692) (fun _ h9 => h9) rfl dX3_areInLineOn_88 ?_
    refine lv_iload_n hx hb dX3_areInLineOn_91 rfl (lv_at hl 2 rfl) ?_
    obtain ⟨i8, h⟩ := ckI_s h
    refine va_iald (f := c_px) hx hb hK hP 18 0 rfl rfl i8 dX3_areInLineOn_92 ?_
    refine lv_aload_n hx hb dX3_areInLineOn_93 rfl (lv_at hl 0 rfl) ?_
    refine va_get (ci := 2) (v := .ref (ad 36)) (C := RX3) (T := TX3) (N := 52) hx hb hts in_X3 hown hK hP 0 rfl rfl 36 (by decide) (hts _ q1694) (fun _ h9 => h9) rfl dX3_areInLineOn_94 ?_
    refine lv_iload_n hx hb dX3_areInLineOn_97 rfl (lv_at hl 3 rfl) ?_
    obtain ⟨i9, h⟩ := ckI_s h
    refine va_iald (f := c_pz) hx hb hK hP 20 0 rfl rfl i9 dX3_areInLineOn_98 ?_
    refine lv_imul hx hb dX3_areInLineOn_99 ?_
    refine lv_aload_n hx hb dX3_areInLineOn_100 rfl (lv_at hl 0 rfl) ?_
    refine va_get (ci := 2) (v := .ref (ad 34)) (C := RX3) (T := TX3) (N := 52) hx hb hts in_X3 hown hK hP 0 rfl rfl 34 (by decide) (hts _ q1692) (fun _ h9 => h9) rfl dX3_areInLineOn_101 ?_
    refine lv_iload_n hx hb dX3_areInLineOn_104 rfl (lv_at hl 3 rfl) ?_
    obtain ⟨i10, h⟩ := ckI_s h
    refine va_iald (f := c_px) hx hb hK hP 18 0 rfl rfl i10 dX3_areInLineOn_105 ?_
    refine lv_aload_n hx hb dX3_areInLineOn_106 rfl (lv_at hl 0 rfl) ?_
    refine va_get (ci := 2) (v := .ref (ad 36)) (C := RX3) (T := TX3) (N := 52) hx hb hts in_X3 hown hK hP 0 rfl rfl 36 (by decide) (hts _ q1694) (fun _ h9 => h9) rfl dX3_areInLineOn_107 ?_
    refine lv_iload_n hx hb dX3_areInLineOn_110 rfl (lv_at hl 2 rfl) ?_
    obtain ⟨i11, h⟩ := ckI_s h
    refine va_iald (f := c_pz) hx hb hK hP 20 0 rfl rfl i11 dX3_areInLineOn_111 ?_
    refine lv_imul hx hb dX3_areInLineOn_112 ?_
    refine lv_isub hx hb dX3_areInLineOn_113 ?_
    refine lv_imul hx hb dX3_areInLineOn_114 ?_
    refine lv_isub hx hb dX3_areInLineOn_115 ?_
    refine lv_aload_n hx hb dX3_areInLineOn_116 rfl (lv_at hl 0 rfl) ?_
    refine va_get (ci := 2) (v := .ref (ad 36)) (C := RX3) (T := TX3) (N := 52) hx hb hts in_X3 hown hK hP 0 rfl rfl 36 (by decide) (hts _ q1694) (fun _ h9 => h9) rfl dX3_areInLineOn_117 ?_
    refine lv_iload_n hx hb dX3_areInLineOn_120 rfl (lv_at hl 1 rfl) ?_
    obtain ⟨i12, h⟩ := ckI_s h
    refine va_iald (f := c_pz) hx hb hK hP 20 0 rfl rfl i12 dX3_areInLineOn_121 ?_
    refine lv_aload_n hx hb dX3_areInLineOn_122 rfl (lv_at hl 0 rfl) ?_
    refine va_get (ci := 2) (v := .ref (ad 34)) (C := RX3) (T := TX3) (N := 52) hx hb hts in_X3 hown hK hP 0 rfl rfl 34 (by decide) (hts _ q1692) (fun _ h9 => h9) rfl dX3_areInLineOn_123 ?_
    refine lv_iload_n hx hb dX3_areInLineOn_126 rfl (lv_at hl 2 rfl) ?_
    obtain ⟨i13, h⟩ := ckI_s h
    refine va_iald (f := c_px) hx hb hK hP 18 0 rfl rfl i13 dX3_areInLineOn_127 ?_
    refine lv_aload_n hx hb dX3_areInLineOn_128 rfl (lv_at hl 0 rfl) ?_
    refine va_get (ci := 2) (v := .ref (ad 35)) (C := RX3) (T := TX3) (N := 52) hx hb hts in_X3 hown hK hP 0 rfl rfl 35 (by decide) (hts _ q1693) (fun _ h9 => h9) rfl dX3_areInLineOn_129 ?_
    refine lv_iload_n hx hb dX3_areInLineOn_132 rfl (lv_at hl 3 rfl) ?_
    obtain ⟨i14, h⟩ := ckI_s h
    refine va_iald (f := c_py) hx hb hK hP 19 0 rfl rfl i14 dX3_areInLineOn_133 ?_
    refine lv_imul hx hb dX3_areInLineOn_134 ?_
    refine lv_aload_n hx hb dX3_areInLineOn_135 rfl (lv_at hl 0 rfl) ?_
    refine va_get (ci := 2) (v := .ref (ad 34)) (C := RX3) (T := TX3) (N := 52) hx hb hts in_X3 hown hK hP 0 rfl rfl 34 (by decide) (hts _ q1692) (fun _ h9 => h9) rfl dX3_areInLineOn_136 ?_
    refine lv_iload_n hx hb dX3_areInLineOn_139 rfl (lv_at hl 3 rfl) ?_
    obtain ⟨i15, h⟩ := ckI_s h
    refine va_iald (f := c_px) hx hb hK hP 18 0 rfl rfl i15 dX3_areInLineOn_140 ?_
    refine lv_aload_n hx hb dX3_areInLineOn_141 rfl (lv_at hl 0 rfl) ?_
    refine va_get (ci := 2) (v := .ref (ad 35)) (C := RX3) (T := TX3) (N := 52) hx hb hts in_X3 hown hK hP 0 rfl rfl 35 (by decide) (hts _ q1693) (fun _ h9 => h9) rfl dX3_areInLineOn_142 ?_
    refine lv_iload_n hx hb dX3_areInLineOn_145 rfl (lv_at hl 2 rfl) ?_
    obtain ⟨i16, h⟩ := ckI_s h
    refine va_iald (f := c_py) hx hb hK hP 19 0 rfl rfl i16 dX3_areInLineOn_146 ?_
    refine lv_imul hx hb dX3_areInLineOn_147 ?_
    refine lv_isub hx hb dX3_areInLineOn_148 ?_
    refine lv_imul hx hb dX3_areInLineOn_149 ?_
    refine lv_iadd hx hb dX3_areInLineOn_150 ?_
    refine lv_istore (lv' := [(4, .int ((((c_px (Int32.toNatClampNeg v1)) * (((c_py (Int32.toNatClampNeg v2)) * (c_pz (Int32.toNatClampNeg v3))) - ((c_py (Int32.toNatClampNeg v3)) * (c_pz (Int32.toNatClampNeg v2))))) - ((c_py (Int32.toNatClampNeg v1)) * (((c_px (Int32.toNatClampNeg v2)) * (c_pz (Int32.toNatClampNeg v3))) - ((c_px (Int32.toNatClampNeg v3)) * (c_pz (Int32.toNatClampNeg v2)))))) + ((c_pz (Int32.toNatClampNeg v1)) * (((c_px (Int32.toNatClampNeg v2)) * (c_py (Int32.toNatClampNeg v3))) - ((c_px (Int32.toNatClampNeg v3)) * (c_py (Int32.toNatClampNeg v2))))))), (0, .ref h0), (1, .int v1), (2, .int v2), (3, .int v3)]) hx hb dX3_areInLineOn_151 hl (by decide) rfl (fun ls hl => ?_)
    refine lv_iload hx hb dX3_areInLineOn_153 (lv_at hl 0 rfl) ?_
    refine lv_aload_n hx hb dX3_areInLineOn_155 rfl (lv_at hl 1 rfl) ?_
    refine va_get (ci := 2) (v := .int c_modulus) (C := RX3) (T := TX3) (N := 52) hx hb hts in_X3 hown hK hP 0 rfl rfl 38 (by decide) (hts _ q1696) (fun _ h9 => h9) rfl dX3_areInLineOn_156 ?_
    obtain ⟨i17, h⟩ := ckP_s h
    refine lv_irem hx hb dX3_areInLineOn_159 i17 ?_
    refine lv_if_ne (tgt := 167) hx hb dX3_areInLineOn_160 (by decide) (fun c18 => ?_) (fun c18 => ?_)
    · rw [if_neg c18] at h
      refine lv_iconst (v := 0) hx hb dX3_areInLineOn_167 (by decide) ?_
      obtain rfl := Option.some.inj h
      exact hret dX3_areInLineOn_168 rfl
    · rw [if_pos c18] at h
      refine lv_iconst (v := 1) hx hb dX3_areInLineOn_163 (by decide) ?_
      refine lv_goto (tgt := 168) hx hb dX3_areInLineOn_164 (by decide) ?_
      obtain rfl := Option.some.inj h
      exact hret dX3_areInLineOn_168 rfl
  · rw [if_pos c1] at h
    refine lv_aload_n hx hb dX3_areInLineOn_7 rfl (lv_at hl 0 rfl) ?_
    refine va_get (ci := 2) (v := .ref (ad 34)) (C := RX3) (T := TX3) (N := 52) hx hb hts in_X3 hown hK hP 0 rfl rfl 34 (by decide) (hts _ q1692) (fun _ h9 => h9) rfl dX3_areInLineOn_8 ?_
    refine lv_iload_n hx hb dX3_areInLineOn_11 rfl (lv_at hl 1 rfl) ?_
    obtain ⟨i21, h⟩ := ckI_s h
    refine va_iald (f := c_px) hx hb hK hP 18 0 rfl rfl i21 dX3_areInLineOn_12 ?_
    refine lv_aload_n hx hb dX3_areInLineOn_13 rfl (lv_at hl 0 rfl) ?_
    refine va_get (ci := 2) (v := .ref (ad 35)) (C := RX3) (T := TX3) (N := 52) hx hb hts in_X3 hown hK hP 0 rfl rfl 35 (by decide) (hts _ q1693) (fun _ h9 => h9) rfl dX3_areInLineOn_14 ?_
    refine lv_iload_n hx hb dX3_areInLineOn_17 rfl (lv_at hl 1 rfl) ?_
    obtain ⟨i22, h⟩ := ckI_s h
    refine va_iald (f := c_py) hx hb hK hP 19 0 rfl rfl i22 dX3_areInLineOn_18 ?_
    refine lv_aload_n hx hb dX3_areInLineOn_19 rfl (lv_at hl 0 rfl) ?_
    refine va_get (ci := 2) (v := .ref (ad 34)) (C := RX3) (T := TX3) (N := 52) hx hb hts in_X3 hown hK hP 0 rfl rfl 34 (by decide) (hts _ q1692) (fun _ h9 => h9) rfl dX3_areInLineOn_20 ?_
    refine lv_iload_n hx hb dX3_areInLineOn_23 rfl (lv_at hl 2 rfl) ?_
    obtain ⟨i23, h⟩ := ckI_s h
    refine va_iald (f := c_px) hx hb hK hP 18 0 rfl rfl i23 dX3_areInLineOn_24 ?_
    refine lv_aload_n hx hb dX3_areInLineOn_25 rfl (lv_at hl 0 rfl) ?_
    refine va_get (ci := 2) (v := .ref (ad 35)) (C := RX3) (T := TX3) (N := 52) hx hb hts in_X3 hown hK hP 0 rfl rfl 35 (by decide) (hts _ q1693) (fun _ h9 => h9) rfl dX3_areInLineOn_26 ?_
    refine lv_iload_n hx hb dX3_areInLineOn_29 rfl (lv_at hl 2 rfl) ?_
    obtain ⟨i24, h⟩ := ckI_s h
    refine va_iald (f := c_py) hx hb hK hP 19 0 rfl rfl i24 dX3_areInLineOn_30 ?_
    refine lv_aload_n hx hb dX3_areInLineOn_31 rfl (lv_at hl 0 rfl) ?_
    refine va_get (ci := 2) (v := .ref (ad 34)) (C := RX3) (T := TX3) (N := 52) hx hb hts in_X3 hown hK hP 0 rfl rfl 34 (by decide) (hts _ q1692) (fun _ h9 => h9) rfl dX3_areInLineOn_32 ?_
    refine lv_iload_n hx hb dX3_areInLineOn_35 rfl (lv_at hl 3 rfl) ?_
    obtain ⟨i25, h⟩ := ckI_s h
    refine va_iald (f := c_px) hx hb hK hP 18 0 rfl rfl i25 dX3_areInLineOn_36 ?_
    refine lv_aload_n hx hb dX3_areInLineOn_37 rfl (lv_at hl 0 rfl) ?_
    refine va_get (ci := 2) (v := .ref (ad 35)) (C := RX3) (T := TX3) (N := 52) hx hb hts in_X3 hown hK hP 0 rfl rfl 35 (by decide) (hts _ q1693) (fun _ h9 => h9) rfl dX3_areInLineOn_38 ?_
    refine lv_iload_n hx hb dX3_areInLineOn_41 rfl (lv_at hl 3 rfl) ?_
    obtain ⟨i26, h⟩ := ckI_s h
    refine va_iald (f := c_py) hx hb hK hP 19 0 rfl rfl i26 dX3_areInLineOn_42 ?_
    obtain ⟨y27, e27, h⟩ := ob_s h
    refine MR.callS (M_X3_areInLine hG e27) S (cw_X3_areInLine hts q2030 ⟨Nat.le_of_ble_eq_true rfl, Nat.le_of_ble_eq_true rfl⟩) hW0 vaP0 rfl hl.1 rfl (Nat.le_of_ble_eq_true rfl) dX3_areInLineOn_43 ⟨Nat.zero_le _, Nat.zero_le _⟩ ?_
    obtain ⟨i29, h⟩ := ckP_s h
    obtain rfl := Option.some.inj h
    exact hret dX3_areInLineOn_46 (nz_of i29)
def F_X3_fitsWith_26 (N : Nat) (v1 : Int32) (v2 : Int32) (c_now : (Nat → Int32)) (c_places : (Nat → Int32)) (c_px : (Nat → Int32)) (c_py : (Nat → Int32)) (c_pz : (Nat → Int32)) (c_modulus : Int32) : Nat → Int32 → (Unit → Option (Int32)) → Option (Int32)
  | 0, _, _ => none
  | n + 1, v3, k88 => (if v2 ≤ v3 then (k88 ()) else (ckI v2 8 (ckI v3 8 (ckI v1 8 ((F_X3_areInLineOn N (c_places (Int32.toNatClampNeg v2)) (c_places (Int32.toNatClampNeg v3)) (c_places (Int32.toNatClampNeg v1)) c_px c_py c_pz c_modulus).bind fun y10 => ((F_X3_lineOf N ((((1 : Int32) <<< (v2 &&& 31)) ||| ((1 : Int32) <<< (v3 &&& 31))) ||| ((1 : Int32) <<< (v1 &&& 31))) c_now).bind fun y11 => (if y11 = (-1) then (if y10 = 0 then (F_X3_fitsWith_26 N v1 v2 c_now c_places c_px c_py c_pz c_modulus n (v3 + 1) k88) else (some (0))) else (if y10 = 1 then (F_X3_fitsWith_26 N v1 v2 c_now c_places c_px c_py c_pz c_modulus n (v3 + 1) k88) else (some (0))))))))))
def F_X3_fitsWith_2 (N : Nat) (v1 : Int32) (c_now : (Nat → Int32)) (c_places : (Nat → Int32)) (c_px : (Nat → Int32)) (c_py : (Nat → Int32)) (c_pz : (Nat → Int32)) (c_modulus : Int32) : Nat → Int32 → Option (Int32)
  | 0, _ => none
  | n + 1, v2 => (if v1 ≤ v2 then (some (1)) else (ckI v2 8 (ckI v1 8 (if (c_places (Int32.toNatClampNeg v2)) = (c_places (Int32.toNatClampNeg v1)) then (some (0)) else (F_X3_fitsWith_26 N v1 v2 c_now c_places c_px c_py c_pz c_modulus N 0 (fun _u => (F_X3_fitsWith_2 N v1 c_now c_places c_px c_py c_pz c_modulus n (v2 + 1))))))))
def F_X3_fitsWith (N : Nat) (v1 : Int32) (c_now : (Nat → Int32)) (c_places : (Nat → Int32)) (c_px : (Nat → Int32)) (c_py : (Nat → Int32)) (c_pz : (Nat → Int32)) (c_modulus : Int32) : Option (Int32) := (F_X3_fitsWith_2 N v1 c_now c_places c_px c_py c_pz c_modulus N 0)
theorem cw_X3_fitsWith {R : Room} {s : State} {args : Array Value} {own : String} {index lev mc ms : Nat} (hts : ∀ w ∈ lw_all, w.before args s = true) (hl : Cond.methodLink own index yX3_fitsWith ∈ lw_all) (hR : (rmL lev mc ms).frames + 1 ≤ R.frames ∧ 8 + (4 + 11) + (rmL lev mc ms).locals ≤ R.locals) : CallW R s args own RX3 index yX3_fitsWith cX3_fitsWith 4 (some .boolean) (ws_ yX3_fitsWith cX3_fitsWith 4 (some .boolean)) (rmL lev mc ms) mc ms 1 := cwV 1 hts (lw_V hl q2228 qs138 q172 q2229) rfl rfl rfl (by decide +kernel) hR
set_option maxHeartbeats 4000000 in
theorem M_X3_fitsWith {l : Launch} {G : GE} (hG : GC G) {N : Nat} {h0 : Nat} {ad : Nat → Nat} {c_code : Int32} {c_read : (Nat → Int32)} {c_status : (Nat → Int32)} {c_tape : (Nat → Int32)} {c_taped : Int32} {c_at : Int32} {c_textSize : Int32} {c_token : Int32} {c_number : Int32} {c_begins : Int32} {c_stops : Int32} {c_bad : Int32} {c_badPlace : Int32} {c_faultPlace : Int32} {c_clauses : Int32} {c_naming : (Nat → Int32)} {c_lineBy : (Nat → Int32)} {c_becomes : (Nat → Int32)} {c_dualLines : (Nat → Int32)} {c_on : (Nat → Int32)} {c_rowNow : (Nat → Int32)} {c_least : (Nat → Int32)} {c_wayFirst : (Nat → Int32)} {c_ways : Int32} {c_acts : Int32} {c_past : (Nat → Int32)} {c_listPoints : Int32} {c_listLines : Int32} {c_listed : Int32} {c_list : (Nat → Int32)} {c_path : (Nat → Int32)} {c_firstPlaces : (Nat → Int32)} {c_placeMany : Int32} {c_drawn : Int32} {c_halvesMany : Int32} {c_halvesFirst : Int32} {c_spreadsMany : Int32} {c_spreadsFirst : Int32} {c_comesTo : (Nat → Int32)} {c_seedNow : Int32} {c_rowThen : (Nat → Int32)} {c_hasImage : Int32} {c_actsThen : Int32} {c_imageRow : (Nat → Int32)} {c_pastThen : (Nat → Int32)} {c_statusThen : (Nat → Int32)} {v1 : Int32} {c_now : (Nat → Int32)} {c_places : (Nat → Int32)} {c_px : (Nat → Int32)} {c_py : (Nat → Int32)} {c_pz : (Nat → Int32)} {c_modulus : Int32} {ρ : (Int32)} (h : F_X3_fitsWith N v1 c_now c_places c_px c_py c_pz c_modulus = some ρ) : MR l G yX3_fitsWith cX3_fitsWith 4 (some .boolean) 3 (mW h0 ad G.2.2 c_code c_now c_read c_status c_tape c_taped c_at c_textSize c_token c_number c_begins c_stops c_bad c_badPlace c_faultPlace c_clauses c_naming c_lineBy c_becomes c_dualLines c_on c_rowNow c_least c_wayFirst c_ways c_acts c_past c_listPoints c_listLines c_listed c_list c_path c_places c_firstPlaces c_px c_py c_pz c_placeMany c_modulus c_drawn c_halvesMany c_halvesFirst c_spreadsMany c_spreadsFirst c_comesTo c_seedNow c_rowThen c_hasImage c_actsThen c_imageRow c_pastThen c_statusThen) [.ref h0, .int v1] ρ := by
  rw [F_X3_fitsWith] at h
  refine MR.start (rt := .boolean) hG (by decide) (Nat.le_of_ble_eq_true rfl) ?_
  intro p e s m args below meth c Q S hW0 hK hP hret ls hl
  obtain ⟨hx, hb, hml, hown, hts⟩ := id S
  have hl : lv_has ls 4 [(0, .ref h0), (1, .int v1)] := hl
  have S_X3_fitsWith_26 : ∀ (n : Nat) (v1 : Int32) (v2 : Int32) (v3 : Int32) (k88 : Unit → Option (Int32)), F_X3_fitsWith_26 N v1 v2 c_now c_places c_px c_py c_pz c_modulus n v3 k88 = some ρ → (∀ (ls : Array Slot), k88 () = some ρ → lv_has ls 4 [(0, .ref h0), (1, .int v1), (2, .int v2)] → W p l e (rmL 3 0 0) s m args below meth c s.heap [] 0 0 Q (F0 m 88 ls [])) → ∀ (ls : Array Slot), lv_has ls 4 [(0, .ref h0), (1, .int v1), (2, .int v2), (3, .int v3)] → W p l e (rmL 3 0 0) s m args below meth c s.heap [] 0 0 Q (F0 m 26 ls []) := by
    intro n
    induction n with
    | zero =>
      intro v1 v2 v3 k88 h
      exact absurd h (by simp [F_X3_fitsWith_26])
    | succ n ih =>
      intro v1 v2 v3 k88 h hk88 ls hl
      rw [F_X3_fitsWith_26] at h
      refine lv_iload_n hx hb dX3_fitsWith_26 rfl (lv_at hl 3 rfl) ?_
      refine lv_iload_n hx hb dX3_fitsWith_27 rfl (lv_at hl 2 rfl) ?_
      refine lv_icmp_ge (tgt := 88) hx hb dX3_fitsWith_28 (by decide) (fun c6 => ?_) (fun c6 => ?_)
      · rw [if_pos c6] at h
        exact hk88 _ h (lv_sub hl [0, 1, 2] rfl)
      · rw [if_neg c6] at h
        refine lv_aload_n hx hb dX3_fitsWith_31 rfl (lv_at hl 0 rfl) ?_
        refine lv_aload_n hx hb dX3_fitsWith_32 rfl (lv_at hl 0 rfl) ?_
        refine va_get (ci := 2) (v := .ref (ad 32)) (C := RX3) (T := TX3) (N := 52) hx hb hts in_X3 hown hK hP 0 rfl rfl 32 (by decide) (hts _ q1690) (fun _ h9 => h9) rfl dX3_fitsWith_33 ?_
        refine lv_iload_n hx hb dX3_fitsWith_36 rfl (lv_at hl 2 rfl) ?_
        obtain ⟨i7, h⟩ := ckI_s h
        refine va_iald (f := c_places) hx hb hK hP 16 0 rfl rfl i7 dX3_fitsWith_37 ?_
        refine lv_aload_n hx hb dX3_fitsWith_38 rfl (lv_at hl 0 rfl) ?_
        refine va_get (ci := 2) (v := .ref (ad 32)) (C := RX3) (T := TX3) (N := 52) hx hb hts in_X3 hown hK hP 0 rfl rfl 32 (by decide) (hts _ q1690) (fun _ h9 => h9) rfl dX3_fitsWith_39 ?_
        refine lv_iload_n hx hb dX3_fitsWith_42 rfl (lv_at hl 3 rfl) ?_
        obtain ⟨i8, h⟩ := ckI_s h
        refine va_iald (f := c_places) hx hb hK hP 16 0 rfl rfl i8 dX3_fitsWith_43 ?_
        refine lv_aload_n hx hb dX3_fitsWith_44 rfl (lv_at hl 0 rfl) ?_
        refine va_get (ci := 2) (v := .ref (ad 32)) (C := RX3) (T := TX3) (N := 52) hx hb hts in_X3 hown hK hP 0 rfl rfl 32 (by decide) (hts _ q1690) (fun _ h9 => h9) rfl dX3_fitsWith_45 ?_
        refine lv_iload_n hx hb dX3_fitsWith_48 rfl (lv_at hl 1 rfl) ?_
        obtain ⟨i9, h⟩ := ckI_s h
        refine va_iald (f := c_places) hx hb hK hP 16 0 rfl rfl i9 dX3_fitsWith_49 ?_
        obtain ⟨y10, e10, h⟩ := ob_s h
        refine MR.callV (q0 := 0) (M_X3_areInLineOn hG e10) S (cw_X3_areInLineOn hts q2230 ⟨Nat.le_of_ble_eq_true rfl, Nat.le_of_ble_eq_true rfl⟩) hW0 hK hP rfl rfl rfl hl.1 rfl (Nat.le_of_ble_eq_true rfl) dX3_fitsWith_50 ⟨Nat.zero_le _, Nat.zero_le _⟩ ?_
        refine lv_aload_n hx hb dX3_fitsWith_53 rfl (lv_at hl 0 rfl) ?_
        refine lv_iconst (v := 1) hx hb dX3_fitsWith_54 (by decide) ?_
        refine lv_iload_n hx hb dX3_fitsWith_55 rfl (lv_at hl 2 rfl) ?_
        refine lv_ishl hx hb dX3_fitsWith_56 ?_
        refine lv_iconst (v := 1) hx hb dX3_fitsWith_57 (by decide) ?_
        refine lv_iload_n hx hb dX3_fitsWith_58 rfl (lv_at hl 3 rfl) ?_
        refine lv_ishl hx hb dX3_fitsWith_59 ?_
        refine lv_ior hx hb dX3_fitsWith_60 ?_
        refine lv_iconst (v := 1) hx hb dX3_fitsWith_61 (by decide) ?_
        refine lv_iload_n hx hb dX3_fitsWith_62 rfl (lv_at hl 1 rfl) ?_
        refine lv_ishl hx hb dX3_fitsWith_63 ?_
        refine lv_ior hx hb dX3_fitsWith_64 ?_
        obtain ⟨y11, e11, h⟩ := ob_s h
        refine MR.callV (q0 := 0) (M_X3_lineOf hG e11) S (cw_X3_lineOf hts q1953 ⟨Nat.le_of_ble_eq_true rfl, Nat.le_of_ble_eq_true rfl⟩) hW0 hK hP rfl rfl rfl hl.1 rfl (Nat.le_of_ble_eq_true rfl) dX3_fitsWith_65 ⟨Nat.zero_le _, Nat.zero_le _⟩ ?_
        refine lv_iconst (v := (-1)) hx hb dX3_fitsWith_68 (by decide) ?_
        refine lv_icmp_eq (tgt := 76) hx hb dX3_fitsWith_69 (by decide) (fun c12 => ?_) (fun c12 => ?_)
        · rw [if_pos c12] at h
          refine lv_iconst (v := 0) hx hb dX3_fitsWith_76 (by decide) ?_
          refine lv_icmp_eq (tgt := 82) hx hb dX3_fitsWith_77 (by decide) (fun c13 => ?_) (fun c13 => ?_)
          · rw [if_pos c13] at h
            refine lv_iinc (v := (v3 + 1)) (lv' := [(3, .int (v3 + 1)), (0, .ref h0), (1, .int v1), (2, .int v2)]) hx hb dX3_fitsWith_82 hl (k := 3) rfl rfl (by decide) rfl (fun ls hl => ?_)
            refine lv_goto (tgt := 26) hx hb dX3_fitsWith_85 (by decide) ?_
            exact ih v1 v2 (v3 + 1) _ h hk88 _ (lv_sub hl [1, 2, 3, 0] rfl)
          · rw [if_neg c13] at h
            refine lv_iconst (v := 0) hx hb dX3_fitsWith_80 (by decide) ?_
            obtain rfl := Option.some.inj h
            exact hret dX3_fitsWith_81 rfl
        · rw [if_neg c12] at h
          refine lv_iconst (v := 1) hx hb dX3_fitsWith_72 (by decide) ?_
          refine lv_goto (tgt := 77) hx hb dX3_fitsWith_73 (by decide) ?_
          refine lv_icmp_eq (tgt := 82) hx hb dX3_fitsWith_77 (by decide) (fun c15 => ?_) (fun c15 => ?_)
          · rw [if_pos c15] at h
            refine lv_iinc (v := (v3 + 1)) (lv' := [(3, .int (v3 + 1)), (0, .ref h0), (1, .int v1), (2, .int v2)]) hx hb dX3_fitsWith_82 hl (k := 3) rfl rfl (by decide) rfl (fun ls hl => ?_)
            refine lv_goto (tgt := 26) hx hb dX3_fitsWith_85 (by decide) ?_
            exact ih v1 v2 (v3 + 1) _ h hk88 _ (lv_sub hl [1, 2, 3, 0] rfl)
          · rw [if_neg c15] at h
            refine lv_iconst (v := 0) hx hb dX3_fitsWith_80 (by decide) ?_
            obtain rfl := Option.some.inj h
            exact hret dX3_fitsWith_81 rfl
  have S_X3_fitsWith_2 : ∀ (n : Nat) (v1 : Int32) (v2 : Int32), F_X3_fitsWith_2 N v1 c_now c_places c_px c_py c_pz c_modulus n v2 = some ρ → ∀ (ls : Array Slot), lv_has ls 4 [(0, .ref h0), (1, .int v1), (2, .int v2)] → W p l e (rmL 3 0 0) s m args below meth c s.heap [] 0 0 Q (F0 m 2 ls []) := by
    intro n
    induction n with
    | zero =>
      intro v1 v2 h
      exact absurd h (by simp [F_X3_fitsWith_2])
    | succ n ih =>
      intro v1 v2 h ls hl
      rw [F_X3_fitsWith_2] at h
      refine lv_iload_n hx hb dX3_fitsWith_2 rfl (lv_at hl 2 rfl) ?_
      refine lv_iload_n hx hb dX3_fitsWith_3 rfl (lv_at hl 1 rfl) ?_
      refine lv_icmp_ge (tgt := 94) hx hb dX3_fitsWith_4 (by decide) (fun c1 => ?_) (fun c1 => ?_)
      · rw [if_pos c1] at h
        refine lv_iconst (v := 1) hx hb dX3_fitsWith_94 (by decide) ?_
        obtain rfl := Option.some.inj h
        exact hret dX3_fitsWith_95 rfl
      · rw [if_neg c1] at h
        refine lv_aload_n hx hb dX3_fitsWith_7 rfl (lv_at hl 0 rfl) ?_
        refine va_get (ci := 2) (v := .ref (ad 32)) (C := RX3) (T := TX3) (N := 52) hx hb hts in_X3 hown hK hP 0 rfl rfl 32 (by decide) (hts _ q1690) (fun _ h9 => h9) rfl dX3_fitsWith_8 ?_
        refine lv_iload_n hx hb dX3_fitsWith_11 rfl (lv_at hl 2 rfl) ?_
        obtain ⟨i3, h⟩ := ckI_s h
        refine va_iald (f := c_places) hx hb hK hP 16 0 rfl rfl i3 dX3_fitsWith_12 ?_
        refine lv_aload_n hx hb dX3_fitsWith_13 rfl (lv_at hl 0 rfl) ?_
        refine va_get (ci := 2) (v := .ref (ad 32)) (C := RX3) (T := TX3) (N := 52) hx hb hts in_X3 hown hK hP 0 rfl rfl 32 (by decide) (hts _ q1690) (fun _ h9 => h9) rfl dX3_fitsWith_14 ?_
        refine lv_iload_n hx hb dX3_fitsWith_17 rfl (lv_at hl 1 rfl) ?_
        obtain ⟨i4, h⟩ := ckI_s h
        refine va_iald (f := c_places) hx hb hK hP 16 0 rfl rfl i4 dX3_fitsWith_18 ?_
        refine lv_icmp_ne (tgt := 24) hx hb dX3_fitsWith_19 (by decide) (fun c5 => ?_) (fun c5 => ?_)
        · rw [if_neg c5] at h
          refine lv_iconst (v := 0) hx hb dX3_fitsWith_24 (by decide) ?_
          refine lv_istore_n (lv' := [(3, .int 0), (0, .ref h0), (1, .int v1), (2, .int v2)]) hx hb dX3_fitsWith_25 rfl hl (by decide) rfl (fun ls hl => ?_)
          refine S_X3_fitsWith_26 N v1 v2 0 _ h ?_ _ (lv_sub hl [1, 2, 3, 0] rfl)
          · intro  ls h hl
            refine lv_iinc (v := (v2 + 1)) (lv' := [(2, .int (v2 + 1)), (0, .ref h0), (1, .int v1)]) hx hb dX3_fitsWith_88 hl (k := 2) rfl rfl (by decide) rfl (fun ls hl => ?_)
            refine lv_goto (tgt := 2) hx hb dX3_fitsWith_91 (by decide) ?_
            exact ih v1 (v2 + 1) h _ (lv_sub hl [1, 2, 0] rfl)
        · rw [if_pos c5] at h
          refine lv_iconst (v := 0) hx hb dX3_fitsWith_22 (by decide) ?_
          obtain rfl := Option.some.inj h
          exact hret dX3_fitsWith_23 rfl
  refine lv_iconst (v := 0) hx hb dX3_fitsWith_0 (by decide) ?_
  refine lv_istore_n (lv' := [(2, .int 0), (0, .ref h0), (1, .int v1)]) hx hb dX3_fitsWith_1 rfl hl (by decide) rfl (fun ls hl => ?_)
  refine S_X3_fitsWith_2 N v1 0 h  _ (lv_sub hl [1, 2, 0] rfl)
def F_X3_draws_72 (N : Nat) (rc : Int32 → Int32 → (Nat → Int32) → (Nat → Int32) → (Nat → Int32) → (Nat → Int32) → (Nat → Int32) → (Nat → Int32) → Int32 → Int32 → Int32 → Option ((Nat → Int32) × (Nat → Int32) × Int32)) (c_now : (Nat → Int32)) (c_px : (Nat → Int32)) (c_py : (Nat → Int32)) (c_pz : (Nat → Int32)) (c_placeMany : Int32) (c_modulus : Int32) (v1 : Int32) (v2 : Int32) (v3 : Int32) (c_places : (Nat → Int32)) (c_firstPlaces : (Nat → Int32)) (c_drawn : Int32) (k53 : Int32 → (Nat → Int32) → (Nat → Int32) → Int32 → Option ((Nat → Int32) × (Nat → Int32) × Int32)) : Option ((Nat → Int32) × (Nat → Int32) × Int32) := (ckI v1 8 ((F_X3_fitsWith N v1 c_now (upd c_places (Int32.toNatClampNeg v1) v3) c_px c_py c_pz c_modulus).bind fun y7 => (if y7 = 0 then (k53 (v3 + 1) (upd c_places (Int32.toNatClampNeg v1) v3) c_firstPlaces c_drawn) else ((rc (v1 + (1 : Int32)) v2 c_now (upd c_places (Int32.toNatClampNeg v1) v3) c_firstPlaces c_px c_py c_pz c_placeMany c_modulus c_drawn).bind fun y9 => (k53 (v3 + 1) y9.1 y9.2.1 y9.2.2)))))
def F_X3_draws_53 (N : Nat) (rc : Int32 → Int32 → (Nat → Int32) → (Nat → Int32) → (Nat → Int32) → (Nat → Int32) → (Nat → Int32) → (Nat → Int32) → Int32 → Int32 → Int32 → Option ((Nat → Int32) × (Nat → Int32) × Int32)) (v1 : Int32) (v2 : Int32) (c_now : (Nat → Int32)) (c_px : (Nat → Int32)) (c_py : (Nat → Int32)) (c_pz : (Nat → Int32)) (c_placeMany : Int32) (c_modulus : Int32) : Nat → Int32 → (Nat → Int32) → (Nat → Int32) → Int32 → Option ((Nat → Int32) × (Nat → Int32) × Int32)
  | 0, _, _, _, _ => none
  | n + 1, v3, c_places, c_firstPlaces, c_drawn => (if c_placeMany ≤ v3 then (some (c_places, c_firstPlaces, c_drawn)) else (if v2 = 0 then (F_X3_draws_72 N rc c_now c_px c_py c_pz c_placeMany c_modulus v1 v2 v3 c_places c_firstPlaces c_drawn (fun u3 z_c_places z_c_firstPlaces z_c_drawn => (F_X3_draws_53 N rc v1 v2 c_now c_px c_py c_pz c_placeMany c_modulus n u3 z_c_places z_c_firstPlaces z_c_drawn))) else (if 0 < c_drawn then (some (c_places, c_firstPlaces, c_drawn)) else (F_X3_draws_72 N rc c_now c_px c_py c_pz c_placeMany c_modulus v1 v2 v3 c_places c_firstPlaces c_drawn (fun u3 z_c_places z_c_firstPlaces z_c_drawn => (F_X3_draws_53 N rc v1 v2 c_now c_px c_py c_pz c_placeMany c_modulus n u3 z_c_places z_c_firstPlaces z_c_drawn))))))
def F_X3_draws_10 (N : Nat) (rc : Int32 → Int32 → (Nat → Int32) → (Nat → Int32) → (Nat → Int32) → (Nat → Int32) → (Nat → Int32) → (Nat → Int32) → Int32 → Int32 → Int32 → Option ((Nat → Int32) × (Nat → Int32) × Int32)) (v1 : Int32) (c_places : (Nat → Int32)) : Nat → Int32 → (Nat → Int32) → Int32 → Option ((Nat → Int32) × (Nat → Int32) × Int32)
  | 0, _, _, _ => none
  | n + 1, v3, c_firstPlaces, c_drawn => (if v1 ≤ v3 then (some (c_places, c_firstPlaces, (c_drawn + (1 : Int32)))) else (if c_drawn = 0 then (ckI v3 8 (ckI v3 8 (F_X3_draws_10 N rc v1 c_places n (v3 + 1) (upd c_firstPlaces (Int32.toNatClampNeg v3) (c_places (Int32.toNatClampNeg v3))) c_drawn))) else (some (c_places, c_firstPlaces, (c_drawn + (1 : Int32))))))
def F_X3_draws (N : Nat) : Nat → (v1 : Int32) → (v2 : Int32) → (c_now : (Nat → Int32)) → (c_places : (Nat → Int32)) → (c_firstPlaces : (Nat → Int32)) → (c_px : (Nat → Int32)) → (c_py : (Nat → Int32)) → (c_pz : (Nat → Int32)) → (c_placeMany : Int32) → (c_modulus : Int32) → (c_drawn : Int32) → Option ((Nat → Int32) × (Nat → Int32) × Int32)
  | 0, _, _, _, _, _, _, _, _, _, _, _ => none
  | d + 1, v1, v2, c_now, c_places, c_firstPlaces, c_px, c_py, c_pz, c_placeMany, c_modulus, c_drawn => ((F_X3_points N c_now).bind fun y1 => (if v1 = y1 then (F_X3_draws_10 N (F_X3_draws N d) v1 c_places N 0 c_firstPlaces c_drawn) else (F_X3_draws_53 N (F_X3_draws N d) v1 v2 c_now c_px c_py c_pz c_placeMany c_modulus N 0 c_places c_firstPlaces c_drawn)))
theorem cw_X3_draws {R : Room} {s : State} {args : Array Value} {own : String} {index lev mc ms : Nat} (hts : ∀ w ∈ lw_all, w.before args s = true) (hl : Cond.methodLink own index yX3_draws ∈ lw_all) (hR : (rmL lev mc ms).frames + 1 ≤ R.frames ∧ 8 + (4 + 11) + (rmL lev mc ms).locals ≤ R.locals) : CallW R s args own RX3 index yX3_draws cX3_draws 4 none (ws_ yX3_draws cX3_draws 4 none) (rmL lev mc ms) mc ms 2 := cwV 2 hts (lw_V hl q2224 qs137 q172 q2225) rfl rfl rfl (by decide +kernel) hR
set_option maxHeartbeats 4000000 in
theorem M_X3_draws {l : Launch} {G : GE} (hG : GC G) {N : Nat} {h0 : Nat} {ad : Nat → Nat} {c_code : Int32} {c_read : (Nat → Int32)} {c_status : (Nat → Int32)} {c_tape : (Nat → Int32)} {c_taped : Int32} {c_at : Int32} {c_textSize : Int32} {c_token : Int32} {c_number : Int32} {c_begins : Int32} {c_stops : Int32} {c_bad : Int32} {c_badPlace : Int32} {c_faultPlace : Int32} {c_clauses : Int32} {c_naming : (Nat → Int32)} {c_lineBy : (Nat → Int32)} {c_becomes : (Nat → Int32)} {c_dualLines : (Nat → Int32)} {c_on : (Nat → Int32)} {c_rowNow : (Nat → Int32)} {c_least : (Nat → Int32)} {c_wayFirst : (Nat → Int32)} {c_ways : Int32} {c_acts : Int32} {c_past : (Nat → Int32)} {c_listPoints : Int32} {c_listLines : Int32} {c_listed : Int32} {c_list : (Nat → Int32)} {c_path : (Nat → Int32)} {c_halvesMany : Int32} {c_halvesFirst : Int32} {c_spreadsMany : Int32} {c_spreadsFirst : Int32} {c_comesTo : (Nat → Int32)} {c_seedNow : Int32} {c_rowThen : (Nat → Int32)} {c_hasImage : Int32} {c_actsThen : Int32} {c_imageRow : (Nat → Int32)} {c_pastThen : (Nat → Int32)} {c_statusThen : (Nat → Int32)} : ∀ (d : Nat) {v1 : Int32} {v2 : Int32} {c_now : (Nat → Int32)} {c_places : (Nat → Int32)} {c_firstPlaces : (Nat → Int32)} {c_px : (Nat → Int32)} {c_py : (Nat → Int32)} {c_pz : (Nat → Int32)} {c_placeMany : Int32} {c_modulus : Int32} {c_drawn : Int32} {ρ : ((Nat → Int32) × (Nat → Int32) × Int32)} (h : F_X3_draws N d v1 v2 c_now c_places c_firstPlaces c_px c_py c_pz c_placeMany c_modulus c_drawn = some ρ), MW l G yX3_draws cX3_draws 4 none (4 + d) (mW h0 ad G.2.2 c_code c_now c_read c_status c_tape c_taped c_at c_textSize c_token c_number c_begins c_stops c_bad c_badPlace c_faultPlace c_clauses c_naming c_lineBy c_becomes c_dualLines c_on c_rowNow c_least c_wayFirst c_ways c_acts c_past c_listPoints c_listLines c_listed c_list c_path c_places c_firstPlaces c_px c_py c_pz c_placeMany c_modulus c_drawn c_halvesMany c_halvesFirst c_spreadsMany c_spreadsFirst c_comesTo c_seedNow c_rowThen c_hasImage c_actsThen c_imageRow c_pastThen c_statusThen) [.ref h0, .int v1, .int v2] none (mW h0 ad G.2.2 c_code c_now c_read c_status c_tape c_taped c_at c_textSize c_token c_number c_begins c_stops c_bad c_badPlace c_faultPlace c_clauses c_naming c_lineBy c_becomes c_dualLines c_on c_rowNow c_least c_wayFirst c_ways c_acts c_past c_listPoints c_listLines c_listed c_list c_path ρ.1 ρ.2.1 c_px c_py c_pz c_placeMany c_modulus ρ.2.2 c_halvesMany c_halvesFirst c_spreadsMany c_spreadsFirst c_comesTo c_seedNow c_rowThen c_hasImage c_actsThen c_imageRow c_pastThen c_statusThen) := by
  intro d
  induction d with
  | zero =>
    intro v1 v2 c_now c_places c_firstPlaces c_px c_py c_pz c_placeMany c_modulus c_drawn ρ h
    exact absurd h (by simp [F_X3_draws])
  | succ d ihd =>
    intro v1 v2 c_now c_places c_firstPlaces c_px c_py c_pz c_placeMany c_modulus c_drawn ρ h
    rw [F_X3_draws] at h
    refine MW.start hG (by decide) (Nat.le_of_ble_eq_true rfl) ?_
    intro p e s m args below meth c Q A S hW0 hK hP hD hA hreti hretv ls hl
    have hS : va_S A s.heap s.heap [] := va_S.rf
    obtain ⟨hx, hb, hml, hown, hts⟩ := id S
    have hl : lv_has ls 4 [(0, .ref h0), (1, .int v1), (2, .int v2)] := hl
    have S_X3_draws_72 : ∀ (v1 : Int32) (v2 : Int32) (v3 : Int32) (c_places : (Nat → Int32)) (c_firstPlaces : (Nat → Int32)) (c_drawn : Int32) (k53 : Int32 → (Nat → Int32) → (Nat → Int32) → Int32 → Option ((Nat → Int32) × (Nat → Int32) × Int32)), F_X3_draws_72 N (F_X3_draws N d) c_now c_px c_py c_pz c_placeMany c_modulus v1 v2 v3 c_places c_firstPlaces c_drawn k53 = some ρ → (∀ (u3 : Int32) (z_c_places : (Nat → Int32)) (z_c_firstPlaces : (Nat → Int32)) (z_c_drawn : Int32) (H : Heap) (locs : List Loc) (ls : Array Slot), k53 u3 z_c_places z_c_firstPlaces z_c_drawn = some ρ → va_P G.2.1 vwCl (mW h0 ad G.2.2 c_code c_now c_read c_status c_tape c_taped c_at c_textSize c_token c_number c_begins c_stops c_bad c_badPlace c_faultPlace c_clauses c_naming c_lineBy c_becomes c_dualLines c_on c_rowNow c_least c_wayFirst c_ways c_acts c_past c_listPoints c_listLines c_listed c_list c_path z_c_places z_c_firstPlaces c_px c_py c_pz c_placeMany c_modulus z_c_drawn c_halvesMany c_halvesFirst c_spreadsMany c_spreadsFirst c_comesTo c_seedNow c_rowThen c_hasImage c_actsThen c_imageRow c_pastThen c_statusThen) H → va_D A (mW h0 ad G.2.2 c_code c_now c_read c_status c_tape c_taped c_at c_textSize c_token c_number c_begins c_stops c_bad c_badPlace c_faultPlace c_clauses c_naming c_lineBy c_becomes c_dualLines c_on c_rowNow c_least c_wayFirst c_ways c_acts c_past c_listPoints c_listLines c_listed c_list c_path z_c_places z_c_firstPlaces c_px c_py c_pz c_placeMany c_modulus z_c_drawn c_halvesMany c_halvesFirst c_spreadsMany c_spreadsFirst c_comesTo c_seedNow c_rowThen c_hasImage c_actsThen c_imageRow c_pastThen c_statusThen) → va_S A s.heap H locs → lv_has ls 4 [(0, .ref h0), (1, .int v1), (2, .int v2), (3, .int u3)] → W p l e (rmL (4 + (d + 1)) 0 0) s m args below meth c H locs 0 0 Q (F0 m 53 ls [])) → ∀ (H : Heap) (locs : List Loc), va_P G.2.1 vwCl (mW h0 ad G.2.2 c_code c_now c_read c_status c_tape c_taped c_at c_textSize c_token c_number c_begins c_stops c_bad c_badPlace c_faultPlace c_clauses c_naming c_lineBy c_becomes c_dualLines c_on c_rowNow c_least c_wayFirst c_ways c_acts c_past c_listPoints c_listLines c_listed c_list c_path c_places c_firstPlaces c_px c_py c_pz c_placeMany c_modulus c_drawn c_halvesMany c_halvesFirst c_spreadsMany c_spreadsFirst c_comesTo c_seedNow c_rowThen c_hasImage c_actsThen c_imageRow c_pastThen c_statusThen) H → va_D A (mW h0 ad G.2.2 c_code c_now c_read c_status c_tape c_taped c_at c_textSize c_token c_number c_begins c_stops c_bad c_badPlace c_faultPlace c_clauses c_naming c_lineBy c_becomes c_dualLines c_on c_rowNow c_least c_wayFirst c_ways c_acts c_past c_listPoints c_listLines c_listed c_list c_path c_places c_firstPlaces c_px c_py c_pz c_placeMany c_modulus c_drawn c_halvesMany c_halvesFirst c_spreadsMany c_spreadsFirst c_comesTo c_seedNow c_rowThen c_hasImage c_actsThen c_imageRow c_pastThen c_statusThen) → va_S A s.heap H locs → ∀ (ls : Array Slot), lv_has ls 4 [(0, .ref h0), (1, .int v1), (2, .int v2), (3, .int v3)] → W p l e (rmL (4 + (d + 1)) 0 0) s m args below meth c H locs 0 0 Q (F0 m 72 ls []) := by
      intro v1 v2 v3 c_places c_firstPlaces c_drawn k53 h hk53 H locs hP hD hS ls hl
      rw [F_X3_draws_72] at h
      refine lv_aload_n hx hb dX3_draws_72 rfl (lv_at hl 0 rfl) ?_
      refine va_get (ci := 2) (v := .ref (ad 32)) (C := RX3) (T := TX3) (N := 52) hx hb hts in_X3 hown hK hP 0 rfl rfl 32 (by decide) (hts _ q1690) (fun _ h9 => h9) rfl dX3_draws_73 ?_
      refine lv_iload_n hx hb dX3_draws_76 rfl (lv_at hl 1 rfl) ?_
      refine lv_iload_n hx hb dX3_draws_77 rfl (lv_at hl 3 rfl) ?_
      obtain ⟨i6, h⟩ := ckI_s h
      refine va_iast (f := c_places) hx hb hK hP hD hS 16 0 rfl rfl i6 dX3_draws_78 (fun H locs hP hD hS => ?_)
      have hP : va_P G.2.1 vwCl (mW h0 ad G.2.2 c_code c_now c_read c_status c_tape c_taped c_at c_textSize c_token c_number c_begins c_stops c_bad c_badPlace c_faultPlace c_clauses c_naming c_lineBy c_becomes c_dualLines c_on c_rowNow c_least c_wayFirst c_ways c_acts c_past c_listPoints c_listLines c_listed c_list c_path (upd c_places (Int32.toNatClampNeg v1) v3) c_firstPlaces c_px c_py c_pz c_placeMany c_modulus c_drawn c_halvesMany c_halvesFirst c_spreadsMany c_spreadsFirst c_comesTo c_seedNow c_rowThen c_hasImage c_actsThen c_imageRow c_pastThen c_statusThen) H := hP
      have hD : va_D A (mW h0 ad G.2.2 c_code c_now c_read c_status c_tape c_taped c_at c_textSize c_token c_number c_begins c_stops c_bad c_badPlace c_faultPlace c_clauses c_naming c_lineBy c_becomes c_dualLines c_on c_rowNow c_least c_wayFirst c_ways c_acts c_past c_listPoints c_listLines c_listed c_list c_path (upd c_places (Int32.toNatClampNeg v1) v3) c_firstPlaces c_px c_py c_pz c_placeMany c_modulus c_drawn c_halvesMany c_halvesFirst c_spreadsMany c_spreadsFirst c_comesTo c_seedNow c_rowThen c_hasImage c_actsThen c_imageRow c_pastThen c_statusThen) := hD
      refine lv_aload_n hx hb dX3_draws_79 rfl (lv_at hl 0 rfl) ?_
      refine lv_iload_n hx hb dX3_draws_80 rfl (lv_at hl 1 rfl) ?_
      obtain ⟨y7, e7, h⟩ := ob_s h
      refine MR.callV (q0 := 0) (M_X3_fitsWith hG e7) S (cw_X3_fitsWith hts q2226 ⟨by dsimp only; omega, by dsimp only; omega⟩) hW0 hK hP rfl rfl rfl hl.1 rfl (Nat.le_of_ble_eq_true rfl) dX3_draws_81 ⟨Nat.zero_le _, Nat.zero_le _⟩ ?_
      refine lv_if_eq (tgt := 95) hx hb dX3_draws_84 (by decide) (fun c8 => ?_) (fun c8 => ?_)
      · rw [if_pos c8] at h
        refine lv_iinc (v := (v3 + 1)) (lv' := [(3, .int (v3 + 1)), (0, .ref h0), (1, .int v1), (2, .int v2)]) hx hb dX3_draws_95 hl (k := 3) rfl rfl (by decide) rfl (fun ls hl => ?_)
        refine lv_goto (tgt := 53) hx hb dX3_draws_98 (by decide) ?_
        exact hk53 (v3 + 1) (upd c_places (Int32.toNatClampNeg v1) v3) c_firstPlaces c_drawn _ _ _ h hP hD hS (lv_sub hl [1, 2, 3, 0] rfl)
      · rw [if_neg c8] at h
        refine lv_aload_n hx hb dX3_draws_87 rfl (lv_at hl 0 rfl) ?_
        refine lv_iload_n hx hb dX3_draws_88 rfl (lv_at hl 1 rfl) ?_
        refine lv_iconst (v := 1) hx hb dX3_draws_89 (by decide) ?_
        refine lv_iadd hx hb dX3_draws_90 ?_
        refine lv_iload_n hx hb dX3_draws_91 rfl (lv_at hl 2 rfl) ?_
        obtain ⟨y9, e9, h⟩ := ob_s h
        refine MW.callV (q0 := 0) (ihd e9) S (cw_X3_draws hts q2222 ⟨by dsimp only; omega, by dsimp only; omega⟩) hW0 hK hP hD hS hA rfl rfl rfl hl.1 rfl (Nat.le_of_ble_eq_true rfl) dX3_draws_92 ⟨Nat.zero_le _, Nat.zero_le _⟩ (fun H locs hP hD hS => ?_)
        have hP : va_P G.2.1 vwCl (mW h0 ad G.2.2 c_code c_now c_read c_status c_tape c_taped c_at c_textSize c_token c_number c_begins c_stops c_bad c_badPlace c_faultPlace c_clauses c_naming c_lineBy c_becomes c_dualLines c_on c_rowNow c_least c_wayFirst c_ways c_acts c_past c_listPoints c_listLines c_listed c_list c_path y9.1 y9.2.1 c_px c_py c_pz c_placeMany c_modulus y9.2.2 c_halvesMany c_halvesFirst c_spreadsMany c_spreadsFirst c_comesTo c_seedNow c_rowThen c_hasImage c_actsThen c_imageRow c_pastThen c_statusThen) H := hP
        have hD : va_D A (mW h0 ad G.2.2 c_code c_now c_read c_status c_tape c_taped c_at c_textSize c_token c_number c_begins c_stops c_bad c_badPlace c_faultPlace c_clauses c_naming c_lineBy c_becomes c_dualLines c_on c_rowNow c_least c_wayFirst c_ways c_acts c_past c_listPoints c_listLines c_listed c_list c_path y9.1 y9.2.1 c_px c_py c_pz c_placeMany c_modulus y9.2.2 c_halvesMany c_halvesFirst c_spreadsMany c_spreadsFirst c_comesTo c_seedNow c_rowThen c_hasImage c_actsThen c_imageRow c_pastThen c_statusThen) := hD
        refine W.eq (g2 := F0 m 95 ls []) rfl ?_
        refine lv_iinc (v := (v3 + 1)) (lv' := [(3, .int (v3 + 1)), (0, .ref h0), (1, .int v1), (2, .int v2)]) hx hb dX3_draws_95 hl (k := 3) rfl rfl (by decide) rfl (fun ls hl => ?_)
        refine lv_goto (tgt := 53) hx hb dX3_draws_98 (by decide) ?_
        exact hk53 (v3 + 1) y9.1 y9.2.1 y9.2.2 _ _ _ h hP hD hS (lv_sub hl [1, 2, 3, 0] rfl)
    have S_X3_draws_53 : ∀ (n : Nat) (v1 : Int32) (v2 : Int32) (v3 : Int32) (c_places : (Nat → Int32)) (c_firstPlaces : (Nat → Int32)) (c_drawn : Int32), F_X3_draws_53 N (F_X3_draws N d) v1 v2 c_now c_px c_py c_pz c_placeMany c_modulus n v3 c_places c_firstPlaces c_drawn = some ρ → ∀ (H : Heap) (locs : List Loc), va_P G.2.1 vwCl (mW h0 ad G.2.2 c_code c_now c_read c_status c_tape c_taped c_at c_textSize c_token c_number c_begins c_stops c_bad c_badPlace c_faultPlace c_clauses c_naming c_lineBy c_becomes c_dualLines c_on c_rowNow c_least c_wayFirst c_ways c_acts c_past c_listPoints c_listLines c_listed c_list c_path c_places c_firstPlaces c_px c_py c_pz c_placeMany c_modulus c_drawn c_halvesMany c_halvesFirst c_spreadsMany c_spreadsFirst c_comesTo c_seedNow c_rowThen c_hasImage c_actsThen c_imageRow c_pastThen c_statusThen) H → va_D A (mW h0 ad G.2.2 c_code c_now c_read c_status c_tape c_taped c_at c_textSize c_token c_number c_begins c_stops c_bad c_badPlace c_faultPlace c_clauses c_naming c_lineBy c_becomes c_dualLines c_on c_rowNow c_least c_wayFirst c_ways c_acts c_past c_listPoints c_listLines c_listed c_list c_path c_places c_firstPlaces c_px c_py c_pz c_placeMany c_modulus c_drawn c_halvesMany c_halvesFirst c_spreadsMany c_spreadsFirst c_comesTo c_seedNow c_rowThen c_hasImage c_actsThen c_imageRow c_pastThen c_statusThen) → va_S A s.heap H locs → ∀ (ls : Array Slot), lv_has ls 4 [(0, .ref h0), (1, .int v1), (2, .int v2), (3, .int v3)] → W p l e (rmL (4 + (d + 1)) 0 0) s m args below meth c H locs 0 0 Q (F0 m 53 ls []) := by
      intro n
      induction n with
      | zero =>
        intro v1 v2 v3 c_places c_firstPlaces c_drawn h
        exact absurd h (by simp [F_X3_draws_53])
      | succ n ih =>
        intro v1 v2 v3 c_places c_firstPlaces c_drawn h H locs hP hD hS ls hl
        rw [F_X3_draws_53] at h
        refine lv_iload_n hx hb dX3_draws_53 rfl (lv_at hl 3 rfl) ?_
        refine lv_aload_n hx hb dX3_draws_54 rfl (lv_at hl 0 rfl) ?_
        refine va_get (ci := 2) (v := .int c_placeMany) (C := RX3) (T := TX3) (N := 52) hx hb hts in_X3 hown hK hP 0 rfl rfl 37 (by decide) (hts _ q1695) (fun _ h9 => h9) rfl dX3_draws_55 ?_
        refine lv_icmp_ge (tgt := 101) hx hb dX3_draws_58 (by decide) (fun c3 => ?_) (fun c3 => ?_)
        · rw [if_pos c3] at h
          obtain rfl := Option.some.inj h
          exact hretv rfl dX3_draws_101 rfl hP hD hS
        · rw [if_neg c3] at h
          refine lv_iload_n hx hb dX3_draws_61 rfl (lv_at hl 2 rfl) ?_
          refine lv_if_eq (tgt := 72) hx hb dX3_draws_62 (by decide) (fun c5 => ?_) (fun c5 => ?_)
          · rw [if_pos c5] at h
            refine S_X3_draws_72 v1 v2 v3 c_places c_firstPlaces c_drawn _ h (fun u3 z_c_places z_c_firstPlaces z_c_drawn H locs ls h hP hD hS hl => ih v1 v2 u3 z_c_places z_c_firstPlaces z_c_drawn h H locs hP hD hS ls hl) _ _ hP hD hS _ (lv_sub hl [0, 1, 2, 3] rfl)
          · rw [if_neg c5] at h
            refine lv_aload_n hx hb dX3_draws_65 rfl (lv_at hl 0 rfl) ?_
            refine va_get (ci := 2) (v := .int c_drawn) (C := RX3) (T := TX3) (N := 52) hx hb hts in_X3 hown hK hP 0 rfl rfl 39 (by decide) (hts _ q1697) (fun _ h9 => h9) rfl dX3_draws_66 ?_
            refine lv_if_gt (tgt := 101) hx hb dX3_draws_69 (by decide) (fun c10 => ?_) (fun c10 => ?_)
            · rw [if_pos c10] at h
              obtain rfl := Option.some.inj h
              exact hretv rfl dX3_draws_101 rfl hP hD hS
            · rw [if_neg c10] at h
              refine S_X3_draws_72 v1 v2 v3 c_places c_firstPlaces c_drawn _ h (fun u3 z_c_places z_c_firstPlaces z_c_drawn H locs ls h hP hD hS hl => ih v1 v2 u3 z_c_places z_c_firstPlaces z_c_drawn h H locs hP hD hS ls hl) _ _ hP hD hS _ (lv_sub hl [0, 1, 2, 3] rfl)
    have S_X3_draws_10 : ∀ (n : Nat) (v1 : Int32) (v3 : Int32) (c_places : (Nat → Int32)) (c_firstPlaces : (Nat → Int32)) (c_drawn : Int32), F_X3_draws_10 N (F_X3_draws N d) v1 c_places n v3 c_firstPlaces c_drawn = some ρ → ∀ (H : Heap) (locs : List Loc), va_P G.2.1 vwCl (mW h0 ad G.2.2 c_code c_now c_read c_status c_tape c_taped c_at c_textSize c_token c_number c_begins c_stops c_bad c_badPlace c_faultPlace c_clauses c_naming c_lineBy c_becomes c_dualLines c_on c_rowNow c_least c_wayFirst c_ways c_acts c_past c_listPoints c_listLines c_listed c_list c_path c_places c_firstPlaces c_px c_py c_pz c_placeMany c_modulus c_drawn c_halvesMany c_halvesFirst c_spreadsMany c_spreadsFirst c_comesTo c_seedNow c_rowThen c_hasImage c_actsThen c_imageRow c_pastThen c_statusThen) H → va_D A (mW h0 ad G.2.2 c_code c_now c_read c_status c_tape c_taped c_at c_textSize c_token c_number c_begins c_stops c_bad c_badPlace c_faultPlace c_clauses c_naming c_lineBy c_becomes c_dualLines c_on c_rowNow c_least c_wayFirst c_ways c_acts c_past c_listPoints c_listLines c_listed c_list c_path c_places c_firstPlaces c_px c_py c_pz c_placeMany c_modulus c_drawn c_halvesMany c_halvesFirst c_spreadsMany c_spreadsFirst c_comesTo c_seedNow c_rowThen c_hasImage c_actsThen c_imageRow c_pastThen c_statusThen) → va_S A s.heap H locs → ∀ (ls : Array Slot), lv_has ls 4 [(0, .ref h0), (1, .int v1), (3, .int v3)] → W p l e (rmL (4 + (d + 1)) 0 0) s m args below meth c H locs 0 0 Q (F0 m 10 ls []) := by
      intro n
      induction n with
      | zero =>
        intro v1 v3 c_places c_firstPlaces c_drawn h
        exact absurd h (by simp [F_X3_draws_10])
      | succ n ih =>
        intro v1 v3 c_places c_firstPlaces c_drawn h H locs hP hD hS ls hl
        rw [F_X3_draws_10] at h
        refine lv_iload_n hx hb dX3_draws_10 rfl (lv_at hl 2 rfl) ?_
        refine lv_iload_n hx hb dX3_draws_11 rfl (lv_at hl 1 rfl) ?_
        refine lv_icmp_ge (tgt := 40) hx hb dX3_draws_12 (by decide) (fun c12 => ?_) (fun c12 => ?_)
        · rw [if_pos c12] at h
          refine lv_aload_n hx hb dX3_draws_40 rfl (lv_at hl 0 rfl) ?_
          refine lv_dup hx hb dX3_draws_41 rfl ?_
          refine va_get (ci := 2) (v := .int c_drawn) (C := RX3) (T := TX3) (N := 52) hx hb hts in_X3 hown hK hP 0 rfl rfl 39 (by decide) (hts _ q1697) (fun _ h9 => h9) rfl dX3_draws_42 ?_
          refine lv_iconst (v := 1) hx hb dX3_draws_45 (by decide) ?_
          refine lv_iadd hx hb dX3_draws_46 ?_
          refine va_put (ci := 2) (v := .int (c_drawn + (1 : Int32))) (ty := .int) (C := RX3) (T := TX3) (N := 52) hx hb hts in_X3 tyX3 tyX3_ok nmX3 hown hK hP hD hS 0 rfl rfl 39 (by decide) (hts _ q1697) (fun _ h9 => h9) rfl (by decide +kernel) rfl rfl (Nat.le_of_ble_eq_true rfl) dX3_draws_47 (fun H locs hP hD hS => ?_)
          have hP : va_P G.2.1 vwCl (mW h0 ad G.2.2 c_code c_now c_read c_status c_tape c_taped c_at c_textSize c_token c_number c_begins c_stops c_bad c_badPlace c_faultPlace c_clauses c_naming c_lineBy c_becomes c_dualLines c_on c_rowNow c_least c_wayFirst c_ways c_acts c_past c_listPoints c_listLines c_listed c_list c_path c_places c_firstPlaces c_px c_py c_pz c_placeMany c_modulus (c_drawn + (1 : Int32)) c_halvesMany c_halvesFirst c_spreadsMany c_spreadsFirst c_comesTo c_seedNow c_rowThen c_hasImage c_actsThen c_imageRow c_pastThen c_statusThen) H := hP
          have hD : va_D A (mW h0 ad G.2.2 c_code c_now c_read c_status c_tape c_taped c_at c_textSize c_token c_number c_begins c_stops c_bad c_badPlace c_faultPlace c_clauses c_naming c_lineBy c_becomes c_dualLines c_on c_rowNow c_least c_wayFirst c_ways c_acts c_past c_listPoints c_listLines c_listed c_list c_path c_places c_firstPlaces c_px c_py c_pz c_placeMany c_modulus (c_drawn + (1 : Int32)) c_halvesMany c_halvesFirst c_spreadsMany c_spreadsFirst c_comesTo c_seedNow c_rowThen c_hasImage c_actsThen c_imageRow c_pastThen c_statusThen) := hD
          obtain rfl := Option.some.inj h
          exact hretv rfl dX3_draws_50 rfl hP hD hS
        · rw [if_neg c12] at h
          refine lv_aload_n hx hb dX3_draws_15 rfl (lv_at hl 0 rfl) ?_
          refine va_get (ci := 2) (v := .int c_drawn) (C := RX3) (T := TX3) (N := 52) hx hb hts in_X3 hown hK hP 0 rfl rfl 39 (by decide) (hts _ q1697) (fun _ h9 => h9) rfl dX3_draws_16 ?_
          refine lv_if_ne (tgt := 40) hx hb dX3_draws_19 (by decide) (fun c14 => ?_) (fun c14 => ?_)
          · rw [if_neg c14] at h
            refine lv_aload_n hx hb dX3_draws_40 rfl (lv_at hl 0 rfl) ?_
            refine lv_dup hx hb dX3_draws_41 rfl ?_
            refine va_get (ci := 2) (v := .int c_drawn) (C := RX3) (T := TX3) (N := 52) hx hb hts in_X3 hown hK hP 0 rfl rfl 39 (by decide) (hts _ q1697) (fun _ h9 => h9) rfl dX3_draws_42 ?_
            refine lv_iconst (v := 1) hx hb dX3_draws_45 (by decide) ?_
            refine lv_iadd hx hb dX3_draws_46 ?_
            refine va_put (ci := 2) (v := .int (c_drawn + (1 : Int32))) (ty := .int) (C := RX3) (T := TX3) (N := 52) hx hb hts in_X3 tyX3 tyX3_ok nmX3 hown hK hP hD hS 0 rfl rfl 39 (by decide) (hts _ q1697) (fun _ h9 => h9) rfl (by decide +kernel) rfl rfl (Nat.le_of_ble_eq_true rfl) dX3_draws_47 (fun H locs hP hD hS => ?_)
            have hP : va_P G.2.1 vwCl (mW h0 ad G.2.2 c_code c_now c_read c_status c_tape c_taped c_at c_textSize c_token c_number c_begins c_stops c_bad c_badPlace c_faultPlace c_clauses c_naming c_lineBy c_becomes c_dualLines c_on c_rowNow c_least c_wayFirst c_ways c_acts c_past c_listPoints c_listLines c_listed c_list c_path c_places c_firstPlaces c_px c_py c_pz c_placeMany c_modulus (c_drawn + (1 : Int32)) c_halvesMany c_halvesFirst c_spreadsMany c_spreadsFirst c_comesTo c_seedNow c_rowThen c_hasImage c_actsThen c_imageRow c_pastThen c_statusThen) H := hP
            have hD : va_D A (mW h0 ad G.2.2 c_code c_now c_read c_status c_tape c_taped c_at c_textSize c_token c_number c_begins c_stops c_bad c_badPlace c_faultPlace c_clauses c_naming c_lineBy c_becomes c_dualLines c_on c_rowNow c_least c_wayFirst c_ways c_acts c_past c_listPoints c_listLines c_listed c_list c_path c_places c_firstPlaces c_px c_py c_pz c_placeMany c_modulus (c_drawn + (1 : Int32)) c_halvesMany c_halvesFirst c_spreadsMany c_spreadsFirst c_comesTo c_seedNow c_rowThen c_hasImage c_actsThen c_imageRow c_pastThen c_statusThen) := hD
            obtain rfl := Option.some.inj h
            exact hretv rfl dX3_draws_50 rfl hP hD hS
          · rw [if_pos c14] at h
            refine lv_aload_n hx hb dX3_draws_22 rfl (lv_at hl 0 rfl) ?_
            refine va_get (ci := 2) (v := .ref (ad 33)) (C := RX3) (T := TX3) (N := 52) hx hb hts in_X3 hown hK hP 0 rfl rfl 33 (by decide) (hts _ q1691) (fun _ h9 => h9) rfl dX3_draws_23 ?_
            refine lv_iload_n hx hb dX3_draws_26 rfl (lv_at hl 2 rfl) ?_
            refine lv_aload_n hx hb dX3_draws_27 rfl (lv_at hl 0 rfl) ?_
            refine va_get (ci := 2) (v := .ref (ad 32)) (C := RX3) (T := TX3) (N := 52) hx hb hts in_X3 hown hK hP 0 rfl rfl 32 (by decide) (hts _ q1690) (fun _ h9 => h9) rfl dX3_draws_28 ?_
            refine lv_iload_n hx hb dX3_draws_31 rfl (lv_at hl 2 rfl) ?_
            obtain ⟨i16, h⟩ := ckI_s h
            refine va_iald (f := c_places) hx hb hK hP 16 0 rfl rfl i16 dX3_draws_32 ?_
            obtain ⟨i17, h⟩ := ckI_s h
            refine va_iast (f := c_firstPlaces) hx hb hK hP hD hS 17 0 rfl rfl i17 dX3_draws_33 (fun H locs hP hD hS => ?_)
            have hP : va_P G.2.1 vwCl (mW h0 ad G.2.2 c_code c_now c_read c_status c_tape c_taped c_at c_textSize c_token c_number c_begins c_stops c_bad c_badPlace c_faultPlace c_clauses c_naming c_lineBy c_becomes c_dualLines c_on c_rowNow c_least c_wayFirst c_ways c_acts c_past c_listPoints c_listLines c_listed c_list c_path c_places (upd c_firstPlaces (Int32.toNatClampNeg v3) (c_places (Int32.toNatClampNeg v3))) c_px c_py c_pz c_placeMany c_modulus c_drawn c_halvesMany c_halvesFirst c_spreadsMany c_spreadsFirst c_comesTo c_seedNow c_rowThen c_hasImage c_actsThen c_imageRow c_pastThen c_statusThen) H := hP
            have hD : va_D A (mW h0 ad G.2.2 c_code c_now c_read c_status c_tape c_taped c_at c_textSize c_token c_number c_begins c_stops c_bad c_badPlace c_faultPlace c_clauses c_naming c_lineBy c_becomes c_dualLines c_on c_rowNow c_least c_wayFirst c_ways c_acts c_past c_listPoints c_listLines c_listed c_list c_path c_places (upd c_firstPlaces (Int32.toNatClampNeg v3) (c_places (Int32.toNatClampNeg v3))) c_px c_py c_pz c_placeMany c_modulus c_drawn c_halvesMany c_halvesFirst c_spreadsMany c_spreadsFirst c_comesTo c_seedNow c_rowThen c_hasImage c_actsThen c_imageRow c_pastThen c_statusThen) := hD
            refine lv_iinc (v := (v3 + 1)) (lv' := [(3, .int (v3 + 1)), (0, .ref h0), (1, .int v1)]) hx hb dX3_draws_34 hl (k := 2) rfl rfl (by decide) rfl (fun ls hl => ?_)
            refine lv_goto (tgt := 10) hx hb dX3_draws_37 (by decide) ?_
            exact ih v1 (v3 + 1) c_places (upd c_firstPlaces (Int32.toNatClampNeg v3) (c_places (Int32.toNatClampNeg v3))) c_drawn h _ _ hP hD hS _ (lv_sub hl [1, 2, 0] rfl)
    refine lv_iload_n hx hb dX3_draws_0 rfl (lv_at hl 1 rfl) ?_
    refine lv_aload_n hx hb dX3_draws_1 rfl (lv_at hl 0 rfl) ?_
    obtain ⟨y1, e1, h⟩ := ob_s h
    refine MR.callV (q0 := 0) (M_X3_points hG e1) S (cw_X3_points hts q1913 ⟨by dsimp only; omega, by dsimp only; omega⟩) hW0 hK hP rfl rfl rfl hl.1 rfl (Nat.le_of_ble_eq_true rfl) dX3_draws_2 ⟨Nat.zero_le _, Nat.zero_le _⟩ ?_
    refine lv_icmp_ne (tgt := 51) hx hb dX3_draws_5 (by decide) (fun c2 => ?_) (fun c2 => ?_)
    · rw [if_neg c2] at h
      refine lv_iconst (v := 0) hx hb dX3_draws_51 (by decide) ?_
      refine lv_istore_n (lv' := [(3, .int 0), (0, .ref h0), (1, .int v1), (2, .int v2)]) hx hb dX3_draws_52 rfl hl (by decide) rfl (fun ls hl => ?_)
      refine S_X3_draws_53 N v1 v2 0 c_places c_firstPlaces c_drawn h  _ _ hP hD hS _ (lv_sub hl [1, 2, 3, 0] rfl)
    · rw [if_pos c2] at h
      refine lv_iconst (v := 0) hx hb dX3_draws_8 (by decide) ?_
      refine lv_istore_n (lv' := [(3, .int 0), (0, .ref h0), (1, .int v1), (2, .int v2)]) hx hb dX3_draws_9 rfl hl (by decide) rfl (fun ls hl => ?_)
      refine S_X3_draws_10 N v1 0 c_places c_firstPlaces c_drawn h  _ _ hP hD hS _ (lv_sub hl [1, 2, 0] rfl)
def F_X3_square_54 (N : Nat) (v1 : Int32) (v3 : Int32) : Nat → Int32 → (Nat → Int32) → (Nat → Int32) → (Nat → Int32) → Int32 → ((Nat → Int32) → (Nat → Int32) → (Nat → Int32) → Int32 → Option (Int32 × (Nat → Int32) × (Nat → Int32) × (Nat → Int32) × (Nat → Int32) × (Nat → Int32) × Int32 × Int32 × Int32 × Int32)) → Option (Int32 × (Nat → Int32) × (Nat → Int32) × (Nat → Int32) × (Nat → Int32) × (Nat → Int32) × Int32 × Int32 × Int32 × Int32)
  | 0, _, _, _, _, _, _ => none
  | n + 1, v4, c_px, c_py, c_pz, c_placeMany, k74 => (if v1 ≤ v4 then (k74 c_px c_py c_pz c_placeMany) else ((F_X3_layPlace N v4 v3 0 c_px c_py c_pz c_placeMany).bind fun y7 => (F_X3_square_54 N v1 v3 n (v4 + 1) y7.1 y7.2.1 y7.2.2.1 y7.2.2.2 k74)))
def F_X3_square_46 (N : Nat) (v1 : Int32) : Nat → Int32 → (Nat → Int32) → (Nat → Int32) → (Nat → Int32) → Int32 → ((Nat → Int32) → (Nat → Int32) → (Nat → Int32) → Int32 → Option (Int32 × (Nat → Int32) × (Nat → Int32) × (Nat → Int32) × (Nat → Int32) × (Nat → Int32) × Int32 × Int32 × Int32 × Int32)) → Option (Int32 × (Nat → Int32) × (Nat → Int32) × (Nat → Int32) × (Nat → Int32) × (Nat → Int32) × Int32 × Int32 × Int32 × Int32)
  | 0, _, _, _, _, _, _ => none
  | n + 1, v3, c_px, c_py, c_pz, c_placeMany, k80 => (if v1 ≤ v3 then (k80 c_px c_py c_pz c_placeMany) else (F_X3_square_54 N v1 v3 N 0 c_px c_py c_pz c_placeMany (fun c_px_8 c_py_8 c_pz_8 c_placeMany_8 => (F_X3_square_46 N v1 n (v3 + 1) c_px_8 c_py_8 c_pz_8 c_placeMany_8 k80))))
def F_X3_square (N : Nat) (v1 : Int32) (v2 : Int32) (c_now : (Nat → Int32)) (c_places : (Nat → Int32)) (c_firstPlaces : (Nat → Int32)) (c_px : (Nat → Int32)) (c_py : (Nat → Int32)) (c_pz : (Nat → Int32)) (c_code : Int32) (c_placeMany : Int32) (c_modulus : Int32) (c_drawn : Int32) : Option (Int32 × (Nat → Int32) × (Nat → Int32) × (Nat → Int32) × (Nat → Int32) × (Nat → Int32) × Int32 × Int32 × Int32 × Int32) := ((F_X3_isPoint N v2 c_now).bind fun y1 => (if y1 = 0 then ((F_X3_fail N 1 0).bind fun y17 => (some (y17.1, c_places, c_firstPlaces, c_px, c_py, c_pz, y17.2, c_placeMany, c_modulus, c_drawn))) else ((F_X3_isIn N v1 2 4).bind fun y3 => (if y3 = 0 then ((F_X3_fail N 2 0).bind fun y15 => (some (y15.1, c_places, c_firstPlaces, c_px, c_py, c_pz, y15.2, c_placeMany, c_modulus, c_drawn))) else (F_X3_square_46 N v1 N 0 c_px c_py c_pz 0 (fun c_px_9 c_py_9 c_pz_9 c_placeMany_9 => ((F_X3_draws N 16 0 1 c_now c_places c_firstPlaces c_px_9 c_py_9 c_pz_9 c_placeMany_9 0 0).bind fun y10 => (if y10.2.2 = 0 then (some ((-1), y10.1, y10.2.1, c_px_9, c_py_9, c_pz_9, 0, c_placeMany_9, 0, y10.2.2)) else (ckI v2 8 (some ((y10.2.1 (Int32.toNatClampNeg v2)), y10.1, y10.2.1, c_px_9, c_py_9, c_pz_9, 0, c_placeMany_9, 0, y10.2.2)))))))))))
theorem cw_X3_square {R : Room} {s : State} {args : Array Value} {own : String} {index lev mc ms : Nat} (hts : ∀ w ∈ lw_all, w.before args s = true) (hl : Cond.methodLink own index yX3_square ∈ lw_all) (hR : (rmL lev mc ms).frames + 1 ≤ R.frames ∧ 8 + (5 + 11) + (rmL lev mc ms).locals ≤ R.locals) : CallW R s args own RX3 index yX3_square cX3_square 5 (some .int) (ws_ yX3_square cX3_square 5 (some .int)) (rmL lev mc ms) mc ms 2 := cwV 2 hts (lw_V hl q2215 q2216 q172 q2217) rfl rfl rfl (by decide +kernel) hR
set_option maxHeartbeats 4000000 in
theorem M_X3_square {l : Launch} {G : GE} (hG : GC G) {N : Nat} {h0 : Nat} {ad : Nat → Nat} {c_read : (Nat → Int32)} {c_status : (Nat → Int32)} {c_tape : (Nat → Int32)} {c_taped : Int32} {c_at : Int32} {c_textSize : Int32} {c_token : Int32} {c_number : Int32} {c_begins : Int32} {c_stops : Int32} {c_bad : Int32} {c_badPlace : Int32} {c_faultPlace : Int32} {c_clauses : Int32} {c_naming : (Nat → Int32)} {c_lineBy : (Nat → Int32)} {c_becomes : (Nat → Int32)} {c_dualLines : (Nat → Int32)} {c_on : (Nat → Int32)} {c_rowNow : (Nat → Int32)} {c_least : (Nat → Int32)} {c_wayFirst : (Nat → Int32)} {c_ways : Int32} {c_acts : Int32} {c_past : (Nat → Int32)} {c_listPoints : Int32} {c_listLines : Int32} {c_listed : Int32} {c_list : (Nat → Int32)} {c_path : (Nat → Int32)} {c_halvesMany : Int32} {c_halvesFirst : Int32} {c_spreadsMany : Int32} {c_spreadsFirst : Int32} {c_comesTo : (Nat → Int32)} {c_seedNow : Int32} {c_rowThen : (Nat → Int32)} {c_hasImage : Int32} {c_actsThen : Int32} {c_imageRow : (Nat → Int32)} {c_pastThen : (Nat → Int32)} {c_statusThen : (Nat → Int32)} {v1 : Int32} {v2 : Int32} {c_now : (Nat → Int32)} {c_places : (Nat → Int32)} {c_firstPlaces : (Nat → Int32)} {c_px : (Nat → Int32)} {c_py : (Nat → Int32)} {c_pz : (Nat → Int32)} {c_code : Int32} {c_placeMany : Int32} {c_modulus : Int32} {c_drawn : Int32} {ρ : (Int32 × (Nat → Int32) × (Nat → Int32) × (Nat → Int32) × (Nat → Int32) × (Nat → Int32) × Int32 × Int32 × Int32 × Int32)} (h : F_X3_square N v1 v2 c_now c_places c_firstPlaces c_px c_py c_pz c_code c_placeMany c_modulus c_drawn = some ρ) : MW l G yX3_square cX3_square 5 (some .int) 21 (mW h0 ad G.2.2 c_code c_now c_read c_status c_tape c_taped c_at c_textSize c_token c_number c_begins c_stops c_bad c_badPlace c_faultPlace c_clauses c_naming c_lineBy c_becomes c_dualLines c_on c_rowNow c_least c_wayFirst c_ways c_acts c_past c_listPoints c_listLines c_listed c_list c_path c_places c_firstPlaces c_px c_py c_pz c_placeMany c_modulus c_drawn c_halvesMany c_halvesFirst c_spreadsMany c_spreadsFirst c_comesTo c_seedNow c_rowThen c_hasImage c_actsThen c_imageRow c_pastThen c_statusThen) [.ref h0, .int v1, .int v2] (some (.int ρ.1)) (mW h0 ad G.2.2 ρ.2.2.2.2.2.2.1 c_now c_read c_status c_tape c_taped c_at c_textSize c_token c_number c_begins c_stops c_bad c_badPlace c_faultPlace c_clauses c_naming c_lineBy c_becomes c_dualLines c_on c_rowNow c_least c_wayFirst c_ways c_acts c_past c_listPoints c_listLines c_listed c_list c_path ρ.2.1 ρ.2.2.1 ρ.2.2.2.1 ρ.2.2.2.2.1 ρ.2.2.2.2.2.1 ρ.2.2.2.2.2.2.2.1 ρ.2.2.2.2.2.2.2.2.1 ρ.2.2.2.2.2.2.2.2.2 c_halvesMany c_halvesFirst c_spreadsMany c_spreadsFirst c_comesTo c_seedNow c_rowThen c_hasImage c_actsThen c_imageRow c_pastThen c_statusThen) := by
  rw [F_X3_square] at h
  refine MW.start hG (by decide) (Nat.le_of_ble_eq_true rfl) ?_
  intro p e s m args below meth c Q A S hW0 hK hP hD hA hreti hretv ls hl
  have hS : va_S A s.heap s.heap [] := va_S.rf
  obtain ⟨hx, hb, hml, hown, hts⟩ := id S
  have hl : lv_has ls 5 [(0, .ref h0), (1, .int v1), (2, .int v2)] := hl
  have S_X3_square_54 : ∀ (n : Nat) (v1 : Int32) (v2 : Int32) (v3 : Int32) (v4 : Int32) (c_places : (Nat → Int32)) (c_firstPlaces : (Nat → Int32)) (c_px : (Nat → Int32)) (c_py : (Nat → Int32)) (c_pz : (Nat → Int32)) (c_code : Int32) (c_placeMany : Int32) (c_modulus : Int32) (c_drawn : Int32) (k74 : (Nat → Int32) → (Nat → Int32) → (Nat → Int32) → Int32 → Option (Int32 × (Nat → Int32) × (Nat → Int32) × (Nat → Int32) × (Nat → Int32) × (Nat → Int32) × Int32 × Int32 × Int32 × Int32)), F_X3_square_54 N v1 v3 n v4 c_px c_py c_pz c_placeMany k74 = some ρ → (∀ (z_c_px : (Nat → Int32)) (z_c_py : (Nat → Int32)) (z_c_pz : (Nat → Int32)) (z_c_placeMany : Int32) (H : Heap) (locs : List Loc) (ls : Array Slot), k74 z_c_px z_c_py z_c_pz z_c_placeMany = some ρ → va_P G.2.1 vwCl (mW h0 ad G.2.2 c_code c_now c_read c_status c_tape c_taped c_at c_textSize c_token c_number c_begins c_stops c_bad c_badPlace c_faultPlace c_clauses c_naming c_lineBy c_becomes c_dualLines c_on c_rowNow c_least c_wayFirst c_ways c_acts c_past c_listPoints c_listLines c_listed c_list c_path c_places c_firstPlaces z_c_px z_c_py z_c_pz z_c_placeMany c_modulus c_drawn c_halvesMany c_halvesFirst c_spreadsMany c_spreadsFirst c_comesTo c_seedNow c_rowThen c_hasImage c_actsThen c_imageRow c_pastThen c_statusThen) H → va_D A (mW h0 ad G.2.2 c_code c_now c_read c_status c_tape c_taped c_at c_textSize c_token c_number c_begins c_stops c_bad c_badPlace c_faultPlace c_clauses c_naming c_lineBy c_becomes c_dualLines c_on c_rowNow c_least c_wayFirst c_ways c_acts c_past c_listPoints c_listLines c_listed c_list c_path c_places c_firstPlaces z_c_px z_c_py z_c_pz z_c_placeMany c_modulus c_drawn c_halvesMany c_halvesFirst c_spreadsMany c_spreadsFirst c_comesTo c_seedNow c_rowThen c_hasImage c_actsThen c_imageRow c_pastThen c_statusThen) → va_S A s.heap H locs → lv_has ls 5 [(0, .ref h0), (1, .int v1), (2, .int v2), (3, .int v3)] → W p l e (rmL 21 0 0) s m args below meth c H locs 0 0 Q (F0 m 74 ls [])) → ∀ (H : Heap) (locs : List Loc), va_P G.2.1 vwCl (mW h0 ad G.2.2 c_code c_now c_read c_status c_tape c_taped c_at c_textSize c_token c_number c_begins c_stops c_bad c_badPlace c_faultPlace c_clauses c_naming c_lineBy c_becomes c_dualLines c_on c_rowNow c_least c_wayFirst c_ways c_acts c_past c_listPoints c_listLines c_listed c_list c_path c_places c_firstPlaces c_px c_py c_pz c_placeMany c_modulus c_drawn c_halvesMany c_halvesFirst c_spreadsMany c_spreadsFirst c_comesTo c_seedNow c_rowThen c_hasImage c_actsThen c_imageRow c_pastThen c_statusThen) H → va_D A (mW h0 ad G.2.2 c_code c_now c_read c_status c_tape c_taped c_at c_textSize c_token c_number c_begins c_stops c_bad c_badPlace c_faultPlace c_clauses c_naming c_lineBy c_becomes c_dualLines c_on c_rowNow c_least c_wayFirst c_ways c_acts c_past c_listPoints c_listLines c_listed c_list c_path c_places c_firstPlaces c_px c_py c_pz c_placeMany c_modulus c_drawn c_halvesMany c_halvesFirst c_spreadsMany c_spreadsFirst c_comesTo c_seedNow c_rowThen c_hasImage c_actsThen c_imageRow c_pastThen c_statusThen) → va_S A s.heap H locs → ∀ (ls : Array Slot), lv_has ls 5 [(0, .ref h0), (1, .int v1), (2, .int v2), (3, .int v3), (4, .int v4)] → W p l e (rmL 21 0 0) s m args below meth c H locs 0 0 Q (F0 m 54 ls []) := by
    intro n
    induction n with
    | zero =>
      intro v1 v2 v3 v4 c_places c_firstPlaces c_px c_py c_pz c_code c_placeMany c_modulus c_drawn k74 h
      exact absurd h (by simp [F_X3_square_54])
    | succ n ih =>
      intro v1 v2 v3 v4 c_places c_firstPlaces c_px c_py c_pz c_code c_placeMany c_modulus c_drawn k74 h hk74 H locs hP hD hS ls hl
      rw [F_X3_square_54] at h
      refine lv_iload hx hb dX3_square_54 (lv_at hl 4 rfl) ?_
      refine lv_iload_n hx hb dX3_square_56 rfl (lv_at hl 1 rfl) ?_
      refine lv_icmp_ge (tgt := 74) hx hb dX3_square_57 (by decide) (fun c6 => ?_) (fun c6 => ?_)
      · rw [if_pos c6] at h
        exact hk74 c_px c_py c_pz c_placeMany _ _ _ h hP hD hS (lv_sub hl [0, 1, 2, 3] rfl)
      · rw [if_neg c6] at h
        refine lv_aload_n hx hb dX3_square_60 rfl (lv_at hl 0 rfl) ?_
        refine lv_iload hx hb dX3_square_61 (lv_at hl 4 rfl) ?_
        refine lv_iload_n hx hb dX3_square_63 rfl (lv_at hl 3 rfl) ?_
        refine lv_iconst (v := 0) hx hb dX3_square_64 (by decide) ?_
        obtain ⟨y7, e7, h⟩ := ob_s h
        refine MW.callV (q0 := 0) (M_X3_layPlace hG e7) S (cw_X3_layPlace hts q2218 ⟨Nat.le_of_ble_eq_true rfl, Nat.le_of_ble_eq_true rfl⟩) hW0 hK hP hD hS hA rfl rfl rfl hl.1 rfl (Nat.le_of_ble_eq_true rfl) dX3_square_65 ⟨Nat.zero_le _, Nat.zero_le _⟩ (fun H locs hP hD hS => ?_)
        have hP : va_P G.2.1 vwCl (mW h0 ad G.2.2 c_code c_now c_read c_status c_tape c_taped c_at c_textSize c_token c_number c_begins c_stops c_bad c_badPlace c_faultPlace c_clauses c_naming c_lineBy c_becomes c_dualLines c_on c_rowNow c_least c_wayFirst c_ways c_acts c_past c_listPoints c_listLines c_listed c_list c_path c_places c_firstPlaces y7.1 y7.2.1 y7.2.2.1 y7.2.2.2 c_modulus c_drawn c_halvesMany c_halvesFirst c_spreadsMany c_spreadsFirst c_comesTo c_seedNow c_rowThen c_hasImage c_actsThen c_imageRow c_pastThen c_statusThen) H := hP
        have hD : va_D A (mW h0 ad G.2.2 c_code c_now c_read c_status c_tape c_taped c_at c_textSize c_token c_number c_begins c_stops c_bad c_badPlace c_faultPlace c_clauses c_naming c_lineBy c_becomes c_dualLines c_on c_rowNow c_least c_wayFirst c_ways c_acts c_past c_listPoints c_listLines c_listed c_list c_path c_places c_firstPlaces y7.1 y7.2.1 y7.2.2.1 y7.2.2.2 c_modulus c_drawn c_halvesMany c_halvesFirst c_spreadsMany c_spreadsFirst c_comesTo c_seedNow c_rowThen c_hasImage c_actsThen c_imageRow c_pastThen c_statusThen) := hD
        refine W.eq (g2 := F0 m 68 ls []) rfl ?_
        refine lv_iinc (v := (v4 + 1)) (lv' := [(4, .int (v4 + 1)), (0, .ref h0), (1, .int v1), (2, .int v2), (3, .int v3)]) hx hb dX3_square_68 hl (k := 4) rfl rfl (by decide) rfl (fun ls hl => ?_)
        refine lv_goto (tgt := 54) hx hb dX3_square_71 (by decide) ?_
        exact ih v1 v2 v3 (v4 + 1) c_places c_firstPlaces y7.1 y7.2.1 y7.2.2.1 c_code y7.2.2.2 c_modulus c_drawn _ h hk74 _ _ hP hD hS _ (lv_sub hl [1, 2, 3, 4, 0] rfl)
  have S_X3_square_46 : ∀ (n : Nat) (v1 : Int32) (v2 : Int32) (v3 : Int32) (c_places : (Nat → Int32)) (c_firstPlaces : (Nat → Int32)) (c_px : (Nat → Int32)) (c_py : (Nat → Int32)) (c_pz : (Nat → Int32)) (c_code : Int32) (c_placeMany : Int32) (c_modulus : Int32) (c_drawn : Int32) (k80 : (Nat → Int32) → (Nat → Int32) → (Nat → Int32) → Int32 → Option (Int32 × (Nat → Int32) × (Nat → Int32) × (Nat → Int32) × (Nat → Int32) × (Nat → Int32) × Int32 × Int32 × Int32 × Int32)), F_X3_square_46 N v1 n v3 c_px c_py c_pz c_placeMany k80 = some ρ → (∀ (z_c_px : (Nat → Int32)) (z_c_py : (Nat → Int32)) (z_c_pz : (Nat → Int32)) (z_c_placeMany : Int32) (H : Heap) (locs : List Loc) (ls : Array Slot), k80 z_c_px z_c_py z_c_pz z_c_placeMany = some ρ → va_P G.2.1 vwCl (mW h0 ad G.2.2 c_code c_now c_read c_status c_tape c_taped c_at c_textSize c_token c_number c_begins c_stops c_bad c_badPlace c_faultPlace c_clauses c_naming c_lineBy c_becomes c_dualLines c_on c_rowNow c_least c_wayFirst c_ways c_acts c_past c_listPoints c_listLines c_listed c_list c_path c_places c_firstPlaces z_c_px z_c_py z_c_pz z_c_placeMany c_modulus c_drawn c_halvesMany c_halvesFirst c_spreadsMany c_spreadsFirst c_comesTo c_seedNow c_rowThen c_hasImage c_actsThen c_imageRow c_pastThen c_statusThen) H → va_D A (mW h0 ad G.2.2 c_code c_now c_read c_status c_tape c_taped c_at c_textSize c_token c_number c_begins c_stops c_bad c_badPlace c_faultPlace c_clauses c_naming c_lineBy c_becomes c_dualLines c_on c_rowNow c_least c_wayFirst c_ways c_acts c_past c_listPoints c_listLines c_listed c_list c_path c_places c_firstPlaces z_c_px z_c_py z_c_pz z_c_placeMany c_modulus c_drawn c_halvesMany c_halvesFirst c_spreadsMany c_spreadsFirst c_comesTo c_seedNow c_rowThen c_hasImage c_actsThen c_imageRow c_pastThen c_statusThen) → va_S A s.heap H locs → lv_has ls 5 [(0, .ref h0), (2, .int v2)] → W p l e (rmL 21 0 0) s m args below meth c H locs 0 0 Q (F0 m 80 ls [])) → ∀ (H : Heap) (locs : List Loc), va_P G.2.1 vwCl (mW h0 ad G.2.2 c_code c_now c_read c_status c_tape c_taped c_at c_textSize c_token c_number c_begins c_stops c_bad c_badPlace c_faultPlace c_clauses c_naming c_lineBy c_becomes c_dualLines c_on c_rowNow c_least c_wayFirst c_ways c_acts c_past c_listPoints c_listLines c_listed c_list c_path c_places c_firstPlaces c_px c_py c_pz c_placeMany c_modulus c_drawn c_halvesMany c_halvesFirst c_spreadsMany c_spreadsFirst c_comesTo c_seedNow c_rowThen c_hasImage c_actsThen c_imageRow c_pastThen c_statusThen) H → va_D A (mW h0 ad G.2.2 c_code c_now c_read c_status c_tape c_taped c_at c_textSize c_token c_number c_begins c_stops c_bad c_badPlace c_faultPlace c_clauses c_naming c_lineBy c_becomes c_dualLines c_on c_rowNow c_least c_wayFirst c_ways c_acts c_past c_listPoints c_listLines c_listed c_list c_path c_places c_firstPlaces c_px c_py c_pz c_placeMany c_modulus c_drawn c_halvesMany c_halvesFirst c_spreadsMany c_spreadsFirst c_comesTo c_seedNow c_rowThen c_hasImage c_actsThen c_imageRow c_pastThen c_statusThen) → va_S A s.heap H locs → ∀ (ls : Array Slot), lv_has ls 5 [(0, .ref h0), (1, .int v1), (2, .int v2), (3, .int v3)] → W p l e (rmL 21 0 0) s m args below meth c H locs 0 0 Q (F0 m 46 ls []) := by
    intro n
    induction n with
    | zero =>
      intro v1 v2 v3 c_places c_firstPlaces c_px c_py c_pz c_code c_placeMany c_modulus c_drawn k80 h
      exact absurd h (by simp [F_X3_square_46])
    | succ n ih =>
      intro v1 v2 v3 c_places c_firstPlaces c_px c_py c_pz c_code c_placeMany c_modulus c_drawn k80 h hk80 H locs hP hD hS ls hl
      rw [F_X3_square_46] at h
      refine lv_iload_n hx hb dX3_square_46 rfl (lv_at hl 3 rfl) ?_
      refine lv_iload_n hx hb dX3_square_47 rfl (lv_at hl 1 rfl) ?_
      refine lv_icmp_ge (tgt := 80) hx hb dX3_square_48 (by decide) (fun c5 => ?_) (fun c5 => ?_)
      · rw [if_pos c5] at h
        exact hk80 c_px c_py c_pz c_placeMany _ _ _ h hP hD hS (lv_sub hl [0, 2] rfl)
      · rw [if_neg c5] at h
        refine lv_iconst (v := 0) hx hb dX3_square_51 (by decide) ?_
        refine lv_istore (lv' := [(4, .int 0), (0, .ref h0), (1, .int v1), (2, .int v2), (3, .int v3)]) hx hb dX3_square_52 hl (by decide) rfl (fun ls hl => ?_)
        refine S_X3_square_54 N v1 v2 v3 0 c_places c_firstPlaces c_px c_py c_pz c_code c_placeMany c_modulus c_drawn _ h ?_ _ _ hP hD hS _ (lv_sub hl [1, 2, 3, 4, 0] rfl)
        · intro c_px_8 c_py_8 c_pz_8 c_placeMany_8 H locs ls h hP hD hS hl
          refine lv_iinc (v := (v3 + 1)) (lv' := [(3, .int (v3 + 1)), (0, .ref h0), (1, .int v1), (2, .int v2)]) hx hb dX3_square_74 hl (k := 3) rfl rfl (by decide) rfl (fun ls hl => ?_)
          refine lv_goto (tgt := 46) hx hb dX3_square_77 (by decide) ?_
          exact ih v1 v2 (v3 + 1) c_places c_firstPlaces c_px_8 c_py_8 c_pz_8 c_code c_placeMany_8 c_modulus c_drawn _ h hk80 _ _ hP hD hS _ (lv_sub hl [1, 2, 3, 0] rfl)
  refine lv_aload_n hx hb dX3_square_0 rfl (lv_at hl 0 rfl) ?_
  refine lv_iconst (v := 0) hx hb dX3_square_1 (by decide) ?_
  refine va_put (ci := 2) (v := .int 0) (ty := .int) (C := RX3) (T := TX3) (N := 52) hx hb hts in_X3 tyX3 tyX3_ok nmX3 hown hK hP hD hS 0 rfl rfl 0 (by decide) (hts _ q1658) (fun _ h9 => h9) rfl (by decide +kernel) rfl rfl (Nat.le_of_ble_eq_true rfl) dX3_square_2 (fun H locs hP hD hS => ?_)
  have hP : va_P G.2.1 vwCl (mW h0 ad G.2.2 0 c_now c_read c_status c_tape c_taped c_at c_textSize c_token c_number c_begins c_stops c_bad c_badPlace c_faultPlace c_clauses c_naming c_lineBy c_becomes c_dualLines c_on c_rowNow c_least c_wayFirst c_ways c_acts c_past c_listPoints c_listLines c_listed c_list c_path c_places c_firstPlaces c_px c_py c_pz c_placeMany c_modulus c_drawn c_halvesMany c_halvesFirst c_spreadsMany c_spreadsFirst c_comesTo c_seedNow c_rowThen c_hasImage c_actsThen c_imageRow c_pastThen c_statusThen) H := hP
  have hD : va_D A (mW h0 ad G.2.2 0 c_now c_read c_status c_tape c_taped c_at c_textSize c_token c_number c_begins c_stops c_bad c_badPlace c_faultPlace c_clauses c_naming c_lineBy c_becomes c_dualLines c_on c_rowNow c_least c_wayFirst c_ways c_acts c_past c_listPoints c_listLines c_listed c_list c_path c_places c_firstPlaces c_px c_py c_pz c_placeMany c_modulus c_drawn c_halvesMany c_halvesFirst c_spreadsMany c_spreadsFirst c_comesTo c_seedNow c_rowThen c_hasImage c_actsThen c_imageRow c_pastThen c_statusThen) := hD
  refine lv_aload_n hx hb dX3_square_5 rfl (lv_at hl 0 rfl) ?_
  refine lv_iload_n hx hb dX3_square_6 rfl (lv_at hl 2 rfl) ?_
  obtain ⟨y1, e1, h⟩ := ob_s h
  refine MR.callV (q0 := 0) (M_X3_isPoint hG e1) S (cw_X3_isPoint hts q2068 ⟨Nat.le_of_ble_eq_true rfl, Nat.le_of_ble_eq_true rfl⟩) hW0 hK hP rfl rfl rfl hl.1 rfl (Nat.le_of_ble_eq_true rfl) dX3_square_7 ⟨Nat.zero_le _, Nat.zero_le _⟩ ?_
  refine lv_if_ne (tgt := 19) hx hb dX3_square_10 (by decide) (fun c2 => ?_) (fun c2 => ?_)
  · rw [if_neg c2] at h
    refine lv_iload_n hx hb dX3_square_19 rfl (lv_at hl 1 rfl) ?_
    refine lv_iconst (v := 2) hx hb dX3_square_20 (by decide) ?_
    refine lv_iconst (v := 4) hx hb dX3_square_21 (by decide) ?_
    obtain ⟨y3, e3, h⟩ := ob_s h
    refine MR.callS (M_X3_isIn hG e3) S (cw_X3_isIn hts q2061 ⟨Nat.le_of_ble_eq_true rfl, Nat.le_of_ble_eq_true rfl⟩) hW0 vaP0 rfl hl.1 rfl (Nat.le_of_ble_eq_true rfl) dX3_square_22 ⟨Nat.zero_le _, Nat.zero_le _⟩ ?_
    refine lv_if_ne (tgt := 34) hx hb dX3_square_25 (by decide) (fun c4 => ?_) (fun c4 => ?_)
    · rw [if_neg c4] at h
      refine lv_aload_n hx hb dX3_square_34 rfl (lv_at hl 0 rfl) ?_
      refine lv_iconst (v := 0) hx hb dX3_square_35 (by decide) ?_
      refine va_put (ci := 2) (v := .int 0) (ty := .int) (C := RX3) (T := TX3) (N := 52) hx hb hts in_X3 tyX3 tyX3_ok nmX3 hown hK hP hD hS 0 rfl rfl 37 (by decide) (hts _ q1695) (fun _ h9 => h9) rfl (by decide +kernel) rfl rfl (Nat.le_of_ble_eq_true rfl) dX3_square_36 (fun H locs hP hD hS => ?_)
      have hP : va_P G.2.1 vwCl (mW h0 ad G.2.2 0 c_now c_read c_status c_tape c_taped c_at c_textSize c_token c_number c_begins c_stops c_bad c_badPlace c_faultPlace c_clauses c_naming c_lineBy c_becomes c_dualLines c_on c_rowNow c_least c_wayFirst c_ways c_acts c_past c_listPoints c_listLines c_listed c_list c_path c_places c_firstPlaces c_px c_py c_pz 0 c_modulus c_drawn c_halvesMany c_halvesFirst c_spreadsMany c_spreadsFirst c_comesTo c_seedNow c_rowThen c_hasImage c_actsThen c_imageRow c_pastThen c_statusThen) H := hP
      have hD : va_D A (mW h0 ad G.2.2 0 c_now c_read c_status c_tape c_taped c_at c_textSize c_token c_number c_begins c_stops c_bad c_badPlace c_faultPlace c_clauses c_naming c_lineBy c_becomes c_dualLines c_on c_rowNow c_least c_wayFirst c_ways c_acts c_past c_listPoints c_listLines c_listed c_list c_path c_places c_firstPlaces c_px c_py c_pz 0 c_modulus c_drawn c_halvesMany c_halvesFirst c_spreadsMany c_spreadsFirst c_comesTo c_seedNow c_rowThen c_hasImage c_actsThen c_imageRow c_pastThen c_statusThen) := hD
      refine lv_aload_n hx hb dX3_square_39 rfl (lv_at hl 0 rfl) ?_
      refine lv_iconst (v := 0) hx hb dX3_square_40 (by decide) ?_
      refine va_put (ci := 2) (v := .int 0) (ty := .int) (C := RX3) (T := TX3) (N := 52) hx hb hts in_X3 tyX3 tyX3_ok nmX3 hown hK hP hD hS 0 rfl rfl 38 (by decide) (hts _ q1696) (fun _ h9 => h9) rfl (by decide +kernel) rfl rfl (Nat.le_of_ble_eq_true rfl) dX3_square_41 (fun H locs hP hD hS => ?_)
      have hP : va_P G.2.1 vwCl (mW h0 ad G.2.2 0 c_now c_read c_status c_tape c_taped c_at c_textSize c_token c_number c_begins c_stops c_bad c_badPlace c_faultPlace c_clauses c_naming c_lineBy c_becomes c_dualLines c_on c_rowNow c_least c_wayFirst c_ways c_acts c_past c_listPoints c_listLines c_listed c_list c_path c_places c_firstPlaces c_px c_py c_pz 0 0 c_drawn c_halvesMany c_halvesFirst c_spreadsMany c_spreadsFirst c_comesTo c_seedNow c_rowThen c_hasImage c_actsThen c_imageRow c_pastThen c_statusThen) H := hP
      have hD : va_D A (mW h0 ad G.2.2 0 c_now c_read c_status c_tape c_taped c_at c_textSize c_token c_number c_begins c_stops c_bad c_badPlace c_faultPlace c_clauses c_naming c_lineBy c_becomes c_dualLines c_on c_rowNow c_least c_wayFirst c_ways c_acts c_past c_listPoints c_listLines c_listed c_list c_path c_places c_firstPlaces c_px c_py c_pz 0 0 c_drawn c_halvesMany c_halvesFirst c_spreadsMany c_spreadsFirst c_comesTo c_seedNow c_rowThen c_hasImage c_actsThen c_imageRow c_pastThen c_statusThen) := hD
      refine lv_iconst (v := 0) hx hb dX3_square_44 (by decide) ?_
      refine lv_istore_n (lv' := [(3, .int 0), (0, .ref h0), (1, .int v1), (2, .int v2)]) hx hb dX3_square_45 rfl hl (by decide) rfl (fun ls hl => ?_)
      refine S_X3_square_46 N v1 v2 0 c_places c_firstPlaces c_px c_py c_pz 0 0 0 c_drawn _ h ?_ _ _ hP hD hS _ (lv_sub hl [1, 2, 3, 0] rfl)
      · intro c_px_9 c_py_9 c_pz_9 c_placeMany_9 H locs ls h hP hD hS hl
        refine lv_aload_n hx hb dX3_square_80 rfl (lv_at hl 0 rfl) ?_
        refine lv_iconst (v := 0) hx hb dX3_square_81 (by decide) ?_
        refine va_put (ci := 2) (v := .int 0) (ty := .int) (C := RX3) (T := TX3) (N := 52) hx hb hts in_X3 tyX3 tyX3_ok nmX3 hown hK hP hD hS 0 rfl rfl 39 (by decide) (hts _ q1697) (fun _ h9 => h9) rfl (by decide +kernel) rfl rfl (Nat.le_of_ble_eq_true rfl) dX3_square_82 (fun H locs hP hD hS => ?_)
        have hP : va_P G.2.1 vwCl (mW h0 ad G.2.2 0 c_now c_read c_status c_tape c_taped c_at c_textSize c_token c_number c_begins c_stops c_bad c_badPlace c_faultPlace c_clauses c_naming c_lineBy c_becomes c_dualLines c_on c_rowNow c_least c_wayFirst c_ways c_acts c_past c_listPoints c_listLines c_listed c_list c_path c_places c_firstPlaces c_px_9 c_py_9 c_pz_9 c_placeMany_9 0 0 c_halvesMany c_halvesFirst c_spreadsMany c_spreadsFirst c_comesTo c_seedNow c_rowThen c_hasImage c_actsThen c_imageRow c_pastThen c_statusThen) H := hP
        have hD : va_D A (mW h0 ad G.2.2 0 c_now c_read c_status c_tape c_taped c_at c_textSize c_token c_number c_begins c_stops c_bad c_badPlace c_faultPlace c_clauses c_naming c_lineBy c_becomes c_dualLines c_on c_rowNow c_least c_wayFirst c_ways c_acts c_past c_listPoints c_listLines c_listed c_list c_path c_places c_firstPlaces c_px_9 c_py_9 c_pz_9 c_placeMany_9 0 0 c_halvesMany c_halvesFirst c_spreadsMany c_spreadsFirst c_comesTo c_seedNow c_rowThen c_hasImage c_actsThen c_imageRow c_pastThen c_statusThen) := hD
        refine lv_aload_n hx hb dX3_square_85 rfl (lv_at hl 0 rfl) ?_
        refine lv_iconst (v := 0) hx hb dX3_square_86 (by decide) ?_
        refine lv_iconst (v := 1) hx hb dX3_square_87 (by decide) ?_
        obtain ⟨y10, e10, h⟩ := ob_s h
        refine MW.callV (q0 := 0) (M_X3_draws hG 16 e10) S (cw_X3_draws hts q2222 ⟨Nat.le_of_ble_eq_true rfl, Nat.le_of_ble_eq_true rfl⟩) hW0 hK hP hD hS hA rfl rfl rfl hl.1 rfl (Nat.le_of_ble_eq_true rfl) dX3_square_88 ⟨Nat.zero_le _, Nat.zero_le _⟩ (fun H locs hP hD hS => ?_)
        have hP : va_P G.2.1 vwCl (mW h0 ad G.2.2 0 c_now c_read c_status c_tape c_taped c_at c_textSize c_token c_number c_begins c_stops c_bad c_badPlace c_faultPlace c_clauses c_naming c_lineBy c_becomes c_dualLines c_on c_rowNow c_least c_wayFirst c_ways c_acts c_past c_listPoints c_listLines c_listed c_list c_path y10.1 y10.2.1 c_px_9 c_py_9 c_pz_9 c_placeMany_9 0 y10.2.2 c_halvesMany c_halvesFirst c_spreadsMany c_spreadsFirst c_comesTo c_seedNow c_rowThen c_hasImage c_actsThen c_imageRow c_pastThen c_statusThen) H := hP
        have hD : va_D A (mW h0 ad G.2.2 0 c_now c_read c_status c_tape c_taped c_at c_textSize c_token c_number c_begins c_stops c_bad c_badPlace c_faultPlace c_clauses c_naming c_lineBy c_becomes c_dualLines c_on c_rowNow c_least c_wayFirst c_ways c_acts c_past c_listPoints c_listLines c_listed c_list c_path y10.1 y10.2.1 c_px_9 c_py_9 c_pz_9 c_placeMany_9 0 y10.2.2 c_halvesMany c_halvesFirst c_spreadsMany c_spreadsFirst c_comesTo c_seedNow c_rowThen c_hasImage c_actsThen c_imageRow c_pastThen c_statusThen) := hD
        refine W.eq (g2 := F0 m 91 ls []) rfl ?_
        refine lv_aload_n hx hb dX3_square_91 rfl (lv_at hl 0 rfl) ?_
        refine va_get (ci := 2) (v := .int y10.2.2) (C := RX3) (T := TX3) (N := 52) hx hb hts in_X3 hown hK hP 0 rfl rfl 39 (by decide) (hts _ q1697) (fun _ h9 => h9) rfl dX3_square_92 ?_
        refine lv_if_ne (tgt := 102) hx hb dX3_square_95 (by decide) (fun c11 => ?_) (fun c11 => ?_)
        · rw [if_neg c11] at h
          refine lv_aload_n hx hb dX3_square_102 rfl (lv_at hl 0 rfl) ?_
          refine va_get (ci := 2) (v := .ref (ad 33)) (C := RX3) (T := TX3) (N := 52) hx hb hts in_X3 hown hK hP 0 rfl rfl 33 (by decide) (hts _ q1691) (fun _ h9 => h9) rfl dX3_square_103 ?_
          refine lv_iload_n hx hb dX3_square_106 rfl (lv_at hl 1 rfl) ?_
          obtain ⟨i12, h⟩ := ckI_s h
          refine va_iald (f := y10.2.1) hx hb hK hP 17 0 rfl rfl i12 dX3_square_107 ?_
          obtain rfl := Option.some.inj h
          exact hreti rfl dX3_square_108 rfl rfl hP hD hS
        · rw [if_pos c11] at h
          refine lv_iconst (v := (-1)) hx hb dX3_square_98 (by decide) ?_
          refine lv_goto (tgt := 108) hx hb dX3_square_99 (by decide) ?_
          obtain rfl := Option.some.inj h
          exact hreti rfl dX3_square_108 rfl rfl hP hD hS
    · rw [if_pos c4] at h
      refine lv_aload_n hx hb dX3_square_28 rfl (lv_at hl 0 rfl) ?_
      refine lv_iconst (v := 2) hx hb dX3_square_29 (by decide) ?_
      obtain ⟨y15, e15, h⟩ := ob_s h
      refine MW.callV (q0 := 0) (M_X3_fail hG e15) S (cw_X3_fail hts q1827 ⟨Nat.le_of_ble_eq_true rfl, Nat.le_of_ble_eq_true rfl⟩) hW0 hK hP hD hS hA rfl rfl rfl hl.1 rfl (Nat.le_of_ble_eq_true rfl) dX3_square_30 ⟨Nat.zero_le _, Nat.zero_le _⟩ (fun H locs hP hD hS => ?_)
      have hP : va_P G.2.1 vwCl (mW h0 ad G.2.2 y15.2 c_now c_read c_status c_tape c_taped c_at c_textSize c_token c_number c_begins c_stops c_bad c_badPlace c_faultPlace c_clauses c_naming c_lineBy c_becomes c_dualLines c_on c_rowNow c_least c_wayFirst c_ways c_acts c_past c_listPoints c_listLines c_listed c_list c_path c_places c_firstPlaces c_px c_py c_pz c_placeMany c_modulus c_drawn c_halvesMany c_halvesFirst c_spreadsMany c_spreadsFirst c_comesTo c_seedNow c_rowThen c_hasImage c_actsThen c_imageRow c_pastThen c_statusThen) H := hP
      have hD : va_D A (mW h0 ad G.2.2 y15.2 c_now c_read c_status c_tape c_taped c_at c_textSize c_token c_number c_begins c_stops c_bad c_badPlace c_faultPlace c_clauses c_naming c_lineBy c_becomes c_dualLines c_on c_rowNow c_least c_wayFirst c_ways c_acts c_past c_listPoints c_listLines c_listed c_list c_path c_places c_firstPlaces c_px c_py c_pz c_placeMany c_modulus c_drawn c_halvesMany c_halvesFirst c_spreadsMany c_spreadsFirst c_comesTo c_seedNow c_rowThen c_hasImage c_actsThen c_imageRow c_pastThen c_statusThen) := hD
      refine W.eq (g2 := F0 m 33 ls [.int y15.1]) rfl ?_
      obtain rfl := Option.some.inj h
      exact hreti rfl dX3_square_33 rfl rfl hP hD hS
  · rw [if_pos c2] at h
    refine lv_aload_n hx hb dX3_square_13 rfl (lv_at hl 0 rfl) ?_
    refine lv_iconst (v := 1) hx hb dX3_square_14 (by decide) ?_
    obtain ⟨y17, e17, h⟩ := ob_s h
    refine MW.callV (q0 := 0) (M_X3_fail hG e17) S (cw_X3_fail hts q1827 ⟨Nat.le_of_ble_eq_true rfl, Nat.le_of_ble_eq_true rfl⟩) hW0 hK hP hD hS hA rfl rfl rfl hl.1 rfl (Nat.le_of_ble_eq_true rfl) dX3_square_15 ⟨Nat.zero_le _, Nat.zero_le _⟩ (fun H locs hP hD hS => ?_)
    have hP : va_P G.2.1 vwCl (mW h0 ad G.2.2 y17.2 c_now c_read c_status c_tape c_taped c_at c_textSize c_token c_number c_begins c_stops c_bad c_badPlace c_faultPlace c_clauses c_naming c_lineBy c_becomes c_dualLines c_on c_rowNow c_least c_wayFirst c_ways c_acts c_past c_listPoints c_listLines c_listed c_list c_path c_places c_firstPlaces c_px c_py c_pz c_placeMany c_modulus c_drawn c_halvesMany c_halvesFirst c_spreadsMany c_spreadsFirst c_comesTo c_seedNow c_rowThen c_hasImage c_actsThen c_imageRow c_pastThen c_statusThen) H := hP
    have hD : va_D A (mW h0 ad G.2.2 y17.2 c_now c_read c_status c_tape c_taped c_at c_textSize c_token c_number c_begins c_stops c_bad c_badPlace c_faultPlace c_clauses c_naming c_lineBy c_becomes c_dualLines c_on c_rowNow c_least c_wayFirst c_ways c_acts c_past c_listPoints c_listLines c_listed c_list c_path c_places c_firstPlaces c_px c_py c_pz c_placeMany c_modulus c_drawn c_halvesMany c_halvesFirst c_spreadsMany c_spreadsFirst c_comesTo c_seedNow c_rowThen c_hasImage c_actsThen c_imageRow c_pastThen c_statusThen) := hD
    refine W.eq (g2 := F0 m 18 ls [.int y17.1]) rfl ?_
    obtain rfl := Option.some.inj h
    exact hreti rfl dX3_square_18 rfl rfl hP hD hS
def F_X3_plane_51 (N : Nat) (v1 : Int32) : Nat → Int32 → (Nat → Int32) → (Nat → Int32) → (Nat → Int32) → Int32 → ((Nat → Int32) → (Nat → Int32) → (Nat → Int32) → Int32 → Option (Int32 × (Nat → Int32) × (Nat → Int32) × (Nat → Int32) × (Nat → Int32) × (Nat → Int32) × Int32 × Int32 × Int32 × Int32)) → Option (Int32 × (Nat → Int32) × (Nat → Int32) × (Nat → Int32) × (Nat → Int32) × (Nat → Int32) × Int32 × Int32 × Int32 × Int32)
  | 0, _, _, _, _, _, _ => none
  | n + 1, v3, c_px, c_py, c_pz, c_placeMany, k121 => (if ((v1 * v1) * v1) ≤ v3 then (k121 c_px c_py c_pz c_placeMany) else (ckP (¬ (v1 * v1) = 0) (ckP (¬ v1 = 0) (ckP (¬ v1 = 0) (ckP (¬ v1 = 0) (if (v3 / (v1 * v1)) = 0 then (if ((v3 / v1) - (v3 / v1) / v1 * v1) = 0 then (if (v3 - v3 / v1 * v1) = 1 then ((F_X3_layPlace N (v3 / (v1 * v1)) ((v3 / v1) - (v3 / v1) / v1 * v1) (v3 - v3 / v1 * v1) c_px c_py c_pz c_placeMany).bind fun y12 => (F_X3_plane_51 N v1 n (v3 + 1) y12.1 y12.2.1 y12.2.2.1 y12.2.2.2 k121)) else (F_X3_plane_51 N v1 n (v3 + 1) c_px c_py c_pz c_placeMany k121)) else (if ((v3 / v1) - (v3 / v1) / v1 * v1) = 1 then ((F_X3_layPlace N (v3 / (v1 * v1)) ((v3 / v1) - (v3 / v1) / v1 * v1) (v3 - v3 / v1 * v1) c_px c_py c_pz c_placeMany).bind fun y14 => (F_X3_plane_51 N v1 n (v3 + 1) y14.1 y14.2.1 y14.2.2.1 y14.2.2.2 k121)) else (F_X3_plane_51 N v1 n (v3 + 1) c_px c_py c_pz c_placeMany k121))) else (if (v3 / (v1 * v1)) = 1 then ((F_X3_layPlace N (v3 / (v1 * v1)) ((v3 / v1) - (v3 / v1) / v1 * v1) (v3 - v3 / v1 * v1) c_px c_py c_pz c_placeMany).bind fun y16 => (F_X3_plane_51 N v1 n (v3 + 1) y16.1 y16.2.1 y16.2.2.1 y16.2.2.2 k121)) else (F_X3_plane_51 N v1 n (v3 + 1) c_px c_py c_pz c_placeMany k121))))))))
def F_X3_plane_138 (N : Nat) (c_now : (Nat → Int32)) (c_code : Int32) (s1 : Int32) (s2 : Int32) (v2 : Int32) (c_places : (Nat → Int32)) (c_firstPlaces : (Nat → Int32)) (c_px : (Nat → Int32)) (c_py : (Nat → Int32)) (c_pz : (Nat → Int32)) (c_placeMany : Int32) (c_modulus : Int32) (c_drawn : Int32) : Option (Int32 × (Nat → Int32) × (Nat → Int32) × (Nat → Int32) × (Nat → Int32) × (Nat → Int32) × Int32 × Int32 × Int32 × Int32) := ((F_X3_draws N 16 s1 s2 c_now c_places c_firstPlaces c_px c_py c_pz c_placeMany c_modulus c_drawn).bind fun y19 => (if v2 = (-1) then (some (y19.2.2, y19.1, y19.2.1, c_px, c_py, c_pz, c_code, c_placeMany, c_modulus, y19.2.2)) else (if y19.2.2 = 0 then (some ((-1), y19.1, y19.2.1, c_px, c_py, c_pz, c_code, c_placeMany, c_modulus, y19.2.2)) else (ckI v2 8 (some ((y19.2.1 (Int32.toNatClampNeg v2)), y19.1, y19.2.1, c_px, c_py, c_pz, c_code, c_placeMany, c_modulus, y19.2.2))))))
def F_X3_plane_24 (N : Nat) (c_now : (Nat → Int32)) (v1 : Int32) (v2 : Int32) (c_places : (Nat → Int32)) (c_firstPlaces : (Nat → Int32)) (c_px : (Nat → Int32)) (c_py : (Nat → Int32)) (c_pz : (Nat → Int32)) (c_code : Int32) (c_placeMany : Int32) (c_modulus : Int32) (c_drawn : Int32) : Option (Int32 × (Nat → Int32) × (Nat → Int32) × (Nat → Int32) × (Nat → Int32) × (Nat → Int32) × Int32 × Int32 × Int32 × Int32) := ((F_X3_isIn N v1 2 3).bind fun y2 => (if y2 = 0 then ((F_X3_fail N 2 c_code).bind fun y26 => (some (y26.1, c_places, c_firstPlaces, c_px, c_py, c_pz, y26.2, c_placeMany, c_modulus, c_drawn))) else (F_X3_plane_51 N v1 N 1 c_px c_py c_pz 0 (fun c_px_17 c_py_17 c_pz_17 c_placeMany_17 => (if v2 = (-1) then (F_X3_plane_138 N c_now c_code 0 0 v2 c_places c_firstPlaces c_px_17 c_py_17 c_pz_17 c_placeMany_17 v1 0) else (F_X3_plane_138 N c_now c_code 0 1 v2 c_places c_firstPlaces c_px_17 c_py_17 c_pz_17 c_placeMany_17 v1 0))))))
def F_X3_plane (N : Nat) (v1 : Int32) (v2 : Int32) (c_now : (Nat → Int32)) (c_places : (Nat → Int32)) (c_firstPlaces : (Nat → Int32)) (c_px : (Nat → Int32)) (c_py : (Nat → Int32)) (c_pz : (Nat → Int32)) (c_code : Int32) (c_placeMany : Int32) (c_modulus : Int32) (c_drawn : Int32) : Option (Int32 × (Nat → Int32) × (Nat → Int32) × (Nat → Int32) × (Nat → Int32) × (Nat → Int32) × Int32 × Int32 × Int32 × Int32) := (if v2 = (-1) then (F_X3_plane_24 N c_now v1 v2 c_places c_firstPlaces c_px c_py c_pz 0 c_placeMany c_modulus c_drawn) else ((F_X3_isPoint N v2 c_now).bind fun y28 => (if y28 = 0 then ((F_X3_fail N 1 0).bind fun y30 => (some (y30.1, c_places, c_firstPlaces, c_px, c_py, c_pz, y30.2, c_placeMany, c_modulus, c_drawn))) else (F_X3_plane_24 N c_now v1 v2 c_places c_firstPlaces c_px c_py c_pz 0 c_placeMany c_modulus c_drawn))))
theorem cw_X3_plane {R : Room} {s : State} {args : Array Value} {own : String} {index lev mc ms : Nat} (hts : ∀ w ∈ lw_all, w.before args s = true) (hl : Cond.methodLink own index yX3_plane ∈ lw_all) (hR : (rmL lev mc ms).frames + 1 ≤ R.frames ∧ 8 + (7 + 11) + (rmL lev mc ms).locals ≤ R.locals) : CallW R s args own RX3 index yX3_plane cX3_plane 7 (some .int) (ws_ yX3_plane cX3_plane 7 (some .int)) (rmL lev mc ms) mc ms 2 := cwV 2 hts (lw_V hl q2235 q2236 q172 q2237) rfl rfl rfl (by decide +kernel) hR
set_option maxHeartbeats 4000000 in
theorem M_X3_plane {l : Launch} {G : GE} (hG : GC G) {N : Nat} {h0 : Nat} {ad : Nat → Nat} {c_read : (Nat → Int32)} {c_status : (Nat → Int32)} {c_tape : (Nat → Int32)} {c_taped : Int32} {c_at : Int32} {c_textSize : Int32} {c_token : Int32} {c_number : Int32} {c_begins : Int32} {c_stops : Int32} {c_bad : Int32} {c_badPlace : Int32} {c_faultPlace : Int32} {c_clauses : Int32} {c_naming : (Nat → Int32)} {c_lineBy : (Nat → Int32)} {c_becomes : (Nat → Int32)} {c_dualLines : (Nat → Int32)} {c_on : (Nat → Int32)} {c_rowNow : (Nat → Int32)} {c_least : (Nat → Int32)} {c_wayFirst : (Nat → Int32)} {c_ways : Int32} {c_acts : Int32} {c_past : (Nat → Int32)} {c_listPoints : Int32} {c_listLines : Int32} {c_listed : Int32} {c_list : (Nat → Int32)} {c_path : (Nat → Int32)} {c_halvesMany : Int32} {c_halvesFirst : Int32} {c_spreadsMany : Int32} {c_spreadsFirst : Int32} {c_comesTo : (Nat → Int32)} {c_seedNow : Int32} {c_rowThen : (Nat → Int32)} {c_hasImage : Int32} {c_actsThen : Int32} {c_imageRow : (Nat → Int32)} {c_pastThen : (Nat → Int32)} {c_statusThen : (Nat → Int32)} {v1 : Int32} {v2 : Int32} {c_now : (Nat → Int32)} {c_places : (Nat → Int32)} {c_firstPlaces : (Nat → Int32)} {c_px : (Nat → Int32)} {c_py : (Nat → Int32)} {c_pz : (Nat → Int32)} {c_code : Int32} {c_placeMany : Int32} {c_modulus : Int32} {c_drawn : Int32} {ρ : (Int32 × (Nat → Int32) × (Nat → Int32) × (Nat → Int32) × (Nat → Int32) × (Nat → Int32) × Int32 × Int32 × Int32 × Int32)} (h : F_X3_plane N v1 v2 c_now c_places c_firstPlaces c_px c_py c_pz c_code c_placeMany c_modulus c_drawn = some ρ) : MW l G yX3_plane cX3_plane 7 (some .int) 21 (mW h0 ad G.2.2 c_code c_now c_read c_status c_tape c_taped c_at c_textSize c_token c_number c_begins c_stops c_bad c_badPlace c_faultPlace c_clauses c_naming c_lineBy c_becomes c_dualLines c_on c_rowNow c_least c_wayFirst c_ways c_acts c_past c_listPoints c_listLines c_listed c_list c_path c_places c_firstPlaces c_px c_py c_pz c_placeMany c_modulus c_drawn c_halvesMany c_halvesFirst c_spreadsMany c_spreadsFirst c_comesTo c_seedNow c_rowThen c_hasImage c_actsThen c_imageRow c_pastThen c_statusThen) [.ref h0, .int v1, .int v2] (some (.int ρ.1)) (mW h0 ad G.2.2 ρ.2.2.2.2.2.2.1 c_now c_read c_status c_tape c_taped c_at c_textSize c_token c_number c_begins c_stops c_bad c_badPlace c_faultPlace c_clauses c_naming c_lineBy c_becomes c_dualLines c_on c_rowNow c_least c_wayFirst c_ways c_acts c_past c_listPoints c_listLines c_listed c_list c_path ρ.2.1 ρ.2.2.1 ρ.2.2.2.1 ρ.2.2.2.2.1 ρ.2.2.2.2.2.1 ρ.2.2.2.2.2.2.2.1 ρ.2.2.2.2.2.2.2.2.1 ρ.2.2.2.2.2.2.2.2.2 c_halvesMany c_halvesFirst c_spreadsMany c_spreadsFirst c_comesTo c_seedNow c_rowThen c_hasImage c_actsThen c_imageRow c_pastThen c_statusThen) := by
  rw [F_X3_plane] at h
  refine MW.start hG (by decide) (Nat.le_of_ble_eq_true rfl) ?_
  intro p e s m args below meth c Q A S hW0 hK hP hD hA hreti hretv ls hl
  have hS : va_S A s.heap s.heap [] := va_S.rf
  obtain ⟨hx, hb, hml, hown, hts⟩ := id S
  have hl : lv_has ls 7 [(0, .ref h0), (1, .int v1), (2, .int v2)] := hl
  have S_X3_plane_51 : ∀ (n : Nat) (v1 : Int32) (v2 : Int32) (v3 : Int32) (c_places : (Nat → Int32)) (c_firstPlaces : (Nat → Int32)) (c_px : (Nat → Int32)) (c_py : (Nat → Int32)) (c_pz : (Nat → Int32)) (c_code : Int32) (c_placeMany : Int32) (c_modulus : Int32) (c_drawn : Int32) (k121 : (Nat → Int32) → (Nat → Int32) → (Nat → Int32) → Int32 → Option (Int32 × (Nat → Int32) × (Nat → Int32) × (Nat → Int32) × (Nat → Int32) × (Nat → Int32) × Int32 × Int32 × Int32 × Int32)), F_X3_plane_51 N v1 n v3 c_px c_py c_pz c_placeMany k121 = some ρ → (∀ (z_c_px : (Nat → Int32)) (z_c_py : (Nat → Int32)) (z_c_pz : (Nat → Int32)) (z_c_placeMany : Int32) (H : Heap) (locs : List Loc) (ls : Array Slot), k121 z_c_px z_c_py z_c_pz z_c_placeMany = some ρ → va_P G.2.1 vwCl (mW h0 ad G.2.2 c_code c_now c_read c_status c_tape c_taped c_at c_textSize c_token c_number c_begins c_stops c_bad c_badPlace c_faultPlace c_clauses c_naming c_lineBy c_becomes c_dualLines c_on c_rowNow c_least c_wayFirst c_ways c_acts c_past c_listPoints c_listLines c_listed c_list c_path c_places c_firstPlaces z_c_px z_c_py z_c_pz z_c_placeMany c_modulus c_drawn c_halvesMany c_halvesFirst c_spreadsMany c_spreadsFirst c_comesTo c_seedNow c_rowThen c_hasImage c_actsThen c_imageRow c_pastThen c_statusThen) H → va_D A (mW h0 ad G.2.2 c_code c_now c_read c_status c_tape c_taped c_at c_textSize c_token c_number c_begins c_stops c_bad c_badPlace c_faultPlace c_clauses c_naming c_lineBy c_becomes c_dualLines c_on c_rowNow c_least c_wayFirst c_ways c_acts c_past c_listPoints c_listLines c_listed c_list c_path c_places c_firstPlaces z_c_px z_c_py z_c_pz z_c_placeMany c_modulus c_drawn c_halvesMany c_halvesFirst c_spreadsMany c_spreadsFirst c_comesTo c_seedNow c_rowThen c_hasImage c_actsThen c_imageRow c_pastThen c_statusThen) → va_S A s.heap H locs → lv_has ls 7 [(0, .ref h0), (2, .int v2)] → W p l e (rmL 21 0 0) s m args below meth c H locs 0 0 Q (F0 m 121 ls [])) → ∀ (H : Heap) (locs : List Loc), va_P G.2.1 vwCl (mW h0 ad G.2.2 c_code c_now c_read c_status c_tape c_taped c_at c_textSize c_token c_number c_begins c_stops c_bad c_badPlace c_faultPlace c_clauses c_naming c_lineBy c_becomes c_dualLines c_on c_rowNow c_least c_wayFirst c_ways c_acts c_past c_listPoints c_listLines c_listed c_list c_path c_places c_firstPlaces c_px c_py c_pz c_placeMany c_modulus c_drawn c_halvesMany c_halvesFirst c_spreadsMany c_spreadsFirst c_comesTo c_seedNow c_rowThen c_hasImage c_actsThen c_imageRow c_pastThen c_statusThen) H → va_D A (mW h0 ad G.2.2 c_code c_now c_read c_status c_tape c_taped c_at c_textSize c_token c_number c_begins c_stops c_bad c_badPlace c_faultPlace c_clauses c_naming c_lineBy c_becomes c_dualLines c_on c_rowNow c_least c_wayFirst c_ways c_acts c_past c_listPoints c_listLines c_listed c_list c_path c_places c_firstPlaces c_px c_py c_pz c_placeMany c_modulus c_drawn c_halvesMany c_halvesFirst c_spreadsMany c_spreadsFirst c_comesTo c_seedNow c_rowThen c_hasImage c_actsThen c_imageRow c_pastThen c_statusThen) → va_S A s.heap H locs → ∀ (ls : Array Slot), lv_has ls 7 [(0, .ref h0), (1, .int v1), (2, .int v2), (3, .int v3)] → W p l e (rmL 21 0 0) s m args below meth c H locs 0 0 Q (F0 m 51 ls []) := by
    intro n
    induction n with
    | zero =>
      intro v1 v2 v3 c_places c_firstPlaces c_px c_py c_pz c_code c_placeMany c_modulus c_drawn k121 h
      exact absurd h (by simp [F_X3_plane_51])
    | succ n ih =>
      intro v1 v2 v3 c_places c_firstPlaces c_px c_py c_pz c_code c_placeMany c_modulus c_drawn k121 h hk121 H locs hP hD hS ls hl
      rw [F_X3_plane_51] at h
      refine lv_iload_n hx hb dX3_plane_51 rfl (lv_at hl 3 rfl) ?_
      refine lv_iload_n hx hb dX3_plane_52 rfl (lv_at hl 1 rfl) ?_
      refine lv_iload_n hx hb dX3_plane_53 rfl (lv_at hl 1 rfl) ?_
      refine lv_imul hx hb dX3_plane_54 ?_
      refine lv_iload_n hx hb dX3_plane_55 rfl (lv_at hl 1 rfl) ?_
      refine lv_imul hx hb dX3_plane_56 ?_
      refine lv_icmp_ge (tgt := 121) hx hb dX3_plane_57 (by decide) (fun c4 => ?_) (fun c4 => ?_)
      · rw [if_pos c4] at h
        exact hk121 c_px c_py c_pz c_placeMany _ _ _ h hP hD hS (lv_sub hl [0, 2] rfl)
      · rw [if_neg c4] at h
        refine lv_iload_n hx hb dX3_plane_60 rfl (lv_at hl 3 rfl) ?_
        refine lv_iload_n hx hb dX3_plane_61 rfl (lv_at hl 1 rfl) ?_
        refine lv_iload_n hx hb dX3_plane_62 rfl (lv_at hl 1 rfl) ?_
        refine lv_imul hx hb dX3_plane_63 ?_
        obtain ⟨i5, h⟩ := ckP_s h
        refine lv_idiv hx hb dX3_plane_64 i5 ?_
        refine lv_istore (lv' := [(4, .int (v3 / (v1 * v1))), (0, .ref h0), (1, .int v1), (2, .int v2), (3, .int v3)]) hx hb dX3_plane_65 hl (by decide) rfl (fun ls hl => ?_)
        refine lv_iload_n hx hb dX3_plane_67 rfl (lv_at hl 4 rfl) ?_
        refine lv_iload_n hx hb dX3_plane_68 rfl (lv_at hl 2 rfl) ?_
        obtain ⟨i6, h⟩ := ckP_s h
        refine lv_idiv hx hb dX3_plane_69 i6 ?_
        refine lv_iload_n hx hb dX3_plane_70 rfl (lv_at hl 2 rfl) ?_
        obtain ⟨i7, h⟩ := ckP_s h
        refine lv_irem hx hb dX3_plane_71 i7 ?_
        refine lv_istore (lv' := [(5, .int ((v3 / v1) - (v3 / v1) / v1 * v1)), (4, .int (v3 / (v1 * v1))), (0, .ref h0), (1, .int v1), (2, .int v2), (3, .int v3)]) hx hb dX3_plane_72 hl (by decide) rfl (fun ls hl => ?_)
        refine lv_iload_n hx hb dX3_plane_74 rfl (lv_at hl 5 rfl) ?_
        refine lv_iload_n hx hb dX3_plane_75 rfl (lv_at hl 3 rfl) ?_
        obtain ⟨i8, h⟩ := ckP_s h
        refine lv_irem hx hb dX3_plane_76 i8 ?_
        refine lv_istore (lv' := [(6, .int (v3 - v3 / v1 * v1)), (5, .int ((v3 / v1) - (v3 / v1) / v1 * v1)), (4, .int (v3 / (v1 * v1))), (0, .ref h0), (1, .int v1), (2, .int v2), (3, .int v3)]) hx hb dX3_plane_77 hl (by decide) rfl (fun ls hl => ?_)
        refine lv_iload hx hb dX3_plane_79 (lv_at hl 2 rfl) ?_
        refine lv_if_eq (tgt := 89) hx hb dX3_plane_81 (by decide) (fun c9 => ?_) (fun c9 => ?_)
        · rw [if_pos c9] at h
          refine lv_iload hx hb dX3_plane_89 (lv_at hl 1 rfl) ?_
          refine lv_if_eq (tgt := 99) hx hb dX3_plane_91 (by decide) (fun c10 => ?_) (fun c10 => ?_)
          · rw [if_pos c10] at h
            refine lv_iload hx hb dX3_plane_99 (lv_at hl 0 rfl) ?_
            refine lv_iconst (v := 1) hx hb dX3_plane_101 (by decide) ?_
            refine lv_icmp_ne (tgt := 115) hx hb dX3_plane_102 (by decide) (fun c11 => ?_) (fun c11 => ?_)
            · rw [if_neg c11] at h
              refine lv_iinc (v := (v3 + 1)) (lv' := [(3, .int (v3 + 1)), (6, .int (v3 - v3 / v1 * v1)), (5, .int ((v3 / v1) - (v3 / v1) / v1 * v1)), (4, .int (v3 / (v1 * v1))), (0, .ref h0), (1, .int v1), (2, .int v2)]) hx hb dX3_plane_115 hl (k := 6) rfl rfl (by decide) rfl (fun ls hl => ?_)
              refine lv_goto (tgt := 51) hx hb dX3_plane_118 (by decide) ?_
              exact ih v1 v2 (v3 + 1) c_places c_firstPlaces c_px c_py c_pz c_code c_placeMany c_modulus c_drawn _ h hk121 _ _ hP hD hS _ (lv_sub hl [4, 5, 6, 0] rfl)
            · rw [if_pos c11] at h
              refine lv_aload_n hx hb dX3_plane_105 rfl (lv_at hl 3 rfl) ?_
              refine lv_iload hx hb dX3_plane_106 (lv_at hl 2 rfl) ?_
              refine lv_iload hx hb dX3_plane_108 (lv_at hl 1 rfl) ?_
              refine lv_iload hx hb dX3_plane_110 (lv_at hl 0 rfl) ?_
              obtain ⟨y12, e12, h⟩ := ob_s h
              refine MW.callV (q0 := 0) (M_X3_layPlace hG e12) S (cw_X3_layPlace hts q2218 ⟨Nat.le_of_ble_eq_true rfl, Nat.le_of_ble_eq_true rfl⟩) hW0 hK hP hD hS hA rfl rfl rfl hl.1 rfl (Nat.le_of_ble_eq_true rfl) dX3_plane_112 ⟨Nat.zero_le _, Nat.zero_le _⟩ (fun H locs hP hD hS => ?_)
              have hP : va_P G.2.1 vwCl (mW h0 ad G.2.2 c_code c_now c_read c_status c_tape c_taped c_at c_textSize c_token c_number c_begins c_stops c_bad c_badPlace c_faultPlace c_clauses c_naming c_lineBy c_becomes c_dualLines c_on c_rowNow c_least c_wayFirst c_ways c_acts c_past c_listPoints c_listLines c_listed c_list c_path c_places c_firstPlaces y12.1 y12.2.1 y12.2.2.1 y12.2.2.2 c_modulus c_drawn c_halvesMany c_halvesFirst c_spreadsMany c_spreadsFirst c_comesTo c_seedNow c_rowThen c_hasImage c_actsThen c_imageRow c_pastThen c_statusThen) H := hP
              have hD : va_D A (mW h0 ad G.2.2 c_code c_now c_read c_status c_tape c_taped c_at c_textSize c_token c_number c_begins c_stops c_bad c_badPlace c_faultPlace c_clauses c_naming c_lineBy c_becomes c_dualLines c_on c_rowNow c_least c_wayFirst c_ways c_acts c_past c_listPoints c_listLines c_listed c_list c_path c_places c_firstPlaces y12.1 y12.2.1 y12.2.2.1 y12.2.2.2 c_modulus c_drawn c_halvesMany c_halvesFirst c_spreadsMany c_spreadsFirst c_comesTo c_seedNow c_rowThen c_hasImage c_actsThen c_imageRow c_pastThen c_statusThen) := hD
              refine W.eq (g2 := F0 m 115 ls []) rfl ?_
              refine lv_iinc (v := (v3 + 1)) (lv' := [(3, .int (v3 + 1)), (6, .int (v3 - v3 / v1 * v1)), (5, .int ((v3 / v1) - (v3 / v1) / v1 * v1)), (4, .int (v3 / (v1 * v1))), (0, .ref h0), (1, .int v1), (2, .int v2)]) hx hb dX3_plane_115 hl (k := 6) rfl rfl (by decide) rfl (fun ls hl => ?_)
              refine lv_goto (tgt := 51) hx hb dX3_plane_118 (by decide) ?_
              exact ih v1 v2 (v3 + 1) c_places c_firstPlaces y12.1 y12.2.1 y12.2.2.1 c_code y12.2.2.2 c_modulus c_drawn _ h hk121 _ _ hP hD hS _ (lv_sub hl [4, 5, 6, 0] rfl)
          · rw [if_neg c10] at h
            refine lv_iload hx hb dX3_plane_94 (lv_at hl 1 rfl) ?_
            refine lv_goto (tgt := 101) hx hb dX3_plane_96 (by decide) ?_
            refine lv_iconst (v := 1) hx hb dX3_plane_101 (by decide) ?_
            refine lv_icmp_ne (tgt := 115) hx hb dX3_plane_102 (by decide) (fun c13 => ?_) (fun c13 => ?_)
            · rw [if_neg c13] at h
              refine lv_iinc (v := (v3 + 1)) (lv' := [(3, .int (v3 + 1)), (6, .int (v3 - v3 / v1 * v1)), (5, .int ((v3 / v1) - (v3 / v1) / v1 * v1)), (4, .int (v3 / (v1 * v1))), (0, .ref h0), (1, .int v1), (2, .int v2)]) hx hb dX3_plane_115 hl (k := 6) rfl rfl (by decide) rfl (fun ls hl => ?_)
              refine lv_goto (tgt := 51) hx hb dX3_plane_118 (by decide) ?_
              exact ih v1 v2 (v3 + 1) c_places c_firstPlaces c_px c_py c_pz c_code c_placeMany c_modulus c_drawn _ h hk121 _ _ hP hD hS _ (lv_sub hl [4, 5, 6, 0] rfl)
            · rw [if_pos c13] at h
              refine lv_aload_n hx hb dX3_plane_105 rfl (lv_at hl 3 rfl) ?_
              refine lv_iload hx hb dX3_plane_106 (lv_at hl 2 rfl) ?_
              refine lv_iload hx hb dX3_plane_108 (lv_at hl 1 rfl) ?_
              refine lv_iload hx hb dX3_plane_110 (lv_at hl 0 rfl) ?_
              obtain ⟨y14, e14, h⟩ := ob_s h
              refine MW.callV (q0 := 0) (M_X3_layPlace hG e14) S (cw_X3_layPlace hts q2218 ⟨Nat.le_of_ble_eq_true rfl, Nat.le_of_ble_eq_true rfl⟩) hW0 hK hP hD hS hA rfl rfl rfl hl.1 rfl (Nat.le_of_ble_eq_true rfl) dX3_plane_112 ⟨Nat.zero_le _, Nat.zero_le _⟩ (fun H locs hP hD hS => ?_)
              have hP : va_P G.2.1 vwCl (mW h0 ad G.2.2 c_code c_now c_read c_status c_tape c_taped c_at c_textSize c_token c_number c_begins c_stops c_bad c_badPlace c_faultPlace c_clauses c_naming c_lineBy c_becomes c_dualLines c_on c_rowNow c_least c_wayFirst c_ways c_acts c_past c_listPoints c_listLines c_listed c_list c_path c_places c_firstPlaces y14.1 y14.2.1 y14.2.2.1 y14.2.2.2 c_modulus c_drawn c_halvesMany c_halvesFirst c_spreadsMany c_spreadsFirst c_comesTo c_seedNow c_rowThen c_hasImage c_actsThen c_imageRow c_pastThen c_statusThen) H := hP
              have hD : va_D A (mW h0 ad G.2.2 c_code c_now c_read c_status c_tape c_taped c_at c_textSize c_token c_number c_begins c_stops c_bad c_badPlace c_faultPlace c_clauses c_naming c_lineBy c_becomes c_dualLines c_on c_rowNow c_least c_wayFirst c_ways c_acts c_past c_listPoints c_listLines c_listed c_list c_path c_places c_firstPlaces y14.1 y14.2.1 y14.2.2.1 y14.2.2.2 c_modulus c_drawn c_halvesMany c_halvesFirst c_spreadsMany c_spreadsFirst c_comesTo c_seedNow c_rowThen c_hasImage c_actsThen c_imageRow c_pastThen c_statusThen) := hD
              refine W.eq (g2 := F0 m 115 ls []) rfl ?_
              refine lv_iinc (v := (v3 + 1)) (lv' := [(3, .int (v3 + 1)), (6, .int (v3 - v3 / v1 * v1)), (5, .int ((v3 / v1) - (v3 / v1) / v1 * v1)), (4, .int (v3 / (v1 * v1))), (0, .ref h0), (1, .int v1), (2, .int v2)]) hx hb dX3_plane_115 hl (k := 6) rfl rfl (by decide) rfl (fun ls hl => ?_)
              refine lv_goto (tgt := 51) hx hb dX3_plane_118 (by decide) ?_
              exact ih v1 v2 (v3 + 1) c_places c_firstPlaces y14.1 y14.2.1 y14.2.2.1 c_code y14.2.2.2 c_modulus c_drawn _ h hk121 _ _ hP hD hS _ (lv_sub hl [4, 5, 6, 0] rfl)
        · rw [if_neg c9] at h
          refine lv_iload hx hb dX3_plane_84 (lv_at hl 2 rfl) ?_
          refine lv_goto (tgt := 101) hx hb dX3_plane_86 (by decide) ?_
          refine lv_iconst (v := 1) hx hb dX3_plane_101 (by decide) ?_
          refine lv_icmp_ne (tgt := 115) hx hb dX3_plane_102 (by decide) (fun c15 => ?_) (fun c15 => ?_)
          · rw [if_neg c15] at h
            refine lv_iinc (v := (v3 + 1)) (lv' := [(3, .int (v3 + 1)), (6, .int (v3 - v3 / v1 * v1)), (5, .int ((v3 / v1) - (v3 / v1) / v1 * v1)), (4, .int (v3 / (v1 * v1))), (0, .ref h0), (1, .int v1), (2, .int v2)]) hx hb dX3_plane_115 hl (k := 6) rfl rfl (by decide) rfl (fun ls hl => ?_)
            refine lv_goto (tgt := 51) hx hb dX3_plane_118 (by decide) ?_
            exact ih v1 v2 (v3 + 1) c_places c_firstPlaces c_px c_py c_pz c_code c_placeMany c_modulus c_drawn _ h hk121 _ _ hP hD hS _ (lv_sub hl [4, 5, 6, 0] rfl)
          · rw [if_pos c15] at h
            refine lv_aload_n hx hb dX3_plane_105 rfl (lv_at hl 3 rfl) ?_
            refine lv_iload hx hb dX3_plane_106 (lv_at hl 2 rfl) ?_
            refine lv_iload hx hb dX3_plane_108 (lv_at hl 1 rfl) ?_
            refine lv_iload hx hb dX3_plane_110 (lv_at hl 0 rfl) ?_
            obtain ⟨y16, e16, h⟩ := ob_s h
            refine MW.callV (q0 := 0) (M_X3_layPlace hG e16) S (cw_X3_layPlace hts q2218 ⟨Nat.le_of_ble_eq_true rfl, Nat.le_of_ble_eq_true rfl⟩) hW0 hK hP hD hS hA rfl rfl rfl hl.1 rfl (Nat.le_of_ble_eq_true rfl) dX3_plane_112 ⟨Nat.zero_le _, Nat.zero_le _⟩ (fun H locs hP hD hS => ?_)
            have hP : va_P G.2.1 vwCl (mW h0 ad G.2.2 c_code c_now c_read c_status c_tape c_taped c_at c_textSize c_token c_number c_begins c_stops c_bad c_badPlace c_faultPlace c_clauses c_naming c_lineBy c_becomes c_dualLines c_on c_rowNow c_least c_wayFirst c_ways c_acts c_past c_listPoints c_listLines c_listed c_list c_path c_places c_firstPlaces y16.1 y16.2.1 y16.2.2.1 y16.2.2.2 c_modulus c_drawn c_halvesMany c_halvesFirst c_spreadsMany c_spreadsFirst c_comesTo c_seedNow c_rowThen c_hasImage c_actsThen c_imageRow c_pastThen c_statusThen) H := hP
            have hD : va_D A (mW h0 ad G.2.2 c_code c_now c_read c_status c_tape c_taped c_at c_textSize c_token c_number c_begins c_stops c_bad c_badPlace c_faultPlace c_clauses c_naming c_lineBy c_becomes c_dualLines c_on c_rowNow c_least c_wayFirst c_ways c_acts c_past c_listPoints c_listLines c_listed c_list c_path c_places c_firstPlaces y16.1 y16.2.1 y16.2.2.1 y16.2.2.2 c_modulus c_drawn c_halvesMany c_halvesFirst c_spreadsMany c_spreadsFirst c_comesTo c_seedNow c_rowThen c_hasImage c_actsThen c_imageRow c_pastThen c_statusThen) := hD
            refine W.eq (g2 := F0 m 115 ls []) rfl ?_
            refine lv_iinc (v := (v3 + 1)) (lv' := [(3, .int (v3 + 1)), (6, .int (v3 - v3 / v1 * v1)), (5, .int ((v3 / v1) - (v3 / v1) / v1 * v1)), (4, .int (v3 / (v1 * v1))), (0, .ref h0), (1, .int v1), (2, .int v2)]) hx hb dX3_plane_115 hl (k := 6) rfl rfl (by decide) rfl (fun ls hl => ?_)
            refine lv_goto (tgt := 51) hx hb dX3_plane_118 (by decide) ?_
            exact ih v1 v2 (v3 + 1) c_places c_firstPlaces y16.1 y16.2.1 y16.2.2.1 c_code y16.2.2.2 c_modulus c_drawn _ h hk121 _ _ hP hD hS _ (lv_sub hl [4, 5, 6, 0] rfl)
  have S_X3_plane_138 : ∀ (s1 : Int32) (s2 : Int32) (v2 : Int32) (c_places : (Nat → Int32)) (c_firstPlaces : (Nat → Int32)) (c_px : (Nat → Int32)) (c_py : (Nat → Int32)) (c_pz : (Nat → Int32)) (c_code : Int32) (c_placeMany : Int32) (c_modulus : Int32) (c_drawn : Int32), F_X3_plane_138 N c_now c_code s1 s2 v2 c_places c_firstPlaces c_px c_py c_pz c_placeMany c_modulus c_drawn = some ρ → ∀ (H : Heap) (locs : List Loc), va_P G.2.1 vwCl (mW h0 ad G.2.2 c_code c_now c_read c_status c_tape c_taped c_at c_textSize c_token c_number c_begins c_stops c_bad c_badPlace c_faultPlace c_clauses c_naming c_lineBy c_becomes c_dualLines c_on c_rowNow c_least c_wayFirst c_ways c_acts c_past c_listPoints c_listLines c_listed c_list c_path c_places c_firstPlaces c_px c_py c_pz c_placeMany c_modulus c_drawn c_halvesMany c_halvesFirst c_spreadsMany c_spreadsFirst c_comesTo c_seedNow c_rowThen c_hasImage c_actsThen c_imageRow c_pastThen c_statusThen) H → va_D A (mW h0 ad G.2.2 c_code c_now c_read c_status c_tape c_taped c_at c_textSize c_token c_number c_begins c_stops c_bad c_badPlace c_faultPlace c_clauses c_naming c_lineBy c_becomes c_dualLines c_on c_rowNow c_least c_wayFirst c_ways c_acts c_past c_listPoints c_listLines c_listed c_list c_path c_places c_firstPlaces c_px c_py c_pz c_placeMany c_modulus c_drawn c_halvesMany c_halvesFirst c_spreadsMany c_spreadsFirst c_comesTo c_seedNow c_rowThen c_hasImage c_actsThen c_imageRow c_pastThen c_statusThen) → va_S A s.heap H locs → ∀ (ls : Array Slot), lv_has ls 7 [(0, .ref h0), (2, .int v2)] → W p l e (rmL 21 0 0) s m args below meth c H locs 0 0 Q (F0 m 138 ls [.int s2, .int s1, .ref h0]) := by
    intro s1 s2 v2 c_places c_firstPlaces c_px c_py c_pz c_code c_placeMany c_modulus c_drawn h H locs hP hD hS ls hl
    rw [F_X3_plane_138] at h
    obtain ⟨y19, e19, h⟩ := ob_s h
    refine MW.callV (q0 := 0) (M_X3_draws hG 16 e19) S (cw_X3_draws hts q2222 ⟨Nat.le_of_ble_eq_true rfl, Nat.le_of_ble_eq_true rfl⟩) hW0 hK hP hD hS hA rfl rfl rfl hl.1 rfl (Nat.le_of_ble_eq_true rfl) dX3_plane_138 ⟨Nat.zero_le _, Nat.zero_le _⟩ (fun H locs hP hD hS => ?_)
    have hP : va_P G.2.1 vwCl (mW h0 ad G.2.2 c_code c_now c_read c_status c_tape c_taped c_at c_textSize c_token c_number c_begins c_stops c_bad c_badPlace c_faultPlace c_clauses c_naming c_lineBy c_becomes c_dualLines c_on c_rowNow c_least c_wayFirst c_ways c_acts c_past c_listPoints c_listLines c_listed c_list c_path y19.1 y19.2.1 c_px c_py c_pz c_placeMany c_modulus y19.2.2 c_halvesMany c_halvesFirst c_spreadsMany c_spreadsFirst c_comesTo c_seedNow c_rowThen c_hasImage c_actsThen c_imageRow c_pastThen c_statusThen) H := hP
    have hD : va_D A (mW h0 ad G.2.2 c_code c_now c_read c_status c_tape c_taped c_at c_textSize c_token c_number c_begins c_stops c_bad c_badPlace c_faultPlace c_clauses c_naming c_lineBy c_becomes c_dualLines c_on c_rowNow c_least c_wayFirst c_ways c_acts c_past c_listPoints c_listLines c_listed c_list c_path y19.1 y19.2.1 c_px c_py c_pz c_placeMany c_modulus y19.2.2 c_halvesMany c_halvesFirst c_spreadsMany c_spreadsFirst c_comesTo c_seedNow c_rowThen c_hasImage c_actsThen c_imageRow c_pastThen c_statusThen) := hD
    refine W.eq (g2 := F0 m 141 ls []) rfl ?_
    refine lv_iload_n hx hb dX3_plane_141 rfl (lv_at hl 1 rfl) ?_
    refine lv_iconst (v := (-1)) hx hb dX3_plane_142 (by decide) ?_
    refine lv_icmp_ne (tgt := 153) hx hb dX3_plane_143 (by decide) (fun c20 => ?_) (fun c20 => ?_)
    · rw [if_neg c20] at h
      refine lv_aload_n hx hb dX3_plane_153 rfl (lv_at hl 0 rfl) ?_
      refine va_get (ci := 2) (v := .int y19.2.2) (C := RX3) (T := TX3) (N := 52) hx hb hts in_X3 hown hK hP 0 rfl rfl 39 (by decide) (hts _ q1697) (fun _ h9 => h9) rfl dX3_plane_154 ?_
      refine lv_if_ne (tgt := 164) hx hb dX3_plane_157 (by decide) (fun c21 => ?_) (fun c21 => ?_)
      · rw [if_neg c21] at h
        refine lv_aload_n hx hb dX3_plane_164 rfl (lv_at hl 0 rfl) ?_
        refine va_get (ci := 2) (v := .ref (ad 33)) (C := RX3) (T := TX3) (N := 52) hx hb hts in_X3 hown hK hP 0 rfl rfl 33 (by decide) (hts _ q1691) (fun _ h9 => h9) rfl dX3_plane_165 ?_
        refine lv_iload_n hx hb dX3_plane_168 rfl (lv_at hl 1 rfl) ?_
        obtain ⟨i22, h⟩ := ckI_s h
        refine va_iald (f := y19.2.1) hx hb hK hP 17 0 rfl rfl i22 dX3_plane_169 ?_
        obtain rfl := Option.some.inj h
        exact hreti rfl dX3_plane_170 rfl rfl hP hD hS
      · rw [if_pos c21] at h
        refine lv_iconst (v := (-1)) hx hb dX3_plane_160 (by decide) ?_
        refine lv_goto (tgt := 170) hx hb dX3_plane_161 (by decide) ?_
        obtain rfl := Option.some.inj h
        exact hreti rfl dX3_plane_170 rfl rfl hP hD hS
    · rw [if_pos c20] at h
      refine lv_aload_n hx hb dX3_plane_146 rfl (lv_at hl 0 rfl) ?_
      refine va_get (ci := 2) (v := .int y19.2.2) (C := RX3) (T := TX3) (N := 52) hx hb hts in_X3 hown hK hP 0 rfl rfl 39 (by decide) (hts _ q1697) (fun _ h9 => h9) rfl dX3_plane_147 ?_
      refine lv_goto (tgt := 170) hx hb dX3_plane_150 (by decide) ?_
      obtain rfl := Option.some.inj h
      exact hreti rfl dX3_plane_170 rfl rfl hP hD hS
  have S_X3_plane_24 : ∀ (v1 : Int32) (v2 : Int32) (c_places : (Nat → Int32)) (c_firstPlaces : (Nat → Int32)) (c_px : (Nat → Int32)) (c_py : (Nat → Int32)) (c_pz : (Nat → Int32)) (c_code : Int32) (c_placeMany : Int32) (c_modulus : Int32) (c_drawn : Int32), F_X3_plane_24 N c_now v1 v2 c_places c_firstPlaces c_px c_py c_pz c_code c_placeMany c_modulus c_drawn = some ρ → ∀ (H : Heap) (locs : List Loc), va_P G.2.1 vwCl (mW h0 ad G.2.2 c_code c_now c_read c_status c_tape c_taped c_at c_textSize c_token c_number c_begins c_stops c_bad c_badPlace c_faultPlace c_clauses c_naming c_lineBy c_becomes c_dualLines c_on c_rowNow c_least c_wayFirst c_ways c_acts c_past c_listPoints c_listLines c_listed c_list c_path c_places c_firstPlaces c_px c_py c_pz c_placeMany c_modulus c_drawn c_halvesMany c_halvesFirst c_spreadsMany c_spreadsFirst c_comesTo c_seedNow c_rowThen c_hasImage c_actsThen c_imageRow c_pastThen c_statusThen) H → va_D A (mW h0 ad G.2.2 c_code c_now c_read c_status c_tape c_taped c_at c_textSize c_token c_number c_begins c_stops c_bad c_badPlace c_faultPlace c_clauses c_naming c_lineBy c_becomes c_dualLines c_on c_rowNow c_least c_wayFirst c_ways c_acts c_past c_listPoints c_listLines c_listed c_list c_path c_places c_firstPlaces c_px c_py c_pz c_placeMany c_modulus c_drawn c_halvesMany c_halvesFirst c_spreadsMany c_spreadsFirst c_comesTo c_seedNow c_rowThen c_hasImage c_actsThen c_imageRow c_pastThen c_statusThen) → va_S A s.heap H locs → ∀ (ls : Array Slot), lv_has ls 7 [(0, .ref h0), (1, .int v1), (2, .int v2)] → W p l e (rmL 21 0 0) s m args below meth c H locs 0 0 Q (F0 m 24 ls []) := by
    intro v1 v2 c_places c_firstPlaces c_px c_py c_pz c_code c_placeMany c_modulus c_drawn h H locs hP hD hS ls hl
    rw [F_X3_plane_24] at h
    refine lv_iload_n hx hb dX3_plane_24 rfl (lv_at hl 1 rfl) ?_
    refine lv_iconst (v := 2) hx hb dX3_plane_25 (by decide) ?_
    refine lv_iconst (v := 3) hx hb dX3_plane_26 (by decide) ?_
    obtain ⟨y2, e2, h⟩ := ob_s h
    refine MR.callS (M_X3_isIn hG e2) S (cw_X3_isIn hts q2061 ⟨Nat.le_of_ble_eq_true rfl, Nat.le_of_ble_eq_true rfl⟩) hW0 vaP0 rfl hl.1 rfl (Nat.le_of_ble_eq_true rfl) dX3_plane_27 ⟨Nat.zero_le _, Nat.zero_le _⟩ ?_
    refine lv_if_ne (tgt := 39) hx hb dX3_plane_30 (by decide) (fun c3 => ?_) (fun c3 => ?_)
    · rw [if_neg c3] at h
      refine lv_aload_n hx hb dX3_plane_39 rfl (lv_at hl 0 rfl) ?_
      refine lv_iconst (v := 0) hx hb dX3_plane_40 (by decide) ?_
      refine va_put (ci := 2) (v := .int 0) (ty := .int) (C := RX3) (T := TX3) (N := 52) hx hb hts in_X3 tyX3 tyX3_ok nmX3 hown hK hP hD hS 0 rfl rfl 37 (by decide) (hts _ q1695) (fun _ h9 => h9) rfl (by decide +kernel) rfl rfl (Nat.le_of_ble_eq_true rfl) dX3_plane_41 (fun H locs hP hD hS => ?_)
      have hP : va_P G.2.1 vwCl (mW h0 ad G.2.2 c_code c_now c_read c_status c_tape c_taped c_at c_textSize c_token c_number c_begins c_stops c_bad c_badPlace c_faultPlace c_clauses c_naming c_lineBy c_becomes c_dualLines c_on c_rowNow c_least c_wayFirst c_ways c_acts c_past c_listPoints c_listLines c_listed c_list c_path c_places c_firstPlaces c_px c_py c_pz 0 c_modulus c_drawn c_halvesMany c_halvesFirst c_spreadsMany c_spreadsFirst c_comesTo c_seedNow c_rowThen c_hasImage c_actsThen c_imageRow c_pastThen c_statusThen) H := hP
      have hD : va_D A (mW h0 ad G.2.2 c_code c_now c_read c_status c_tape c_taped c_at c_textSize c_token c_number c_begins c_stops c_bad c_badPlace c_faultPlace c_clauses c_naming c_lineBy c_becomes c_dualLines c_on c_rowNow c_least c_wayFirst c_ways c_acts c_past c_listPoints c_listLines c_listed c_list c_path c_places c_firstPlaces c_px c_py c_pz 0 c_modulus c_drawn c_halvesMany c_halvesFirst c_spreadsMany c_spreadsFirst c_comesTo c_seedNow c_rowThen c_hasImage c_actsThen c_imageRow c_pastThen c_statusThen) := hD
      refine lv_aload_n hx hb dX3_plane_44 rfl (lv_at hl 0 rfl) ?_
      refine lv_iload_n hx hb dX3_plane_45 rfl (lv_at hl 1 rfl) ?_
      refine va_put (ci := 2) (v := .int v1) (ty := .int) (C := RX3) (T := TX3) (N := 52) hx hb hts in_X3 tyX3 tyX3_ok nmX3 hown hK hP hD hS 0 rfl rfl 38 (by decide) (hts _ q1696) (fun _ h9 => h9) rfl (by decide +kernel) rfl rfl (Nat.le_of_ble_eq_true rfl) dX3_plane_46 (fun H locs hP hD hS => ?_)
      have hP : va_P G.2.1 vwCl (mW h0 ad G.2.2 c_code c_now c_read c_status c_tape c_taped c_at c_textSize c_token c_number c_begins c_stops c_bad c_badPlace c_faultPlace c_clauses c_naming c_lineBy c_becomes c_dualLines c_on c_rowNow c_least c_wayFirst c_ways c_acts c_past c_listPoints c_listLines c_listed c_list c_path c_places c_firstPlaces c_px c_py c_pz 0 v1 c_drawn c_halvesMany c_halvesFirst c_spreadsMany c_spreadsFirst c_comesTo c_seedNow c_rowThen c_hasImage c_actsThen c_imageRow c_pastThen c_statusThen) H := hP
      have hD : va_D A (mW h0 ad G.2.2 c_code c_now c_read c_status c_tape c_taped c_at c_textSize c_token c_number c_begins c_stops c_bad c_badPlace c_faultPlace c_clauses c_naming c_lineBy c_becomes c_dualLines c_on c_rowNow c_least c_wayFirst c_ways c_acts c_past c_listPoints c_listLines c_listed c_list c_path c_places c_firstPlaces c_px c_py c_pz 0 v1 c_drawn c_halvesMany c_halvesFirst c_spreadsMany c_spreadsFirst c_comesTo c_seedNow c_rowThen c_hasImage c_actsThen c_imageRow c_pastThen c_statusThen) := hD
      refine lv_iconst (v := 1) hx hb dX3_plane_49 (by decide) ?_
      refine lv_istore_n (lv' := [(3, .int 1), (0, .ref h0), (1, .int v1), (2, .int v2)]) hx hb dX3_plane_50 rfl hl (by decide) rfl (fun ls hl => ?_)
      refine S_X3_plane_51 N v1 v2 1 c_places c_firstPlaces c_px c_py c_pz c_code 0 v1 c_drawn _ h ?_ _ _ hP hD hS _ (lv_sub hl [1, 2, 3, 0] rfl)
      · intro c_px_17 c_py_17 c_pz_17 c_placeMany_17 H locs ls h hP hD hS hl
        refine lv_aload_n hx hb dX3_plane_121 rfl (lv_at hl 0 rfl) ?_
        refine lv_iconst (v := 0) hx hb dX3_plane_122 (by decide) ?_
        refine va_put (ci := 2) (v := .int 0) (ty := .int) (C := RX3) (T := TX3) (N := 52) hx hb hts in_X3 tyX3 tyX3_ok nmX3 hown hK hP hD hS 0 rfl rfl 39 (by decide) (hts _ q1697) (fun _ h9 => h9) rfl (by decide +kernel) rfl rfl (Nat.le_of_ble_eq_true rfl) dX3_plane_123 (fun H locs hP hD hS => ?_)
        have hP : va_P G.2.1 vwCl (mW h0 ad G.2.2 c_code c_now c_read c_status c_tape c_taped c_at c_textSize c_token c_number c_begins c_stops c_bad c_badPlace c_faultPlace c_clauses c_naming c_lineBy c_becomes c_dualLines c_on c_rowNow c_least c_wayFirst c_ways c_acts c_past c_listPoints c_listLines c_listed c_list c_path c_places c_firstPlaces c_px_17 c_py_17 c_pz_17 c_placeMany_17 v1 0 c_halvesMany c_halvesFirst c_spreadsMany c_spreadsFirst c_comesTo c_seedNow c_rowThen c_hasImage c_actsThen c_imageRow c_pastThen c_statusThen) H := hP
        have hD : va_D A (mW h0 ad G.2.2 c_code c_now c_read c_status c_tape c_taped c_at c_textSize c_token c_number c_begins c_stops c_bad c_badPlace c_faultPlace c_clauses c_naming c_lineBy c_becomes c_dualLines c_on c_rowNow c_least c_wayFirst c_ways c_acts c_past c_listPoints c_listLines c_listed c_list c_path c_places c_firstPlaces c_px_17 c_py_17 c_pz_17 c_placeMany_17 v1 0 c_halvesMany c_halvesFirst c_spreadsMany c_spreadsFirst c_comesTo c_seedNow c_rowThen c_hasImage c_actsThen c_imageRow c_pastThen c_statusThen) := hD
        refine lv_aload_n hx hb dX3_plane_126 rfl (lv_at hl 0 rfl) ?_
        refine lv_iconst (v := 0) hx hb dX3_plane_127 (by decide) ?_
        refine lv_iload_n hx hb dX3_plane_128 rfl (lv_at hl 1 rfl) ?_
        refine lv_iconst (v := (-1)) hx hb dX3_plane_129 (by decide) ?_
        refine lv_icmp_eq (tgt := 137) hx hb dX3_plane_130 (by decide) (fun c18 => ?_) (fun c18 => ?_)
        · rw [if_pos c18] at h
          refine lv_iconst (v := 0) hx hb dX3_plane_137 (by decide) ?_
          refine S_X3_plane_138 0 0 v2 c_places c_firstPlaces c_px_17 c_py_17 c_pz_17 c_code c_placeMany_17 v1 0 h  _ _ hP hD hS _ (lv_sub hl [0, 1] rfl)
        · rw [if_neg c18] at h
          refine lv_iconst (v := 1) hx hb dX3_plane_133 (by decide) ?_
          refine lv_goto (tgt := 138) hx hb dX3_plane_134 (by decide) ?_
          refine S_X3_plane_138 0 1 v2 c_places c_firstPlaces c_px_17 c_py_17 c_pz_17 c_code c_placeMany_17 v1 0 h  _ _ hP hD hS _ (lv_sub hl [0, 1] rfl)
    · rw [if_pos c3] at h
      refine lv_aload_n hx hb dX3_plane_33 rfl (lv_at hl 0 rfl) ?_
      refine lv_iconst (v := 2) hx hb dX3_plane_34 (by decide) ?_
      obtain ⟨y26, e26, h⟩ := ob_s h
      refine MW.callV (q0 := 0) (M_X3_fail hG e26) S (cw_X3_fail hts q1827 ⟨Nat.le_of_ble_eq_true rfl, Nat.le_of_ble_eq_true rfl⟩) hW0 hK hP hD hS hA rfl rfl rfl hl.1 rfl (Nat.le_of_ble_eq_true rfl) dX3_plane_35 ⟨Nat.zero_le _, Nat.zero_le _⟩ (fun H locs hP hD hS => ?_)
      have hP : va_P G.2.1 vwCl (mW h0 ad G.2.2 y26.2 c_now c_read c_status c_tape c_taped c_at c_textSize c_token c_number c_begins c_stops c_bad c_badPlace c_faultPlace c_clauses c_naming c_lineBy c_becomes c_dualLines c_on c_rowNow c_least c_wayFirst c_ways c_acts c_past c_listPoints c_listLines c_listed c_list c_path c_places c_firstPlaces c_px c_py c_pz c_placeMany c_modulus c_drawn c_halvesMany c_halvesFirst c_spreadsMany c_spreadsFirst c_comesTo c_seedNow c_rowThen c_hasImage c_actsThen c_imageRow c_pastThen c_statusThen) H := hP
      have hD : va_D A (mW h0 ad G.2.2 y26.2 c_now c_read c_status c_tape c_taped c_at c_textSize c_token c_number c_begins c_stops c_bad c_badPlace c_faultPlace c_clauses c_naming c_lineBy c_becomes c_dualLines c_on c_rowNow c_least c_wayFirst c_ways c_acts c_past c_listPoints c_listLines c_listed c_list c_path c_places c_firstPlaces c_px c_py c_pz c_placeMany c_modulus c_drawn c_halvesMany c_halvesFirst c_spreadsMany c_spreadsFirst c_comesTo c_seedNow c_rowThen c_hasImage c_actsThen c_imageRow c_pastThen c_statusThen) := hD
      refine W.eq (g2 := F0 m 38 ls [.int y26.1]) rfl ?_
      obtain rfl := Option.some.inj h
      exact hreti rfl dX3_plane_38 rfl rfl hP hD hS
  refine lv_aload_n hx hb dX3_plane_0 rfl (lv_at hl 0 rfl) ?_
  refine lv_iconst (v := 0) hx hb dX3_plane_1 (by decide) ?_
  refine va_put (ci := 2) (v := .int 0) (ty := .int) (C := RX3) (T := TX3) (N := 52) hx hb hts in_X3 tyX3 tyX3_ok nmX3 hown hK hP hD hS 0 rfl rfl 0 (by decide) (hts _ q1658) (fun _ h9 => h9) rfl (by decide +kernel) rfl rfl (Nat.le_of_ble_eq_true rfl) dX3_plane_2 (fun H locs hP hD hS => ?_)
  have hP : va_P G.2.1 vwCl (mW h0 ad G.2.2 0 c_now c_read c_status c_tape c_taped c_at c_textSize c_token c_number c_begins c_stops c_bad c_badPlace c_faultPlace c_clauses c_naming c_lineBy c_becomes c_dualLines c_on c_rowNow c_least c_wayFirst c_ways c_acts c_past c_listPoints c_listLines c_listed c_list c_path c_places c_firstPlaces c_px c_py c_pz c_placeMany c_modulus c_drawn c_halvesMany c_halvesFirst c_spreadsMany c_spreadsFirst c_comesTo c_seedNow c_rowThen c_hasImage c_actsThen c_imageRow c_pastThen c_statusThen) H := hP
  have hD : va_D A (mW h0 ad G.2.2 0 c_now c_read c_status c_tape c_taped c_at c_textSize c_token c_number c_begins c_stops c_bad c_badPlace c_faultPlace c_clauses c_naming c_lineBy c_becomes c_dualLines c_on c_rowNow c_least c_wayFirst c_ways c_acts c_past c_listPoints c_listLines c_listed c_list c_path c_places c_firstPlaces c_px c_py c_pz c_placeMany c_modulus c_drawn c_halvesMany c_halvesFirst c_spreadsMany c_spreadsFirst c_comesTo c_seedNow c_rowThen c_hasImage c_actsThen c_imageRow c_pastThen c_statusThen) := hD
  refine lv_iload_n hx hb dX3_plane_5 rfl (lv_at hl 2 rfl) ?_
  refine lv_iconst (v := (-1)) hx hb dX3_plane_6 (by decide) ?_
  refine lv_icmp_eq (tgt := 24) hx hb dX3_plane_7 (by decide) (fun c1 => ?_) (fun c1 => ?_)
  · rw [if_pos c1] at h
    refine S_X3_plane_24 v1 v2 c_places c_firstPlaces c_px c_py c_pz 0 c_placeMany c_modulus c_drawn h  _ _ hP hD hS _ (lv_sub hl [0, 1, 2] rfl)
  · rw [if_neg c1] at h
    refine lv_aload_n hx hb dX3_plane_10 rfl (lv_at hl 0 rfl) ?_
    refine lv_iload_n hx hb dX3_plane_11 rfl (lv_at hl 2 rfl) ?_
    obtain ⟨y28, e28, h⟩ := ob_s h
    refine MR.callV (q0 := 0) (M_X3_isPoint hG e28) S (cw_X3_isPoint hts q2068 ⟨Nat.le_of_ble_eq_true rfl, Nat.le_of_ble_eq_true rfl⟩) hW0 hK hP rfl rfl rfl hl.1 rfl (Nat.le_of_ble_eq_true rfl) dX3_plane_12 ⟨Nat.zero_le _, Nat.zero_le _⟩ ?_
    refine lv_if_ne (tgt := 24) hx hb dX3_plane_15 (by decide) (fun c29 => ?_) (fun c29 => ?_)
    · rw [if_neg c29] at h
      refine S_X3_plane_24 v1 v2 c_places c_firstPlaces c_px c_py c_pz 0 c_placeMany c_modulus c_drawn h  _ _ hP hD hS _ (lv_sub hl [0, 1, 2] rfl)
    · rw [if_pos c29] at h
      refine lv_aload_n hx hb dX3_plane_18 rfl (lv_at hl 0 rfl) ?_
      refine lv_iconst (v := 1) hx hb dX3_plane_19 (by decide) ?_
      obtain ⟨y30, e30, h⟩ := ob_s h
      refine MW.callV (q0 := 0) (M_X3_fail hG e30) S (cw_X3_fail hts q1827 ⟨Nat.le_of_ble_eq_true rfl, Nat.le_of_ble_eq_true rfl⟩) hW0 hK hP hD hS hA rfl rfl rfl hl.1 rfl (Nat.le_of_ble_eq_true rfl) dX3_plane_20 ⟨Nat.zero_le _, Nat.zero_le _⟩ (fun H locs hP hD hS => ?_)
      have hP : va_P G.2.1 vwCl (mW h0 ad G.2.2 y30.2 c_now c_read c_status c_tape c_taped c_at c_textSize c_token c_number c_begins c_stops c_bad c_badPlace c_faultPlace c_clauses c_naming c_lineBy c_becomes c_dualLines c_on c_rowNow c_least c_wayFirst c_ways c_acts c_past c_listPoints c_listLines c_listed c_list c_path c_places c_firstPlaces c_px c_py c_pz c_placeMany c_modulus c_drawn c_halvesMany c_halvesFirst c_spreadsMany c_spreadsFirst c_comesTo c_seedNow c_rowThen c_hasImage c_actsThen c_imageRow c_pastThen c_statusThen) H := hP
      have hD : va_D A (mW h0 ad G.2.2 y30.2 c_now c_read c_status c_tape c_taped c_at c_textSize c_token c_number c_begins c_stops c_bad c_badPlace c_faultPlace c_clauses c_naming c_lineBy c_becomes c_dualLines c_on c_rowNow c_least c_wayFirst c_ways c_acts c_past c_listPoints c_listLines c_listed c_list c_path c_places c_firstPlaces c_px c_py c_pz c_placeMany c_modulus c_drawn c_halvesMany c_halvesFirst c_spreadsMany c_spreadsFirst c_comesTo c_seedNow c_rowThen c_hasImage c_actsThen c_imageRow c_pastThen c_statusThen) := hD
      refine W.eq (g2 := F0 m 23 ls [.int y30.1]) rfl ?_
      obtain rfl := Option.some.inj h
      exact hreti rfl dX3_plane_23 rfl rfl hP hD hS
def F_X3_all (N : Nat) (c_now : (Nat → Int32)) : Option (Int32) := ((F_X3_points N c_now).bind fun y1 => (some ((((1 : Int32) <<< (y1 &&& 31)) - (1 : Int32)))))
theorem cw_X3_all {R : Room} {s : State} {args : Array Value} {own : String} {index lev mc ms : Nat} (hts : ∀ w ∈ lw_all, w.before args s = true) (hl : Cond.methodLink own index yX3_all ∈ lw_all) (hR : (rmL lev mc ms).frames + 1 ≤ R.frames ∧ 8 + (1 + 11) + (rmL lev mc ms).locals ≤ R.locals) : CallW R s args own RX3 index yX3_all cX3_all 1 (some .int) (ws_ yX3_all cX3_all 1 (some .int)) (rmL lev mc ms) mc ms 0 := cwV 0 hts (lw_V hl q2248 qs141 q172 q2249) rfl rfl rfl (by decide +kernel) hR
set_option maxHeartbeats 4000000 in
theorem M_X3_all {l : Launch} {G : GE} (hG : GC G) {N : Nat} {h0 : Nat} {ad : Nat → Nat} {c_code : Int32} {c_read : (Nat → Int32)} {c_status : (Nat → Int32)} {c_tape : (Nat → Int32)} {c_taped : Int32} {c_at : Int32} {c_textSize : Int32} {c_token : Int32} {c_number : Int32} {c_begins : Int32} {c_stops : Int32} {c_bad : Int32} {c_badPlace : Int32} {c_faultPlace : Int32} {c_clauses : Int32} {c_naming : (Nat → Int32)} {c_lineBy : (Nat → Int32)} {c_becomes : (Nat → Int32)} {c_dualLines : (Nat → Int32)} {c_on : (Nat → Int32)} {c_rowNow : (Nat → Int32)} {c_least : (Nat → Int32)} {c_wayFirst : (Nat → Int32)} {c_ways : Int32} {c_acts : Int32} {c_past : (Nat → Int32)} {c_listPoints : Int32} {c_listLines : Int32} {c_listed : Int32} {c_list : (Nat → Int32)} {c_path : (Nat → Int32)} {c_places : (Nat → Int32)} {c_firstPlaces : (Nat → Int32)} {c_px : (Nat → Int32)} {c_py : (Nat → Int32)} {c_pz : (Nat → Int32)} {c_placeMany : Int32} {c_modulus : Int32} {c_drawn : Int32} {c_halvesMany : Int32} {c_halvesFirst : Int32} {c_spreadsMany : Int32} {c_spreadsFirst : Int32} {c_comesTo : (Nat → Int32)} {c_seedNow : Int32} {c_rowThen : (Nat → Int32)} {c_hasImage : Int32} {c_actsThen : Int32} {c_imageRow : (Nat → Int32)} {c_pastThen : (Nat → Int32)} {c_statusThen : (Nat → Int32)} {c_now : (Nat → Int32)} {ρ : (Int32)} (h : F_X3_all N c_now = some ρ) : MR l G yX3_all cX3_all 1 (some .int) 2 (mW h0 ad G.2.2 c_code c_now c_read c_status c_tape c_taped c_at c_textSize c_token c_number c_begins c_stops c_bad c_badPlace c_faultPlace c_clauses c_naming c_lineBy c_becomes c_dualLines c_on c_rowNow c_least c_wayFirst c_ways c_acts c_past c_listPoints c_listLines c_listed c_list c_path c_places c_firstPlaces c_px c_py c_pz c_placeMany c_modulus c_drawn c_halvesMany c_halvesFirst c_spreadsMany c_spreadsFirst c_comesTo c_seedNow c_rowThen c_hasImage c_actsThen c_imageRow c_pastThen c_statusThen) [.ref h0] ρ := by
  rw [F_X3_all] at h
  refine MR.start (rt := .int) hG (by decide) (Nat.le_of_ble_eq_true rfl) ?_
  intro p e s m args below meth c Q S hW0 hK hP hret ls hl
  obtain ⟨hx, hb, hml, hown, hts⟩ := id S
  have hl : lv_has ls 1 [(0, .ref h0)] := hl
  refine lv_iconst (v := 1) hx hb dX3_all_0 (by decide) ?_
  refine lv_aload_n hx hb dX3_all_1 rfl (lv_at hl 0 rfl) ?_
  obtain ⟨y1, e1, h⟩ := ob_s h
  refine MR.callV (q0 := 0) (M_X3_points hG e1) S (cw_X3_points hts q1913 ⟨Nat.le_of_ble_eq_true rfl, Nat.le_of_ble_eq_true rfl⟩) hW0 hK hP rfl rfl rfl hl.1 rfl (Nat.le_of_ble_eq_true rfl) dX3_all_2 ⟨Nat.zero_le _, Nat.zero_le _⟩ ?_
  refine lv_ishl hx hb dX3_all_5 ?_
  refine lv_iconst (v := 1) hx hb dX3_all_6 (by decide) ?_
  refine lv_isub hx hb dX3_all_7 ?_
  obtain rfl := Option.some.inj h
  exact hret dX3_all_8 rfl
def F_X3_hasLine_4 (N : Nat) (v1 : Int32) (c_now : (Nat → Int32)) : Nat → Int32 → Int32 → Option (Int32)
  | 0, _, _ => none
  | n + 1, v2, v3 => ((F_X3_lines N c_now).bind fun y1 => (if y1 ≤ v3 then (ckP (v2 &&& 1 = v2) ((some (v2)))) else (if v2 = 0 then ((F_X3_lineAt N v3 c_now).bind fun y6 => (if (y6 &&& (v1 ^^^ (-1 : Int32))) = 0 then (F_X3_hasLine_4 N v1 c_now n 1 (v3 + 1)) else (F_X3_hasLine_4 N v1 c_now n 0 (v3 + 1)))) else (F_X3_hasLine_4 N v1 c_now n 1 (v3 + 1)))))
def F_X3_hasLine (N : Nat) (v1 : Int32) (c_now : (Nat → Int32)) : Option (Int32) := (F_X3_hasLine_4 N v1 c_now N 0 0)
theorem cw_X3_hasLine {R : Room} {s : State} {args : Array Value} {own : String} {index lev mc ms : Nat} (hts : ∀ w ∈ lw_all, w.before args s = true) (hl : Cond.methodLink own index yX3_hasLine ∈ lw_all) (hR : (rmL lev mc ms).frames + 1 ≤ R.frames ∧ 8 + (4 + 11) + (rmL lev mc ms).locals ≤ R.locals) : CallW R s args own RX3 index yX3_hasLine cX3_hasLine 4 (some .boolean) (ws_ yX3_hasLine cX3_hasLine 4 (some .boolean)) (rmL lev mc ms) mc ms 1 := cwV 1 hts (lw_V hl q2252 qs142 q172 q2253) rfl rfl rfl (by decide +kernel) hR
set_option maxHeartbeats 4000000 in
theorem M_X3_hasLine {l : Launch} {G : GE} (hG : GC G) {N : Nat} {h0 : Nat} {ad : Nat → Nat} {c_code : Int32} {c_read : (Nat → Int32)} {c_status : (Nat → Int32)} {c_tape : (Nat → Int32)} {c_taped : Int32} {c_at : Int32} {c_textSize : Int32} {c_token : Int32} {c_number : Int32} {c_begins : Int32} {c_stops : Int32} {c_bad : Int32} {c_badPlace : Int32} {c_faultPlace : Int32} {c_clauses : Int32} {c_naming : (Nat → Int32)} {c_lineBy : (Nat → Int32)} {c_becomes : (Nat → Int32)} {c_dualLines : (Nat → Int32)} {c_on : (Nat → Int32)} {c_rowNow : (Nat → Int32)} {c_least : (Nat → Int32)} {c_wayFirst : (Nat → Int32)} {c_ways : Int32} {c_acts : Int32} {c_past : (Nat → Int32)} {c_listPoints : Int32} {c_listLines : Int32} {c_listed : Int32} {c_list : (Nat → Int32)} {c_path : (Nat → Int32)} {c_places : (Nat → Int32)} {c_firstPlaces : (Nat → Int32)} {c_px : (Nat → Int32)} {c_py : (Nat → Int32)} {c_pz : (Nat → Int32)} {c_placeMany : Int32} {c_modulus : Int32} {c_drawn : Int32} {c_halvesMany : Int32} {c_halvesFirst : Int32} {c_spreadsMany : Int32} {c_spreadsFirst : Int32} {c_comesTo : (Nat → Int32)} {c_seedNow : Int32} {c_rowThen : (Nat → Int32)} {c_hasImage : Int32} {c_actsThen : Int32} {c_imageRow : (Nat → Int32)} {c_pastThen : (Nat → Int32)} {c_statusThen : (Nat → Int32)} {v1 : Int32} {c_now : (Nat → Int32)} {ρ : (Int32)} (h : F_X3_hasLine N v1 c_now = some ρ) : MR l G yX3_hasLine cX3_hasLine 4 (some .boolean) 2 (mW h0 ad G.2.2 c_code c_now c_read c_status c_tape c_taped c_at c_textSize c_token c_number c_begins c_stops c_bad c_badPlace c_faultPlace c_clauses c_naming c_lineBy c_becomes c_dualLines c_on c_rowNow c_least c_wayFirst c_ways c_acts c_past c_listPoints c_listLines c_listed c_list c_path c_places c_firstPlaces c_px c_py c_pz c_placeMany c_modulus c_drawn c_halvesMany c_halvesFirst c_spreadsMany c_spreadsFirst c_comesTo c_seedNow c_rowThen c_hasImage c_actsThen c_imageRow c_pastThen c_statusThen) [.ref h0, .int v1] ρ := by
  rw [F_X3_hasLine] at h
  refine MR.start (rt := .boolean) hG (by decide) (Nat.le_of_ble_eq_true rfl) ?_
  intro p e s m args below meth c Q S hW0 hK hP hret ls hl
  obtain ⟨hx, hb, hml, hown, hts⟩ := id S
  have hl : lv_has ls 4 [(0, .ref h0), (1, .int v1)] := hl
  have S_X3_hasLine_4 : ∀ (n : Nat) (v1 : Int32) (v2 : Int32) (v3 : Int32), F_X3_hasLine_4 N v1 c_now n v2 v3 = some ρ → ∀ (ls : Array Slot), lv_has ls 4 [(0, .ref h0), (1, .int v1), (2, .int v2), (3, .int v3)] → W p l e (rmL 2 0 0) s m args below meth c s.heap [] 0 0 Q (F0 m 4 ls []) := by
    intro n
    induction n with
    | zero =>
      intro v1 v2 v3 h
      exact absurd h (by simp [F_X3_hasLine_4])
    | succ n ih =>
      intro v1 v2 v3 h ls hl
      rw [F_X3_hasLine_4] at h
      refine lv_iload_n hx hb dX3_hasLine_4 rfl (lv_at hl 3 rfl) ?_
      refine lv_aload_n hx hb dX3_hasLine_5 rfl (lv_at hl 0 rfl) ?_
      obtain ⟨y1, e1, h⟩ := ob_s h
      refine MR.callV (q0 := 0) (M_X3_lines hG e1) S (cw_X3_lines hts q1917 ⟨Nat.le_of_ble_eq_true rfl, Nat.le_of_ble_eq_true rfl⟩) hW0 hK hP rfl rfl rfl hl.1 rfl (Nat.le_of_ble_eq_true rfl) dX3_hasLine_6 ⟨Nat.zero_le _, Nat.zero_le _⟩ ?_
      refine lv_icmp_ge (tgt := 40) hx hb dX3_hasLine_9 (by decide) (fun c2 => ?_) (fun c2 => ?_)
      · rw [if_pos c2] at h
        refine lv_iload_n hx hb dX3_hasLine_40 rfl (lv_at hl 2 rfl) ?_
        obtain ⟨i4, h⟩ := ckP_s h
        obtain rfl := Option.some.inj h
        exact hret dX3_hasLine_41 (nz_of i4)
      · rw [if_neg c2] at h
        refine lv_iload_n hx hb dX3_hasLine_12 rfl (lv_at hl 2 rfl) ?_
        refine lv_if_ne (tgt := 28) hx hb dX3_hasLine_13 (by decide) (fun c5 => ?_) (fun c5 => ?_)
        · rw [if_neg c5] at h
          refine lv_iconst (v := 1) hx hb dX3_hasLine_28 (by decide) ?_
          refine lv_goto (tgt := 33) hx hb dX3_hasLine_29 (by decide) ?_
          refine lv_istore_n (lv' := [(2, .int 1), (0, .ref h0), (1, .int v1), (3, .int v3)]) hx hb dX3_hasLine_33 rfl hl (by decide) rfl (fun ls hl => ?_)
          refine lv_iinc (v := (v3 + 1)) (lv' := [(3, .int (v3 + 1)), (2, .int 1), (0, .ref h0), (1, .int v1)]) hx hb dX3_hasLine_34 hl (k := 3) rfl rfl (by decide) rfl (fun ls hl => ?_)
          refine lv_goto (tgt := 4) hx hb dX3_hasLine_37 (by decide) ?_
          exact ih v1 1 (v3 + 1) h _ (lv_sub hl [2, 3, 1, 0] rfl)
        · rw [if_pos c5] at h
          refine lv_aload_n hx hb dX3_hasLine_16 rfl (lv_at hl 0 rfl) ?_
          refine lv_iload_n hx hb dX3_hasLine_17 rfl (lv_at hl 3 rfl) ?_
          obtain ⟨y6, e6, h⟩ := ob_s h
          refine MR.callV (q0 := 0) (M_X3_lineAt hG e6) S (cw_X3_lineAt hts q1925 ⟨Nat.le_of_ble_eq_true rfl, Nat.le_of_ble_eq_true rfl⟩) hW0 hK hP rfl rfl rfl hl.1 rfl (Nat.le_of_ble_eq_true rfl) dX3_hasLine_18 ⟨Nat.zero_le _, Nat.zero_le _⟩ ?_
          refine lv_iload_n hx hb dX3_hasLine_21 rfl (lv_at hl 1 rfl) ?_
          refine lv_iconst (v := (-1)) hx hb dX3_hasLine_22 (by decide) ?_
          refine lv_ixor hx hb dX3_hasLine_23 ?_
          refine lv_iand hx hb dX3_hasLine_24 ?_
          refine lv_if_ne (tgt := 32) hx hb dX3_hasLine_25 (by decide) (fun c7 => ?_) (fun c7 => ?_)
          · rw [if_neg c7] at h
            refine lv_iconst (v := 0) hx hb dX3_hasLine_32 (by decide) ?_
            refine lv_istore_n (lv' := [(2, .int 0), (0, .ref h0), (1, .int v1), (3, .int v3)]) hx hb dX3_hasLine_33 rfl hl (by decide) rfl (fun ls hl => ?_)
            refine lv_iinc (v := (v3 + 1)) (lv' := [(3, .int (v3 + 1)), (2, .int 0), (0, .ref h0), (1, .int v1)]) hx hb dX3_hasLine_34 hl (k := 3) rfl rfl (by decide) rfl (fun ls hl => ?_)
            refine lv_goto (tgt := 4) hx hb dX3_hasLine_37 (by decide) ?_
            exact ih v1 0 (v3 + 1) h _ (lv_sub hl [2, 3, 1, 0] rfl)
          · rw [if_pos c7] at h
            refine lv_iconst (v := 1) hx hb dX3_hasLine_28 (by decide) ?_
            refine lv_goto (tgt := 33) hx hb dX3_hasLine_29 (by decide) ?_
            refine lv_istore_n (lv' := [(2, .int 1), (0, .ref h0), (1, .int v1), (3, .int v3)]) hx hb dX3_hasLine_33 rfl hl (by decide) rfl (fun ls hl => ?_)
            refine lv_iinc (v := (v3 + 1)) (lv' := [(3, .int (v3 + 1)), (2, .int 1), (0, .ref h0), (1, .int v1)]) hx hb dX3_hasLine_34 hl (k := 3) rfl rfl (by decide) rfl (fun ls hl => ?_)
            refine lv_goto (tgt := 4) hx hb dX3_hasLine_37 (by decide) ?_
            exact ih v1 1 (v3 + 1) h _ (lv_sub hl [2, 3, 1, 0] rfl)
  refine lv_iconst (v := 0) hx hb dX3_hasLine_0 (by decide) ?_
  refine lv_istore_n (lv' := [(2, .int 0), (0, .ref h0), (1, .int v1)]) hx hb dX3_hasLine_1 rfl hl (by decide) rfl (fun ls hl => ?_)
  refine lv_iconst (v := 0) hx hb dX3_hasLine_2 (by decide) ?_
  refine lv_istore_n (lv' := [(3, .int 0), (2, .int 0), (0, .ref h0), (1, .int v1)]) hx hb dX3_hasLine_3 rfl hl (by decide) rfl (fun ls hl => ?_)
  refine S_X3_hasLine_4 N v1 0 0 h  _ (lv_sub hl [2, 3, 1, 0] rfl)
def F_X3_cover_7 (N : Nat) (c_now : (Nat → Int32)) : Nat → Int32 → Int32 → Option (Int32)
  | 0, _, _ => none
  | n + 1, v1, v2 => ((F_X3_all N c_now).bind fun y2 => (if y2 < v2 then (some (v1)) else ((F_X3_bits N v2).bind fun y5 => ((F_X3_bits N v1).bind fun y6 => (if y6 ≤ y5 then (F_X3_cover_7 N c_now n v1 (v2 + 1)) else ((F_X3_all N c_now).bind fun y8 => ((F_X3_hasLine N (y8 &&& (v2 ^^^ (-1 : Int32))) c_now).bind fun y9 => (if y9 = 0 then (F_X3_cover_7 N c_now n v2 (v2 + 1)) else (F_X3_cover_7 N c_now n v1 (v2 + 1))))))))))
def F_X3_cover (N : Nat) (c_now : (Nat → Int32)) : Option (Int32) := ((F_X3_all N c_now).bind fun y1 => (F_X3_cover_7 N c_now N y1 0))
theorem cw_X3_cover {R : Room} {s : State} {args : Array Value} {own : String} {index lev mc ms : Nat} (hts : ∀ w ∈ lw_all, w.before args s = true) (hl : Cond.methodLink own index yX3_cover ∈ lw_all) (hR : (rmL lev mc ms).frames + 1 ≤ R.frames ∧ 8 + (3 + 11) + (rmL lev mc ms).locals ≤ R.locals) : CallW R s args own RX3 index yX3_cover cX3_cover 3 (some .int) (ws_ yX3_cover cX3_cover 3 (some .int)) (rmL lev mc ms) mc ms 0 := cwV 0 hts (lw_V hl q2244 qs140 q172 q2245) rfl rfl rfl (by decide +kernel) hR
set_option maxHeartbeats 4000000 in
theorem M_X3_cover {l : Launch} {G : GE} (hG : GC G) {N : Nat} {h0 : Nat} {ad : Nat → Nat} {c_code : Int32} {c_read : (Nat → Int32)} {c_status : (Nat → Int32)} {c_tape : (Nat → Int32)} {c_taped : Int32} {c_at : Int32} {c_textSize : Int32} {c_token : Int32} {c_number : Int32} {c_begins : Int32} {c_stops : Int32} {c_bad : Int32} {c_badPlace : Int32} {c_faultPlace : Int32} {c_clauses : Int32} {c_naming : (Nat → Int32)} {c_lineBy : (Nat → Int32)} {c_becomes : (Nat → Int32)} {c_dualLines : (Nat → Int32)} {c_on : (Nat → Int32)} {c_rowNow : (Nat → Int32)} {c_least : (Nat → Int32)} {c_wayFirst : (Nat → Int32)} {c_ways : Int32} {c_acts : Int32} {c_past : (Nat → Int32)} {c_listPoints : Int32} {c_listLines : Int32} {c_listed : Int32} {c_list : (Nat → Int32)} {c_path : (Nat → Int32)} {c_places : (Nat → Int32)} {c_firstPlaces : (Nat → Int32)} {c_px : (Nat → Int32)} {c_py : (Nat → Int32)} {c_pz : (Nat → Int32)} {c_placeMany : Int32} {c_modulus : Int32} {c_drawn : Int32} {c_halvesMany : Int32} {c_halvesFirst : Int32} {c_spreadsMany : Int32} {c_spreadsFirst : Int32} {c_comesTo : (Nat → Int32)} {c_seedNow : Int32} {c_rowThen : (Nat → Int32)} {c_hasImage : Int32} {c_actsThen : Int32} {c_imageRow : (Nat → Int32)} {c_pastThen : (Nat → Int32)} {c_statusThen : (Nat → Int32)} {c_now : (Nat → Int32)} {ρ : (Int32)} (h : F_X3_cover N c_now = some ρ) : MR l G yX3_cover cX3_cover 3 (some .int) 3 (mW h0 ad G.2.2 c_code c_now c_read c_status c_tape c_taped c_at c_textSize c_token c_number c_begins c_stops c_bad c_badPlace c_faultPlace c_clauses c_naming c_lineBy c_becomes c_dualLines c_on c_rowNow c_least c_wayFirst c_ways c_acts c_past c_listPoints c_listLines c_listed c_list c_path c_places c_firstPlaces c_px c_py c_pz c_placeMany c_modulus c_drawn c_halvesMany c_halvesFirst c_spreadsMany c_spreadsFirst c_comesTo c_seedNow c_rowThen c_hasImage c_actsThen c_imageRow c_pastThen c_statusThen) [.ref h0] ρ := by
  rw [F_X3_cover] at h
  refine MR.start (rt := .int) hG (by decide) (Nat.le_of_ble_eq_true rfl) ?_
  intro p e s m args below meth c Q S hW0 hK hP hret ls hl
  obtain ⟨hx, hb, hml, hown, hts⟩ := id S
  have hl : lv_has ls 3 [(0, .ref h0)] := hl
  have S_X3_cover_7 : ∀ (n : Nat) (v1 : Int32) (v2 : Int32), F_X3_cover_7 N c_now n v1 v2 = some ρ → ∀ (ls : Array Slot), lv_has ls 3 [(0, .ref h0), (1, .int v1), (2, .int v2)] → W p l e (rmL 3 0 0) s m args below meth c s.heap [] 0 0 Q (F0 m 7 ls []) := by
    intro n
    induction n with
    | zero =>
      intro v1 v2 h
      exact absurd h (by simp [F_X3_cover_7])
    | succ n ih =>
      intro v1 v2 h ls hl
      rw [F_X3_cover_7] at h
      refine lv_iload_n hx hb dX3_cover_7 rfl (lv_at hl 2 rfl) ?_
      refine lv_aload_n hx hb dX3_cover_8 rfl (lv_at hl 0 rfl) ?_
      obtain ⟨y2, e2, h⟩ := ob_s h
      refine MR.callV (q0 := 0) (M_X3_all hG e2) S (cw_X3_all hts q2246 ⟨Nat.le_of_ble_eq_true rfl, Nat.le_of_ble_eq_true rfl⟩) hW0 hK hP rfl rfl rfl hl.1 rfl (Nat.le_of_ble_eq_true rfl) dX3_cover_9 ⟨Nat.zero_le _, Nat.zero_le _⟩ ?_
      refine lv_icmp_gt (tgt := 49) hx hb dX3_cover_12 (by decide) (fun c3 => ?_) (fun c3 => ?_)
      · rw [if_pos c3] at h
        refine lv_iload_n hx hb dX3_cover_49 rfl (lv_at hl 1 rfl) ?_
        obtain rfl := Option.some.inj h
        exact hret dX3_cover_50 rfl
      · rw [if_neg c3] at h
        refine lv_iload_n hx hb dX3_cover_15 rfl (lv_at hl 2 rfl) ?_
        obtain ⟨y5, e5, h⟩ := ob_s h
        refine MR.callS (M_X3_bits hG e5) S (cw_X3_bits hts q1896 ⟨Nat.le_of_ble_eq_true rfl, Nat.le_of_ble_eq_true rfl⟩) hW0 vaP0 rfl hl.1 rfl (Nat.le_of_ble_eq_true rfl) dX3_cover_16 ⟨Nat.zero_le _, Nat.zero_le _⟩ ?_
        refine lv_iload_n hx hb dX3_cover_19 rfl (lv_at hl 1 rfl) ?_
        obtain ⟨y6, e6, h⟩ := ob_s h
        refine MR.callS (M_X3_bits hG e6) S (cw_X3_bits hts q1896 ⟨Nat.le_of_ble_eq_true rfl, Nat.le_of_ble_eq_true rfl⟩) hW0 vaP0 rfl hl.1 rfl (Nat.le_of_ble_eq_true rfl) dX3_cover_20 ⟨Nat.zero_le _, Nat.zero_le _⟩ ?_
        refine lv_icmp_ge (tgt := 43) hx hb dX3_cover_23 (by decide) (fun c7 => ?_) (fun c7 => ?_)
        · rw [if_pos c7] at h
          refine lv_iinc (v := (v2 + 1)) (lv' := [(2, .int (v2 + 1)), (0, .ref h0), (1, .int v1)]) hx hb dX3_cover_43 hl (k := 2) rfl rfl (by decide) rfl (fun ls hl => ?_)
          refine lv_goto (tgt := 7) hx hb dX3_cover_46 (by decide) ?_
          exact ih v1 (v2 + 1) h _ (lv_sub hl [1, 2, 0] rfl)
        · rw [if_neg c7] at h
          refine lv_aload_n hx hb dX3_cover_26 rfl (lv_at hl 0 rfl) ?_
          refine lv_aload_n hx hb dX3_cover_27 rfl (lv_at hl 0 rfl) ?_
          obtain ⟨y8, e8, h⟩ := ob_s h
          refine MR.callV (q0 := 0) (M_X3_all hG e8) S (cw_X3_all hts q2246 ⟨Nat.le_of_ble_eq_true rfl, Nat.le_of_ble_eq_true rfl⟩) hW0 hK hP rfl rfl rfl hl.1 rfl (Nat.le_of_ble_eq_true rfl) dX3_cover_28 ⟨Nat.zero_le _, Nat.zero_le _⟩ ?_
          refine lv_iload_n hx hb dX3_cover_31 rfl (lv_at hl 2 rfl) ?_
          refine lv_iconst (v := (-1)) hx hb dX3_cover_32 (by decide) ?_
          refine lv_ixor hx hb dX3_cover_33 ?_
          refine lv_iand hx hb dX3_cover_34 ?_
          obtain ⟨y9, e9, h⟩ := ob_s h
          refine MR.callV (q0 := 0) (M_X3_hasLine hG e9) S (cw_X3_hasLine hts q2250 ⟨Nat.le_of_ble_eq_true rfl, Nat.le_of_ble_eq_true rfl⟩) hW0 hK hP rfl rfl rfl hl.1 rfl (Nat.le_of_ble_eq_true rfl) dX3_cover_35 ⟨Nat.zero_le _, Nat.zero_le _⟩ ?_
          refine lv_if_ne (tgt := 43) hx hb dX3_cover_38 (by decide) (fun c10 => ?_) (fun c10 => ?_)
          · rw [if_neg c10] at h
            refine lv_iinc (v := (v2 + 1)) (lv' := [(2, .int (v2 + 1)), (0, .ref h0), (1, .int v1)]) hx hb dX3_cover_43 hl (k := 2) rfl rfl (by decide) rfl (fun ls hl => ?_)
            refine lv_goto (tgt := 7) hx hb dX3_cover_46 (by decide) ?_
            exact ih v1 (v2 + 1) h _ (lv_sub hl [1, 2, 0] rfl)
          · rw [if_pos c10] at h
            refine lv_iload_n hx hb dX3_cover_41 rfl (lv_at hl 2 rfl) ?_
            refine lv_istore_n (lv' := [(1, .int v2), (0, .ref h0), (2, .int v2)]) hx hb dX3_cover_42 rfl hl (by decide) rfl (fun ls hl => ?_)
            refine lv_iinc (v := (v2 + 1)) (lv' := [(2, .int (v2 + 1)), (1, .int v2), (0, .ref h0)]) hx hb dX3_cover_43 hl (k := 2) rfl rfl (by decide) rfl (fun ls hl => ?_)
            refine lv_goto (tgt := 7) hx hb dX3_cover_46 (by decide) ?_
            exact ih v2 (v2 + 1) h _ (lv_sub hl [2, 1, 0] rfl)
  refine lv_aload_n hx hb dX3_cover_0 rfl (lv_at hl 0 rfl) ?_
  obtain ⟨y1, e1, h⟩ := ob_s h
  refine MR.callV (q0 := 0) (M_X3_all hG e1) S (cw_X3_all hts q2246 ⟨Nat.le_of_ble_eq_true rfl, Nat.le_of_ble_eq_true rfl⟩) hW0 hK hP rfl rfl rfl hl.1 rfl (Nat.le_of_ble_eq_true rfl) dX3_cover_1 ⟨Nat.zero_le _, Nat.zero_le _⟩ ?_
  refine lv_istore_n (lv' := [(1, .int y1), (0, .ref h0)]) hx hb dX3_cover_4 rfl hl (by decide) rfl (fun ls hl => ?_)
  refine lv_iconst (v := 0) hx hb dX3_cover_5 (by decide) ?_
  refine lv_istore_n (lv' := [(2, .int 0), (1, .int y1), (0, .ref h0)]) hx hb dX3_cover_6 rfl hl (by decide) rfl (fun ls hl => ?_)
  refine S_X3_cover_7 N y1 0 h  _ (lv_sub hl [2, 1, 0] rfl)
def F_X3_cap_4 (N : Nat) (c_now : (Nat → Int32)) : Nat → Int32 → Int32 → Option (Int32)
  | 0, _, _ => none
  | n + 1, v1, v2 => ((F_X3_all N c_now).bind fun y1 => (if y1 < v2 then (some (v1)) else ((F_X3_bits N v2).bind fun y4 => ((F_X3_bits N v1).bind fun y5 => (if y4 ≤ y5 then (F_X3_cap_4 N c_now n v1 (v2 + 1)) else ((F_X3_hasLine N v2 c_now).bind fun y7 => (if y7 = 0 then (F_X3_cap_4 N c_now n v2 (v2 + 1)) else (F_X3_cap_4 N c_now n v1 (v2 + 1)))))))))
def F_X3_cap (N : Nat) (c_now : (Nat → Int32)) : Option (Int32) := (F_X3_cap_4 N c_now N 0 1)
theorem cw_X3_cap {R : Room} {s : State} {args : Array Value} {own : String} {index lev mc ms : Nat} (hts : ∀ w ∈ lw_all, w.before args s = true) (hl : Cond.methodLink own index yX3_cap ∈ lw_all) (hR : (rmL lev mc ms).frames + 1 ≤ R.frames ∧ 8 + (3 + 11) + (rmL lev mc ms).locals ≤ R.locals) : CallW R s args own RX3 index yX3_cap cX3_cap 3 (some .int) (ws_ yX3_cap cX3_cap 3 (some .int)) (rmL lev mc ms) mc ms 0 := cwV 0 hts (lw_V hl q2256 qs143 q172 q2257) rfl rfl rfl (by decide +kernel) hR
set_option maxHeartbeats 4000000 in
theorem M_X3_cap {l : Launch} {G : GE} (hG : GC G) {N : Nat} {h0 : Nat} {ad : Nat → Nat} {c_code : Int32} {c_read : (Nat → Int32)} {c_status : (Nat → Int32)} {c_tape : (Nat → Int32)} {c_taped : Int32} {c_at : Int32} {c_textSize : Int32} {c_token : Int32} {c_number : Int32} {c_begins : Int32} {c_stops : Int32} {c_bad : Int32} {c_badPlace : Int32} {c_faultPlace : Int32} {c_clauses : Int32} {c_naming : (Nat → Int32)} {c_lineBy : (Nat → Int32)} {c_becomes : (Nat → Int32)} {c_dualLines : (Nat → Int32)} {c_on : (Nat → Int32)} {c_rowNow : (Nat → Int32)} {c_least : (Nat → Int32)} {c_wayFirst : (Nat → Int32)} {c_ways : Int32} {c_acts : Int32} {c_past : (Nat → Int32)} {c_listPoints : Int32} {c_listLines : Int32} {c_listed : Int32} {c_list : (Nat → Int32)} {c_path : (Nat → Int32)} {c_places : (Nat → Int32)} {c_firstPlaces : (Nat → Int32)} {c_px : (Nat → Int32)} {c_py : (Nat → Int32)} {c_pz : (Nat → Int32)} {c_placeMany : Int32} {c_modulus : Int32} {c_drawn : Int32} {c_halvesMany : Int32} {c_halvesFirst : Int32} {c_spreadsMany : Int32} {c_spreadsFirst : Int32} {c_comesTo : (Nat → Int32)} {c_seedNow : Int32} {c_rowThen : (Nat → Int32)} {c_hasImage : Int32} {c_actsThen : Int32} {c_imageRow : (Nat → Int32)} {c_pastThen : (Nat → Int32)} {c_statusThen : (Nat → Int32)} {c_now : (Nat → Int32)} {ρ : (Int32)} (h : F_X3_cap N c_now = some ρ) : MR l G yX3_cap cX3_cap 3 (some .int) 3 (mW h0 ad G.2.2 c_code c_now c_read c_status c_tape c_taped c_at c_textSize c_token c_number c_begins c_stops c_bad c_badPlace c_faultPlace c_clauses c_naming c_lineBy c_becomes c_dualLines c_on c_rowNow c_least c_wayFirst c_ways c_acts c_past c_listPoints c_listLines c_listed c_list c_path c_places c_firstPlaces c_px c_py c_pz c_placeMany c_modulus c_drawn c_halvesMany c_halvesFirst c_spreadsMany c_spreadsFirst c_comesTo c_seedNow c_rowThen c_hasImage c_actsThen c_imageRow c_pastThen c_statusThen) [.ref h0] ρ := by
  rw [F_X3_cap] at h
  refine MR.start (rt := .int) hG (by decide) (Nat.le_of_ble_eq_true rfl) ?_
  intro p e s m args below meth c Q S hW0 hK hP hret ls hl
  obtain ⟨hx, hb, hml, hown, hts⟩ := id S
  have hl : lv_has ls 3 [(0, .ref h0)] := hl
  have S_X3_cap_4 : ∀ (n : Nat) (v1 : Int32) (v2 : Int32), F_X3_cap_4 N c_now n v1 v2 = some ρ → ∀ (ls : Array Slot), lv_has ls 3 [(0, .ref h0), (1, .int v1), (2, .int v2)] → W p l e (rmL 3 0 0) s m args below meth c s.heap [] 0 0 Q (F0 m 4 ls []) := by
    intro n
    induction n with
    | zero =>
      intro v1 v2 h
      exact absurd h (by simp [F_X3_cap_4])
    | succ n ih =>
      intro v1 v2 h ls hl
      rw [F_X3_cap_4] at h
      refine lv_iload_n hx hb dX3_cap_4 rfl (lv_at hl 2 rfl) ?_
      refine lv_aload_n hx hb dX3_cap_5 rfl (lv_at hl 0 rfl) ?_
      obtain ⟨y1, e1, h⟩ := ob_s h
      refine MR.callV (q0 := 0) (M_X3_all hG e1) S (cw_X3_all hts q2246 ⟨Nat.le_of_ble_eq_true rfl, Nat.le_of_ble_eq_true rfl⟩) hW0 hK hP rfl rfl rfl hl.1 rfl (Nat.le_of_ble_eq_true rfl) dX3_cap_6 ⟨Nat.zero_le _, Nat.zero_le _⟩ ?_
      refine lv_icmp_gt (tgt := 39) hx hb dX3_cap_9 (by decide) (fun c2 => ?_) (fun c2 => ?_)
      · rw [if_pos c2] at h
        refine lv_iload_n hx hb dX3_cap_39 rfl (lv_at hl 1 rfl) ?_
        obtain rfl := Option.some.inj h
        exact hret dX3_cap_40 rfl
      · rw [if_neg c2] at h
        refine lv_iload_n hx hb dX3_cap_12 rfl (lv_at hl 2 rfl) ?_
        obtain ⟨y4, e4, h⟩ := ob_s h
        refine MR.callS (M_X3_bits hG e4) S (cw_X3_bits hts q1896 ⟨Nat.le_of_ble_eq_true rfl, Nat.le_of_ble_eq_true rfl⟩) hW0 vaP0 rfl hl.1 rfl (Nat.le_of_ble_eq_true rfl) dX3_cap_13 ⟨Nat.zero_le _, Nat.zero_le _⟩ ?_
        refine lv_iload_n hx hb dX3_cap_16 rfl (lv_at hl 1 rfl) ?_
        obtain ⟨y5, e5, h⟩ := ob_s h
        refine MR.callS (M_X3_bits hG e5) S (cw_X3_bits hts q1896 ⟨Nat.le_of_ble_eq_true rfl, Nat.le_of_ble_eq_true rfl⟩) hW0 vaP0 rfl hl.1 rfl (Nat.le_of_ble_eq_true rfl) dX3_cap_17 ⟨Nat.zero_le _, Nat.zero_le _⟩ ?_
        refine lv_icmp_le (tgt := 33) hx hb dX3_cap_20 (by decide) (fun c6 => ?_) (fun c6 => ?_)
        · rw [if_pos c6] at h
          refine lv_iinc (v := (v2 + 1)) (lv' := [(2, .int (v2 + 1)), (0, .ref h0), (1, .int v1)]) hx hb dX3_cap_33 hl (k := 2) rfl rfl (by decide) rfl (fun ls hl => ?_)
          refine lv_goto (tgt := 4) hx hb dX3_cap_36 (by decide) ?_
          exact ih v1 (v2 + 1) h _ (lv_sub hl [1, 2, 0] rfl)
        · rw [if_neg c6] at h
          refine lv_aload_n hx hb dX3_cap_23 rfl (lv_at hl 0 rfl) ?_
          refine lv_iload_n hx hb dX3_cap_24 rfl (lv_at hl 2 rfl) ?_
          obtain ⟨y7, e7, h⟩ := ob_s h
          refine MR.callV (q0 := 0) (M_X3_hasLine hG e7) S (cw_X3_hasLine hts q2250 ⟨Nat.le_of_ble_eq_true rfl, Nat.le_of_ble_eq_true rfl⟩) hW0 hK hP rfl rfl rfl hl.1 rfl (Nat.le_of_ble_eq_true rfl) dX3_cap_25 ⟨Nat.zero_le _, Nat.zero_le _⟩ ?_
          refine lv_if_ne (tgt := 33) hx hb dX3_cap_28 (by decide) (fun c8 => ?_) (fun c8 => ?_)
          · rw [if_neg c8] at h
            refine lv_iinc (v := (v2 + 1)) (lv' := [(2, .int (v2 + 1)), (0, .ref h0), (1, .int v1)]) hx hb dX3_cap_33 hl (k := 2) rfl rfl (by decide) rfl (fun ls hl => ?_)
            refine lv_goto (tgt := 4) hx hb dX3_cap_36 (by decide) ?_
            exact ih v1 (v2 + 1) h _ (lv_sub hl [1, 2, 0] rfl)
          · rw [if_pos c8] at h
            refine lv_iload_n hx hb dX3_cap_31 rfl (lv_at hl 2 rfl) ?_
            refine lv_istore_n (lv' := [(1, .int v2), (0, .ref h0), (2, .int v2)]) hx hb dX3_cap_32 rfl hl (by decide) rfl (fun ls hl => ?_)
            refine lv_iinc (v := (v2 + 1)) (lv' := [(2, .int (v2 + 1)), (1, .int v2), (0, .ref h0)]) hx hb dX3_cap_33 hl (k := 2) rfl rfl (by decide) rfl (fun ls hl => ?_)
            refine lv_goto (tgt := 4) hx hb dX3_cap_36 (by decide) ?_
            exact ih v2 (v2 + 1) h _ (lv_sub hl [2, 1, 0] rfl)
  refine lv_iconst (v := 0) hx hb dX3_cap_0 (by decide) ?_
  refine lv_istore_n (lv' := [(1, .int 0), (0, .ref h0)]) hx hb dX3_cap_1 rfl hl (by decide) rfl (fun ls hl => ?_)
  refine lv_iconst (v := 1) hx hb dX3_cap_2 (by decide) ?_
  refine lv_istore_n (lv' := [(2, .int 1), (1, .int 0), (0, .ref h0)]) hx hb dX3_cap_3 rfl hl (by decide) rfl (fun ls hl => ?_)
  refine S_X3_cap_4 N 0 1 h  _ (lv_sub hl [2, 1, 0] rfl)
def F_X3_tellHalves_12 (N : Nat) (c_now : (Nat → Int32)) : Nat → Int32 → Int32 → Int32 → Option (Int32 × Int32)
  | 0, _, _, _ => none
  | n + 1, v1, c_halvesMany, c_halvesFirst => ((F_X3_all N c_now).bind fun y1 => (if y1 < v1 then (some (c_halvesMany, c_halvesFirst)) else ((F_X3_hasLine N v1 c_now).bind fun y4 => (if y4 = 0 then ((F_X3_all N c_now).bind fun y6 => ((F_X3_hasLine N (y6 &&& (v1 ^^^ (-1 : Int32))) c_now).bind fun y7 => (if y7 = 0 then (if c_halvesFirst = (-1) then (F_X3_tellHalves_12 N c_now n (v1 + 2) (c_halvesMany + (1 : Int32)) v1) else (F_X3_tellHalves_12 N c_now n (v1 + 2) (c_halvesMany + (1 : Int32)) c_halvesFirst)) else (F_X3_tellHalves_12 N c_now n (v1 + 2) c_halvesMany c_halvesFirst)))) else (F_X3_tellHalves_12 N c_now n (v1 + 2) c_halvesMany c_halvesFirst)))))
def F_X3_tellHalves (N : Nat) (c_now : (Nat → Int32)) (c_halvesMany : Int32) (c_halvesFirst : Int32) : Option (Int32 × Int32) := (F_X3_tellHalves_12 N c_now N 1 0 (-1))
theorem cw_X3_tellHalves {R : Room} {s : State} {args : Array Value} {own : String} {index lev mc ms : Nat} (hts : ∀ w ∈ lw_all, w.before args s = true) (hl : Cond.methodLink own index yX3_tellHalves ∈ lw_all) (hR : (rmL lev mc ms).frames + 1 ≤ R.frames ∧ 8 + (2 + 11) + (rmL lev mc ms).locals ≤ R.locals) : CallW R s args own RX3 index yX3_tellHalves cX3_tellHalves 2 none (ws_ yX3_tellHalves cX3_tellHalves 2 none) (rmL lev mc ms) mc ms 0 := cwV 0 hts (lw_V hl q2260 qs144 q172 q2261) rfl rfl rfl (by decide +kernel) hR
set_option maxHeartbeats 4000000 in
theorem M_X3_tellHalves {l : Launch} {G : GE} (hG : GC G) {N : Nat} {h0 : Nat} {ad : Nat → Nat} {c_code : Int32} {c_read : (Nat → Int32)} {c_status : (Nat → Int32)} {c_tape : (Nat → Int32)} {c_taped : Int32} {c_at : Int32} {c_textSize : Int32} {c_token : Int32} {c_number : Int32} {c_begins : Int32} {c_stops : Int32} {c_bad : Int32} {c_badPlace : Int32} {c_faultPlace : Int32} {c_clauses : Int32} {c_naming : (Nat → Int32)} {c_lineBy : (Nat → Int32)} {c_becomes : (Nat → Int32)} {c_dualLines : (Nat → Int32)} {c_on : (Nat → Int32)} {c_rowNow : (Nat → Int32)} {c_least : (Nat → Int32)} {c_wayFirst : (Nat → Int32)} {c_ways : Int32} {c_acts : Int32} {c_past : (Nat → Int32)} {c_listPoints : Int32} {c_listLines : Int32} {c_listed : Int32} {c_list : (Nat → Int32)} {c_path : (Nat → Int32)} {c_places : (Nat → Int32)} {c_firstPlaces : (Nat → Int32)} {c_px : (Nat → Int32)} {c_py : (Nat → Int32)} {c_pz : (Nat → Int32)} {c_placeMany : Int32} {c_modulus : Int32} {c_drawn : Int32} {c_spreadsMany : Int32} {c_spreadsFirst : Int32} {c_comesTo : (Nat → Int32)} {c_seedNow : Int32} {c_rowThen : (Nat → Int32)} {c_hasImage : Int32} {c_actsThen : Int32} {c_imageRow : (Nat → Int32)} {c_pastThen : (Nat → Int32)} {c_statusThen : (Nat → Int32)} {c_now : (Nat → Int32)} {c_halvesMany : Int32} {c_halvesFirst : Int32} {ρ : (Int32 × Int32)} (h : F_X3_tellHalves N c_now c_halvesMany c_halvesFirst = some ρ) : MW l G yX3_tellHalves cX3_tellHalves 2 none 3 (mW h0 ad G.2.2 c_code c_now c_read c_status c_tape c_taped c_at c_textSize c_token c_number c_begins c_stops c_bad c_badPlace c_faultPlace c_clauses c_naming c_lineBy c_becomes c_dualLines c_on c_rowNow c_least c_wayFirst c_ways c_acts c_past c_listPoints c_listLines c_listed c_list c_path c_places c_firstPlaces c_px c_py c_pz c_placeMany c_modulus c_drawn c_halvesMany c_halvesFirst c_spreadsMany c_spreadsFirst c_comesTo c_seedNow c_rowThen c_hasImage c_actsThen c_imageRow c_pastThen c_statusThen) [.ref h0] none (mW h0 ad G.2.2 c_code c_now c_read c_status c_tape c_taped c_at c_textSize c_token c_number c_begins c_stops c_bad c_badPlace c_faultPlace c_clauses c_naming c_lineBy c_becomes c_dualLines c_on c_rowNow c_least c_wayFirst c_ways c_acts c_past c_listPoints c_listLines c_listed c_list c_path c_places c_firstPlaces c_px c_py c_pz c_placeMany c_modulus c_drawn ρ.1 ρ.2 c_spreadsMany c_spreadsFirst c_comesTo c_seedNow c_rowThen c_hasImage c_actsThen c_imageRow c_pastThen c_statusThen) := by
  rw [F_X3_tellHalves] at h
  refine MW.start hG (by decide) (Nat.le_of_ble_eq_true rfl) ?_
  intro p e s m args below meth c Q A S hW0 hK hP hD hA hreti hretv ls hl
  have hS : va_S A s.heap s.heap [] := va_S.rf
  obtain ⟨hx, hb, hml, hown, hts⟩ := id S
  have hl : lv_has ls 2 [(0, .ref h0)] := hl
  have S_X3_tellHalves_12 : ∀ (n : Nat) (v1 : Int32) (c_halvesMany : Int32) (c_halvesFirst : Int32), F_X3_tellHalves_12 N c_now n v1 c_halvesMany c_halvesFirst = some ρ → ∀ (H : Heap) (locs : List Loc), va_P G.2.1 vwCl (mW h0 ad G.2.2 c_code c_now c_read c_status c_tape c_taped c_at c_textSize c_token c_number c_begins c_stops c_bad c_badPlace c_faultPlace c_clauses c_naming c_lineBy c_becomes c_dualLines c_on c_rowNow c_least c_wayFirst c_ways c_acts c_past c_listPoints c_listLines c_listed c_list c_path c_places c_firstPlaces c_px c_py c_pz c_placeMany c_modulus c_drawn c_halvesMany c_halvesFirst c_spreadsMany c_spreadsFirst c_comesTo c_seedNow c_rowThen c_hasImage c_actsThen c_imageRow c_pastThen c_statusThen) H → va_D A (mW h0 ad G.2.2 c_code c_now c_read c_status c_tape c_taped c_at c_textSize c_token c_number c_begins c_stops c_bad c_badPlace c_faultPlace c_clauses c_naming c_lineBy c_becomes c_dualLines c_on c_rowNow c_least c_wayFirst c_ways c_acts c_past c_listPoints c_listLines c_listed c_list c_path c_places c_firstPlaces c_px c_py c_pz c_placeMany c_modulus c_drawn c_halvesMany c_halvesFirst c_spreadsMany c_spreadsFirst c_comesTo c_seedNow c_rowThen c_hasImage c_actsThen c_imageRow c_pastThen c_statusThen) → va_S A s.heap H locs → ∀ (ls : Array Slot), lv_has ls 2 [(0, .ref h0), (1, .int v1)] → W p l e (rmL 3 0 0) s m args below meth c H locs 0 0 Q (F0 m 12 ls []) := by
    intro n
    induction n with
    | zero =>
      intro v1 c_halvesMany c_halvesFirst h
      exact absurd h (by simp [F_X3_tellHalves_12])
    | succ n ih =>
      intro v1 c_halvesMany c_halvesFirst h H locs hP hD hS ls hl
      rw [F_X3_tellHalves_12] at h
      refine lv_iload_n hx hb dX3_tellHalves_12 rfl (lv_at hl 1 rfl) ?_
      refine lv_aload_n hx hb dX3_tellHalves_13 rfl (lv_at hl 0 rfl) ?_
      obtain ⟨y1, e1, h⟩ := ob_s h
      refine MR.callV (q0 := 0) (M_X3_all hG e1) S (cw_X3_all hts q2246 ⟨Nat.le_of_ble_eq_true rfl, Nat.le_of_ble_eq_true rfl⟩) hW0 hK hP rfl rfl rfl hl.1 rfl (Nat.le_of_ble_eq_true rfl) dX3_tellHalves_14 ⟨Nat.zero_le _, Nat.zero_le _⟩ ?_
      refine lv_icmp_gt (tgt := 82) hx hb dX3_tellHalves_17 (by decide) (fun c2 => ?_) (fun c2 => ?_)
      · rw [if_pos c2] at h
        obtain rfl := Option.some.inj h
        exact hretv rfl dX3_tellHalves_82 rfl hP hD hS
      · rw [if_neg c2] at h
        refine lv_aload_n hx hb dX3_tellHalves_20 rfl (lv_at hl 0 rfl) ?_
        refine lv_iload_n hx hb dX3_tellHalves_21 rfl (lv_at hl 1 rfl) ?_
        obtain ⟨y4, e4, h⟩ := ob_s h
        refine MR.callV (q0 := 0) (M_X3_hasLine hG e4) S (cw_X3_hasLine hts q2250 ⟨Nat.le_of_ble_eq_true rfl, Nat.le_of_ble_eq_true rfl⟩) hW0 hK hP rfl rfl rfl hl.1 rfl (Nat.le_of_ble_eq_true rfl) dX3_tellHalves_22 ⟨Nat.zero_le _, Nat.zero_le _⟩ ?_
        refine lv_if_ne (tgt := 76) hx hb dX3_tellHalves_25 (by decide) (fun c5 => ?_) (fun c5 => ?_)
        · rw [if_neg c5] at h
          refine lv_iinc (v := (v1 + 2)) (lv' := [(1, .int (v1 + 2)), (0, .ref h0)]) hx hb dX3_tellHalves_76 hl (k := 1) rfl rfl (by decide) rfl (fun ls hl => ?_)
          refine lv_goto (tgt := 12) hx hb dX3_tellHalves_79 (by decide) ?_
          exact ih (v1 + 2) c_halvesMany c_halvesFirst h _ _ hP hD hS _ (lv_sub hl [1, 0] rfl)
        · rw [if_pos c5] at h
          refine lv_aload_n hx hb dX3_tellHalves_28 rfl (lv_at hl 0 rfl) ?_
          refine lv_aload_n hx hb dX3_tellHalves_29 rfl (lv_at hl 0 rfl) ?_
          obtain ⟨y6, e6, h⟩ := ob_s h
          refine MR.callV (q0 := 0) (M_X3_all hG e6) S (cw_X3_all hts q2246 ⟨Nat.le_of_ble_eq_true rfl, Nat.le_of_ble_eq_true rfl⟩) hW0 hK hP rfl rfl rfl hl.1 rfl (Nat.le_of_ble_eq_true rfl) dX3_tellHalves_30 ⟨Nat.zero_le _, Nat.zero_le _⟩ ?_
          refine lv_iload_n hx hb dX3_tellHalves_33 rfl (lv_at hl 1 rfl) ?_
          refine lv_iconst (v := (-1)) hx hb dX3_tellHalves_34 (by decide) ?_
          refine lv_ixor hx hb dX3_tellHalves_35 ?_
          refine lv_iand hx hb dX3_tellHalves_36 ?_
          obtain ⟨y7, e7, h⟩ := ob_s h
          refine MR.callV (q0 := 0) (M_X3_hasLine hG e7) S (cw_X3_hasLine hts q2250 ⟨Nat.le_of_ble_eq_true rfl, Nat.le_of_ble_eq_true rfl⟩) hW0 hK hP rfl rfl rfl hl.1 rfl (Nat.le_of_ble_eq_true rfl) dX3_tellHalves_37 ⟨Nat.zero_le _, Nat.zero_le _⟩ ?_
          refine lv_if_eq (tgt := 46) hx hb dX3_tellHalves_40 (by decide) (fun c8 => ?_) (fun c8 => ?_)
          · rw [if_pos c8] at h
            refine lv_aload_n hx hb dX3_tellHalves_46 rfl (lv_at hl 0 rfl) ?_
            refine lv_dup hx hb dX3_tellHalves_47 rfl ?_
            refine va_get (ci := 2) (v := .int c_halvesMany) (C := RX3) (T := TX3) (N := 52) hx hb hts in_X3 hown hK hP 0 rfl rfl 40 (by decide) (hts _ q1698) (fun _ h9 => h9) rfl dX3_tellHalves_48 ?_
            refine lv_iconst (v := 1) hx hb dX3_tellHalves_51 (by decide) ?_
            refine lv_iadd hx hb dX3_tellHalves_52 ?_
            refine va_put (ci := 2) (v := .int (c_halvesMany + (1 : Int32))) (ty := .int) (C := RX3) (T := TX3) (N := 52) hx hb hts in_X3 tyX3 tyX3_ok nmX3 hown hK hP hD hS 0 rfl rfl 40 (by decide) (hts _ q1698) (fun _ h9 => h9) rfl (by decide +kernel) rfl rfl (Nat.le_of_ble_eq_true rfl) dX3_tellHalves_53 (fun H locs hP hD hS => ?_)
            have hP : va_P G.2.1 vwCl (mW h0 ad G.2.2 c_code c_now c_read c_status c_tape c_taped c_at c_textSize c_token c_number c_begins c_stops c_bad c_badPlace c_faultPlace c_clauses c_naming c_lineBy c_becomes c_dualLines c_on c_rowNow c_least c_wayFirst c_ways c_acts c_past c_listPoints c_listLines c_listed c_list c_path c_places c_firstPlaces c_px c_py c_pz c_placeMany c_modulus c_drawn (c_halvesMany + (1 : Int32)) c_halvesFirst c_spreadsMany c_spreadsFirst c_comesTo c_seedNow c_rowThen c_hasImage c_actsThen c_imageRow c_pastThen c_statusThen) H := hP
            have hD : va_D A (mW h0 ad G.2.2 c_code c_now c_read c_status c_tape c_taped c_at c_textSize c_token c_number c_begins c_stops c_bad c_badPlace c_faultPlace c_clauses c_naming c_lineBy c_becomes c_dualLines c_on c_rowNow c_least c_wayFirst c_ways c_acts c_past c_listPoints c_listLines c_listed c_list c_path c_places c_firstPlaces c_px c_py c_pz c_placeMany c_modulus c_drawn (c_halvesMany + (1 : Int32)) c_halvesFirst c_spreadsMany c_spreadsFirst c_comesTo c_seedNow c_rowThen c_hasImage c_actsThen c_imageRow c_pastThen c_statusThen) := hD
            refine lv_aload_n hx hb dX3_tellHalves_56 rfl (lv_at hl 0 rfl) ?_
            refine lv_aload_n hx hb dX3_tellHalves_57 rfl (lv_at hl 0 rfl) ?_
            refine va_get (ci := 2) (v := .int c_halvesFirst) (C := RX3) (T := TX3) (N := 52) hx hb hts in_X3 hown hK hP 0 rfl rfl 41 (by decide) (hts _ q1699) (fun _ h9 => h9) rfl dX3_tellHalves_58 ?_
            refine lv_iconst (v := (-1)) hx hb dX3_tellHalves_61 (by decide) ?_
            refine lv_icmp_ne (tgt := 69) hx hb dX3_tellHalves_62 (by decide) (fun c9 => ?_) (fun c9 => ?_)
            · rw [if_neg c9] at h
              refine lv_aload_n hx hb dX3_tellHalves_69 rfl (lv_at hl 0 rfl) ?_
              refine va_get (ci := 2) (v := .int c_halvesFirst) (C := RX3) (T := TX3) (N := 52) hx hb hts in_X3 hown hK hP 0 rfl rfl 41 (by decide) (hts _ q1699) (fun _ h9 => h9) rfl dX3_tellHalves_70 ?_
              refine va_put (ci := 2) (v := .int c_halvesFirst) (ty := .int) (C := RX3) (T := TX3) (N := 52) hx hb hts in_X3 tyX3 tyX3_ok nmX3 hown hK hP hD hS 0 rfl rfl 41 (by decide) (hts _ q1699) (fun _ h9 => h9) rfl (by decide +kernel) rfl rfl (Nat.le_of_ble_eq_true rfl) dX3_tellHalves_73 (fun H locs hP hD hS => ?_)
              have hP : va_P G.2.1 vwCl (mW h0 ad G.2.2 c_code c_now c_read c_status c_tape c_taped c_at c_textSize c_token c_number c_begins c_stops c_bad c_badPlace c_faultPlace c_clauses c_naming c_lineBy c_becomes c_dualLines c_on c_rowNow c_least c_wayFirst c_ways c_acts c_past c_listPoints c_listLines c_listed c_list c_path c_places c_firstPlaces c_px c_py c_pz c_placeMany c_modulus c_drawn (c_halvesMany + (1 : Int32)) c_halvesFirst c_spreadsMany c_spreadsFirst c_comesTo c_seedNow c_rowThen c_hasImage c_actsThen c_imageRow c_pastThen c_statusThen) H := hP
              have hD : va_D A (mW h0 ad G.2.2 c_code c_now c_read c_status c_tape c_taped c_at c_textSize c_token c_number c_begins c_stops c_bad c_badPlace c_faultPlace c_clauses c_naming c_lineBy c_becomes c_dualLines c_on c_rowNow c_least c_wayFirst c_ways c_acts c_past c_listPoints c_listLines c_listed c_list c_path c_places c_firstPlaces c_px c_py c_pz c_placeMany c_modulus c_drawn (c_halvesMany + (1 : Int32)) c_halvesFirst c_spreadsMany c_spreadsFirst c_comesTo c_seedNow c_rowThen c_hasImage c_actsThen c_imageRow c_pastThen c_statusThen) := hD
              refine lv_iinc (v := (v1 + 2)) (lv' := [(1, .int (v1 + 2)), (0, .ref h0)]) hx hb dX3_tellHalves_76 hl (k := 1) rfl rfl (by decide) rfl (fun ls hl => ?_)
              refine lv_goto (tgt := 12) hx hb dX3_tellHalves_79 (by decide) ?_
              exact ih (v1 + 2) (c_halvesMany + (1 : Int32)) c_halvesFirst h _ _ hP hD hS _ (lv_sub hl [1, 0] rfl)
            · rw [if_pos c9] at h
              refine lv_iload_n hx hb dX3_tellHalves_65 rfl (lv_at hl 1 rfl) ?_
              refine lv_goto (tgt := 73) hx hb dX3_tellHalves_66 (by decide) ?_
              refine va_put (ci := 2) (v := .int v1) (ty := .int) (C := RX3) (T := TX3) (N := 52) hx hb hts in_X3 tyX3 tyX3_ok nmX3 hown hK hP hD hS 0 rfl rfl 41 (by decide) (hts _ q1699) (fun _ h9 => h9) rfl (by decide +kernel) rfl rfl (Nat.le_of_ble_eq_true rfl) dX3_tellHalves_73 (fun H locs hP hD hS => ?_)
              have hP : va_P G.2.1 vwCl (mW h0 ad G.2.2 c_code c_now c_read c_status c_tape c_taped c_at c_textSize c_token c_number c_begins c_stops c_bad c_badPlace c_faultPlace c_clauses c_naming c_lineBy c_becomes c_dualLines c_on c_rowNow c_least c_wayFirst c_ways c_acts c_past c_listPoints c_listLines c_listed c_list c_path c_places c_firstPlaces c_px c_py c_pz c_placeMany c_modulus c_drawn (c_halvesMany + (1 : Int32)) v1 c_spreadsMany c_spreadsFirst c_comesTo c_seedNow c_rowThen c_hasImage c_actsThen c_imageRow c_pastThen c_statusThen) H := hP
              have hD : va_D A (mW h0 ad G.2.2 c_code c_now c_read c_status c_tape c_taped c_at c_textSize c_token c_number c_begins c_stops c_bad c_badPlace c_faultPlace c_clauses c_naming c_lineBy c_becomes c_dualLines c_on c_rowNow c_least c_wayFirst c_ways c_acts c_past c_listPoints c_listLines c_listed c_list c_path c_places c_firstPlaces c_px c_py c_pz c_placeMany c_modulus c_drawn (c_halvesMany + (1 : Int32)) v1 c_spreadsMany c_spreadsFirst c_comesTo c_seedNow c_rowThen c_hasImage c_actsThen c_imageRow c_pastThen c_statusThen) := hD
              refine lv_iinc (v := (v1 + 2)) (lv' := [(1, .int (v1 + 2)), (0, .ref h0)]) hx hb dX3_tellHalves_76 hl (k := 1) rfl rfl (by decide) rfl (fun ls hl => ?_)
              refine lv_goto (tgt := 12) hx hb dX3_tellHalves_79 (by decide) ?_
              exact ih (v1 + 2) (c_halvesMany + (1 : Int32)) v1 h _ _ hP hD hS _ (lv_sub hl [1, 0] rfl)
          · rw [if_neg c8] at h
            refine lv_goto (tgt := 76) hx hb dX3_tellHalves_43 (by decide) ?_
            refine lv_iinc (v := (v1 + 2)) (lv' := [(1, .int (v1 + 2)), (0, .ref h0)]) hx hb dX3_tellHalves_76 hl (k := 1) rfl rfl (by decide) rfl (fun ls hl => ?_)
            refine lv_goto (tgt := 12) hx hb dX3_tellHalves_79 (by decide) ?_
            exact ih (v1 + 2) c_halvesMany c_halvesFirst h _ _ hP hD hS _ (lv_sub hl [1, 0] rfl)
  refine lv_aload_n hx hb dX3_tellHalves_0 rfl (lv_at hl 0 rfl) ?_
  refine lv_iconst (v := 0) hx hb dX3_tellHalves_1 (by decide) ?_
  refine va_put (ci := 2) (v := .int 0) (ty := .int) (C := RX3) (T := TX3) (N := 52) hx hb hts in_X3 tyX3 tyX3_ok nmX3 hown hK hP hD hS 0 rfl rfl 40 (by decide) (hts _ q1698) (fun _ h9 => h9) rfl (by decide +kernel) rfl rfl (Nat.le_of_ble_eq_true rfl) dX3_tellHalves_2 (fun H locs hP hD hS => ?_)
  have hP : va_P G.2.1 vwCl (mW h0 ad G.2.2 c_code c_now c_read c_status c_tape c_taped c_at c_textSize c_token c_number c_begins c_stops c_bad c_badPlace c_faultPlace c_clauses c_naming c_lineBy c_becomes c_dualLines c_on c_rowNow c_least c_wayFirst c_ways c_acts c_past c_listPoints c_listLines c_listed c_list c_path c_places c_firstPlaces c_px c_py c_pz c_placeMany c_modulus c_drawn 0 c_halvesFirst c_spreadsMany c_spreadsFirst c_comesTo c_seedNow c_rowThen c_hasImage c_actsThen c_imageRow c_pastThen c_statusThen) H := hP
  have hD : va_D A (mW h0 ad G.2.2 c_code c_now c_read c_status c_tape c_taped c_at c_textSize c_token c_number c_begins c_stops c_bad c_badPlace c_faultPlace c_clauses c_naming c_lineBy c_becomes c_dualLines c_on c_rowNow c_least c_wayFirst c_ways c_acts c_past c_listPoints c_listLines c_listed c_list c_path c_places c_firstPlaces c_px c_py c_pz c_placeMany c_modulus c_drawn 0 c_halvesFirst c_spreadsMany c_spreadsFirst c_comesTo c_seedNow c_rowThen c_hasImage c_actsThen c_imageRow c_pastThen c_statusThen) := hD
  refine lv_aload_n hx hb dX3_tellHalves_5 rfl (lv_at hl 0 rfl) ?_
  refine lv_iconst (v := (-1)) hx hb dX3_tellHalves_6 (by decide) ?_
  refine va_put (ci := 2) (v := .int (-1)) (ty := .int) (C := RX3) (T := TX3) (N := 52) hx hb hts in_X3 tyX3 tyX3_ok nmX3 hown hK hP hD hS 0 rfl rfl 41 (by decide) (hts _ q1699) (fun _ h9 => h9) rfl (by decide +kernel) rfl rfl (Nat.le_of_ble_eq_true rfl) dX3_tellHalves_7 (fun H locs hP hD hS => ?_)
  have hP : va_P G.2.1 vwCl (mW h0 ad G.2.2 c_code c_now c_read c_status c_tape c_taped c_at c_textSize c_token c_number c_begins c_stops c_bad c_badPlace c_faultPlace c_clauses c_naming c_lineBy c_becomes c_dualLines c_on c_rowNow c_least c_wayFirst c_ways c_acts c_past c_listPoints c_listLines c_listed c_list c_path c_places c_firstPlaces c_px c_py c_pz c_placeMany c_modulus c_drawn 0 (-1) c_spreadsMany c_spreadsFirst c_comesTo c_seedNow c_rowThen c_hasImage c_actsThen c_imageRow c_pastThen c_statusThen) H := hP
  have hD : va_D A (mW h0 ad G.2.2 c_code c_now c_read c_status c_tape c_taped c_at c_textSize c_token c_number c_begins c_stops c_bad c_badPlace c_faultPlace c_clauses c_naming c_lineBy c_becomes c_dualLines c_on c_rowNow c_least c_wayFirst c_ways c_acts c_past c_listPoints c_listLines c_listed c_list c_path c_places c_firstPlaces c_px c_py c_pz c_placeMany c_modulus c_drawn 0 (-1) c_spreadsMany c_spreadsFirst c_comesTo c_seedNow c_rowThen c_hasImage c_actsThen c_imageRow c_pastThen c_statusThen) := hD
  refine lv_iconst (v := 1) hx hb dX3_tellHalves_10 (by decide) ?_
  refine lv_istore_n (lv' := [(1, .int 1), (0, .ref h0)]) hx hb dX3_tellHalves_11 rfl hl (by decide) rfl (fun ls hl => ?_)
  refine S_X3_tellHalves_12 N 1 0 (-1) h  _ _ hP hD hS _ (lv_sub hl [1, 0] rfl)
def F_X3_tellSpreads_29 (N : Nat) (v1 : Int32) (c_now : (Nat → Int32)) : Nat → Int32 → Int32 → Int32 → (Int32 → Int32 → Option (Int32 × Int32)) → Option (Int32 × Int32)
  | 0, _, _, _, _ => none
  | n + 1, v2, v3, v4, k77 => ((F_X3_lines N c_now).bind fun y4 => (if y4 ≤ v4 then (k77 v2 v3) else (if ((v1 >>> (v4 &&& 31)) &&& (1 : Int32)) = 0 then (F_X3_tellSpreads_29 N v1 c_now n v2 v3 (v4 + 1) k77) else ((F_X3_lineAt N v4 c_now).bind fun y7 => ((F_X3_lineAt N v4 c_now).bind fun y8 => ((F_X3_bits N y8).bind fun y9 => (F_X3_tellSpreads_29 N v1 c_now n (v2 ||| y7) (v3 + y9) (v4 + 1) k77)))))))
def F_X3_tellSpreads_12 (N : Nat) (c_now : (Nat → Int32)) : Nat → Int32 → Int32 → Int32 → Option (Int32 × Int32)
  | 0, _, _, _ => none
  | n + 1, v1, c_spreadsMany, c_spreadsFirst => ((F_X3_lines N c_now).bind fun y1 => (if ((1 : Int32) <<< (y1 &&& 31)) ≤ v1 then (some (c_spreadsMany, c_spreadsFirst)) else (F_X3_tellSpreads_29 N v1 c_now N 0 0 0 (fun u2_10 u3_10 => ((F_X3_all N c_now).bind fun y11 => (if u2_10 = y11 then ((F_X3_points N c_now).bind fun y13 => (if u3_10 = y13 then (if c_spreadsFirst = (-1) then (F_X3_tellSpreads_12 N c_now n (v1 + 1) (c_spreadsMany + (1 : Int32)) v1) else (F_X3_tellSpreads_12 N c_now n (v1 + 1) (c_spreadsMany + (1 : Int32)) c_spreadsFirst)) else (F_X3_tellSpreads_12 N c_now n (v1 + 1) c_spreadsMany c_spreadsFirst))) else (F_X3_tellSpreads_12 N c_now n (v1 + 1) c_spreadsMany c_spreadsFirst)))))))
def F_X3_tellSpreads (N : Nat) (c_now : (Nat → Int32)) (c_spreadsMany : Int32) (c_spreadsFirst : Int32) : Option (Int32 × Int32) := (F_X3_tellSpreads_12 N c_now N 0 0 (-1))
theorem cw_X3_tellSpreads {R : Room} {s : State} {args : Array Value} {own : String} {index lev mc ms : Nat} (hts : ∀ w ∈ lw_all, w.before args s = true) (hl : Cond.methodLink own index yX3_tellSpreads ∈ lw_all) (hR : (rmL lev mc ms).frames + 1 ≤ R.frames ∧ 8 + (5 + 11) + (rmL lev mc ms).locals ≤ R.locals) : CallW R s args own RX3 index yX3_tellSpreads cX3_tellSpreads 5 none (ws_ yX3_tellSpreads cX3_tellSpreads 5 none) (rmL lev mc ms) mc ms 0 := cwV 0 hts (lw_V hl q2264 qs145 q172 q2265) rfl rfl rfl (by decide +kernel) hR
set_option maxHeartbeats 4000000 in
theorem M_X3_tellSpreads {l : Launch} {G : GE} (hG : GC G) {N : Nat} {h0 : Nat} {ad : Nat → Nat} {c_code : Int32} {c_read : (Nat → Int32)} {c_status : (Nat → Int32)} {c_tape : (Nat → Int32)} {c_taped : Int32} {c_at : Int32} {c_textSize : Int32} {c_token : Int32} {c_number : Int32} {c_begins : Int32} {c_stops : Int32} {c_bad : Int32} {c_badPlace : Int32} {c_faultPlace : Int32} {c_clauses : Int32} {c_naming : (Nat → Int32)} {c_lineBy : (Nat → Int32)} {c_becomes : (Nat → Int32)} {c_dualLines : (Nat → Int32)} {c_on : (Nat → Int32)} {c_rowNow : (Nat → Int32)} {c_least : (Nat → Int32)} {c_wayFirst : (Nat → Int32)} {c_ways : Int32} {c_acts : Int32} {c_past : (Nat → Int32)} {c_listPoints : Int32} {c_listLines : Int32} {c_listed : Int32} {c_list : (Nat → Int32)} {c_path : (Nat → Int32)} {c_places : (Nat → Int32)} {c_firstPlaces : (Nat → Int32)} {c_px : (Nat → Int32)} {c_py : (Nat → Int32)} {c_pz : (Nat → Int32)} {c_placeMany : Int32} {c_modulus : Int32} {c_drawn : Int32} {c_halvesMany : Int32} {c_halvesFirst : Int32} {c_comesTo : (Nat → Int32)} {c_seedNow : Int32} {c_rowThen : (Nat → Int32)} {c_hasImage : Int32} {c_actsThen : Int32} {c_imageRow : (Nat → Int32)} {c_pastThen : (Nat → Int32)} {c_statusThen : (Nat → Int32)} {c_now : (Nat → Int32)} {c_spreadsMany : Int32} {c_spreadsFirst : Int32} {ρ : (Int32 × Int32)} (h : F_X3_tellSpreads N c_now c_spreadsMany c_spreadsFirst = some ρ) : MW l G yX3_tellSpreads cX3_tellSpreads 5 none 3 (mW h0 ad G.2.2 c_code c_now c_read c_status c_tape c_taped c_at c_textSize c_token c_number c_begins c_stops c_bad c_badPlace c_faultPlace c_clauses c_naming c_lineBy c_becomes c_dualLines c_on c_rowNow c_least c_wayFirst c_ways c_acts c_past c_listPoints c_listLines c_listed c_list c_path c_places c_firstPlaces c_px c_py c_pz c_placeMany c_modulus c_drawn c_halvesMany c_halvesFirst c_spreadsMany c_spreadsFirst c_comesTo c_seedNow c_rowThen c_hasImage c_actsThen c_imageRow c_pastThen c_statusThen) [.ref h0] none (mW h0 ad G.2.2 c_code c_now c_read c_status c_tape c_taped c_at c_textSize c_token c_number c_begins c_stops c_bad c_badPlace c_faultPlace c_clauses c_naming c_lineBy c_becomes c_dualLines c_on c_rowNow c_least c_wayFirst c_ways c_acts c_past c_listPoints c_listLines c_listed c_list c_path c_places c_firstPlaces c_px c_py c_pz c_placeMany c_modulus c_drawn c_halvesMany c_halvesFirst ρ.1 ρ.2 c_comesTo c_seedNow c_rowThen c_hasImage c_actsThen c_imageRow c_pastThen c_statusThen) := by
  rw [F_X3_tellSpreads] at h
  refine MW.start hG (by decide) (Nat.le_of_ble_eq_true rfl) ?_
  intro p e s m args below meth c Q A S hW0 hK hP hD hA hreti hretv ls hl
  have hS : va_S A s.heap s.heap [] := va_S.rf
  obtain ⟨hx, hb, hml, hown, hts⟩ := id S
  have hl : lv_has ls 5 [(0, .ref h0)] := hl
  have S_X3_tellSpreads_29 : ∀ (n : Nat) (v1 : Int32) (v2 : Int32) (v3 : Int32) (v4 : Int32) (c_spreadsMany : Int32) (c_spreadsFirst : Int32) (k77 : Int32 → Int32 → Option (Int32 × Int32)), F_X3_tellSpreads_29 N v1 c_now n v2 v3 v4 k77 = some ρ → (∀ (u2 : Int32) (u3 : Int32) (H : Heap) (locs : List Loc) (ls : Array Slot), k77 u2 u3 = some ρ → va_P G.2.1 vwCl (mW h0 ad G.2.2 c_code c_now c_read c_status c_tape c_taped c_at c_textSize c_token c_number c_begins c_stops c_bad c_badPlace c_faultPlace c_clauses c_naming c_lineBy c_becomes c_dualLines c_on c_rowNow c_least c_wayFirst c_ways c_acts c_past c_listPoints c_listLines c_listed c_list c_path c_places c_firstPlaces c_px c_py c_pz c_placeMany c_modulus c_drawn c_halvesMany c_halvesFirst c_spreadsMany c_spreadsFirst c_comesTo c_seedNow c_rowThen c_hasImage c_actsThen c_imageRow c_pastThen c_statusThen) H → va_D A (mW h0 ad G.2.2 c_code c_now c_read c_status c_tape c_taped c_at c_textSize c_token c_number c_begins c_stops c_bad c_badPlace c_faultPlace c_clauses c_naming c_lineBy c_becomes c_dualLines c_on c_rowNow c_least c_wayFirst c_ways c_acts c_past c_listPoints c_listLines c_listed c_list c_path c_places c_firstPlaces c_px c_py c_pz c_placeMany c_modulus c_drawn c_halvesMany c_halvesFirst c_spreadsMany c_spreadsFirst c_comesTo c_seedNow c_rowThen c_hasImage c_actsThen c_imageRow c_pastThen c_statusThen) → va_S A s.heap H locs → lv_has ls 5 [(0, .ref h0), (1, .int v1), (2, .int u2), (3, .int u3)] → W p l e (rmL 3 0 0) s m args below meth c H locs 0 0 Q (F0 m 77 ls [])) → ∀ (H : Heap) (locs : List Loc), va_P G.2.1 vwCl (mW h0 ad G.2.2 c_code c_now c_read c_status c_tape c_taped c_at c_textSize c_token c_number c_begins c_stops c_bad c_badPlace c_faultPlace c_clauses c_naming c_lineBy c_becomes c_dualLines c_on c_rowNow c_least c_wayFirst c_ways c_acts c_past c_listPoints c_listLines c_listed c_list c_path c_places c_firstPlaces c_px c_py c_pz c_placeMany c_modulus c_drawn c_halvesMany c_halvesFirst c_spreadsMany c_spreadsFirst c_comesTo c_seedNow c_rowThen c_hasImage c_actsThen c_imageRow c_pastThen c_statusThen) H → va_D A (mW h0 ad G.2.2 c_code c_now c_read c_status c_tape c_taped c_at c_textSize c_token c_number c_begins c_stops c_bad c_badPlace c_faultPlace c_clauses c_naming c_lineBy c_becomes c_dualLines c_on c_rowNow c_least c_wayFirst c_ways c_acts c_past c_listPoints c_listLines c_listed c_list c_path c_places c_firstPlaces c_px c_py c_pz c_placeMany c_modulus c_drawn c_halvesMany c_halvesFirst c_spreadsMany c_spreadsFirst c_comesTo c_seedNow c_rowThen c_hasImage c_actsThen c_imageRow c_pastThen c_statusThen) → va_S A s.heap H locs → ∀ (ls : Array Slot), lv_has ls 5 [(0, .ref h0), (1, .int v1), (2, .int v2), (3, .int v3), (4, .int v4)] → W p l e (rmL 3 0 0) s m args below meth c H locs 0 0 Q (F0 m 29 ls []) := by
    intro n
    induction n with
    | zero =>
      intro v1 v2 v3 v4 c_spreadsMany c_spreadsFirst k77 h
      exact absurd h (by simp [F_X3_tellSpreads_29])
    | succ n ih =>
      intro v1 v2 v3 v4 c_spreadsMany c_spreadsFirst k77 h hk77 H locs hP hD hS ls hl
      rw [F_X3_tellSpreads_29] at h
      refine lv_iload hx hb dX3_tellSpreads_29 (lv_at hl 4 rfl) ?_
      refine lv_aload_n hx hb dX3_tellSpreads_31 rfl (lv_at hl 0 rfl) ?_
      obtain ⟨y4, e4, h⟩ := ob_s h
      refine MR.callV (q0 := 0) (M_X3_lines hG e4) S (cw_X3_lines hts q1917 ⟨Nat.le_of_ble_eq_true rfl, Nat.le_of_ble_eq_true rfl⟩) hW0 hK hP rfl rfl rfl hl.1 rfl (Nat.le_of_ble_eq_true rfl) dX3_tellSpreads_32 ⟨Nat.zero_le _, Nat.zero_le _⟩ ?_
      refine lv_icmp_ge (tgt := 77) hx hb dX3_tellSpreads_35 (by decide) (fun c5 => ?_) (fun c5 => ?_)
      · rw [if_pos c5] at h
        exact hk77 v2 v3 _ _ _ h hP hD hS (lv_sub hl [0, 1, 2, 3] rfl)
      · rw [if_neg c5] at h
        refine lv_iload_n hx hb dX3_tellSpreads_38 rfl (lv_at hl 1 rfl) ?_
        refine lv_iload hx hb dX3_tellSpreads_39 (lv_at hl 4 rfl) ?_
        refine lv_ishr hx hb dX3_tellSpreads_41 ?_
        refine lv_iconst (v := 1) hx hb dX3_tellSpreads_42 (by decide) ?_
        refine lv_iand hx hb dX3_tellSpreads_43 ?_
        refine lv_if_ne (tgt := 50) hx hb dX3_tellSpreads_44 (by decide) (fun c6 => ?_) (fun c6 => ?_)
        · rw [if_neg c6] at h
          refine lv_iload_n hx hb dX3_tellSpreads_50 rfl (lv_at hl 2 rfl) ?_
          refine lv_aload_n hx hb dX3_tellSpreads_51 rfl (lv_at hl 0 rfl) ?_
          refine lv_iload hx hb dX3_tellSpreads_52 (lv_at hl 4 rfl) ?_
          obtain ⟨y7, e7, h⟩ := ob_s h
          refine MR.callV (q0 := 0) (M_X3_lineAt hG e7) S (cw_X3_lineAt hts q1925 ⟨Nat.le_of_ble_eq_true rfl, Nat.le_of_ble_eq_true rfl⟩) hW0 hK hP rfl rfl rfl hl.1 rfl (Nat.le_of_ble_eq_true rfl) dX3_tellSpreads_54 ⟨Nat.zero_le _, Nat.zero_le _⟩ ?_
          refine lv_ior hx hb dX3_tellSpreads_57 ?_
          refine lv_istore_n (lv' := [(2, .int (v2 ||| y7)), (0, .ref h0), (1, .int v1), (3, .int v3), (4, .int v4)]) hx hb dX3_tellSpreads_58 rfl hl (by decide) rfl (fun ls hl => ?_)
          refine lv_iload_n hx hb dX3_tellSpreads_59 rfl (lv_at hl 3 rfl) ?_
          refine lv_aload_n hx hb dX3_tellSpreads_60 rfl (lv_at hl 1 rfl) ?_
          refine lv_iload hx hb dX3_tellSpreads_61 (lv_at hl 4 rfl) ?_
          obtain ⟨y8, e8, h⟩ := ob_s h
          refine MR.callV (q0 := 0) (M_X3_lineAt hG e8) S (cw_X3_lineAt hts q1925 ⟨Nat.le_of_ble_eq_true rfl, Nat.le_of_ble_eq_true rfl⟩) hW0 hK hP rfl rfl rfl hl.1 rfl (Nat.le_of_ble_eq_true rfl) dX3_tellSpreads_63 ⟨Nat.zero_le _, Nat.zero_le _⟩ ?_
          obtain ⟨y9, e9, h⟩ := ob_s h
          refine MR.callS (M_X3_bits hG e9) S (cw_X3_bits hts q1896 ⟨Nat.le_of_ble_eq_true rfl, Nat.le_of_ble_eq_true rfl⟩) hW0 vaP0 rfl hl.1 rfl (Nat.le_of_ble_eq_true rfl) dX3_tellSpreads_66 ⟨Nat.zero_le _, Nat.zero_le _⟩ ?_
          refine lv_iadd hx hb dX3_tellSpreads_69 ?_
          refine lv_istore_n (lv' := [(3, .int (v3 + y9)), (2, .int (v2 ||| y7)), (0, .ref h0), (1, .int v1), (4, .int v4)]) hx hb dX3_tellSpreads_70 rfl hl (by decide) rfl (fun ls hl => ?_)
          refine lv_iinc (v := (v4 + 1)) (lv' := [(4, .int (v4 + 1)), (3, .int (v3 + y9)), (2, .int (v2 ||| y7)), (0, .ref h0), (1, .int v1)]) hx hb dX3_tellSpreads_71 hl (k := 4) rfl rfl (by decide) rfl (fun ls hl => ?_)
          refine lv_goto (tgt := 29) hx hb dX3_tellSpreads_74 (by decide) ?_
          exact ih v1 (v2 ||| y7) (v3 + y9) (v4 + 1) c_spreadsMany c_spreadsFirst _ h hk77 _ _ hP hD hS _ (lv_sub hl [3, 4, 2, 1, 0] rfl)
        · rw [if_pos c6] at h
          refine lv_goto (tgt := 71) hx hb dX3_tellSpreads_47 (by decide) ?_
          refine lv_iinc (v := (v4 + 1)) (lv' := [(4, .int (v4 + 1)), (0, .ref h0), (1, .int v1), (2, .int v2), (3, .int v3)]) hx hb dX3_tellSpreads_71 hl (k := 4) rfl rfl (by decide) rfl (fun ls hl => ?_)
          refine lv_goto (tgt := 29) hx hb dX3_tellSpreads_74 (by decide) ?_
          exact ih v1 v2 v3 (v4 + 1) c_spreadsMany c_spreadsFirst _ h hk77 _ _ hP hD hS _ (lv_sub hl [1, 2, 3, 4, 0] rfl)
  have S_X3_tellSpreads_12 : ∀ (n : Nat) (v1 : Int32) (c_spreadsMany : Int32) (c_spreadsFirst : Int32), F_X3_tellSpreads_12 N c_now n v1 c_spreadsMany c_spreadsFirst = some ρ → ∀ (H : Heap) (locs : List Loc), va_P G.2.1 vwCl (mW h0 ad G.2.2 c_code c_now c_read c_status c_tape c_taped c_at c_textSize c_token c_number c_begins c_stops c_bad c_badPlace c_faultPlace c_clauses c_naming c_lineBy c_becomes c_dualLines c_on c_rowNow c_least c_wayFirst c_ways c_acts c_past c_listPoints c_listLines c_listed c_list c_path c_places c_firstPlaces c_px c_py c_pz c_placeMany c_modulus c_drawn c_halvesMany c_halvesFirst c_spreadsMany c_spreadsFirst c_comesTo c_seedNow c_rowThen c_hasImage c_actsThen c_imageRow c_pastThen c_statusThen) H → va_D A (mW h0 ad G.2.2 c_code c_now c_read c_status c_tape c_taped c_at c_textSize c_token c_number c_begins c_stops c_bad c_badPlace c_faultPlace c_clauses c_naming c_lineBy c_becomes c_dualLines c_on c_rowNow c_least c_wayFirst c_ways c_acts c_past c_listPoints c_listLines c_listed c_list c_path c_places c_firstPlaces c_px c_py c_pz c_placeMany c_modulus c_drawn c_halvesMany c_halvesFirst c_spreadsMany c_spreadsFirst c_comesTo c_seedNow c_rowThen c_hasImage c_actsThen c_imageRow c_pastThen c_statusThen) → va_S A s.heap H locs → ∀ (ls : Array Slot), lv_has ls 5 [(0, .ref h0), (1, .int v1)] → W p l e (rmL 3 0 0) s m args below meth c H locs 0 0 Q (F0 m 12 ls []) := by
    intro n
    induction n with
    | zero =>
      intro v1 c_spreadsMany c_spreadsFirst h
      exact absurd h (by simp [F_X3_tellSpreads_12])
    | succ n ih =>
      intro v1 c_spreadsMany c_spreadsFirst h H locs hP hD hS ls hl
      rw [F_X3_tellSpreads_12] at h
      refine lv_iload_n hx hb dX3_tellSpreads_12 rfl (lv_at hl 1 rfl) ?_
      refine lv_iconst (v := 1) hx hb dX3_tellSpreads_13 (by decide) ?_
      refine lv_aload_n hx hb dX3_tellSpreads_14 rfl (lv_at hl 0 rfl) ?_
      obtain ⟨y1, e1, h⟩ := ob_s h
      refine MR.callV (q0 := 0) (M_X3_lines hG e1) S (cw_X3_lines hts q1917 ⟨Nat.le_of_ble_eq_true rfl, Nat.le_of_ble_eq_true rfl⟩) hW0 hK hP rfl rfl rfl hl.1 rfl (Nat.le_of_ble_eq_true rfl) dX3_tellSpreads_15 ⟨Nat.zero_le _, Nat.zero_le _⟩ ?_
      refine lv_ishl hx hb dX3_tellSpreads_18 ?_
      refine lv_icmp_ge (tgt := 132) hx hb dX3_tellSpreads_19 (by decide) (fun c2 => ?_) (fun c2 => ?_)
      · rw [if_pos c2] at h
        obtain rfl := Option.some.inj h
        exact hretv rfl dX3_tellSpreads_132 rfl hP hD hS
      · rw [if_neg c2] at h
        refine lv_iconst (v := 0) hx hb dX3_tellSpreads_22 (by decide) ?_
        refine lv_istore_n (lv' := [(2, .int 0), (0, .ref h0), (1, .int v1)]) hx hb dX3_tellSpreads_23 rfl hl (by decide) rfl (fun ls hl => ?_)
        refine lv_iconst (v := 0) hx hb dX3_tellSpreads_24 (by decide) ?_
        refine lv_istore_n (lv' := [(3, .int 0), (2, .int 0), (0, .ref h0), (1, .int v1)]) hx hb dX3_tellSpreads_25 rfl hl (by decide) rfl (fun ls hl => ?_)
        refine lv_iconst (v := 0) hx hb dX3_tellSpreads_26 (by decide) ?_
        refine lv_istore (lv' := [(4, .int 0), (3, .int 0), (2, .int 0), (0, .ref h0), (1, .int v1)]) hx hb dX3_tellSpreads_27 hl (by decide) rfl (fun ls hl => ?_)
        refine S_X3_tellSpreads_29 N v1 0 0 0 c_spreadsMany c_spreadsFirst _ h ?_ _ _ hP hD hS _ (lv_sub hl [3, 4, 2, 1, 0] rfl)
        · intro u2_10 u3_10 H locs ls h hP hD hS hl
          refine lv_iload_n hx hb dX3_tellSpreads_77 rfl (lv_at hl 2 rfl) ?_
          refine lv_aload_n hx hb dX3_tellSpreads_78 rfl (lv_at hl 0 rfl) ?_
          obtain ⟨y11, e11, h⟩ := ob_s h
          refine MR.callV (q0 := 0) (M_X3_all hG e11) S (cw_X3_all hts q2246 ⟨Nat.le_of_ble_eq_true rfl, Nat.le_of_ble_eq_true rfl⟩) hW0 hK hP rfl rfl rfl hl.1 rfl (Nat.le_of_ble_eq_true rfl) dX3_tellSpreads_79 ⟨Nat.zero_le _, Nat.zero_le _⟩ ?_
          refine lv_icmp_ne (tgt := 126) hx hb dX3_tellSpreads_82 (by decide) (fun c12 => ?_) (fun c12 => ?_)
          · rw [if_neg c12] at h
            refine lv_iinc (v := (v1 + 1)) (lv' := [(1, .int (v1 + 1)), (0, .ref h0), (2, .int u2_10), (3, .int u3_10)]) hx hb dX3_tellSpreads_126 hl (k := 1) rfl rfl (by decide) rfl (fun ls hl => ?_)
            refine lv_goto (tgt := 12) hx hb dX3_tellSpreads_129 (by decide) ?_
            exact ih (v1 + 1) c_spreadsMany c_spreadsFirst h _ _ hP hD hS _ (lv_sub hl [1, 0] rfl)
          · rw [if_pos c12] at h
            refine lv_iload_n hx hb dX3_tellSpreads_85 rfl (lv_at hl 3 rfl) ?_
            refine lv_aload_n hx hb dX3_tellSpreads_86 rfl (lv_at hl 0 rfl) ?_
            obtain ⟨y13, e13, h⟩ := ob_s h
            refine MR.callV (q0 := 0) (M_X3_points hG e13) S (cw_X3_points hts q1913 ⟨Nat.le_of_ble_eq_true rfl, Nat.le_of_ble_eq_true rfl⟩) hW0 hK hP rfl rfl rfl hl.1 rfl (Nat.le_of_ble_eq_true rfl) dX3_tellSpreads_87 ⟨Nat.zero_le _, Nat.zero_le _⟩ ?_
            refine lv_icmp_eq (tgt := 96) hx hb dX3_tellSpreads_90 (by decide) (fun c14 => ?_) (fun c14 => ?_)
            · rw [if_pos c14] at h
              refine lv_aload_n hx hb dX3_tellSpreads_96 rfl (lv_at hl 0 rfl) ?_
              refine lv_dup hx hb dX3_tellSpreads_97 rfl ?_
              refine va_get (ci := 2) (v := .int c_spreadsMany) (C := RX3) (T := TX3) (N := 52) hx hb hts in_X3 hown hK hP 0 rfl rfl 42 (by decide) (hts _ q1700) (fun _ h9 => h9) rfl dX3_tellSpreads_98 ?_
              refine lv_iconst (v := 1) hx hb dX3_tellSpreads_101 (by decide) ?_
              refine lv_iadd hx hb dX3_tellSpreads_102 ?_
              refine va_put (ci := 2) (v := .int (c_spreadsMany + (1 : Int32))) (ty := .int) (C := RX3) (T := TX3) (N := 52) hx hb hts in_X3 tyX3 tyX3_ok nmX3 hown hK hP hD hS 0 rfl rfl 42 (by decide) (hts _ q1700) (fun _ h9 => h9) rfl (by decide +kernel) rfl rfl (Nat.le_of_ble_eq_true rfl) dX3_tellSpreads_103 (fun H locs hP hD hS => ?_)
              have hP : va_P G.2.1 vwCl (mW h0 ad G.2.2 c_code c_now c_read c_status c_tape c_taped c_at c_textSize c_token c_number c_begins c_stops c_bad c_badPlace c_faultPlace c_clauses c_naming c_lineBy c_becomes c_dualLines c_on c_rowNow c_least c_wayFirst c_ways c_acts c_past c_listPoints c_listLines c_listed c_list c_path c_places c_firstPlaces c_px c_py c_pz c_placeMany c_modulus c_drawn c_halvesMany c_halvesFirst (c_spreadsMany + (1 : Int32)) c_spreadsFirst c_comesTo c_seedNow c_rowThen c_hasImage c_actsThen c_imageRow c_pastThen c_statusThen) H := hP
              have hD : va_D A (mW h0 ad G.2.2 c_code c_now c_read c_status c_tape c_taped c_at c_textSize c_token c_number c_begins c_stops c_bad c_badPlace c_faultPlace c_clauses c_naming c_lineBy c_becomes c_dualLines c_on c_rowNow c_least c_wayFirst c_ways c_acts c_past c_listPoints c_listLines c_listed c_list c_path c_places c_firstPlaces c_px c_py c_pz c_placeMany c_modulus c_drawn c_halvesMany c_halvesFirst (c_spreadsMany + (1 : Int32)) c_spreadsFirst c_comesTo c_seedNow c_rowThen c_hasImage c_actsThen c_imageRow c_pastThen c_statusThen) := hD
              refine lv_aload_n hx hb dX3_tellSpreads_106 rfl (lv_at hl 0 rfl) ?_
              refine lv_aload_n hx hb dX3_tellSpreads_107 rfl (lv_at hl 0 rfl) ?_
              refine va_get (ci := 2) (v := .int c_spreadsFirst) (C := RX3) (T := TX3) (N := 52) hx hb hts in_X3 hown hK hP 0 rfl rfl 43 (by decide) (hts _ q1701) (fun _ h9 => h9) rfl dX3_tellSpreads_108 ?_
              refine lv_iconst (v := (-1)) hx hb dX3_tellSpreads_111 (by decide) ?_
              refine lv_icmp_ne (tgt := 119) hx hb dX3_tellSpreads_112 (by decide) (fun c15 => ?_) (fun c15 => ?_)
              · rw [if_neg c15] at h
                refine lv_aload_n hx hb dX3_tellSpreads_119 rfl (lv_at hl 0 rfl) ?_
                refine va_get (ci := 2) (v := .int c_spreadsFirst) (C := RX3) (T := TX3) (N := 52) hx hb hts in_X3 hown hK hP 0 rfl rfl 43 (by decide) (hts _ q1701) (fun _ h9 => h9) rfl dX3_tellSpreads_120 ?_
                refine va_put (ci := 2) (v := .int c_spreadsFirst) (ty := .int) (C := RX3) (T := TX3) (N := 52) hx hb hts in_X3 tyX3 tyX3_ok nmX3 hown hK hP hD hS 0 rfl rfl 43 (by decide) (hts _ q1701) (fun _ h9 => h9) rfl (by decide +kernel) rfl rfl (Nat.le_of_ble_eq_true rfl) dX3_tellSpreads_123 (fun H locs hP hD hS => ?_)
                have hP : va_P G.2.1 vwCl (mW h0 ad G.2.2 c_code c_now c_read c_status c_tape c_taped c_at c_textSize c_token c_number c_begins c_stops c_bad c_badPlace c_faultPlace c_clauses c_naming c_lineBy c_becomes c_dualLines c_on c_rowNow c_least c_wayFirst c_ways c_acts c_past c_listPoints c_listLines c_listed c_list c_path c_places c_firstPlaces c_px c_py c_pz c_placeMany c_modulus c_drawn c_halvesMany c_halvesFirst (c_spreadsMany + (1 : Int32)) c_spreadsFirst c_comesTo c_seedNow c_rowThen c_hasImage c_actsThen c_imageRow c_pastThen c_statusThen) H := hP
                have hD : va_D A (mW h0 ad G.2.2 c_code c_now c_read c_status c_tape c_taped c_at c_textSize c_token c_number c_begins c_stops c_bad c_badPlace c_faultPlace c_clauses c_naming c_lineBy c_becomes c_dualLines c_on c_rowNow c_least c_wayFirst c_ways c_acts c_past c_listPoints c_listLines c_listed c_list c_path c_places c_firstPlaces c_px c_py c_pz c_placeMany c_modulus c_drawn c_halvesMany c_halvesFirst (c_spreadsMany + (1 : Int32)) c_spreadsFirst c_comesTo c_seedNow c_rowThen c_hasImage c_actsThen c_imageRow c_pastThen c_statusThen) := hD
                refine lv_iinc (v := (v1 + 1)) (lv' := [(1, .int (v1 + 1)), (0, .ref h0), (2, .int u2_10), (3, .int u3_10)]) hx hb dX3_tellSpreads_126 hl (k := 1) rfl rfl (by decide) rfl (fun ls hl => ?_)
                refine lv_goto (tgt := 12) hx hb dX3_tellSpreads_129 (by decide) ?_
                exact ih (v1 + 1) (c_spreadsMany + (1 : Int32)) c_spreadsFirst h _ _ hP hD hS _ (lv_sub hl [1, 0] rfl)
              · rw [if_pos c15] at h
                refine lv_iload_n hx hb dX3_tellSpreads_115 rfl (lv_at hl 1 rfl) ?_
                refine lv_goto (tgt := 123) hx hb dX3_tellSpreads_116 (by decide) ?_
                refine va_put (ci := 2) (v := .int v1) (ty := .int) (C := RX3) (T := TX3) (N := 52) hx hb hts in_X3 tyX3 tyX3_ok nmX3 hown hK hP hD hS 0 rfl rfl 43 (by decide) (hts _ q1701) (fun _ h9 => h9) rfl (by decide +kernel) rfl rfl (Nat.le_of_ble_eq_true rfl) dX3_tellSpreads_123 (fun H locs hP hD hS => ?_)
                have hP : va_P G.2.1 vwCl (mW h0 ad G.2.2 c_code c_now c_read c_status c_tape c_taped c_at c_textSize c_token c_number c_begins c_stops c_bad c_badPlace c_faultPlace c_clauses c_naming c_lineBy c_becomes c_dualLines c_on c_rowNow c_least c_wayFirst c_ways c_acts c_past c_listPoints c_listLines c_listed c_list c_path c_places c_firstPlaces c_px c_py c_pz c_placeMany c_modulus c_drawn c_halvesMany c_halvesFirst (c_spreadsMany + (1 : Int32)) v1 c_comesTo c_seedNow c_rowThen c_hasImage c_actsThen c_imageRow c_pastThen c_statusThen) H := hP
                have hD : va_D A (mW h0 ad G.2.2 c_code c_now c_read c_status c_tape c_taped c_at c_textSize c_token c_number c_begins c_stops c_bad c_badPlace c_faultPlace c_clauses c_naming c_lineBy c_becomes c_dualLines c_on c_rowNow c_least c_wayFirst c_ways c_acts c_past c_listPoints c_listLines c_listed c_list c_path c_places c_firstPlaces c_px c_py c_pz c_placeMany c_modulus c_drawn c_halvesMany c_halvesFirst (c_spreadsMany + (1 : Int32)) v1 c_comesTo c_seedNow c_rowThen c_hasImage c_actsThen c_imageRow c_pastThen c_statusThen) := hD
                refine lv_iinc (v := (v1 + 1)) (lv' := [(1, .int (v1 + 1)), (0, .ref h0), (2, .int u2_10), (3, .int u3_10)]) hx hb dX3_tellSpreads_126 hl (k := 1) rfl rfl (by decide) rfl (fun ls hl => ?_)
                refine lv_goto (tgt := 12) hx hb dX3_tellSpreads_129 (by decide) ?_
                exact ih (v1 + 1) (c_spreadsMany + (1 : Int32)) v1 h _ _ hP hD hS _ (lv_sub hl [1, 0] rfl)
            · rw [if_neg c14] at h
              refine lv_goto (tgt := 126) hx hb dX3_tellSpreads_93 (by decide) ?_
              refine lv_iinc (v := (v1 + 1)) (lv' := [(1, .int (v1 + 1)), (0, .ref h0), (2, .int u2_10), (3, .int u3_10)]) hx hb dX3_tellSpreads_126 hl (k := 1) rfl rfl (by decide) rfl (fun ls hl => ?_)
              refine lv_goto (tgt := 12) hx hb dX3_tellSpreads_129 (by decide) ?_
              exact ih (v1 + 1) c_spreadsMany c_spreadsFirst h _ _ hP hD hS _ (lv_sub hl [1, 0] rfl)
  refine lv_aload_n hx hb dX3_tellSpreads_0 rfl (lv_at hl 0 rfl) ?_
  refine lv_iconst (v := 0) hx hb dX3_tellSpreads_1 (by decide) ?_
  refine va_put (ci := 2) (v := .int 0) (ty := .int) (C := RX3) (T := TX3) (N := 52) hx hb hts in_X3 tyX3 tyX3_ok nmX3 hown hK hP hD hS 0 rfl rfl 42 (by decide) (hts _ q1700) (fun _ h9 => h9) rfl (by decide +kernel) rfl rfl (Nat.le_of_ble_eq_true rfl) dX3_tellSpreads_2 (fun H locs hP hD hS => ?_)
  have hP : va_P G.2.1 vwCl (mW h0 ad G.2.2 c_code c_now c_read c_status c_tape c_taped c_at c_textSize c_token c_number c_begins c_stops c_bad c_badPlace c_faultPlace c_clauses c_naming c_lineBy c_becomes c_dualLines c_on c_rowNow c_least c_wayFirst c_ways c_acts c_past c_listPoints c_listLines c_listed c_list c_path c_places c_firstPlaces c_px c_py c_pz c_placeMany c_modulus c_drawn c_halvesMany c_halvesFirst 0 c_spreadsFirst c_comesTo c_seedNow c_rowThen c_hasImage c_actsThen c_imageRow c_pastThen c_statusThen) H := hP
  have hD : va_D A (mW h0 ad G.2.2 c_code c_now c_read c_status c_tape c_taped c_at c_textSize c_token c_number c_begins c_stops c_bad c_badPlace c_faultPlace c_clauses c_naming c_lineBy c_becomes c_dualLines c_on c_rowNow c_least c_wayFirst c_ways c_acts c_past c_listPoints c_listLines c_listed c_list c_path c_places c_firstPlaces c_px c_py c_pz c_placeMany c_modulus c_drawn c_halvesMany c_halvesFirst 0 c_spreadsFirst c_comesTo c_seedNow c_rowThen c_hasImage c_actsThen c_imageRow c_pastThen c_statusThen) := hD
  refine lv_aload_n hx hb dX3_tellSpreads_5 rfl (lv_at hl 0 rfl) ?_
  refine lv_iconst (v := (-1)) hx hb dX3_tellSpreads_6 (by decide) ?_
  refine va_put (ci := 2) (v := .int (-1)) (ty := .int) (C := RX3) (T := TX3) (N := 52) hx hb hts in_X3 tyX3 tyX3_ok nmX3 hown hK hP hD hS 0 rfl rfl 43 (by decide) (hts _ q1701) (fun _ h9 => h9) rfl (by decide +kernel) rfl rfl (Nat.le_of_ble_eq_true rfl) dX3_tellSpreads_7 (fun H locs hP hD hS => ?_)
  have hP : va_P G.2.1 vwCl (mW h0 ad G.2.2 c_code c_now c_read c_status c_tape c_taped c_at c_textSize c_token c_number c_begins c_stops c_bad c_badPlace c_faultPlace c_clauses c_naming c_lineBy c_becomes c_dualLines c_on c_rowNow c_least c_wayFirst c_ways c_acts c_past c_listPoints c_listLines c_listed c_list c_path c_places c_firstPlaces c_px c_py c_pz c_placeMany c_modulus c_drawn c_halvesMany c_halvesFirst 0 (-1) c_comesTo c_seedNow c_rowThen c_hasImage c_actsThen c_imageRow c_pastThen c_statusThen) H := hP
  have hD : va_D A (mW h0 ad G.2.2 c_code c_now c_read c_status c_tape c_taped c_at c_textSize c_token c_number c_begins c_stops c_bad c_badPlace c_faultPlace c_clauses c_naming c_lineBy c_becomes c_dualLines c_on c_rowNow c_least c_wayFirst c_ways c_acts c_past c_listPoints c_listLines c_listed c_list c_path c_places c_firstPlaces c_px c_py c_pz c_placeMany c_modulus c_drawn c_halvesMany c_halvesFirst 0 (-1) c_comesTo c_seedNow c_rowThen c_hasImage c_actsThen c_imageRow c_pastThen c_statusThen) := hD
  refine lv_iconst (v := 0) hx hb dX3_tellSpreads_10 (by decide) ?_
  refine lv_istore_n (lv' := [(1, .int 0), (0, .ref h0)]) hx hb dX3_tellSpreads_11 rfl hl (by decide) rfl (fun ls hl => ?_)
  refine S_X3_tellSpreads_12 N 0 0 (-1) h  _ _ hP hD hS _ (lv_sub hl [1, 0] rfl)
def F_X3_set (N : Nat) (v1 : Int32) (c_now : (Nat → Int32)) (c_code : Int32) (c_halvesMany : Int32) (c_halvesFirst : Int32) (c_spreadsMany : Int32) (c_spreadsFirst : Int32) : Option (Int32 × Int32 × Int32 × Int32 × Int32 × Int32) := (if v1 = 0 then ((F_X3_cover N c_now).bind fun y2 => (some (y2, 0, c_halvesMany, c_halvesFirst, c_spreadsMany, c_spreadsFirst))) else (if v1 = 1 then ((F_X3_cap N c_now).bind fun y5 => (some (y5, 0, c_halvesMany, c_halvesFirst, c_spreadsMany, c_spreadsFirst))) else (if v1 = 2 then ((F_X3_tellHalves N c_now c_halvesMany c_halvesFirst).bind fun y8 => (if v1 = 2 then (some (y8.1, 0, y8.1, y8.2, c_spreadsMany, c_spreadsFirst)) else (some (y8.2, 0, y8.1, y8.2, c_spreadsMany, c_spreadsFirst)))) else (if v1 = 3 then ((F_X3_tellHalves N c_now c_halvesMany c_halvesFirst).bind fun y13 => (if v1 = 2 then (some (y13.1, 0, y13.1, y13.2, c_spreadsMany, c_spreadsFirst)) else (some (y13.2, 0, y13.1, y13.2, c_spreadsMany, c_spreadsFirst)))) else (if v1 = 4 then ((F_X3_tellSpreads N c_now c_spreadsMany c_spreadsFirst).bind fun y18 => (if v1 = 4 then (some (y18.1, 0, c_halvesMany, c_halvesFirst, y18.1, y18.2)) else (some (y18.2, 0, c_halvesMany, c_halvesFirst, y18.1, y18.2)))) else (if v1 = 5 then ((F_X3_tellSpreads N c_now c_spreadsMany c_spreadsFirst).bind fun y23 => (if v1 = 4 then (some (y23.1, 0, c_halvesMany, c_halvesFirst, y23.1, y23.2)) else (some (y23.2, 0, c_halvesMany, c_halvesFirst, y23.1, y23.2)))) else ((F_X3_fail N 1 0).bind fun y27 => (some (y27.1, y27.2, c_halvesMany, c_halvesFirst, c_spreadsMany, c_spreadsFirst)))))))))
theorem cw_X3_set {R : Room} {s : State} {args : Array Value} {own : String} {index lev mc ms : Nat} (hts : ∀ w ∈ lw_all, w.before args s = true) (hl : Cond.methodLink own index yX3_set ∈ lw_all) (hR : (rmL lev mc ms).frames + 1 ≤ R.frames ∧ 8 + (2 + 11) + (rmL lev mc ms).locals ≤ R.locals) : CallW R s args own RX3 index yX3_set cX3_set 2 (some .int) (ws_ yX3_set cX3_set 2 (some .int)) (rmL lev mc ms) mc ms 1 := cwV 1 hts (lw_V hl q2239 q2240 q172 q2241) rfl rfl rfl (by decide +kernel) hR
set_option maxHeartbeats 4000000 in
theorem M_X3_set {l : Launch} {G : GE} (hG : GC G) {N : Nat} {h0 : Nat} {ad : Nat → Nat} {c_read : (Nat → Int32)} {c_status : (Nat → Int32)} {c_tape : (Nat → Int32)} {c_taped : Int32} {c_at : Int32} {c_textSize : Int32} {c_token : Int32} {c_number : Int32} {c_begins : Int32} {c_stops : Int32} {c_bad : Int32} {c_badPlace : Int32} {c_faultPlace : Int32} {c_clauses : Int32} {c_naming : (Nat → Int32)} {c_lineBy : (Nat → Int32)} {c_becomes : (Nat → Int32)} {c_dualLines : (Nat → Int32)} {c_on : (Nat → Int32)} {c_rowNow : (Nat → Int32)} {c_least : (Nat → Int32)} {c_wayFirst : (Nat → Int32)} {c_ways : Int32} {c_acts : Int32} {c_past : (Nat → Int32)} {c_listPoints : Int32} {c_listLines : Int32} {c_listed : Int32} {c_list : (Nat → Int32)} {c_path : (Nat → Int32)} {c_places : (Nat → Int32)} {c_firstPlaces : (Nat → Int32)} {c_px : (Nat → Int32)} {c_py : (Nat → Int32)} {c_pz : (Nat → Int32)} {c_placeMany : Int32} {c_modulus : Int32} {c_drawn : Int32} {c_comesTo : (Nat → Int32)} {c_seedNow : Int32} {c_rowThen : (Nat → Int32)} {c_hasImage : Int32} {c_actsThen : Int32} {c_imageRow : (Nat → Int32)} {c_pastThen : (Nat → Int32)} {c_statusThen : (Nat → Int32)} {v1 : Int32} {c_now : (Nat → Int32)} {c_code : Int32} {c_halvesMany : Int32} {c_halvesFirst : Int32} {c_spreadsMany : Int32} {c_spreadsFirst : Int32} {ρ : (Int32 × Int32 × Int32 × Int32 × Int32 × Int32)} (h : F_X3_set N v1 c_now c_code c_halvesMany c_halvesFirst c_spreadsMany c_spreadsFirst = some ρ) : MW l G yX3_set cX3_set 2 (some .int) 4 (mW h0 ad G.2.2 c_code c_now c_read c_status c_tape c_taped c_at c_textSize c_token c_number c_begins c_stops c_bad c_badPlace c_faultPlace c_clauses c_naming c_lineBy c_becomes c_dualLines c_on c_rowNow c_least c_wayFirst c_ways c_acts c_past c_listPoints c_listLines c_listed c_list c_path c_places c_firstPlaces c_px c_py c_pz c_placeMany c_modulus c_drawn c_halvesMany c_halvesFirst c_spreadsMany c_spreadsFirst c_comesTo c_seedNow c_rowThen c_hasImage c_actsThen c_imageRow c_pastThen c_statusThen) [.ref h0, .int v1] (some (.int ρ.1)) (mW h0 ad G.2.2 ρ.2.1 c_now c_read c_status c_tape c_taped c_at c_textSize c_token c_number c_begins c_stops c_bad c_badPlace c_faultPlace c_clauses c_naming c_lineBy c_becomes c_dualLines c_on c_rowNow c_least c_wayFirst c_ways c_acts c_past c_listPoints c_listLines c_listed c_list c_path c_places c_firstPlaces c_px c_py c_pz c_placeMany c_modulus c_drawn ρ.2.2.1 ρ.2.2.2.1 ρ.2.2.2.2.1 ρ.2.2.2.2.2 c_comesTo c_seedNow c_rowThen c_hasImage c_actsThen c_imageRow c_pastThen c_statusThen) := by
  rw [F_X3_set] at h
  refine MW.start hG (by decide) (Nat.le_of_ble_eq_true rfl) ?_
  intro p e s m args below meth c Q A S hW0 hK hP hD hA hreti hretv ls hl
  have hS : va_S A s.heap s.heap [] := va_S.rf
  obtain ⟨hx, hb, hml, hown, hts⟩ := id S
  have hl : lv_has ls 2 [(0, .ref h0), (1, .int v1)] := hl
  refine lv_aload_n hx hb dX3_set_0 rfl (lv_at hl 0 rfl) ?_
  refine lv_iconst (v := 0) hx hb dX3_set_1 (by decide) ?_
  refine va_put (ci := 2) (v := .int 0) (ty := .int) (C := RX3) (T := TX3) (N := 52) hx hb hts in_X3 tyX3 tyX3_ok nmX3 hown hK hP hD hS 0 rfl rfl 0 (by decide) (hts _ q1658) (fun _ h9 => h9) rfl (by decide +kernel) rfl rfl (Nat.le_of_ble_eq_true rfl) dX3_set_2 (fun H locs hP hD hS => ?_)
  have hP : va_P G.2.1 vwCl (mW h0 ad G.2.2 0 c_now c_read c_status c_tape c_taped c_at c_textSize c_token c_number c_begins c_stops c_bad c_badPlace c_faultPlace c_clauses c_naming c_lineBy c_becomes c_dualLines c_on c_rowNow c_least c_wayFirst c_ways c_acts c_past c_listPoints c_listLines c_listed c_list c_path c_places c_firstPlaces c_px c_py c_pz c_placeMany c_modulus c_drawn c_halvesMany c_halvesFirst c_spreadsMany c_spreadsFirst c_comesTo c_seedNow c_rowThen c_hasImage c_actsThen c_imageRow c_pastThen c_statusThen) H := hP
  have hD : va_D A (mW h0 ad G.2.2 0 c_now c_read c_status c_tape c_taped c_at c_textSize c_token c_number c_begins c_stops c_bad c_badPlace c_faultPlace c_clauses c_naming c_lineBy c_becomes c_dualLines c_on c_rowNow c_least c_wayFirst c_ways c_acts c_past c_listPoints c_listLines c_listed c_list c_path c_places c_firstPlaces c_px c_py c_pz c_placeMany c_modulus c_drawn c_halvesMany c_halvesFirst c_spreadsMany c_spreadsFirst c_comesTo c_seedNow c_rowThen c_hasImage c_actsThen c_imageRow c_pastThen c_statusThen) := hD
  refine lv_iload_n hx hb dX3_set_5 rfl (lv_at hl 1 rfl) ?_
  by_cases c1 : v1 = 0
  · rw [if_pos c1] at h
    refine lv_tableIn (off := 38) (tgt := 44) hx hb dX3_set_6 (by rw [c1]; decide) (by rw [c1]; decide) (by rw [c1]; rfl) (by decide) ?_
    refine lv_aload_n hx hb dX3_set_44 rfl (lv_at hl 0 rfl) ?_
    obtain ⟨y2, e2, h⟩ := ob_s h
    refine MR.callV (q0 := 0) (M_X3_cover hG e2) S (cw_X3_cover hts q2242 ⟨Nat.le_of_ble_eq_true rfl, Nat.le_of_ble_eq_true rfl⟩) hW0 hK hP rfl rfl rfl hl.1 rfl (Nat.le_of_ble_eq_true rfl) dX3_set_45 ⟨Nat.zero_le _, Nat.zero_le _⟩ ?_
    obtain rfl := Option.some.inj h
    exact hreti rfl dX3_set_48 rfl rfl hP hD hS
  rw [if_neg c1] at h
  by_cases c4 : v1 = 1
  · rw [if_pos c4] at h
    refine lv_tableIn (off := 43) (tgt := 49) hx hb dX3_set_6 (by rw [c4]; decide) (by rw [c4]; decide) (by rw [c4]; rfl) (by decide) ?_
    refine lv_aload_n hx hb dX3_set_49 rfl (lv_at hl 0 rfl) ?_
    obtain ⟨y5, e5, h⟩ := ob_s h
    refine MR.callV (q0 := 0) (M_X3_cap hG e5) S (cw_X3_cap hts q2254 ⟨Nat.le_of_ble_eq_true rfl, Nat.le_of_ble_eq_true rfl⟩) hW0 hK hP rfl rfl rfl hl.1 rfl (Nat.le_of_ble_eq_true rfl) dX3_set_50 ⟨Nat.zero_le _, Nat.zero_le _⟩ ?_
    obtain rfl := Option.some.inj h
    exact hreti rfl dX3_set_53 rfl rfl hP hD hS
  rw [if_neg c4] at h
  by_cases c7 : v1 = 2
  · rw [if_pos c7] at h
    refine lv_tableIn (off := 48) (tgt := 54) hx hb dX3_set_6 (by rw [c7]; decide) (by rw [c7]; decide) (by rw [c7]; rfl) (by decide) ?_
    refine lv_aload_n hx hb dX3_set_54 rfl (lv_at hl 0 rfl) ?_
    obtain ⟨y8, e8, h⟩ := ob_s h
    refine MW.callV (q0 := 0) (M_X3_tellHalves hG e8) S (cw_X3_tellHalves hts q2258 ⟨Nat.le_of_ble_eq_true rfl, Nat.le_of_ble_eq_true rfl⟩) hW0 hK hP hD hS hA rfl rfl rfl hl.1 rfl (Nat.le_of_ble_eq_true rfl) dX3_set_55 ⟨Nat.zero_le _, Nat.zero_le _⟩ (fun H locs hP hD hS => ?_)
    have hP : va_P G.2.1 vwCl (mW h0 ad G.2.2 0 c_now c_read c_status c_tape c_taped c_at c_textSize c_token c_number c_begins c_stops c_bad c_badPlace c_faultPlace c_clauses c_naming c_lineBy c_becomes c_dualLines c_on c_rowNow c_least c_wayFirst c_ways c_acts c_past c_listPoints c_listLines c_listed c_list c_path c_places c_firstPlaces c_px c_py c_pz c_placeMany c_modulus c_drawn y8.1 y8.2 c_spreadsMany c_spreadsFirst c_comesTo c_seedNow c_rowThen c_hasImage c_actsThen c_imageRow c_pastThen c_statusThen) H := hP
    have hD : va_D A (mW h0 ad G.2.2 0 c_now c_read c_status c_tape c_taped c_at c_textSize c_token c_number c_begins c_stops c_bad c_badPlace c_faultPlace c_clauses c_naming c_lineBy c_becomes c_dualLines c_on c_rowNow c_least c_wayFirst c_ways c_acts c_past c_listPoints c_listLines c_listed c_list c_path c_places c_firstPlaces c_px c_py c_pz c_placeMany c_modulus c_drawn y8.1 y8.2 c_spreadsMany c_spreadsFirst c_comesTo c_seedNow c_rowThen c_hasImage c_actsThen c_imageRow c_pastThen c_statusThen) := hD
    refine W.eq (g2 := F0 m 58 ls []) rfl ?_
    refine lv_iload_n hx hb dX3_set_58 rfl (lv_at hl 1 rfl) ?_
    refine lv_iconst (v := 2) hx hb dX3_set_59 (by decide) ?_
    refine lv_icmp_ne (tgt := 70) hx hb dX3_set_60 (by decide) (fun c9 => ?_) (fun c9 => ?_)
    · rw [if_neg c9] at h
      refine lv_aload_n hx hb dX3_set_70 rfl (lv_at hl 0 rfl) ?_
      refine va_get (ci := 2) (v := .int y8.2) (C := RX3) (T := TX3) (N := 52) hx hb hts in_X3 hown hK hP 0 rfl rfl 41 (by decide) (hts _ q1699) (fun _ h9 => h9) rfl dX3_set_71 ?_
      obtain rfl := Option.some.inj h
      exact hreti rfl dX3_set_74 rfl rfl hP hD hS
    · rw [if_pos c9] at h
      refine lv_aload_n hx hb dX3_set_63 rfl (lv_at hl 0 rfl) ?_
      refine va_get (ci := 2) (v := .int y8.1) (C := RX3) (T := TX3) (N := 52) hx hb hts in_X3 hown hK hP 0 rfl rfl 40 (by decide) (hts _ q1698) (fun _ h9 => h9) rfl dX3_set_64 ?_
      refine lv_goto (tgt := 74) hx hb dX3_set_67 (by decide) ?_
      obtain rfl := Option.some.inj h
      exact hreti rfl dX3_set_74 rfl rfl hP hD hS
  rw [if_neg c7] at h
  by_cases c12 : v1 = 3
  · rw [if_pos c12] at h
    refine lv_tableIn (off := 48) (tgt := 54) hx hb dX3_set_6 (by rw [c12]; decide) (by rw [c12]; decide) (by rw [c12]; rfl) (by decide) ?_
    refine lv_aload_n hx hb dX3_set_54 rfl (lv_at hl 0 rfl) ?_
    obtain ⟨y13, e13, h⟩ := ob_s h
    refine MW.callV (q0 := 0) (M_X3_tellHalves hG e13) S (cw_X3_tellHalves hts q2258 ⟨Nat.le_of_ble_eq_true rfl, Nat.le_of_ble_eq_true rfl⟩) hW0 hK hP hD hS hA rfl rfl rfl hl.1 rfl (Nat.le_of_ble_eq_true rfl) dX3_set_55 ⟨Nat.zero_le _, Nat.zero_le _⟩ (fun H locs hP hD hS => ?_)
    have hP : va_P G.2.1 vwCl (mW h0 ad G.2.2 0 c_now c_read c_status c_tape c_taped c_at c_textSize c_token c_number c_begins c_stops c_bad c_badPlace c_faultPlace c_clauses c_naming c_lineBy c_becomes c_dualLines c_on c_rowNow c_least c_wayFirst c_ways c_acts c_past c_listPoints c_listLines c_listed c_list c_path c_places c_firstPlaces c_px c_py c_pz c_placeMany c_modulus c_drawn y13.1 y13.2 c_spreadsMany c_spreadsFirst c_comesTo c_seedNow c_rowThen c_hasImage c_actsThen c_imageRow c_pastThen c_statusThen) H := hP
    have hD : va_D A (mW h0 ad G.2.2 0 c_now c_read c_status c_tape c_taped c_at c_textSize c_token c_number c_begins c_stops c_bad c_badPlace c_faultPlace c_clauses c_naming c_lineBy c_becomes c_dualLines c_on c_rowNow c_least c_wayFirst c_ways c_acts c_past c_listPoints c_listLines c_listed c_list c_path c_places c_firstPlaces c_px c_py c_pz c_placeMany c_modulus c_drawn y13.1 y13.2 c_spreadsMany c_spreadsFirst c_comesTo c_seedNow c_rowThen c_hasImage c_actsThen c_imageRow c_pastThen c_statusThen) := hD
    refine W.eq (g2 := F0 m 58 ls []) rfl ?_
    refine lv_iload_n hx hb dX3_set_58 rfl (lv_at hl 1 rfl) ?_
    refine lv_iconst (v := 2) hx hb dX3_set_59 (by decide) ?_
    refine lv_icmp_ne (tgt := 70) hx hb dX3_set_60 (by decide) (fun c14 => ?_) (fun c14 => ?_)
    · rw [if_neg c14] at h
      refine lv_aload_n hx hb dX3_set_70 rfl (lv_at hl 0 rfl) ?_
      refine va_get (ci := 2) (v := .int y13.2) (C := RX3) (T := TX3) (N := 52) hx hb hts in_X3 hown hK hP 0 rfl rfl 41 (by decide) (hts _ q1699) (fun _ h9 => h9) rfl dX3_set_71 ?_
      obtain rfl := Option.some.inj h
      exact hreti rfl dX3_set_74 rfl rfl hP hD hS
    · rw [if_pos c14] at h
      refine lv_aload_n hx hb dX3_set_63 rfl (lv_at hl 0 rfl) ?_
      refine va_get (ci := 2) (v := .int y13.1) (C := RX3) (T := TX3) (N := 52) hx hb hts in_X3 hown hK hP 0 rfl rfl 40 (by decide) (hts _ q1698) (fun _ h9 => h9) rfl dX3_set_64 ?_
      refine lv_goto (tgt := 74) hx hb dX3_set_67 (by decide) ?_
      obtain rfl := Option.some.inj h
      exact hreti rfl dX3_set_74 rfl rfl hP hD hS
  rw [if_neg c12] at h
  by_cases c17 : v1 = 4
  · rw [if_pos c17] at h
    refine lv_tableIn (off := 69) (tgt := 75) hx hb dX3_set_6 (by rw [c17]; decide) (by rw [c17]; decide) (by rw [c17]; rfl) (by decide) ?_
    refine lv_aload_n hx hb dX3_set_75 rfl (lv_at hl 0 rfl) ?_
    obtain ⟨y18, e18, h⟩ := ob_s h
    refine MW.callV (q0 := 0) (M_X3_tellSpreads hG e18) S (cw_X3_tellSpreads hts q2262 ⟨Nat.le_of_ble_eq_true rfl, Nat.le_of_ble_eq_true rfl⟩) hW0 hK hP hD hS hA rfl rfl rfl hl.1 rfl (Nat.le_of_ble_eq_true rfl) dX3_set_76 ⟨Nat.zero_le _, Nat.zero_le _⟩ (fun H locs hP hD hS => ?_)
    have hP : va_P G.2.1 vwCl (mW h0 ad G.2.2 0 c_now c_read c_status c_tape c_taped c_at c_textSize c_token c_number c_begins c_stops c_bad c_badPlace c_faultPlace c_clauses c_naming c_lineBy c_becomes c_dualLines c_on c_rowNow c_least c_wayFirst c_ways c_acts c_past c_listPoints c_listLines c_listed c_list c_path c_places c_firstPlaces c_px c_py c_pz c_placeMany c_modulus c_drawn c_halvesMany c_halvesFirst y18.1 y18.2 c_comesTo c_seedNow c_rowThen c_hasImage c_actsThen c_imageRow c_pastThen c_statusThen) H := hP
    have hD : va_D A (mW h0 ad G.2.2 0 c_now c_read c_status c_tape c_taped c_at c_textSize c_token c_number c_begins c_stops c_bad c_badPlace c_faultPlace c_clauses c_naming c_lineBy c_becomes c_dualLines c_on c_rowNow c_least c_wayFirst c_ways c_acts c_past c_listPoints c_listLines c_listed c_list c_path c_places c_firstPlaces c_px c_py c_pz c_placeMany c_modulus c_drawn c_halvesMany c_halvesFirst y18.1 y18.2 c_comesTo c_seedNow c_rowThen c_hasImage c_actsThen c_imageRow c_pastThen c_statusThen) := hD
    refine W.eq (g2 := F0 m 79 ls []) rfl ?_
    refine lv_iload_n hx hb dX3_set_79 rfl (lv_at hl 1 rfl) ?_
    refine lv_iconst (v := 4) hx hb dX3_set_80 (by decide) ?_
    refine lv_icmp_ne (tgt := 91) hx hb dX3_set_81 (by decide) (fun c19 => ?_) (fun c19 => ?_)
    · rw [if_neg c19] at h
      refine lv_aload_n hx hb dX3_set_91 rfl (lv_at hl 0 rfl) ?_
      refine va_get (ci := 2) (v := .int y18.2) (C := RX3) (T := TX3) (N := 52) hx hb hts in_X3 hown hK hP 0 rfl rfl 43 (by decide) (hts _ q1701) (fun _ h9 => h9) rfl dX3_set_92 ?_
      obtain rfl := Option.some.inj h
      exact hreti rfl dX3_set_95 rfl rfl hP hD hS
    · rw [if_pos c19] at h
      refine lv_aload_n hx hb dX3_set_84 rfl (lv_at hl 0 rfl) ?_
      refine va_get (ci := 2) (v := .int y18.1) (C := RX3) (T := TX3) (N := 52) hx hb hts in_X3 hown hK hP 0 rfl rfl 42 (by decide) (hts _ q1700) (fun _ h9 => h9) rfl dX3_set_85 ?_
      refine lv_goto (tgt := 95) hx hb dX3_set_88 (by decide) ?_
      obtain rfl := Option.some.inj h
      exact hreti rfl dX3_set_95 rfl rfl hP hD hS
  rw [if_neg c17] at h
  by_cases c22 : v1 = 5
  · rw [if_pos c22] at h
    refine lv_tableIn (off := 69) (tgt := 75) hx hb dX3_set_6 (by rw [c22]; decide) (by rw [c22]; decide) (by rw [c22]; rfl) (by decide) ?_
    refine lv_aload_n hx hb dX3_set_75 rfl (lv_at hl 0 rfl) ?_
    obtain ⟨y23, e23, h⟩ := ob_s h
    refine MW.callV (q0 := 0) (M_X3_tellSpreads hG e23) S (cw_X3_tellSpreads hts q2262 ⟨Nat.le_of_ble_eq_true rfl, Nat.le_of_ble_eq_true rfl⟩) hW0 hK hP hD hS hA rfl rfl rfl hl.1 rfl (Nat.le_of_ble_eq_true rfl) dX3_set_76 ⟨Nat.zero_le _, Nat.zero_le _⟩ (fun H locs hP hD hS => ?_)
    have hP : va_P G.2.1 vwCl (mW h0 ad G.2.2 0 c_now c_read c_status c_tape c_taped c_at c_textSize c_token c_number c_begins c_stops c_bad c_badPlace c_faultPlace c_clauses c_naming c_lineBy c_becomes c_dualLines c_on c_rowNow c_least c_wayFirst c_ways c_acts c_past c_listPoints c_listLines c_listed c_list c_path c_places c_firstPlaces c_px c_py c_pz c_placeMany c_modulus c_drawn c_halvesMany c_halvesFirst y23.1 y23.2 c_comesTo c_seedNow c_rowThen c_hasImage c_actsThen c_imageRow c_pastThen c_statusThen) H := hP
    have hD : va_D A (mW h0 ad G.2.2 0 c_now c_read c_status c_tape c_taped c_at c_textSize c_token c_number c_begins c_stops c_bad c_badPlace c_faultPlace c_clauses c_naming c_lineBy c_becomes c_dualLines c_on c_rowNow c_least c_wayFirst c_ways c_acts c_past c_listPoints c_listLines c_listed c_list c_path c_places c_firstPlaces c_px c_py c_pz c_placeMany c_modulus c_drawn c_halvesMany c_halvesFirst y23.1 y23.2 c_comesTo c_seedNow c_rowThen c_hasImage c_actsThen c_imageRow c_pastThen c_statusThen) := hD
    refine W.eq (g2 := F0 m 79 ls []) rfl ?_
    refine lv_iload_n hx hb dX3_set_79 rfl (lv_at hl 1 rfl) ?_
    refine lv_iconst (v := 4) hx hb dX3_set_80 (by decide) ?_
    refine lv_icmp_ne (tgt := 91) hx hb dX3_set_81 (by decide) (fun c24 => ?_) (fun c24 => ?_)
    · rw [if_neg c24] at h
      refine lv_aload_n hx hb dX3_set_91 rfl (lv_at hl 0 rfl) ?_
      refine va_get (ci := 2) (v := .int y23.2) (C := RX3) (T := TX3) (N := 52) hx hb hts in_X3 hown hK hP 0 rfl rfl 43 (by decide) (hts _ q1701) (fun _ h9 => h9) rfl dX3_set_92 ?_
      obtain rfl := Option.some.inj h
      exact hreti rfl dX3_set_95 rfl rfl hP hD hS
    · rw [if_pos c24] at h
      refine lv_aload_n hx hb dX3_set_84 rfl (lv_at hl 0 rfl) ?_
      refine va_get (ci := 2) (v := .int y23.1) (C := RX3) (T := TX3) (N := 52) hx hb hts in_X3 hown hK hP 0 rfl rfl 42 (by decide) (hts _ q1700) (fun _ h9 => h9) rfl dX3_set_85 ?_
      refine lv_goto (tgt := 95) hx hb dX3_set_88 (by decide) ?_
      obtain rfl := Option.some.inj h
      exact hreti rfl dX3_set_95 rfl rfl hP hD hS
  rw [if_neg c22] at h
  refine lv_tableOut (tgt := 96) hx hb dX3_set_6 (sw_out v1 [0, 1, 2, 3, 4, 5] rfl (by simp [c1, c4, c7, c12, c17, c22])) (by decide) ?_
  refine lv_aload_n hx hb dX3_set_96 rfl (lv_at hl 0 rfl) ?_
  refine lv_iconst (v := 1) hx hb dX3_set_97 (by decide) ?_
  obtain ⟨y27, e27, h⟩ := ob_s h
  refine MW.callV (q0 := 0) (M_X3_fail hG e27) S (cw_X3_fail hts q1827 ⟨Nat.le_of_ble_eq_true rfl, Nat.le_of_ble_eq_true rfl⟩) hW0 hK hP hD hS hA rfl rfl rfl hl.1 rfl (Nat.le_of_ble_eq_true rfl) dX3_set_98 ⟨Nat.zero_le _, Nat.zero_le _⟩ (fun H locs hP hD hS => ?_)
  have hP : va_P G.2.1 vwCl (mW h0 ad G.2.2 y27.2 c_now c_read c_status c_tape c_taped c_at c_textSize c_token c_number c_begins c_stops c_bad c_badPlace c_faultPlace c_clauses c_naming c_lineBy c_becomes c_dualLines c_on c_rowNow c_least c_wayFirst c_ways c_acts c_past c_listPoints c_listLines c_listed c_list c_path c_places c_firstPlaces c_px c_py c_pz c_placeMany c_modulus c_drawn c_halvesMany c_halvesFirst c_spreadsMany c_spreadsFirst c_comesTo c_seedNow c_rowThen c_hasImage c_actsThen c_imageRow c_pastThen c_statusThen) H := hP
  have hD : va_D A (mW h0 ad G.2.2 y27.2 c_now c_read c_status c_tape c_taped c_at c_textSize c_token c_number c_begins c_stops c_bad c_badPlace c_faultPlace c_clauses c_naming c_lineBy c_becomes c_dualLines c_on c_rowNow c_least c_wayFirst c_ways c_acts c_past c_listPoints c_listLines c_listed c_list c_path c_places c_firstPlaces c_px c_py c_pz c_placeMany c_modulus c_drawn c_halvesMany c_halvesFirst c_spreadsMany c_spreadsFirst c_comesTo c_seedNow c_rowThen c_hasImage c_actsThen c_imageRow c_pastThen c_statusThen) := hD
  refine W.eq (g2 := F0 m 101 ls [.int y27.1]) rfl ?_
  obtain rfl := Option.some.inj h
  exact hreti rfl dX3_set_101 rfl rfl hP hD hS
def F_X3_far_61 (N : Nat) (v3 : Int32) (c_now : (Nat → Int32)) : Nat → Int32 → Int32 → (Int32 → Option (Int32 × Int32)) → Option (Int32 × Int32)
  | 0, _, _, _ => none
  | n + 1, v5, v6, k98 => ((F_X3_lines N c_now).bind fun y11 => (if y11 ≤ v6 then (k98 v5) else ((F_X3_lineAt N v6 c_now).bind fun y13 => (if (y13 &&& v3) = 0 then (F_X3_far_61 N v3 c_now n v5 (v6 + 1) k98) else ((F_X3_lineAt N v6 c_now).bind fun y15 => (F_X3_far_61 N v3 c_now n (v5 ||| y15) (v6 + 1) k98))))))
def F_X3_far_34 (N : Nat) (v2 : Int32) (c_now : (Nat → Int32)) (c_code : Int32) : Nat → Int32 → Int32 → Option (Int32 × Int32)
  | 0, _, _ => none
  | n + 1, v3, v4 => ((F_X3_points N c_now).bind fun y7 => (if y7 < v4 then (some ((-1), c_code)) else (if ((v3 >>> (v2 &&& 31)) &&& (1 : Int32)) = 1 then (some (v4, c_code)) else (F_X3_far_61 N v3 c_now N v3 0 (fun u5_16 => (F_X3_far_34 N v2 c_now c_code n u5_16 (v4 + 1)))))))
def F_X3_far (N : Nat) (v1 : Int32) (v2 : Int32) (c_now : (Nat → Int32)) (c_code : Int32) : Option (Int32 × Int32) := ((F_X3_isPoint N v1 c_now).bind fun y1 => (if y1 = 0 then ((F_X3_fail N 1 0).bind fun y3 => (some (y3.1, y3.2))) else ((F_X3_isPoint N v2 c_now).bind fun y5 => (if y5 = 0 then ((F_X3_fail N 1 0).bind fun y18 => (some (y18.1, y18.2))) else (F_X3_far_34 N v2 c_now 0 N ((1 : Int32) <<< (v1 &&& 31)) 0)))))
theorem cw_X3_far {R : Room} {s : State} {args : Array Value} {own : String} {index lev mc ms : Nat} (hts : ∀ w ∈ lw_all, w.before args s = true) (hl : Cond.methodLink own index yX3_far ∈ lw_all) (hR : (rmL lev mc ms).frames + 1 ≤ R.frames ∧ 8 + (7 + 11) + (rmL lev mc ms).locals ≤ R.locals) : CallW R s args own RX3 index yX3_far cX3_far 7 (some .int) (ws_ yX3_far cX3_far 7 (some .int)) (rmL lev mc ms) mc ms 2 := cwV 2 hts (lw_V hl q2267 q2268 q172 q2269) rfl rfl rfl (by decide +kernel) hR
set_option maxHeartbeats 4000000 in
theorem M_X3_far {l : Launch} {G : GE} (hG : GC G) {N : Nat} {h0 : Nat} {ad : Nat → Nat} {c_read : (Nat → Int32)} {c_status : (Nat → Int32)} {c_tape : (Nat → Int32)} {c_taped : Int32} {c_at : Int32} {c_textSize : Int32} {c_token : Int32} {c_number : Int32} {c_begins : Int32} {c_stops : Int32} {c_bad : Int32} {c_badPlace : Int32} {c_faultPlace : Int32} {c_clauses : Int32} {c_naming : (Nat → Int32)} {c_lineBy : (Nat → Int32)} {c_becomes : (Nat → Int32)} {c_dualLines : (Nat → Int32)} {c_on : (Nat → Int32)} {c_rowNow : (Nat → Int32)} {c_least : (Nat → Int32)} {c_wayFirst : (Nat → Int32)} {c_ways : Int32} {c_acts : Int32} {c_past : (Nat → Int32)} {c_listPoints : Int32} {c_listLines : Int32} {c_listed : Int32} {c_list : (Nat → Int32)} {c_path : (Nat → Int32)} {c_places : (Nat → Int32)} {c_firstPlaces : (Nat → Int32)} {c_px : (Nat → Int32)} {c_py : (Nat → Int32)} {c_pz : (Nat → Int32)} {c_placeMany : Int32} {c_modulus : Int32} {c_drawn : Int32} {c_halvesMany : Int32} {c_halvesFirst : Int32} {c_spreadsMany : Int32} {c_spreadsFirst : Int32} {c_comesTo : (Nat → Int32)} {c_seedNow : Int32} {c_rowThen : (Nat → Int32)} {c_hasImage : Int32} {c_actsThen : Int32} {c_imageRow : (Nat → Int32)} {c_pastThen : (Nat → Int32)} {c_statusThen : (Nat → Int32)} {v1 : Int32} {v2 : Int32} {c_now : (Nat → Int32)} {c_code : Int32} {ρ : (Int32 × Int32)} (h : F_X3_far N v1 v2 c_now c_code = some ρ) : MW l G yX3_far cX3_far 7 (some .int) 3 (mW h0 ad G.2.2 c_code c_now c_read c_status c_tape c_taped c_at c_textSize c_token c_number c_begins c_stops c_bad c_badPlace c_faultPlace c_clauses c_naming c_lineBy c_becomes c_dualLines c_on c_rowNow c_least c_wayFirst c_ways c_acts c_past c_listPoints c_listLines c_listed c_list c_path c_places c_firstPlaces c_px c_py c_pz c_placeMany c_modulus c_drawn c_halvesMany c_halvesFirst c_spreadsMany c_spreadsFirst c_comesTo c_seedNow c_rowThen c_hasImage c_actsThen c_imageRow c_pastThen c_statusThen) [.ref h0, .int v1, .int v2] (some (.int ρ.1)) (mW h0 ad G.2.2 ρ.2 c_now c_read c_status c_tape c_taped c_at c_textSize c_token c_number c_begins c_stops c_bad c_badPlace c_faultPlace c_clauses c_naming c_lineBy c_becomes c_dualLines c_on c_rowNow c_least c_wayFirst c_ways c_acts c_past c_listPoints c_listLines c_listed c_list c_path c_places c_firstPlaces c_px c_py c_pz c_placeMany c_modulus c_drawn c_halvesMany c_halvesFirst c_spreadsMany c_spreadsFirst c_comesTo c_seedNow c_rowThen c_hasImage c_actsThen c_imageRow c_pastThen c_statusThen) := by
  rw [F_X3_far] at h
  refine MW.start hG (by decide) (Nat.le_of_ble_eq_true rfl) ?_
  intro p e s m args below meth c Q A S hW0 hK hP hD hA hreti hretv ls hl
  have hS : va_S A s.heap s.heap [] := va_S.rf
  obtain ⟨hx, hb, hml, hown, hts⟩ := id S
  have hl : lv_has ls 7 [(0, .ref h0), (1, .int v1), (2, .int v2)] := hl
  have S_X3_far_61 : ∀ (n : Nat) (v2 : Int32) (v3 : Int32) (v4 : Int32) (v5 : Int32) (v6 : Int32) (c_code : Int32) (k98 : Int32 → Option (Int32 × Int32)), F_X3_far_61 N v3 c_now n v5 v6 k98 = some ρ → (∀ (u5 : Int32) (H : Heap) (locs : List Loc) (ls : Array Slot), k98 u5 = some ρ → va_P G.2.1 vwCl (mW h0 ad G.2.2 c_code c_now c_read c_status c_tape c_taped c_at c_textSize c_token c_number c_begins c_stops c_bad c_badPlace c_faultPlace c_clauses c_naming c_lineBy c_becomes c_dualLines c_on c_rowNow c_least c_wayFirst c_ways c_acts c_past c_listPoints c_listLines c_listed c_list c_path c_places c_firstPlaces c_px c_py c_pz c_placeMany c_modulus c_drawn c_halvesMany c_halvesFirst c_spreadsMany c_spreadsFirst c_comesTo c_seedNow c_rowThen c_hasImage c_actsThen c_imageRow c_pastThen c_statusThen) H → va_D A (mW h0 ad G.2.2 c_code c_now c_read c_status c_tape c_taped c_at c_textSize c_token c_number c_begins c_stops c_bad c_badPlace c_faultPlace c_clauses c_naming c_lineBy c_becomes c_dualLines c_on c_rowNow c_least c_wayFirst c_ways c_acts c_past c_listPoints c_listLines c_listed c_list c_path c_places c_firstPlaces c_px c_py c_pz c_placeMany c_modulus c_drawn c_halvesMany c_halvesFirst c_spreadsMany c_spreadsFirst c_comesTo c_seedNow c_rowThen c_hasImage c_actsThen c_imageRow c_pastThen c_statusThen) → va_S A s.heap H locs → lv_has ls 7 [(0, .ref h0), (2, .int v2), (4, .int v4), (5, .int u5)] → W p l e (rmL 3 0 0) s m args below meth c H locs 0 0 Q (F0 m 98 ls [])) → ∀ (H : Heap) (locs : List Loc), va_P G.2.1 vwCl (mW h0 ad G.2.2 c_code c_now c_read c_status c_tape c_taped c_at c_textSize c_token c_number c_begins c_stops c_bad c_badPlace c_faultPlace c_clauses c_naming c_lineBy c_becomes c_dualLines c_on c_rowNow c_least c_wayFirst c_ways c_acts c_past c_listPoints c_listLines c_listed c_list c_path c_places c_firstPlaces c_px c_py c_pz c_placeMany c_modulus c_drawn c_halvesMany c_halvesFirst c_spreadsMany c_spreadsFirst c_comesTo c_seedNow c_rowThen c_hasImage c_actsThen c_imageRow c_pastThen c_statusThen) H → va_D A (mW h0 ad G.2.2 c_code c_now c_read c_status c_tape c_taped c_at c_textSize c_token c_number c_begins c_stops c_bad c_badPlace c_faultPlace c_clauses c_naming c_lineBy c_becomes c_dualLines c_on c_rowNow c_least c_wayFirst c_ways c_acts c_past c_listPoints c_listLines c_listed c_list c_path c_places c_firstPlaces c_px c_py c_pz c_placeMany c_modulus c_drawn c_halvesMany c_halvesFirst c_spreadsMany c_spreadsFirst c_comesTo c_seedNow c_rowThen c_hasImage c_actsThen c_imageRow c_pastThen c_statusThen) → va_S A s.heap H locs → ∀ (ls : Array Slot), lv_has ls 7 [(0, .ref h0), (2, .int v2), (3, .int v3), (4, .int v4), (5, .int v5), (6, .int v6)] → W p l e (rmL 3 0 0) s m args below meth c H locs 0 0 Q (F0 m 61 ls []) := by
    intro n
    induction n with
    | zero =>
      intro v2 v3 v4 v5 v6 c_code k98 h
      exact absurd h (by simp [F_X3_far_61])
    | succ n ih =>
      intro v2 v3 v4 v5 v6 c_code k98 h hk98 H locs hP hD hS ls hl
      rw [F_X3_far_61] at h
      refine lv_iload hx hb dX3_far_61 (lv_at hl 5 rfl) ?_
      refine lv_aload_n hx hb dX3_far_63 rfl (lv_at hl 0 rfl) ?_
      obtain ⟨y11, e11, h⟩ := ob_s h
      refine MR.callV (q0 := 0) (M_X3_lines hG e11) S (cw_X3_lines hts q1917 ⟨Nat.le_of_ble_eq_true rfl, Nat.le_of_ble_eq_true rfl⟩) hW0 hK hP rfl rfl rfl hl.1 rfl (Nat.le_of_ble_eq_true rfl) dX3_far_64 ⟨Nat.zero_le _, Nat.zero_le _⟩ ?_
      refine lv_icmp_ge (tgt := 98) hx hb dX3_far_67 (by decide) (fun c12 => ?_) (fun c12 => ?_)
      · rw [if_pos c12] at h
        exact hk98 v5 _ _ _ h hP hD hS (lv_sub hl [0, 1, 3, 4] rfl)
      · rw [if_neg c12] at h
        refine lv_aload_n hx hb dX3_far_70 rfl (lv_at hl 0 rfl) ?_
        refine lv_iload hx hb dX3_far_71 (lv_at hl 5 rfl) ?_
        obtain ⟨y13, e13, h⟩ := ob_s h
        refine MR.callV (q0 := 0) (M_X3_lineAt hG e13) S (cw_X3_lineAt hts q1925 ⟨Nat.le_of_ble_eq_true rfl, Nat.le_of_ble_eq_true rfl⟩) hW0 hK hP rfl rfl rfl hl.1 rfl (Nat.le_of_ble_eq_true rfl) dX3_far_73 ⟨Nat.zero_le _, Nat.zero_le _⟩ ?_
        refine lv_iload_n hx hb dX3_far_76 rfl (lv_at hl 2 rfl) ?_
        refine lv_iand hx hb dX3_far_77 ?_
        refine lv_if_eq (tgt := 92) hx hb dX3_far_78 (by decide) (fun c14 => ?_) (fun c14 => ?_)
        · rw [if_pos c14] at h
          refine lv_iinc (v := (v6 + 1)) (lv' := [(6, .int (v6 + 1)), (0, .ref h0), (2, .int v2), (3, .int v3), (4, .int v4), (5, .int v5)]) hx hb dX3_far_92 hl (k := 5) rfl rfl (by decide) rfl (fun ls hl => ?_)
          refine lv_goto (tgt := 61) hx hb dX3_far_95 (by decide) ?_
          exact ih v2 v3 v4 v5 (v6 + 1) c_code _ h hk98 _ _ hP hD hS _ (lv_sub hl [1, 2, 3, 4, 5, 0] rfl)
        · rw [if_neg c14] at h
          refine lv_iload hx hb dX3_far_81 (lv_at hl 4 rfl) ?_
          refine lv_aload_n hx hb dX3_far_83 rfl (lv_at hl 0 rfl) ?_
          refine lv_iload hx hb dX3_far_84 (lv_at hl 5 rfl) ?_
          obtain ⟨y15, e15, h⟩ := ob_s h
          refine MR.callV (q0 := 0) (M_X3_lineAt hG e15) S (cw_X3_lineAt hts q1925 ⟨Nat.le_of_ble_eq_true rfl, Nat.le_of_ble_eq_true rfl⟩) hW0 hK hP rfl rfl rfl hl.1 rfl (Nat.le_of_ble_eq_true rfl) dX3_far_86 ⟨Nat.zero_le _, Nat.zero_le _⟩ ?_
          refine lv_ior hx hb dX3_far_89 ?_
          refine lv_istore (lv' := [(5, .int (v5 ||| y15)), (0, .ref h0), (2, .int v2), (3, .int v3), (4, .int v4), (6, .int v6)]) hx hb dX3_far_90 hl (by decide) rfl (fun ls hl => ?_)
          refine lv_iinc (v := (v6 + 1)) (lv' := [(6, .int (v6 + 1)), (5, .int (v5 ||| y15)), (0, .ref h0), (2, .int v2), (3, .int v3), (4, .int v4)]) hx hb dX3_far_92 hl (k := 5) rfl rfl (by decide) rfl (fun ls hl => ?_)
          refine lv_goto (tgt := 61) hx hb dX3_far_95 (by decide) ?_
          exact ih v2 v3 v4 (v5 ||| y15) (v6 + 1) c_code _ h hk98 _ _ hP hD hS _ (lv_sub hl [2, 3, 4, 5, 1, 0] rfl)
  have S_X3_far_34 : ∀ (n : Nat) (v2 : Int32) (v3 : Int32) (v4 : Int32) (c_code : Int32), F_X3_far_34 N v2 c_now c_code n v3 v4 = some ρ → ∀ (H : Heap) (locs : List Loc), va_P G.2.1 vwCl (mW h0 ad G.2.2 c_code c_now c_read c_status c_tape c_taped c_at c_textSize c_token c_number c_begins c_stops c_bad c_badPlace c_faultPlace c_clauses c_naming c_lineBy c_becomes c_dualLines c_on c_rowNow c_least c_wayFirst c_ways c_acts c_past c_listPoints c_listLines c_listed c_list c_path c_places c_firstPlaces c_px c_py c_pz c_placeMany c_modulus c_drawn c_halvesMany c_halvesFirst c_spreadsMany c_spreadsFirst c_comesTo c_seedNow c_rowThen c_hasImage c_actsThen c_imageRow c_pastThen c_statusThen) H → va_D A (mW h0 ad G.2.2 c_code c_now c_read c_status c_tape c_taped c_at c_textSize c_token c_number c_begins c_stops c_bad c_badPlace c_faultPlace c_clauses c_naming c_lineBy c_becomes c_dualLines c_on c_rowNow c_least c_wayFirst c_ways c_acts c_past c_listPoints c_listLines c_listed c_list c_path c_places c_firstPlaces c_px c_py c_pz c_placeMany c_modulus c_drawn c_halvesMany c_halvesFirst c_spreadsMany c_spreadsFirst c_comesTo c_seedNow c_rowThen c_hasImage c_actsThen c_imageRow c_pastThen c_statusThen) → va_S A s.heap H locs → ∀ (ls : Array Slot), lv_has ls 7 [(0, .ref h0), (2, .int v2), (3, .int v3), (4, .int v4)] → W p l e (rmL 3 0 0) s m args below meth c H locs 0 0 Q (F0 m 34 ls []) := by
    intro n
    induction n with
    | zero =>
      intro v2 v3 v4 c_code h
      exact absurd h (by simp [F_X3_far_34])
    | succ n ih =>
      intro v2 v3 v4 c_code h H locs hP hD hS ls hl
      rw [F_X3_far_34] at h
      refine lv_iload hx hb dX3_far_34 (lv_at hl 3 rfl) ?_
      refine lv_aload_n hx hb dX3_far_36 rfl (lv_at hl 0 rfl) ?_
      obtain ⟨y7, e7, h⟩ := ob_s h
      refine MR.callV (q0 := 0) (M_X3_points hG e7) S (cw_X3_points hts q1913 ⟨Nat.le_of_ble_eq_true rfl, Nat.le_of_ble_eq_true rfl⟩) hW0 hK hP rfl rfl rfl hl.1 rfl (Nat.le_of_ble_eq_true rfl) dX3_far_37 ⟨Nat.zero_le _, Nat.zero_le _⟩ ?_
      refine lv_icmp_gt (tgt := 107) hx hb dX3_far_40 (by decide) (fun c8 => ?_) (fun c8 => ?_)
      · rw [if_pos c8] at h
        refine lv_iconst (v := (-1)) hx hb dX3_far_107 (by decide) ?_
        obtain rfl := Option.some.inj h
        exact hreti rfl dX3_far_108 rfl rfl hP hD hS
      · rw [if_neg c8] at h
        refine lv_iload_n hx hb dX3_far_43 rfl (lv_at hl 2 rfl) ?_
        refine lv_iload_n hx hb dX3_far_44 rfl (lv_at hl 1 rfl) ?_
        refine lv_ishr hx hb dX3_far_45 ?_
        refine lv_iconst (v := 1) hx hb dX3_far_46 (by decide) ?_
        refine lv_iand hx hb dX3_far_47 ?_
        refine lv_iconst (v := 1) hx hb dX3_far_48 (by decide) ?_
        refine lv_icmp_ne (tgt := 55) hx hb dX3_far_49 (by decide) (fun c10 => ?_) (fun c10 => ?_)
        · rw [if_neg c10] at h
          refine lv_iload_n hx hb dX3_far_55 rfl (lv_at hl 2 rfl) ?_
          refine lv_istore (lv' := [(5, .int v3), (0, .ref h0), (2, .int v2), (3, .int v3), (4, .int v4)]) hx hb dX3_far_56 hl (by decide) rfl (fun ls hl => ?_)
          refine lv_iconst (v := 0) hx hb dX3_far_58 (by decide) ?_
          refine lv_istore (lv' := [(6, .int 0), (5, .int v3), (0, .ref h0), (2, .int v2), (3, .int v3), (4, .int v4)]) hx hb dX3_far_59 hl (by decide) rfl (fun ls hl => ?_)
          refine S_X3_far_61 N v2 v3 v4 v3 0 c_code _ h ?_ _ _ hP hD hS _ (lv_sub hl [2, 3, 4, 5, 1, 0] rfl)
          · intro u5_16 H locs ls h hP hD hS hl
            refine lv_iload hx hb dX3_far_98 (lv_at hl 3 rfl) ?_
            refine lv_istore_n (lv' := [(3, .int u5_16), (0, .ref h0), (2, .int v2), (4, .int v4), (5, .int u5_16)]) hx hb dX3_far_100 rfl hl (by decide) rfl (fun ls hl => ?_)
            refine lv_iinc (v := (v4 + 1)) (lv' := [(4, .int (v4 + 1)), (3, .int u5_16), (0, .ref h0), (2, .int v2), (5, .int u5_16)]) hx hb dX3_far_101 hl (k := 3) rfl rfl (by decide) rfl (fun ls hl => ?_)
            refine lv_goto (tgt := 34) hx hb dX3_far_104 (by decide) ?_
            exact ih v2 u5_16 (v4 + 1) c_code h _ _ hP hD hS _ (lv_sub hl [2, 3, 1, 0] rfl)
        · rw [if_pos c10] at h
          refine lv_iload hx hb dX3_far_52 (lv_at hl 3 rfl) ?_
          obtain rfl := Option.some.inj h
          exact hreti rfl dX3_far_54 rfl rfl hP hD hS
  refine lv_aload_n hx hb dX3_far_0 rfl (lv_at hl 0 rfl) ?_
  refine lv_iconst (v := 0) hx hb dX3_far_1 (by decide) ?_
  refine va_put (ci := 2) (v := .int 0) (ty := .int) (C := RX3) (T := TX3) (N := 52) hx hb hts in_X3 tyX3 tyX3_ok nmX3 hown hK hP hD hS 0 rfl rfl 0 (by decide) (hts _ q1658) (fun _ h9 => h9) rfl (by decide +kernel) rfl rfl (Nat.le_of_ble_eq_true rfl) dX3_far_2 (fun H locs hP hD hS => ?_)
  have hP : va_P G.2.1 vwCl (mW h0 ad G.2.2 0 c_now c_read c_status c_tape c_taped c_at c_textSize c_token c_number c_begins c_stops c_bad c_badPlace c_faultPlace c_clauses c_naming c_lineBy c_becomes c_dualLines c_on c_rowNow c_least c_wayFirst c_ways c_acts c_past c_listPoints c_listLines c_listed c_list c_path c_places c_firstPlaces c_px c_py c_pz c_placeMany c_modulus c_drawn c_halvesMany c_halvesFirst c_spreadsMany c_spreadsFirst c_comesTo c_seedNow c_rowThen c_hasImage c_actsThen c_imageRow c_pastThen c_statusThen) H := hP
  have hD : va_D A (mW h0 ad G.2.2 0 c_now c_read c_status c_tape c_taped c_at c_textSize c_token c_number c_begins c_stops c_bad c_badPlace c_faultPlace c_clauses c_naming c_lineBy c_becomes c_dualLines c_on c_rowNow c_least c_wayFirst c_ways c_acts c_past c_listPoints c_listLines c_listed c_list c_path c_places c_firstPlaces c_px c_py c_pz c_placeMany c_modulus c_drawn c_halvesMany c_halvesFirst c_spreadsMany c_spreadsFirst c_comesTo c_seedNow c_rowThen c_hasImage c_actsThen c_imageRow c_pastThen c_statusThen) := hD
  refine lv_aload_n hx hb dX3_far_5 rfl (lv_at hl 0 rfl) ?_
  refine lv_iload_n hx hb dX3_far_6 rfl (lv_at hl 1 rfl) ?_
  obtain ⟨y1, e1, h⟩ := ob_s h
  refine MR.callV (q0 := 0) (M_X3_isPoint hG e1) S (cw_X3_isPoint hts q2068 ⟨Nat.le_of_ble_eq_true rfl, Nat.le_of_ble_eq_true rfl⟩) hW0 hK hP rfl rfl rfl hl.1 rfl (Nat.le_of_ble_eq_true rfl) dX3_far_7 ⟨Nat.zero_le _, Nat.zero_le _⟩ ?_
  refine lv_if_eq (tgt := 21) hx hb dX3_far_10 (by decide) (fun c2 => ?_) (fun c2 => ?_)
  · rw [if_pos c2] at h
    refine lv_aload_n hx hb dX3_far_21 rfl (lv_at hl 0 rfl) ?_
    refine lv_iconst (v := 1) hx hb dX3_far_22 (by decide) ?_
    obtain ⟨y3, e3, h⟩ := ob_s h
    refine MW.callV (q0 := 0) (M_X3_fail hG e3) S (cw_X3_fail hts q1827 ⟨Nat.le_of_ble_eq_true rfl, Nat.le_of_ble_eq_true rfl⟩) hW0 hK hP hD hS hA rfl rfl rfl hl.1 rfl (Nat.le_of_ble_eq_true rfl) dX3_far_23 ⟨Nat.zero_le _, Nat.zero_le _⟩ (fun H locs hP hD hS => ?_)
    have hP : va_P G.2.1 vwCl (mW h0 ad G.2.2 y3.2 c_now c_read c_status c_tape c_taped c_at c_textSize c_token c_number c_begins c_stops c_bad c_badPlace c_faultPlace c_clauses c_naming c_lineBy c_becomes c_dualLines c_on c_rowNow c_least c_wayFirst c_ways c_acts c_past c_listPoints c_listLines c_listed c_list c_path c_places c_firstPlaces c_px c_py c_pz c_placeMany c_modulus c_drawn c_halvesMany c_halvesFirst c_spreadsMany c_spreadsFirst c_comesTo c_seedNow c_rowThen c_hasImage c_actsThen c_imageRow c_pastThen c_statusThen) H := hP
    have hD : va_D A (mW h0 ad G.2.2 y3.2 c_now c_read c_status c_tape c_taped c_at c_textSize c_token c_number c_begins c_stops c_bad c_badPlace c_faultPlace c_clauses c_naming c_lineBy c_becomes c_dualLines c_on c_rowNow c_least c_wayFirst c_ways c_acts c_past c_listPoints c_listLines c_listed c_list c_path c_places c_firstPlaces c_px c_py c_pz c_placeMany c_modulus c_drawn c_halvesMany c_halvesFirst c_spreadsMany c_spreadsFirst c_comesTo c_seedNow c_rowThen c_hasImage c_actsThen c_imageRow c_pastThen c_statusThen) := hD
    refine W.eq (g2 := F0 m 26 ls [.int y3.1]) rfl ?_
    obtain rfl := Option.some.inj h
    exact hreti rfl dX3_far_26 rfl rfl hP hD hS
  · rw [if_neg c2] at h
    refine lv_aload_n hx hb dX3_far_13 rfl (lv_at hl 0 rfl) ?_
    refine lv_iload_n hx hb dX3_far_14 rfl (lv_at hl 2 rfl) ?_
    obtain ⟨y5, e5, h⟩ := ob_s h
    refine MR.callV (q0 := 0) (M_X3_isPoint hG e5) S (cw_X3_isPoint hts q2068 ⟨Nat.le_of_ble_eq_true rfl, Nat.le_of_ble_eq_true rfl⟩) hW0 hK hP rfl rfl rfl hl.1 rfl (Nat.le_of_ble_eq_true rfl) dX3_far_15 ⟨Nat.zero_le _, Nat.zero_le _⟩ ?_
    refine lv_if_ne (tgt := 27) hx hb dX3_far_18 (by decide) (fun c6 => ?_) (fun c6 => ?_)
    · rw [if_neg c6] at h
      refine lv_iconst (v := 1) hx hb dX3_far_27 (by decide) ?_
      refine lv_iload_n hx hb dX3_far_28 rfl (lv_at hl 1 rfl) ?_
      refine lv_ishl hx hb dX3_far_29 ?_
      refine lv_istore_n (lv' := [(3, .int ((1 : Int32) <<< (v1 &&& 31))), (0, .ref h0), (1, .int v1), (2, .int v2)]) hx hb dX3_far_30 rfl hl (by decide) rfl (fun ls hl => ?_)
      refine lv_iconst (v := 0) hx hb dX3_far_31 (by decide) ?_
      refine lv_istore (lv' := [(4, .int 0), (3, .int ((1 : Int32) <<< (v1 &&& 31))), (0, .ref h0), (1, .int v1), (2, .int v2)]) hx hb dX3_far_32 hl (by decide) rfl (fun ls hl => ?_)
      refine S_X3_far_34 N v2 ((1 : Int32) <<< (v1 &&& 31)) 0 0 h  _ _ hP hD hS _ (lv_sub hl [2, 4, 1, 0] rfl)
    · rw [if_pos c6] at h
      refine lv_aload_n hx hb dX3_far_21 rfl (lv_at hl 0 rfl) ?_
      refine lv_iconst (v := 1) hx hb dX3_far_22 (by decide) ?_
      obtain ⟨y18, e18, h⟩ := ob_s h
      refine MW.callV (q0 := 0) (M_X3_fail hG e18) S (cw_X3_fail hts q1827 ⟨Nat.le_of_ble_eq_true rfl, Nat.le_of_ble_eq_true rfl⟩) hW0 hK hP hD hS hA rfl rfl rfl hl.1 rfl (Nat.le_of_ble_eq_true rfl) dX3_far_23 ⟨Nat.zero_le _, Nat.zero_le _⟩ (fun H locs hP hD hS => ?_)
      have hP : va_P G.2.1 vwCl (mW h0 ad G.2.2 y18.2 c_now c_read c_status c_tape c_taped c_at c_textSize c_token c_number c_begins c_stops c_bad c_badPlace c_faultPlace c_clauses c_naming c_lineBy c_becomes c_dualLines c_on c_rowNow c_least c_wayFirst c_ways c_acts c_past c_listPoints c_listLines c_listed c_list c_path c_places c_firstPlaces c_px c_py c_pz c_placeMany c_modulus c_drawn c_halvesMany c_halvesFirst c_spreadsMany c_spreadsFirst c_comesTo c_seedNow c_rowThen c_hasImage c_actsThen c_imageRow c_pastThen c_statusThen) H := hP
      have hD : va_D A (mW h0 ad G.2.2 y18.2 c_now c_read c_status c_tape c_taped c_at c_textSize c_token c_number c_begins c_stops c_bad c_badPlace c_faultPlace c_clauses c_naming c_lineBy c_becomes c_dualLines c_on c_rowNow c_least c_wayFirst c_ways c_acts c_past c_listPoints c_listLines c_listed c_list c_path c_places c_firstPlaces c_px c_py c_pz c_placeMany c_modulus c_drawn c_halvesMany c_halvesFirst c_spreadsMany c_spreadsFirst c_comesTo c_seedNow c_rowThen c_hasImage c_actsThen c_imageRow c_pastThen c_statusThen) := hD
      refine W.eq (g2 := F0 m 26 ls [.int y18.1]) rfl ?_
      obtain rfl := Option.some.inj h
      exact hreti rfl dX3_far_26 rfl rfl hP hD hS
def F_X3_movesTo (N : Nat) (v1 : Int32) (v2 : Int32) (v3 : Int32) (c_now : (Nat → Int32)) (c_comesTo : (Nat → Int32)) : Option (Int32) := ((F_X3_hasLine N (v1 ||| ((1 : Int32) <<< (v3 &&& 31))) c_now).bind fun y1 => (if y1 = 0 then (ckI (((256 : Int32) * v2) + (v1 ||| ((1 : Int32) <<< (v3 &&& 31)))) 65536 (some ((-(c_comesTo (Int32.toNatClampNeg (((256 : Int32) * v2) + (v1 ||| ((1 : Int32) <<< (v3 &&& 31)))))))))) else ((F_X3_hasLine N v1 c_now).bind fun y5 => (if y5 = 0 then (some (1)) else (ckI (((256 : Int32) * v2) + (v1 ||| ((1 : Int32) <<< (v3 &&& 31)))) 65536 (some ((-(c_comesTo (Int32.toNatClampNeg (((256 : Int32) * v2) + (v1 ||| ((1 : Int32) <<< (v3 &&& 31))))))))))))))
theorem cw_X3_movesTo {R : Room} {s : State} {args : Array Value} {own : String} {index lev mc ms : Nat} (hts : ∀ w ∈ lw_all, w.before args s = true) (hl : Cond.methodLink own index yX3_movesTo ∈ lw_all) (hR : (rmL lev mc ms).frames + 1 ≤ R.frames ∧ 8 + (5 + 11) + (rmL lev mc ms).locals ≤ R.locals) : CallW R s args own RX3 index yX3_movesTo cX3_movesTo 5 (some .int) (ws_ yX3_movesTo cX3_movesTo 5 (some .int)) (rmL lev mc ms) mc ms 3 := cwV 3 hts (lw_V hl q2284 qs148 q172 q2285) rfl rfl rfl (by decide +kernel) hR
set_option maxHeartbeats 4000000 in
theorem M_X3_movesTo {l : Launch} {G : GE} (hG : GC G) {N : Nat} {h0 : Nat} {ad : Nat → Nat} {c_code : Int32} {c_read : (Nat → Int32)} {c_status : (Nat → Int32)} {c_tape : (Nat → Int32)} {c_taped : Int32} {c_at : Int32} {c_textSize : Int32} {c_token : Int32} {c_number : Int32} {c_begins : Int32} {c_stops : Int32} {c_bad : Int32} {c_badPlace : Int32} {c_faultPlace : Int32} {c_clauses : Int32} {c_naming : (Nat → Int32)} {c_lineBy : (Nat → Int32)} {c_becomes : (Nat → Int32)} {c_dualLines : (Nat → Int32)} {c_on : (Nat → Int32)} {c_rowNow : (Nat → Int32)} {c_least : (Nat → Int32)} {c_wayFirst : (Nat → Int32)} {c_ways : Int32} {c_acts : Int32} {c_past : (Nat → Int32)} {c_listPoints : Int32} {c_listLines : Int32} {c_listed : Int32} {c_list : (Nat → Int32)} {c_path : (Nat → Int32)} {c_places : (Nat → Int32)} {c_firstPlaces : (Nat → Int32)} {c_px : (Nat → Int32)} {c_py : (Nat → Int32)} {c_pz : (Nat → Int32)} {c_placeMany : Int32} {c_modulus : Int32} {c_drawn : Int32} {c_halvesMany : Int32} {c_halvesFirst : Int32} {c_spreadsMany : Int32} {c_spreadsFirst : Int32} {c_seedNow : Int32} {c_rowThen : (Nat → Int32)} {c_hasImage : Int32} {c_actsThen : Int32} {c_imageRow : (Nat → Int32)} {c_pastThen : (Nat → Int32)} {c_statusThen : (Nat → Int32)} {v1 : Int32} {v2 : Int32} {v3 : Int32} {c_now : (Nat → Int32)} {c_comesTo : (Nat → Int32)} {ρ : (Int32)} (h : F_X3_movesTo N v1 v2 v3 c_now c_comesTo = some ρ) : MR l G yX3_movesTo cX3_movesTo 5 (some .int) 3 (mW h0 ad G.2.2 c_code c_now c_read c_status c_tape c_taped c_at c_textSize c_token c_number c_begins c_stops c_bad c_badPlace c_faultPlace c_clauses c_naming c_lineBy c_becomes c_dualLines c_on c_rowNow c_least c_wayFirst c_ways c_acts c_past c_listPoints c_listLines c_listed c_list c_path c_places c_firstPlaces c_px c_py c_pz c_placeMany c_modulus c_drawn c_halvesMany c_halvesFirst c_spreadsMany c_spreadsFirst c_comesTo c_seedNow c_rowThen c_hasImage c_actsThen c_imageRow c_pastThen c_statusThen) [.ref h0, .int v1, .int v2, .int v3] ρ := by
  rw [F_X3_movesTo] at h
  refine MR.start (rt := .int) hG (by decide) (Nat.le_of_ble_eq_true rfl) ?_
  intro p e s m args below meth c Q S hW0 hK hP hret ls hl
  obtain ⟨hx, hb, hml, hown, hts⟩ := id S
  have hl : lv_has ls 5 [(0, .ref h0), (1, .int v1), (2, .int v2), (3, .int v3)] := hl
  refine lv_iload_n hx hb dX3_movesTo_0 rfl (lv_at hl 1 rfl) ?_
  refine lv_iconst (v := 1) hx hb dX3_movesTo_1 (by decide) ?_
  refine lv_iload_n hx hb dX3_movesTo_2 rfl (lv_at hl 3 rfl) ?_
  refine lv_ishl hx hb dX3_movesTo_3 ?_
  refine lv_ior hx hb dX3_movesTo_4 ?_
  refine lv_istore (lv' := [(4, .int (v1 ||| ((1 : Int32) <<< (v3 &&& 31)))), (0, .ref h0), (1, .int v1), (2, .int v2), (3, .int v3)]) hx hb dX3_movesTo_5 hl (by decide) rfl (fun ls hl => ?_)
  refine lv_aload_n hx hb dX3_movesTo_7 rfl (lv_at hl 1 rfl) ?_
  refine lv_iload hx hb dX3_movesTo_8 (lv_at hl 0 rfl) ?_
  obtain ⟨y1, e1, h⟩ := ob_s h
  refine MR.callV (q0 := 0) (M_X3_hasLine hG e1) S (cw_X3_hasLine hts q2250 ⟨Nat.le_of_ble_eq_true rfl, Nat.le_of_ble_eq_true rfl⟩) hW0 hK hP rfl rfl rfl hl.1 rfl (Nat.le_of_ble_eq_true rfl) dX3_movesTo_10 ⟨Nat.zero_le _, Nat.zero_le _⟩ ?_
  refine lv_if_eq (tgt := 28) hx hb dX3_movesTo_13 (by decide) (fun c2 => ?_) (fun c2 => ?_)
  · rw [if_pos c2] at h
    refine lv_aload_n hx hb dX3_movesTo_28 rfl (lv_at hl 1 rfl) ?_
    refine va_get (ci := 2) (v := .ref (ad 44)) (C := RX3) (T := TX3) (N := 52) hx hb hts in_X3 hown hK hP 0 rfl rfl 44 (by decide) (hts _ q1702) (fun _ h9 => h9) rfl dX3_movesTo_29 ?_
    refine lv_sipush (v := 256) hx hb dX3_movesTo_32 (by decide) ?_
    refine lv_iload_n hx hb dX3_movesTo_35 rfl (lv_at hl 3 rfl) ?_
    refine lv_imul hx hb dX3_movesTo_36 ?_
    refine lv_iload hx hb dX3_movesTo_37 (lv_at hl 0 rfl) ?_
    refine lv_iadd hx hb dX3_movesTo_39 ?_
    obtain ⟨i3, h⟩ := ckI_s h
    refine va_iald (f := c_comesTo) hx hb hK hP 21 0 rfl rfl i3 dX3_movesTo_40 ?_
    refine lv_ineg hx hb dX3_movesTo_41 ?_
    obtain rfl := Option.some.inj h
    exact hret dX3_movesTo_42 rfl
  · rw [if_neg c2] at h
    refine lv_aload_n hx hb dX3_movesTo_16 rfl (lv_at hl 1 rfl) ?_
    refine lv_iload_n hx hb dX3_movesTo_17 rfl (lv_at hl 2 rfl) ?_
    obtain ⟨y5, e5, h⟩ := ob_s h
    refine MR.callV (q0 := 0) (M_X3_hasLine hG e5) S (cw_X3_hasLine hts q2250 ⟨Nat.le_of_ble_eq_true rfl, Nat.le_of_ble_eq_true rfl⟩) hW0 hK hP rfl rfl rfl hl.1 rfl (Nat.le_of_ble_eq_true rfl) dX3_movesTo_18 ⟨Nat.zero_le _, Nat.zero_le _⟩ ?_
    refine lv_if_ne (tgt := 28) hx hb dX3_movesTo_21 (by decide) (fun c6 => ?_) (fun c6 => ?_)
    · rw [if_neg c6] at h
      refine lv_aload_n hx hb dX3_movesTo_28 rfl (lv_at hl 1 rfl) ?_
      refine va_get (ci := 2) (v := .ref (ad 44)) (C := RX3) (T := TX3) (N := 52) hx hb hts in_X3 hown hK hP 0 rfl rfl 44 (by decide) (hts _ q1702) (fun _ h9 => h9) rfl dX3_movesTo_29 ?_
      refine lv_sipush (v := 256) hx hb dX3_movesTo_32 (by decide) ?_
      refine lv_iload_n hx hb dX3_movesTo_35 rfl (lv_at hl 3 rfl) ?_
      refine lv_imul hx hb dX3_movesTo_36 ?_
      refine lv_iload hx hb dX3_movesTo_37 (lv_at hl 0 rfl) ?_
      refine lv_iadd hx hb dX3_movesTo_39 ?_
      obtain ⟨i7, h⟩ := ckI_s h
      refine va_iald (f := c_comesTo) hx hb hK hP 21 0 rfl rfl i7 dX3_movesTo_40 ?_
      refine lv_ineg hx hb dX3_movesTo_41 ?_
      obtain rfl := Option.some.inj h
      exact hret dX3_movesTo_42 rfl
    · rw [if_pos c6] at h
      refine lv_iconst (v := 1) hx hb dX3_movesTo_24 (by decide) ?_
      refine lv_goto (tgt := 42) hx hb dX3_movesTo_25 (by decide) ?_
      obtain rfl := Option.some.inj h
      exact hret dX3_movesTo_42 rfl
def F_X3_bestOf_6 (N : Nat) (v1 : Int32) (v2 : Int32) (c_now : (Nat → Int32)) (c_comesTo : (Nat → Int32)) : Nat → Int32 → Int32 → (Int32 → Option (Int32)) → Option (Int32)
  | 0, _, _, _ => none
  | n + 1, v3, v4, k45 => ((F_X3_points N c_now).bind fun y1 => (if y1 ≤ v4 then (k45 v3) else (if (((v1 ||| v2) >>> (v4 &&& 31)) &&& (1 : Int32)) = 0 then ((F_X3_movesTo N v1 v2 v4 c_now c_comesTo).bind fun y4 => (F_X3_bestOf_6 N v1 v2 c_now c_comesTo n (if v3 < y4 then y4 else v3) (v4 + 1) k45)) else (F_X3_bestOf_6 N v1 v2 c_now c_comesTo n v3 (v4 + 1) k45))))
def F_X3_bestOf (N : Nat) (v1 : Int32) (v2 : Int32) (c_now : (Nat → Int32)) (c_comesTo : (Nat → Int32)) : Option (Int32) := (F_X3_bestOf_6 N v1 v2 c_now c_comesTo N (-2) 0 (fun u3_5 => (if u3_5 = (-2) then (some (0)) else (some (u3_5)))))
theorem cw_X3_bestOf {R : Room} {s : State} {args : Array Value} {own : String} {index lev mc ms : Nat} (hts : ∀ w ∈ lw_all, w.before args s = true) (hl : Cond.methodLink own index yX3_bestOf ∈ lw_all) (hR : (rmL lev mc ms).frames + 1 ≤ R.frames ∧ 8 + (5 + 11) + (rmL lev mc ms).locals ≤ R.locals) : CallW R s args own RX3 index yX3_bestOf cX3_bestOf 5 (some .int) (ws_ yX3_bestOf cX3_bestOf 5 (some .int)) (rmL lev mc ms) mc ms 2 := cwV 2 hts (lw_V hl q2280 qs147 q172 q2281) rfl rfl rfl (by decide +kernel) hR
set_option maxHeartbeats 4000000 in
theorem M_X3_bestOf {l : Launch} {G : GE} (hG : GC G) {N : Nat} {h0 : Nat} {ad : Nat → Nat} {c_code : Int32} {c_read : (Nat → Int32)} {c_status : (Nat → Int32)} {c_tape : (Nat → Int32)} {c_taped : Int32} {c_at : Int32} {c_textSize : Int32} {c_token : Int32} {c_number : Int32} {c_begins : Int32} {c_stops : Int32} {c_bad : Int32} {c_badPlace : Int32} {c_faultPlace : Int32} {c_clauses : Int32} {c_naming : (Nat → Int32)} {c_lineBy : (Nat → Int32)} {c_becomes : (Nat → Int32)} {c_dualLines : (Nat → Int32)} {c_on : (Nat → Int32)} {c_rowNow : (Nat → Int32)} {c_least : (Nat → Int32)} {c_wayFirst : (Nat → Int32)} {c_ways : Int32} {c_acts : Int32} {c_past : (Nat → Int32)} {c_listPoints : Int32} {c_listLines : Int32} {c_listed : Int32} {c_list : (Nat → Int32)} {c_path : (Nat → Int32)} {c_places : (Nat → Int32)} {c_firstPlaces : (Nat → Int32)} {c_px : (Nat → Int32)} {c_py : (Nat → Int32)} {c_pz : (Nat → Int32)} {c_placeMany : Int32} {c_modulus : Int32} {c_drawn : Int32} {c_halvesMany : Int32} {c_halvesFirst : Int32} {c_spreadsMany : Int32} {c_spreadsFirst : Int32} {c_seedNow : Int32} {c_rowThen : (Nat → Int32)} {c_hasImage : Int32} {c_actsThen : Int32} {c_imageRow : (Nat → Int32)} {c_pastThen : (Nat → Int32)} {c_statusThen : (Nat → Int32)} {v1 : Int32} {v2 : Int32} {c_now : (Nat → Int32)} {c_comesTo : (Nat → Int32)} {ρ : (Int32)} (h : F_X3_bestOf N v1 v2 c_now c_comesTo = some ρ) : MR l G yX3_bestOf cX3_bestOf 5 (some .int) 4 (mW h0 ad G.2.2 c_code c_now c_read c_status c_tape c_taped c_at c_textSize c_token c_number c_begins c_stops c_bad c_badPlace c_faultPlace c_clauses c_naming c_lineBy c_becomes c_dualLines c_on c_rowNow c_least c_wayFirst c_ways c_acts c_past c_listPoints c_listLines c_listed c_list c_path c_places c_firstPlaces c_px c_py c_pz c_placeMany c_modulus c_drawn c_halvesMany c_halvesFirst c_spreadsMany c_spreadsFirst c_comesTo c_seedNow c_rowThen c_hasImage c_actsThen c_imageRow c_pastThen c_statusThen) [.ref h0, .int v1, .int v2] ρ := by
  rw [F_X3_bestOf] at h
  refine MR.start (rt := .int) hG (by decide) (Nat.le_of_ble_eq_true rfl) ?_
  intro p e s m args below meth c Q S hW0 hK hP hret ls hl
  obtain ⟨hx, hb, hml, hown, hts⟩ := id S
  have hl : lv_has ls 5 [(0, .ref h0), (1, .int v1), (2, .int v2)] := hl
  have S_X3_bestOf_6 : ∀ (n : Nat) (v1 : Int32) (v2 : Int32) (v3 : Int32) (v4 : Int32) (k45 : Int32 → Option (Int32)), F_X3_bestOf_6 N v1 v2 c_now c_comesTo n v3 v4 k45 = some ρ → (∀ (u3 : Int32) (ls : Array Slot), k45 u3 = some ρ → lv_has ls 5 [(3, .int u3)] → W p l e (rmL 4 0 0) s m args below meth c s.heap [] 0 0 Q (F0 m 45 ls [])) → ∀ (ls : Array Slot), lv_has ls 5 [(0, .ref h0), (1, .int v1), (2, .int v2), (3, .int v3), (4, .int v4)] → W p l e (rmL 4 0 0) s m args below meth c s.heap [] 0 0 Q (F0 m 6 ls []) := by
    intro n
    induction n with
    | zero =>
      intro v1 v2 v3 v4 k45 h
      exact absurd h (by simp [F_X3_bestOf_6])
    | succ n ih =>
      intro v1 v2 v3 v4 k45 h hk45 ls hl
      rw [F_X3_bestOf_6] at h
      refine lv_iload hx hb dX3_bestOf_6 (lv_at hl 4 rfl) ?_
      refine lv_aload_n hx hb dX3_bestOf_8 rfl (lv_at hl 0 rfl) ?_
      obtain ⟨y1, e1, h⟩ := ob_s h
      refine MR.callV (q0 := 0) (M_X3_points hG e1) S (cw_X3_points hts q1913 ⟨Nat.le_of_ble_eq_true rfl, Nat.le_of_ble_eq_true rfl⟩) hW0 hK hP rfl rfl rfl hl.1 rfl (Nat.le_of_ble_eq_true rfl) dX3_bestOf_9 ⟨Nat.zero_le _, Nat.zero_le _⟩ ?_
      refine lv_icmp_ge (tgt := 45) hx hb dX3_bestOf_12 (by decide) (fun c2 => ?_) (fun c2 => ?_)
      · rw [if_pos c2] at h
        exact hk45 v3 _ h (lv_sub hl [3] rfl)
      · rw [if_neg c2] at h
        refine lv_iload_n hx hb dX3_bestOf_15 rfl (lv_at hl 1 rfl) ?_
        refine lv_iload_n hx hb dX3_bestOf_16 rfl (lv_at hl 2 rfl) ?_
        refine lv_ior hx hb dX3_bestOf_17 ?_
        refine lv_iload hx hb dX3_bestOf_18 (lv_at hl 4 rfl) ?_
        refine lv_ishr hx hb dX3_bestOf_20 ?_
        refine lv_iconst (v := 1) hx hb dX3_bestOf_21 (by decide) ?_
        refine lv_iand hx hb dX3_bestOf_22 ?_
        refine lv_if_ne (tgt := 39) hx hb dX3_bestOf_23 (by decide) (fun c3 => ?_) (fun c3 => ?_)
        · rw [if_neg c3] at h
          refine lv_iinc (v := (v4 + 1)) (lv' := [(4, .int (v4 + 1)), (0, .ref h0), (1, .int v1), (2, .int v2), (3, .int v3)]) hx hb dX3_bestOf_39 hl (k := 4) rfl rfl (by decide) rfl (fun ls hl => ?_)
          refine lv_goto (tgt := 6) hx hb dX3_bestOf_42 (by decide) ?_
          exact ih v1 v2 v3 (v4 + 1) _ h hk45 _ (lv_sub hl [1, 2, 3, 4, 0] rfl)
        · rw [if_pos c3] at h
          refine lv_iload_n hx hb dX3_bestOf_26 rfl (lv_at hl 3 rfl) ?_
          refine lv_aload_n hx hb dX3_bestOf_27 rfl (lv_at hl 0 rfl) ?_
          refine lv_iload_n hx hb dX3_bestOf_28 rfl (lv_at hl 1 rfl) ?_
          refine lv_iload_n hx hb dX3_bestOf_29 rfl (lv_at hl 2 rfl) ?_
          refine lv_iload hx hb dX3_bestOf_30 (lv_at hl 4 rfl) ?_
          obtain ⟨y4, e4, h⟩ := ob_s h
          refine MR.callV (q0 := 0) (M_X3_movesTo hG e4) S (cw_X3_movesTo hts q2282 ⟨Nat.le_of_ble_eq_true rfl, Nat.le_of_ble_eq_true rfl⟩) hW0 hK hP rfl rfl rfl hl.1 rfl (Nat.le_of_ble_eq_true rfl) dX3_bestOf_32 ⟨Nat.zero_le _, Nat.zero_le _⟩ ?_
          refine va_mmax hx hb (hml.trans hl.1.symm) hown (hts _ q2286) (hts _ q359) (hts _ q165) (hts _ q360) (Nat.le_of_ble_eq_true rfl) (Nat.le_of_ble_eq_true rfl) (Nat.zero_le _) (Nat.zero_le _) dX3_bestOf_35 ?_
          refine lv_istore_n (lv' := [(3, .int (if v3 < y4 then y4 else v3)), (0, .ref h0), (1, .int v1), (2, .int v2), (4, .int v4)]) hx hb dX3_bestOf_38 rfl hl (by decide) rfl (fun ls hl => ?_)
          refine lv_iinc (v := (v4 + 1)) (lv' := [(4, .int (v4 + 1)), (3, .int (if v3 < y4 then y4 else v3)), (0, .ref h0), (1, .int v1), (2, .int v2)]) hx hb dX3_bestOf_39 hl (k := 4) rfl rfl (by decide) rfl (fun ls hl => ?_)
          refine lv_goto (tgt := 6) hx hb dX3_bestOf_42 (by decide) ?_
          exact ih v1 v2 (if v3 < y4 then y4 else v3) (v4 + 1) _ h hk45 _ (lv_sub hl [2, 3, 4, 1, 0] rfl)
  refine lv_bipush (v := (-2)) hx hb dX3_bestOf_0 (by decide) ?_
  refine lv_istore_n (lv' := [(3, .int (-2)), (0, .ref h0), (1, .int v1), (2, .int v2)]) hx hb dX3_bestOf_2 rfl hl (by decide) rfl (fun ls hl => ?_)
  refine lv_iconst (v := 0) hx hb dX3_bestOf_3 (by decide) ?_
  refine lv_istore (lv' := [(4, .int 0), (3, .int (-2)), (0, .ref h0), (1, .int v1), (2, .int v2)]) hx hb dX3_bestOf_4 hl (by decide) rfl (fun ls hl => ?_)
  refine S_X3_bestOf_6 N v1 v2 (-2) 0 _ h ?_ _ (lv_sub hl [2, 3, 4, 1, 0] rfl)
  · intro u3_5 ls h hl
    refine lv_iload_n hx hb dX3_bestOf_45 rfl (lv_at hl 0 rfl) ?_
    refine lv_bipush (v := (-2)) hx hb dX3_bestOf_46 (by decide) ?_
    refine lv_icmp_ne (tgt := 55) hx hb dX3_bestOf_48 (by decide) (fun c6 => ?_) (fun c6 => ?_)
    · rw [if_neg c6] at h
      refine lv_iload_n hx hb dX3_bestOf_55 rfl (lv_at hl 0 rfl) ?_
      obtain rfl := Option.some.inj h
      exact hret dX3_bestOf_56 rfl
    · rw [if_pos c6] at h
      refine lv_iconst (v := 0) hx hb dX3_bestOf_51 (by decide) ?_
      refine lv_goto (tgt := 56) hx hb dX3_bestOf_52 (by decide) ?_
      obtain rfl := Option.some.inj h
      exact hret dX3_bestOf_56 rfl
def F_X3_tellGame_11 (N : Nat) (v1 : Int32) (c_now : (Nat → Int32)) : Nat → Int32 → (Nat → Int32) → ((Nat → Int32) → Option ((Nat → Int32))) → Option ((Nat → Int32))
  | 0, _, _, _ => none
  | n + 1, v2, c_comesTo, k58 => (if v2 < 0 then (k58 c_comesTo) else ((F_X3_bestOf N v2 (v1 &&& (v2 ^^^ (-1 : Int32))) c_now c_comesTo).bind fun y5 => (ckI (((256 : Int32) * v2) + (v1 &&& (v2 ^^^ (-1 : Int32)))) 65536 (if v2 = 0 then (F_X3_tellGame_11 N v1 c_now n (-1) (upd c_comesTo (Int32.toNatClampNeg (((256 : Int32) * v2) + (v1 &&& (v2 ^^^ (-1 : Int32))))) y5) k58) else (F_X3_tellGame_11 N v1 c_now n ((v2 - (1 : Int32)) &&& v1) (upd c_comesTo (Int32.toNatClampNeg (((256 : Int32) * v2) + (v1 &&& (v2 ^^^ (-1 : Int32))))) y5) k58)))))
def F_X3_tellGame_5 (N : Nat) (c_now : (Nat → Int32)) : Nat → Int32 → (Nat → Int32) → Option ((Nat → Int32))
  | 0, _, _ => none
  | n + 1, v1, c_comesTo => (if v1 < 0 then (some (c_comesTo)) else (F_X3_tellGame_11 N v1 c_now N v1 c_comesTo (fun c_comesTo_8 => (F_X3_tellGame_5 N c_now n (v1 + (-1)) c_comesTo_8))))
def F_X3_tellGame (N : Nat) (c_now : (Nat → Int32)) (c_comesTo : (Nat → Int32)) : Option ((Nat → Int32)) := ((F_X3_all N c_now).bind fun y1 => (F_X3_tellGame_5 N c_now N y1 c_comesTo))
theorem cw_X3_tellGame {R : Room} {s : State} {args : Array Value} {own : String} {index lev mc ms : Nat} (hts : ∀ w ∈ lw_all, w.before args s = true) (hl : Cond.methodLink own index yX3_tellGame ∈ lw_all) (hR : (rmL lev mc ms).frames + 1 ≤ R.frames ∧ 8 + (3 + 11) + (rmL lev mc ms).locals ≤ R.locals) : CallW R s args own RX3 index yX3_tellGame cX3_tellGame 3 none (ws_ yX3_tellGame cX3_tellGame 3 none) (rmL lev mc ms) mc ms 0 := cwV 0 hts (lw_V hl q2276 qs146 q172 q2277) rfl rfl rfl (by decide +kernel) hR
set_option maxHeartbeats 4000000 in
theorem M_X3_tellGame {l : Launch} {G : GE} (hG : GC G) {N : Nat} {h0 : Nat} {ad : Nat → Nat} {c_code : Int32} {c_read : (Nat → Int32)} {c_status : (Nat → Int32)} {c_tape : (Nat → Int32)} {c_taped : Int32} {c_at : Int32} {c_textSize : Int32} {c_token : Int32} {c_number : Int32} {c_begins : Int32} {c_stops : Int32} {c_bad : Int32} {c_badPlace : Int32} {c_faultPlace : Int32} {c_clauses : Int32} {c_naming : (Nat → Int32)} {c_lineBy : (Nat → Int32)} {c_becomes : (Nat → Int32)} {c_dualLines : (Nat → Int32)} {c_on : (Nat → Int32)} {c_rowNow : (Nat → Int32)} {c_least : (Nat → Int32)} {c_wayFirst : (Nat → Int32)} {c_ways : Int32} {c_acts : Int32} {c_past : (Nat → Int32)} {c_listPoints : Int32} {c_listLines : Int32} {c_listed : Int32} {c_list : (Nat → Int32)} {c_path : (Nat → Int32)} {c_places : (Nat → Int32)} {c_firstPlaces : (Nat → Int32)} {c_px : (Nat → Int32)} {c_py : (Nat → Int32)} {c_pz : (Nat → Int32)} {c_placeMany : Int32} {c_modulus : Int32} {c_drawn : Int32} {c_halvesMany : Int32} {c_halvesFirst : Int32} {c_spreadsMany : Int32} {c_spreadsFirst : Int32} {c_seedNow : Int32} {c_rowThen : (Nat → Int32)} {c_hasImage : Int32} {c_actsThen : Int32} {c_imageRow : (Nat → Int32)} {c_pastThen : (Nat → Int32)} {c_statusThen : (Nat → Int32)} {c_now : (Nat → Int32)} {c_comesTo : (Nat → Int32)} {ρ : ((Nat → Int32))} (h : F_X3_tellGame N c_now c_comesTo = some ρ) : MW l G yX3_tellGame cX3_tellGame 3 none 5 (mW h0 ad G.2.2 c_code c_now c_read c_status c_tape c_taped c_at c_textSize c_token c_number c_begins c_stops c_bad c_badPlace c_faultPlace c_clauses c_naming c_lineBy c_becomes c_dualLines c_on c_rowNow c_least c_wayFirst c_ways c_acts c_past c_listPoints c_listLines c_listed c_list c_path c_places c_firstPlaces c_px c_py c_pz c_placeMany c_modulus c_drawn c_halvesMany c_halvesFirst c_spreadsMany c_spreadsFirst c_comesTo c_seedNow c_rowThen c_hasImage c_actsThen c_imageRow c_pastThen c_statusThen) [.ref h0] none (mW h0 ad G.2.2 c_code c_now c_read c_status c_tape c_taped c_at c_textSize c_token c_number c_begins c_stops c_bad c_badPlace c_faultPlace c_clauses c_naming c_lineBy c_becomes c_dualLines c_on c_rowNow c_least c_wayFirst c_ways c_acts c_past c_listPoints c_listLines c_listed c_list c_path c_places c_firstPlaces c_px c_py c_pz c_placeMany c_modulus c_drawn c_halvesMany c_halvesFirst c_spreadsMany c_spreadsFirst ρ c_seedNow c_rowThen c_hasImage c_actsThen c_imageRow c_pastThen c_statusThen) := by
  rw [F_X3_tellGame] at h
  refine MW.start hG (by decide) (Nat.le_of_ble_eq_true rfl) ?_
  intro p e s m args below meth c Q A S hW0 hK hP hD hA hreti hretv ls hl
  have hS : va_S A s.heap s.heap [] := va_S.rf
  obtain ⟨hx, hb, hml, hown, hts⟩ := id S
  have hl : lv_has ls 3 [(0, .ref h0)] := hl
  have S_X3_tellGame_11 : ∀ (n : Nat) (v1 : Int32) (v2 : Int32) (c_comesTo : (Nat → Int32)) (k58 : (Nat → Int32) → Option ((Nat → Int32))), F_X3_tellGame_11 N v1 c_now n v2 c_comesTo k58 = some ρ → (∀ (z_c_comesTo : (Nat → Int32)) (H : Heap) (locs : List Loc) (ls : Array Slot), k58 z_c_comesTo = some ρ → va_P G.2.1 vwCl (mW h0 ad G.2.2 c_code c_now c_read c_status c_tape c_taped c_at c_textSize c_token c_number c_begins c_stops c_bad c_badPlace c_faultPlace c_clauses c_naming c_lineBy c_becomes c_dualLines c_on c_rowNow c_least c_wayFirst c_ways c_acts c_past c_listPoints c_listLines c_listed c_list c_path c_places c_firstPlaces c_px c_py c_pz c_placeMany c_modulus c_drawn c_halvesMany c_halvesFirst c_spreadsMany c_spreadsFirst z_c_comesTo c_seedNow c_rowThen c_hasImage c_actsThen c_imageRow c_pastThen c_statusThen) H → va_D A (mW h0 ad G.2.2 c_code c_now c_read c_status c_tape c_taped c_at c_textSize c_token c_number c_begins c_stops c_bad c_badPlace c_faultPlace c_clauses c_naming c_lineBy c_becomes c_dualLines c_on c_rowNow c_least c_wayFirst c_ways c_acts c_past c_listPoints c_listLines c_listed c_list c_path c_places c_firstPlaces c_px c_py c_pz c_placeMany c_modulus c_drawn c_halvesMany c_halvesFirst c_spreadsMany c_spreadsFirst z_c_comesTo c_seedNow c_rowThen c_hasImage c_actsThen c_imageRow c_pastThen c_statusThen) → va_S A s.heap H locs → lv_has ls 3 [(0, .ref h0), (1, .int v1)] → W p l e (rmL 5 0 0) s m args below meth c H locs 0 0 Q (F0 m 58 ls [])) → ∀ (H : Heap) (locs : List Loc), va_P G.2.1 vwCl (mW h0 ad G.2.2 c_code c_now c_read c_status c_tape c_taped c_at c_textSize c_token c_number c_begins c_stops c_bad c_badPlace c_faultPlace c_clauses c_naming c_lineBy c_becomes c_dualLines c_on c_rowNow c_least c_wayFirst c_ways c_acts c_past c_listPoints c_listLines c_listed c_list c_path c_places c_firstPlaces c_px c_py c_pz c_placeMany c_modulus c_drawn c_halvesMany c_halvesFirst c_spreadsMany c_spreadsFirst c_comesTo c_seedNow c_rowThen c_hasImage c_actsThen c_imageRow c_pastThen c_statusThen) H → va_D A (mW h0 ad G.2.2 c_code c_now c_read c_status c_tape c_taped c_at c_textSize c_token c_number c_begins c_stops c_bad c_badPlace c_faultPlace c_clauses c_naming c_lineBy c_becomes c_dualLines c_on c_rowNow c_least c_wayFirst c_ways c_acts c_past c_listPoints c_listLines c_listed c_list c_path c_places c_firstPlaces c_px c_py c_pz c_placeMany c_modulus c_drawn c_halvesMany c_halvesFirst c_spreadsMany c_spreadsFirst c_comesTo c_seedNow c_rowThen c_hasImage c_actsThen c_imageRow c_pastThen c_statusThen) → va_S A s.heap H locs → ∀ (ls : Array Slot), lv_has ls 3 [(0, .ref h0), (1, .int v1), (2, .int v2)] → W p l e (rmL 5 0 0) s m args below meth c H locs 0 0 Q (F0 m 11 ls []) := by
    intro n
    induction n with
    | zero =>
      intro v1 v2 c_comesTo k58 h
      exact absurd h (by simp [F_X3_tellGame_11])
    | succ n ih =>
      intro v1 v2 c_comesTo k58 h hk58 H locs hP hD hS ls hl
      rw [F_X3_tellGame_11] at h
      refine lv_iload_n hx hb dX3_tellGame_11 rfl (lv_at hl 2 rfl) ?_
      refine lv_if_lt (tgt := 58) hx hb dX3_tellGame_12 (by decide) (fun c4 => ?_) (fun c4 => ?_)
      · rw [if_pos c4] at h
        exact hk58 c_comesTo _ _ _ h hP hD hS (lv_sub hl [0, 1] rfl)
      · rw [if_neg c4] at h
        refine lv_aload_n hx hb dX3_tellGame_15 rfl (lv_at hl 0 rfl) ?_
        refine va_get (ci := 2) (v := .ref (ad 44)) (C := RX3) (T := TX3) (N := 52) hx hb hts in_X3 hown hK hP 0 rfl rfl 44 (by decide) (hts _ q1702) (fun _ h9 => h9) rfl dX3_tellGame_16 ?_
        refine lv_sipush (v := 256) hx hb dX3_tellGame_19 (by decide) ?_
        refine lv_iload_n hx hb dX3_tellGame_22 rfl (lv_at hl 2 rfl) ?_
        refine lv_imul hx hb dX3_tellGame_23 ?_
        refine lv_iload_n hx hb dX3_tellGame_24 rfl (lv_at hl 1 rfl) ?_
        refine lv_iload_n hx hb dX3_tellGame_25 rfl (lv_at hl 2 rfl) ?_
        refine lv_iconst (v := (-1)) hx hb dX3_tellGame_26 (by decide) ?_
        refine lv_ixor hx hb dX3_tellGame_27 ?_
        refine lv_iand hx hb dX3_tellGame_28 ?_
        refine lv_iadd hx hb dX3_tellGame_29 ?_
        refine lv_aload_n hx hb dX3_tellGame_30 rfl (lv_at hl 0 rfl) ?_
        refine lv_iload_n hx hb dX3_tellGame_31 rfl (lv_at hl 2 rfl) ?_
        refine lv_iload_n hx hb dX3_tellGame_32 rfl (lv_at hl 1 rfl) ?_
        refine lv_iload_n hx hb dX3_tellGame_33 rfl (lv_at hl 2 rfl) ?_
        refine lv_iconst (v := (-1)) hx hb dX3_tellGame_34 (by decide) ?_
        refine lv_ixor hx hb dX3_tellGame_35 ?_
        refine lv_iand hx hb dX3_tellGame_36 ?_
        obtain ⟨y5, e5, h⟩ := ob_s h
        refine MR.callV (q0 := 0) (M_X3_bestOf hG e5) S (cw_X3_bestOf hts q2278 ⟨Nat.le_of_ble_eq_true rfl, Nat.le_of_ble_eq_true rfl⟩) hW0 hK hP rfl rfl rfl hl.1 rfl (Nat.le_of_ble_eq_true rfl) dX3_tellGame_37 ⟨Nat.zero_le _, Nat.zero_le _⟩ ?_
        obtain ⟨i6, h⟩ := ckI_s h
        refine va_iast (f := c_comesTo) hx hb hK hP hD hS 21 0 rfl rfl i6 dX3_tellGame_40 (fun H locs hP hD hS => ?_)
        have hP : va_P G.2.1 vwCl (mW h0 ad G.2.2 c_code c_now c_read c_status c_tape c_taped c_at c_textSize c_token c_number c_begins c_stops c_bad c_badPlace c_faultPlace c_clauses c_naming c_lineBy c_becomes c_dualLines c_on c_rowNow c_least c_wayFirst c_ways c_acts c_past c_listPoints c_listLines c_listed c_list c_path c_places c_firstPlaces c_px c_py c_pz c_placeMany c_modulus c_drawn c_halvesMany c_halvesFirst c_spreadsMany c_spreadsFirst (upd c_comesTo (Int32.toNatClampNeg (((256 : Int32) * v2) + (v1 &&& (v2 ^^^ (-1 : Int32))))) y5) c_seedNow c_rowThen c_hasImage c_actsThen c_imageRow c_pastThen c_statusThen) H := hP
        have hD : va_D A (mW h0 ad G.2.2 c_code c_now c_read c_status c_tape c_taped c_at c_textSize c_token c_number c_begins c_stops c_bad c_badPlace c_faultPlace c_clauses c_naming c_lineBy c_becomes c_dualLines c_on c_rowNow c_least c_wayFirst c_ways c_acts c_past c_listPoints c_listLines c_listed c_list c_path c_places c_firstPlaces c_px c_py c_pz c_placeMany c_modulus c_drawn c_halvesMany c_halvesFirst c_spreadsMany c_spreadsFirst (upd c_comesTo (Int32.toNatClampNeg (((256 : Int32) * v2) + (v1 &&& (v2 ^^^ (-1 : Int32))))) y5) c_seedNow c_rowThen c_hasImage c_actsThen c_imageRow c_pastThen c_statusThen) := hD
        refine lv_iload_n hx hb dX3_tellGame_41 rfl (lv_at hl 2 rfl) ?_
        refine lv_if_ne (tgt := 49) hx hb dX3_tellGame_42 (by decide) (fun c7 => ?_) (fun c7 => ?_)
        · rw [if_neg c7] at h
          refine lv_iload_n hx hb dX3_tellGame_49 rfl (lv_at hl 2 rfl) ?_
          refine lv_iconst (v := 1) hx hb dX3_tellGame_50 (by decide) ?_
          refine lv_isub hx hb dX3_tellGame_51 ?_
          refine lv_iload_n hx hb dX3_tellGame_52 rfl (lv_at hl 1 rfl) ?_
          refine lv_iand hx hb dX3_tellGame_53 ?_
          refine lv_istore_n (lv' := [(2, .int ((v2 - (1 : Int32)) &&& v1)), (0, .ref h0), (1, .int v1)]) hx hb dX3_tellGame_54 rfl hl (by decide) rfl (fun ls hl => ?_)
          refine lv_goto (tgt := 11) hx hb dX3_tellGame_55 (by decide) ?_
          exact ih v1 ((v2 - (1 : Int32)) &&& v1) (upd c_comesTo (Int32.toNatClampNeg (((256 : Int32) * v2) + (v1 &&& (v2 ^^^ (-1 : Int32))))) y5) _ h hk58 _ _ hP hD hS _ (lv_sub hl [1, 2, 0] rfl)
        · rw [if_pos c7] at h
          refine lv_iconst (v := (-1)) hx hb dX3_tellGame_45 (by decide) ?_
          refine lv_goto (tgt := 54) hx hb dX3_tellGame_46 (by decide) ?_
          refine lv_istore_n (lv' := [(2, .int (-1)), (0, .ref h0), (1, .int v1)]) hx hb dX3_tellGame_54 rfl hl (by decide) rfl (fun ls hl => ?_)
          refine lv_goto (tgt := 11) hx hb dX3_tellGame_55 (by decide) ?_
          exact ih v1 (-1) (upd c_comesTo (Int32.toNatClampNeg (((256 : Int32) * v2) + (v1 &&& (v2 ^^^ (-1 : Int32))))) y5) _ h hk58 _ _ hP hD hS _ (lv_sub hl [1, 2, 0] rfl)
  have S_X3_tellGame_5 : ∀ (n : Nat) (v1 : Int32) (c_comesTo : (Nat → Int32)), F_X3_tellGame_5 N c_now n v1 c_comesTo = some ρ → ∀ (H : Heap) (locs : List Loc), va_P G.2.1 vwCl (mW h0 ad G.2.2 c_code c_now c_read c_status c_tape c_taped c_at c_textSize c_token c_number c_begins c_stops c_bad c_badPlace c_faultPlace c_clauses c_naming c_lineBy c_becomes c_dualLines c_on c_rowNow c_least c_wayFirst c_ways c_acts c_past c_listPoints c_listLines c_listed c_list c_path c_places c_firstPlaces c_px c_py c_pz c_placeMany c_modulus c_drawn c_halvesMany c_halvesFirst c_spreadsMany c_spreadsFirst c_comesTo c_seedNow c_rowThen c_hasImage c_actsThen c_imageRow c_pastThen c_statusThen) H → va_D A (mW h0 ad G.2.2 c_code c_now c_read c_status c_tape c_taped c_at c_textSize c_token c_number c_begins c_stops c_bad c_badPlace c_faultPlace c_clauses c_naming c_lineBy c_becomes c_dualLines c_on c_rowNow c_least c_wayFirst c_ways c_acts c_past c_listPoints c_listLines c_listed c_list c_path c_places c_firstPlaces c_px c_py c_pz c_placeMany c_modulus c_drawn c_halvesMany c_halvesFirst c_spreadsMany c_spreadsFirst c_comesTo c_seedNow c_rowThen c_hasImage c_actsThen c_imageRow c_pastThen c_statusThen) → va_S A s.heap H locs → ∀ (ls : Array Slot), lv_has ls 3 [(0, .ref h0), (1, .int v1)] → W p l e (rmL 5 0 0) s m args below meth c H locs 0 0 Q (F0 m 5 ls []) := by
    intro n
    induction n with
    | zero =>
      intro v1 c_comesTo h
      exact absurd h (by simp [F_X3_tellGame_5])
    | succ n ih =>
      intro v1 c_comesTo h H locs hP hD hS ls hl
      rw [F_X3_tellGame_5] at h
      refine lv_iload_n hx hb dX3_tellGame_5 rfl (lv_at hl 1 rfl) ?_
      refine lv_if_lt (tgt := 64) hx hb dX3_tellGame_6 (by decide) (fun c2 => ?_) (fun c2 => ?_)
      · rw [if_pos c2] at h
        obtain rfl := Option.some.inj h
        exact hretv rfl dX3_tellGame_64 rfl hP hD hS
      · rw [if_neg c2] at h
        refine lv_iload_n hx hb dX3_tellGame_9 rfl (lv_at hl 1 rfl) ?_
        refine lv_istore_n (lv' := [(2, .int v1), (0, .ref h0), (1, .int v1)]) hx hb dX3_tellGame_10 rfl hl (by decide) rfl (fun ls hl => ?_)
        refine S_X3_tellGame_11 N v1 v1 c_comesTo _ h ?_ _ _ hP hD hS _ (lv_sub hl [1, 2, 0] rfl)
        · intro c_comesTo_8 H locs ls h hP hD hS hl
          refine lv_iinc (v := (v1 + (-1))) (lv' := [(1, .int (v1 + (-1))), (0, .ref h0)]) hx hb dX3_tellGame_58 hl (k := 1) rfl rfl (by decide) rfl (fun ls hl => ?_)
          refine lv_goto (tgt := 5) hx hb dX3_tellGame_61 (by decide) ?_
          exact ih (v1 + (-1)) c_comesTo_8 h _ _ hP hD hS _ (lv_sub hl [1, 0] rfl)
  refine lv_aload_n hx hb dX3_tellGame_0 rfl (lv_at hl 0 rfl) ?_
  obtain ⟨y1, e1, h⟩ := ob_s h
  refine MR.callV (q0 := 0) (M_X3_all hG e1) S (cw_X3_all hts q2246 ⟨Nat.le_of_ble_eq_true rfl, Nat.le_of_ble_eq_true rfl⟩) hW0 hK hP rfl rfl rfl hl.1 rfl (Nat.le_of_ble_eq_true rfl) dX3_tellGame_1 ⟨Nat.zero_le _, Nat.zero_le _⟩ ?_
  refine lv_istore_n (lv' := [(1, .int y1), (0, .ref h0)]) hx hb dX3_tellGame_4 rfl hl (by decide) rfl (fun ls hl => ?_)
  refine S_X3_tellGame_5 N y1 c_comesTo h  _ _ hP hD hS _ (lv_sub hl [1, 0] rfl)
def F_X3_game_33 (N : Nat) (v1 : Int32) (v2 : Int32) (c_now : (Nat → Int32)) (c_comesTo : (Nat → Int32)) : Nat → Int32 → (Int32 → Option (Int32 × (Nat → Int32) × Int32)) → Option (Int32 × (Nat → Int32) × Int32)
  | 0, _, _ => none
  | n + 1, v3, k55 => (if v1 = 1 then ((F_X3_movesTo N 0 0 v3 c_now c_comesTo).bind fun y6 => (if y6 = v2 then (k55 v3) else (F_X3_game_33 N v1 v2 c_now c_comesTo n (v3 + 1) k55))) else (k55 v3))
def F_X3_game (N : Nat) (v1 : Int32) (c_now : (Nat → Int32)) (c_comesTo : (Nat → Int32)) (c_code : Int32) : Option (Int32 × (Nat → Int32) × Int32) := ((F_X3_isIn N v1 0 1).bind fun y1 => (if y1 = 0 then ((F_X3_fail N 1 0).bind fun y12 => (some (y12.1, c_comesTo, y12.2))) else ((F_X3_tellGame N c_now c_comesTo).bind fun y3 => (ckI 0 65536 (F_X3_game_33 N v1 (y3 (Int32.toNatClampNeg 0)) c_now y3 N 0 (fun u3_8 => (if v1 = 0 then (some ((y3 (Int32.toNatClampNeg 0)), y3, 0)) else (some (u3_8, y3, 0)))))))))
theorem cw_X3_game {R : Room} {s : State} {args : Array Value} {own : String} {index lev mc ms : Nat} (hts : ∀ w ∈ lw_all, w.before args s = true) (hl : Cond.methodLink own index yX3_game ∈ lw_all) (hR : (rmL lev mc ms).frames + 1 ≤ R.frames ∧ 8 + (4 + 11) + (rmL lev mc ms).locals ≤ R.locals) : CallW R s args own RX3 index yX3_game cX3_game 4 (some .int) (ws_ yX3_game cX3_game 4 (some .int)) (rmL lev mc ms) mc ms 1 := cwV 1 hts (lw_V hl q2271 q2272 q172 q2273) rfl rfl rfl (by decide +kernel) hR
set_option maxHeartbeats 4000000 in
theorem M_X3_game {l : Launch} {G : GE} (hG : GC G) {N : Nat} {h0 : Nat} {ad : Nat → Nat} {c_read : (Nat → Int32)} {c_status : (Nat → Int32)} {c_tape : (Nat → Int32)} {c_taped : Int32} {c_at : Int32} {c_textSize : Int32} {c_token : Int32} {c_number : Int32} {c_begins : Int32} {c_stops : Int32} {c_bad : Int32} {c_badPlace : Int32} {c_faultPlace : Int32} {c_clauses : Int32} {c_naming : (Nat → Int32)} {c_lineBy : (Nat → Int32)} {c_becomes : (Nat → Int32)} {c_dualLines : (Nat → Int32)} {c_on : (Nat → Int32)} {c_rowNow : (Nat → Int32)} {c_least : (Nat → Int32)} {c_wayFirst : (Nat → Int32)} {c_ways : Int32} {c_acts : Int32} {c_past : (Nat → Int32)} {c_listPoints : Int32} {c_listLines : Int32} {c_listed : Int32} {c_list : (Nat → Int32)} {c_path : (Nat → Int32)} {c_places : (Nat → Int32)} {c_firstPlaces : (Nat → Int32)} {c_px : (Nat → Int32)} {c_py : (Nat → Int32)} {c_pz : (Nat → Int32)} {c_placeMany : Int32} {c_modulus : Int32} {c_drawn : Int32} {c_halvesMany : Int32} {c_halvesFirst : Int32} {c_spreadsMany : Int32} {c_spreadsFirst : Int32} {c_seedNow : Int32} {c_rowThen : (Nat → Int32)} {c_hasImage : Int32} {c_actsThen : Int32} {c_imageRow : (Nat → Int32)} {c_pastThen : (Nat → Int32)} {c_statusThen : (Nat → Int32)} {v1 : Int32} {c_now : (Nat → Int32)} {c_comesTo : (Nat → Int32)} {c_code : Int32} {ρ : (Int32 × (Nat → Int32) × Int32)} (h : F_X3_game N v1 c_now c_comesTo c_code = some ρ) : MW l G yX3_game cX3_game 4 (some .int) 6 (mW h0 ad G.2.2 c_code c_now c_read c_status c_tape c_taped c_at c_textSize c_token c_number c_begins c_stops c_bad c_badPlace c_faultPlace c_clauses c_naming c_lineBy c_becomes c_dualLines c_on c_rowNow c_least c_wayFirst c_ways c_acts c_past c_listPoints c_listLines c_listed c_list c_path c_places c_firstPlaces c_px c_py c_pz c_placeMany c_modulus c_drawn c_halvesMany c_halvesFirst c_spreadsMany c_spreadsFirst c_comesTo c_seedNow c_rowThen c_hasImage c_actsThen c_imageRow c_pastThen c_statusThen) [.ref h0, .int v1] (some (.int ρ.1)) (mW h0 ad G.2.2 ρ.2.2 c_now c_read c_status c_tape c_taped c_at c_textSize c_token c_number c_begins c_stops c_bad c_badPlace c_faultPlace c_clauses c_naming c_lineBy c_becomes c_dualLines c_on c_rowNow c_least c_wayFirst c_ways c_acts c_past c_listPoints c_listLines c_listed c_list c_path c_places c_firstPlaces c_px c_py c_pz c_placeMany c_modulus c_drawn c_halvesMany c_halvesFirst c_spreadsMany c_spreadsFirst ρ.2.1 c_seedNow c_rowThen c_hasImage c_actsThen c_imageRow c_pastThen c_statusThen) := by
  rw [F_X3_game] at h
  refine MW.start hG (by decide) (Nat.le_of_ble_eq_true rfl) ?_
  intro p e s m args below meth c Q A S hW0 hK hP hD hA hreti hretv ls hl
  have hS : va_S A s.heap s.heap [] := va_S.rf
  obtain ⟨hx, hb, hml, hown, hts⟩ := id S
  have hl : lv_has ls 4 [(0, .ref h0), (1, .int v1)] := hl
  have S_X3_game_33 : ∀ (n : Nat) (v1 : Int32) (v2 : Int32) (v3 : Int32) (c_comesTo : (Nat → Int32)) (c_code : Int32) (k55 : Int32 → Option (Int32 × (Nat → Int32) × Int32)), F_X3_game_33 N v1 v2 c_now c_comesTo n v3 k55 = some ρ → (∀ (u3 : Int32) (H : Heap) (locs : List Loc) (ls : Array Slot), k55 u3 = some ρ → va_P G.2.1 vwCl (mW h0 ad G.2.2 c_code c_now c_read c_status c_tape c_taped c_at c_textSize c_token c_number c_begins c_stops c_bad c_badPlace c_faultPlace c_clauses c_naming c_lineBy c_becomes c_dualLines c_on c_rowNow c_least c_wayFirst c_ways c_acts c_past c_listPoints c_listLines c_listed c_list c_path c_places c_firstPlaces c_px c_py c_pz c_placeMany c_modulus c_drawn c_halvesMany c_halvesFirst c_spreadsMany c_spreadsFirst c_comesTo c_seedNow c_rowThen c_hasImage c_actsThen c_imageRow c_pastThen c_statusThen) H → va_D A (mW h0 ad G.2.2 c_code c_now c_read c_status c_tape c_taped c_at c_textSize c_token c_number c_begins c_stops c_bad c_badPlace c_faultPlace c_clauses c_naming c_lineBy c_becomes c_dualLines c_on c_rowNow c_least c_wayFirst c_ways c_acts c_past c_listPoints c_listLines c_listed c_list c_path c_places c_firstPlaces c_px c_py c_pz c_placeMany c_modulus c_drawn c_halvesMany c_halvesFirst c_spreadsMany c_spreadsFirst c_comesTo c_seedNow c_rowThen c_hasImage c_actsThen c_imageRow c_pastThen c_statusThen) → va_S A s.heap H locs → lv_has ls 4 [(1, .int v1), (2, .int v2), (3, .int u3)] → W p l e (rmL 6 0 0) s m args below meth c H locs 0 0 Q (F0 m 55 ls [])) → ∀ (H : Heap) (locs : List Loc), va_P G.2.1 vwCl (mW h0 ad G.2.2 c_code c_now c_read c_status c_tape c_taped c_at c_textSize c_token c_number c_begins c_stops c_bad c_badPlace c_faultPlace c_clauses c_naming c_lineBy c_becomes c_dualLines c_on c_rowNow c_least c_wayFirst c_ways c_acts c_past c_listPoints c_listLines c_listed c_list c_path c_places c_firstPlaces c_px c_py c_pz c_placeMany c_modulus c_drawn c_halvesMany c_halvesFirst c_spreadsMany c_spreadsFirst c_comesTo c_seedNow c_rowThen c_hasImage c_actsThen c_imageRow c_pastThen c_statusThen) H → va_D A (mW h0 ad G.2.2 c_code c_now c_read c_status c_tape c_taped c_at c_textSize c_token c_number c_begins c_stops c_bad c_badPlace c_faultPlace c_clauses c_naming c_lineBy c_becomes c_dualLines c_on c_rowNow c_least c_wayFirst c_ways c_acts c_past c_listPoints c_listLines c_listed c_list c_path c_places c_firstPlaces c_px c_py c_pz c_placeMany c_modulus c_drawn c_halvesMany c_halvesFirst c_spreadsMany c_spreadsFirst c_comesTo c_seedNow c_rowThen c_hasImage c_actsThen c_imageRow c_pastThen c_statusThen) → va_S A s.heap H locs → ∀ (ls : Array Slot), lv_has ls 4 [(0, .ref h0), (1, .int v1), (2, .int v2), (3, .int v3)] → W p l e (rmL 6 0 0) s m args below meth c H locs 0 0 Q (F0 m 33 ls []) := by
    intro n
    induction n with
    | zero =>
      intro v1 v2 v3 c_comesTo c_code k55 h
      exact absurd h (by simp [F_X3_game_33])
    | succ n ih =>
      intro v1 v2 v3 c_comesTo c_code k55 h hk55 H locs hP hD hS ls hl
      rw [F_X3_game_33] at h
      refine lv_iload_n hx hb dX3_game_33 rfl (lv_at hl 1 rfl) ?_
      refine lv_iconst (v := 1) hx hb dX3_game_34 (by decide) ?_
      refine lv_icmp_ne (tgt := 55) hx hb dX3_game_35 (by decide) (fun c5 => ?_) (fun c5 => ?_)
      · rw [if_neg c5] at h
        exact hk55 v3 _ _ _ h hP hD hS (lv_sub hl [1, 2, 3] rfl)
      · rw [if_pos c5] at h
        refine lv_aload_n hx hb dX3_game_38 rfl (lv_at hl 0 rfl) ?_
        refine lv_iconst (v := 0) hx hb dX3_game_39 (by decide) ?_
        refine lv_iconst (v := 0) hx hb dX3_game_40 (by decide) ?_
        refine lv_iload_n hx hb dX3_game_41 rfl (lv_at hl 3 rfl) ?_
        obtain ⟨y6, e6, h⟩ := ob_s h
        refine MR.callV (q0 := 0) (M_X3_movesTo hG e6) S (cw_X3_movesTo hts q2282 ⟨Nat.le_of_ble_eq_true rfl, Nat.le_of_ble_eq_true rfl⟩) hW0 hK hP rfl rfl rfl hl.1 rfl (Nat.le_of_ble_eq_true rfl) dX3_game_42 ⟨Nat.zero_le _, Nat.zero_le _⟩ ?_
        refine lv_iload_n hx hb dX3_game_45 rfl (lv_at hl 2 rfl) ?_
        refine lv_icmp_eq (tgt := 55) hx hb dX3_game_46 (by decide) (fun c7 => ?_) (fun c7 => ?_)
        · rw [if_pos c7] at h
          exact hk55 v3 _ _ _ h hP hD hS (lv_sub hl [1, 2, 3] rfl)
        · rw [if_neg c7] at h
          refine lv_iinc (v := (v3 + 1)) (lv' := [(3, .int (v3 + 1)), (0, .ref h0), (1, .int v1), (2, .int v2)]) hx hb dX3_game_49 hl (k := 3) rfl rfl (by decide) rfl (fun ls hl => ?_)
          refine lv_goto (tgt := 33) hx hb dX3_game_52 (by decide) ?_
          exact ih v1 v2 (v3 + 1) c_comesTo c_code _ h hk55 _ _ hP hD hS _ (lv_sub hl [1, 2, 3, 0] rfl)
  refine lv_aload_n hx hb dX3_game_0 rfl (lv_at hl 0 rfl) ?_
  refine lv_iconst (v := 0) hx hb dX3_game_1 (by decide) ?_
  refine va_put (ci := 2) (v := .int 0) (ty := .int) (C := RX3) (T := TX3) (N := 52) hx hb hts in_X3 tyX3 tyX3_ok nmX3 hown hK hP hD hS 0 rfl rfl 0 (by decide) (hts _ q1658) (fun _ h9 => h9) rfl (by decide +kernel) rfl rfl (Nat.le_of_ble_eq_true rfl) dX3_game_2 (fun H locs hP hD hS => ?_)
  have hP : va_P G.2.1 vwCl (mW h0 ad G.2.2 0 c_now c_read c_status c_tape c_taped c_at c_textSize c_token c_number c_begins c_stops c_bad c_badPlace c_faultPlace c_clauses c_naming c_lineBy c_becomes c_dualLines c_on c_rowNow c_least c_wayFirst c_ways c_acts c_past c_listPoints c_listLines c_listed c_list c_path c_places c_firstPlaces c_px c_py c_pz c_placeMany c_modulus c_drawn c_halvesMany c_halvesFirst c_spreadsMany c_spreadsFirst c_comesTo c_seedNow c_rowThen c_hasImage c_actsThen c_imageRow c_pastThen c_statusThen) H := hP
  have hD : va_D A (mW h0 ad G.2.2 0 c_now c_read c_status c_tape c_taped c_at c_textSize c_token c_number c_begins c_stops c_bad c_badPlace c_faultPlace c_clauses c_naming c_lineBy c_becomes c_dualLines c_on c_rowNow c_least c_wayFirst c_ways c_acts c_past c_listPoints c_listLines c_listed c_list c_path c_places c_firstPlaces c_px c_py c_pz c_placeMany c_modulus c_drawn c_halvesMany c_halvesFirst c_spreadsMany c_spreadsFirst c_comesTo c_seedNow c_rowThen c_hasImage c_actsThen c_imageRow c_pastThen c_statusThen) := hD
  refine lv_iload_n hx hb dX3_game_5 rfl (lv_at hl 1 rfl) ?_
  refine lv_iconst (v := 0) hx hb dX3_game_6 (by decide) ?_
  refine lv_iconst (v := 1) hx hb dX3_game_7 (by decide) ?_
  obtain ⟨y1, e1, h⟩ := ob_s h
  refine MR.callS (M_X3_isIn hG e1) S (cw_X3_isIn hts q2061 ⟨Nat.le_of_ble_eq_true rfl, Nat.le_of_ble_eq_true rfl⟩) hW0 vaP0 rfl hl.1 rfl (Nat.le_of_ble_eq_true rfl) dX3_game_8 ⟨Nat.zero_le _, Nat.zero_le _⟩ ?_
  refine lv_if_ne (tgt := 20) hx hb dX3_game_11 (by decide) (fun c2 => ?_) (fun c2 => ?_)
  · rw [if_neg c2] at h
    refine lv_aload_n hx hb dX3_game_20 rfl (lv_at hl 0 rfl) ?_
    obtain ⟨y3, e3, h⟩ := ob_s h
    refine MW.callV (q0 := 0) (M_X3_tellGame hG e3) S (cw_X3_tellGame hts q2274 ⟨Nat.le_of_ble_eq_true rfl, Nat.le_of_ble_eq_true rfl⟩) hW0 hK hP hD hS hA rfl rfl rfl hl.1 rfl (Nat.le_of_ble_eq_true rfl) dX3_game_21 ⟨Nat.zero_le _, Nat.zero_le _⟩ (fun H locs hP hD hS => ?_)
    have hP : va_P G.2.1 vwCl (mW h0 ad G.2.2 0 c_now c_read c_status c_tape c_taped c_at c_textSize c_token c_number c_begins c_stops c_bad c_badPlace c_faultPlace c_clauses c_naming c_lineBy c_becomes c_dualLines c_on c_rowNow c_least c_wayFirst c_ways c_acts c_past c_listPoints c_listLines c_listed c_list c_path c_places c_firstPlaces c_px c_py c_pz c_placeMany c_modulus c_drawn c_halvesMany c_halvesFirst c_spreadsMany c_spreadsFirst y3 c_seedNow c_rowThen c_hasImage c_actsThen c_imageRow c_pastThen c_statusThen) H := hP
    have hD : va_D A (mW h0 ad G.2.2 0 c_now c_read c_status c_tape c_taped c_at c_textSize c_token c_number c_begins c_stops c_bad c_badPlace c_faultPlace c_clauses c_naming c_lineBy c_becomes c_dualLines c_on c_rowNow c_least c_wayFirst c_ways c_acts c_past c_listPoints c_listLines c_listed c_list c_path c_places c_firstPlaces c_px c_py c_pz c_placeMany c_modulus c_drawn c_halvesMany c_halvesFirst c_spreadsMany c_spreadsFirst y3 c_seedNow c_rowThen c_hasImage c_actsThen c_imageRow c_pastThen c_statusThen) := hD
    refine W.eq (g2 := F0 m 24 ls []) rfl ?_
    refine lv_aload_n hx hb dX3_game_24 rfl (lv_at hl 0 rfl) ?_
    refine va_get (ci := 2) (v := .ref (ad 44)) (C := RX3) (T := TX3) (N := 52) hx hb hts in_X3 hown hK hP 0 rfl rfl 44 (by decide) (hts _ q1702) (fun _ h9 => h9) rfl dX3_game_25 ?_
    refine lv_iconst (v := 0) hx hb dX3_game_28 (by decide) ?_
    obtain ⟨i4, h⟩ := ckI_s h
    refine va_iald (f := y3) hx hb hK hP 21 0 rfl rfl i4 dX3_game_29 ?_
    refine lv_istore_n (lv' := [(2, .int (y3 (Int32.toNatClampNeg 0))), (0, .ref h0), (1, .int v1)]) hx hb dX3_game_30 rfl hl (by decide) rfl (fun ls hl => ?_)
    refine lv_iconst (v := 0) hx hb dX3_game_31 (by decide) ?_
    refine lv_istore_n (lv' := [(3, .int 0), (2, .int (y3 (Int32.toNatClampNeg 0))), (0, .ref h0), (1, .int v1)]) hx hb dX3_game_32 rfl hl (by decide) rfl (fun ls hl => ?_)
    refine S_X3_game_33 N v1 (y3 (Int32.toNatClampNeg 0)) 0 y3 0 _ h ?_ _ _ hP hD hS _ (lv_sub hl [2, 3, 1, 0] rfl)
    · intro u3_8 H locs ls h hP hD hS hl
      refine lv_iload_n hx hb dX3_game_55 rfl (lv_at hl 0 rfl) ?_
      refine lv_if_ne (tgt := 63) hx hb dX3_game_56 (by decide) (fun c9 => ?_) (fun c9 => ?_)
      · rw [if_neg c9] at h
        refine lv_iload_n hx hb dX3_game_63 rfl (lv_at hl 2 rfl) ?_
        obtain rfl := Option.some.inj h
        exact hreti rfl dX3_game_64 rfl rfl hP hD hS
      · rw [if_pos c9] at h
        refine lv_iload_n hx hb dX3_game_59 rfl (lv_at hl 1 rfl) ?_
        refine lv_goto (tgt := 64) hx hb dX3_game_60 (by decide) ?_
        obtain rfl := Option.some.inj h
        exact hreti rfl dX3_game_64 rfl rfl hP hD hS
  · rw [if_pos c2] at h
    refine lv_aload_n hx hb dX3_game_14 rfl (lv_at hl 0 rfl) ?_
    refine lv_iconst (v := 1) hx hb dX3_game_15 (by decide) ?_
    obtain ⟨y12, e12, h⟩ := ob_s h
    refine MW.callV (q0 := 0) (M_X3_fail hG e12) S (cw_X3_fail hts q1827 ⟨Nat.le_of_ble_eq_true rfl, Nat.le_of_ble_eq_true rfl⟩) hW0 hK hP hD hS hA rfl rfl rfl hl.1 rfl (Nat.le_of_ble_eq_true rfl) dX3_game_16 ⟨Nat.zero_le _, Nat.zero_le _⟩ (fun H locs hP hD hS => ?_)
    have hP : va_P G.2.1 vwCl (mW h0 ad G.2.2 y12.2 c_now c_read c_status c_tape c_taped c_at c_textSize c_token c_number c_begins c_stops c_bad c_badPlace c_faultPlace c_clauses c_naming c_lineBy c_becomes c_dualLines c_on c_rowNow c_least c_wayFirst c_ways c_acts c_past c_listPoints c_listLines c_listed c_list c_path c_places c_firstPlaces c_px c_py c_pz c_placeMany c_modulus c_drawn c_halvesMany c_halvesFirst c_spreadsMany c_spreadsFirst c_comesTo c_seedNow c_rowThen c_hasImage c_actsThen c_imageRow c_pastThen c_statusThen) H := hP
    have hD : va_D A (mW h0 ad G.2.2 y12.2 c_now c_read c_status c_tape c_taped c_at c_textSize c_token c_number c_begins c_stops c_bad c_badPlace c_faultPlace c_clauses c_naming c_lineBy c_becomes c_dualLines c_on c_rowNow c_least c_wayFirst c_ways c_acts c_past c_listPoints c_listLines c_listed c_list c_path c_places c_firstPlaces c_px c_py c_pz c_placeMany c_modulus c_drawn c_halvesMany c_halvesFirst c_spreadsMany c_spreadsFirst c_comesTo c_seedNow c_rowThen c_hasImage c_actsThen c_imageRow c_pastThen c_statusThen) := hD
    refine W.eq (g2 := F0 m 19 ls [.int y12.1]) rfl ?_
    obtain rfl := Option.some.inj h
    exact hreti rfl dX3_game_19 rfl rfl hP hD hS
def F_X3_copyTo_2 (N : Nat) (n0 : Nat) (n1 : Nat) (c_p1 : (Nat → Int32)) : Nat → Int32 → (Nat → Int32) → Option ((Nat → Int32))
  | 0, _, _ => none
  | n + 1, v2, c_p0 => (if (Int32.ofNat n0) ≤ v2 then (some (c_p0)) else (ckI v2 n1 (ckI v2 n0 (F_X3_copyTo_2 N n0 n1 c_p1 n (v2 + 1) (upd c_p0 (Int32.toNatClampNeg v2) (c_p1 (Int32.toNatClampNeg v2)))))))
def F_X3_copyTo (N : Nat) (n0 : Nat) (n1 : Nat) (c_p0 : (Nat → Int32)) (c_p1 : (Nat → Int32)) : Option ((Nat → Int32)) := (F_X3_copyTo_2 N n0 n1 c_p1 N 0 c_p0)
theorem cw_X3_copyTo {R : Room} {s : State} {args : Array Value} {own : String} {index lev mc ms : Nat} (hts : ∀ w ∈ lw_all, w.before args s = true) (hl : Cond.methodLink own index yX3_copyTo ∈ lw_all) (hR : (rmL lev mc ms).frames + 1 ≤ R.frames ∧ 8 + (3 + 11) + (rmL lev mc ms).locals ≤ R.locals) : CallB R s args own index yX3_copyTo cX3_copyTo 3 none (ws_ yX3_copyTo cX3_copyTo 3 none) (rmL lev mc ms) mc ms 2 ∧ (Cond.static yX3_copyTo).before args s = true := va_cwS 2 hts (lw_S hl q2292 q172 q2293) rfl rfl rfl (by decide +kernel) hR
set_option maxHeartbeats 4000000 in
theorem M_X3_copyTo {l : Launch} {G : GE} (hG : GC G) {N : Nat} {b0 : Nat} {n0 : Nat} {b1 : Nat} {n1 : Nat} {c_p0 : (Nat → Int32)} {c_p1 : (Nat → Int32)} {ρ : ((Nat → Int32))} (h : F_X3_copyTo N n0 n1 c_p0 c_p1 = some ρ) : MW l G yX3_copyTo cX3_copyTo 3 none 1 [(b0, .inl (G.2.2 0, n0, .inl c_p0)), (b1, .inl (G.2.2 0, n1, .inl c_p1))] [.ref b0, .ref b1] none [(b0, .inl (G.2.2 0, n0, .inl ρ)), (b1, .inl (G.2.2 0, n1, .inl c_p1))] := by
  rw [F_X3_copyTo] at h
  refine MW.start hG (by decide) (Nat.le_of_ble_eq_true rfl) ?_
  intro p e s m args below meth c Q A S hW0 hK hP hD hA hreti hretv ls hl
  have hS : va_S A s.heap s.heap [] := va_S.rf
  obtain ⟨hx, hb, hml, hown, hts⟩ := id S
  have hl : lv_has ls 3 [(0, .ref b0), (1, .ref b1)] := hl
  have S_X3_copyTo_2 : ∀ (n : Nat) (v2 : Int32) (c_p0 : (Nat → Int32)), F_X3_copyTo_2 N n0 n1 c_p1 n v2 c_p0 = some ρ → ∀ (H : Heap) (locs : List Loc), va_P G.2.1 vwCl [(b0, .inl (G.2.2 0, n0, .inl c_p0)), (b1, .inl (G.2.2 0, n1, .inl c_p1))] H → va_D A [(b0, .inl (G.2.2 0, n0, .inl c_p0)), (b1, .inl (G.2.2 0, n1, .inl c_p1))] → va_S A s.heap H locs → ∀ (ls : Array Slot), lv_has ls 3 [(0, .ref b0), (1, .ref b1), (2, .int v2)] → W p l e (rmL 1 0 0) s m args below meth c H locs 0 0 Q (F0 m 2 ls []) := by
    intro n
    induction n with
    | zero =>
      intro v2 c_p0 h
      exact absurd h (by simp [F_X3_copyTo_2])
    | succ n ih =>
      intro v2 c_p0 h H locs hP hD hS ls hl
      rw [F_X3_copyTo_2] at h
      refine lv_iload_n hx hb dX3_copyTo_2 rfl (lv_at hl 2 rfl) ?_
      refine lv_aload_n hx hb dX3_copyTo_3 rfl (lv_at hl 0 rfl) ?_
      refine va_alen (v := (Int32.ofNat n0)) hx hb hK hP 0 0 rfl rfl rfl dX3_copyTo_4 ?_
      refine lv_icmp_ge (tgt := 20) hx hb dX3_copyTo_5 (by decide) (fun c1 => ?_) (fun c1 => ?_)
      · rw [if_pos c1] at h
        obtain rfl := Option.some.inj h
        exact hretv rfl dX3_copyTo_20 rfl hP hD hS
      · rw [if_neg c1] at h
        refine lv_aload_n hx hb dX3_copyTo_8 rfl (lv_at hl 0 rfl) ?_
        refine lv_iload_n hx hb dX3_copyTo_9 rfl (lv_at hl 2 rfl) ?_
        refine lv_aload_n hx hb dX3_copyTo_10 rfl (lv_at hl 1 rfl) ?_
        refine lv_iload_n hx hb dX3_copyTo_11 rfl (lv_at hl 2 rfl) ?_
        obtain ⟨i3, h⟩ := ckI_s h
        refine va_iald (f := c_p1) hx hb hK hP 1 0 rfl rfl i3 dX3_copyTo_12 ?_
        obtain ⟨i4, h⟩ := ckI_s h
        refine va_iast (f := c_p0) hx hb hK hP hD hS 0 0 rfl rfl i4 dX3_copyTo_13 (fun H locs hP hD hS => ?_)
        have hP : va_P G.2.1 vwCl [(b0, .inl (G.2.2 0, n0, .inl (upd c_p0 (Int32.toNatClampNeg v2) (c_p1 (Int32.toNatClampNeg v2))))), (b1, .inl (G.2.2 0, n1, .inl c_p1))] H := hP
        have hD : va_D A [(b0, .inl (G.2.2 0, n0, .inl (upd c_p0 (Int32.toNatClampNeg v2) (c_p1 (Int32.toNatClampNeg v2))))), (b1, .inl (G.2.2 0, n1, .inl c_p1))] := hD
        refine lv_iinc (v := (v2 + 1)) (lv' := [(2, .int (v2 + 1)), (0, .ref b0), (1, .ref b1)]) hx hb dX3_copyTo_14 hl (k := 2) rfl rfl (by decide) rfl (fun ls hl => ?_)
        refine lv_goto (tgt := 2) hx hb dX3_copyTo_17 (by decide) ?_
        exact ih (v2 + 1) (upd c_p0 (Int32.toNatClampNeg v2) (c_p1 (Int32.toNatClampNeg v2))) h _ _ hP hD hS _ (lv_sub hl [1, 2, 0] rfl)
  refine lv_iconst (v := 0) hx hb dX3_copyTo_0 (by decide) ?_
  refine lv_istore_n (lv' := [(2, .int 0), (0, .ref b0), (1, .ref b1)]) hx hb dX3_copyTo_1 rfl hl (by decide) rfl (fun ls hl => ?_)
  refine S_X3_copyTo_2 N 0 c_p0 h  _ _ hP hD hS _ (lv_sub hl [1, 2, 0] rfl)
