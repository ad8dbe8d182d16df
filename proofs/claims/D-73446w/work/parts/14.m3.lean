set_option maxRecDepth 100000
set_option linter.unusedVariables false
def F_X3_exchange (N : Nat) (v1 : Int32) (v2 : Int32) (c_naming : (Nat → Int32)) : Option ((Nat → Int32)) := (ckI v1 8 (ckI v2 8 (ckI v1 8 (ckI v2 8 (some ((upd (upd c_naming (Int32.toNatClampNeg v1) (c_naming (Int32.toNatClampNeg v2))) (Int32.toNatClampNeg v2) (c_naming (Int32.toNatClampNeg v1)))))))))
theorem cw_X3_exchange {R : Room} {s : State} {args : Array Value} {own : String} {index lev mc ms : Nat} (hts : ∀ w ∈ lw_all, w.before args s = true) (hl : Cond.methodLink own index yX3_exchange ∈ lw_all) (hR : (rmL lev mc ms).frames + 1 ≤ R.frames ∧ 8 + (4 + 11) + (rmL lev mc ms).locals ≤ R.locals) : CallW R s args own RX3 index yX3_exchange cX3_exchange 4 none (ws_ yX3_exchange cX3_exchange 4 none) (rmL lev mc ms) mc ms 2 := cwV 2 hts (lw_V hl q1996 qs103 q172 q1997) rfl rfl rfl (by decide +kernel) hR
set_option maxHeartbeats 4000000 in
theorem M_X3_exchange {l : Launch} {G : GE} (hG : GC G) {N : Nat} {h0 : Nat} {ad : Nat → Nat} {c_code : Int32} {c_now : (Nat → Int32)} {c_read : (Nat → Int32)} {c_status : (Nat → Int32)} {c_tape : (Nat → Int32)} {c_taped : Int32} {c_at : Int32} {c_textSize : Int32} {c_token : Int32} {c_number : Int32} {c_begins : Int32} {c_stops : Int32} {c_bad : Int32} {c_badPlace : Int32} {c_faultPlace : Int32} {c_clauses : Int32} {c_lineBy : (Nat → Int32)} {c_becomes : (Nat → Int32)} {c_dualLines : (Nat → Int32)} {c_on : (Nat → Int32)} {c_rowNow : (Nat → Int32)} {c_least : (Nat → Int32)} {c_wayFirst : (Nat → Int32)} {c_ways : Int32} {c_acts : Int32} {c_past : (Nat → Int32)} {c_listPoints : Int32} {c_listLines : Int32} {c_listed : Int32} {c_list : (Nat → Int32)} {c_path : (Nat → Int32)} {c_places : (Nat → Int32)} {c_firstPlaces : (Nat → Int32)} {c_px : (Nat → Int32)} {c_py : (Nat → Int32)} {c_pz : (Nat → Int32)} {c_placeMany : Int32} {c_modulus : Int32} {c_drawn : Int32} {c_halvesMany : Int32} {c_halvesFirst : Int32} {c_spreadsMany : Int32} {c_spreadsFirst : Int32} {c_comesTo : (Nat → Int32)} {c_seedNow : Int32} {c_rowThen : (Nat → Int32)} {c_hasImage : Int32} {c_actsThen : Int32} {c_imageRow : (Nat → Int32)} {c_pastThen : (Nat → Int32)} {c_statusThen : (Nat → Int32)} {v1 : Int32} {v2 : Int32} {c_naming : (Nat → Int32)} {ρ : ((Nat → Int32))} (h : F_X3_exchange N v1 v2 c_naming = some ρ) : MW l G yX3_exchange cX3_exchange 4 none 1 (mW h0 ad G.2.2 c_code c_now c_read c_status c_tape c_taped c_at c_textSize c_token c_number c_begins c_stops c_bad c_badPlace c_faultPlace c_clauses c_naming c_lineBy c_becomes c_dualLines c_on c_rowNow c_least c_wayFirst c_ways c_acts c_past c_listPoints c_listLines c_listed c_list c_path c_places c_firstPlaces c_px c_py c_pz c_placeMany c_modulus c_drawn c_halvesMany c_halvesFirst c_spreadsMany c_spreadsFirst c_comesTo c_seedNow c_rowThen c_hasImage c_actsThen c_imageRow c_pastThen c_statusThen) [.ref h0, .int v1, .int v2] none (mW h0 ad G.2.2 c_code c_now c_read c_status c_tape c_taped c_at c_textSize c_token c_number c_begins c_stops c_bad c_badPlace c_faultPlace c_clauses ρ c_lineBy c_becomes c_dualLines c_on c_rowNow c_least c_wayFirst c_ways c_acts c_past c_listPoints c_listLines c_listed c_list c_path c_places c_firstPlaces c_px c_py c_pz c_placeMany c_modulus c_drawn c_halvesMany c_halvesFirst c_spreadsMany c_spreadsFirst c_comesTo c_seedNow c_rowThen c_hasImage c_actsThen c_imageRow c_pastThen c_statusThen) := by
  rw [F_X3_exchange] at h
  refine MW.start hG (by decide) (Nat.le_of_ble_eq_true rfl) ?_
  intro p e s m args below meth c Q A S hW0 hK hP hD hA hreti hretv ls hl
  have hS : va_S A s.heap s.heap [] := va_S.rf
  obtain ⟨hx, hb, hml, hown, hts⟩ := id S
  have hl : lv_has ls 4 [(0, .ref h0), (1, .int v1), (2, .int v2)] := hl
  refine lv_aload_n hx hb dX3_exchange_0 rfl (lv_at hl 0 rfl) ?_
  refine va_get (ci := 2) (v := .ref (ad 16)) (C := RX3) (T := TX3) (N := 52) hx hb hts in_X3 hown hK hP 0 rfl rfl 16 (by decide) (hts _ q1674) (fun _ h9 => h9) rfl dX3_exchange_1 ?_
  refine lv_iload_n hx hb dX3_exchange_4 rfl (lv_at hl 1 rfl) ?_
  obtain ⟨i1, h⟩ := ckI_s h
  refine va_iald (f := c_naming) hx hb hK hP 5 0 rfl rfl i1 dX3_exchange_5 ?_
  refine lv_istore_n (lv' := [(3, .int (c_naming (Int32.toNatClampNeg v1))), (0, .ref h0), (1, .int v1), (2, .int v2)]) hx hb dX3_exchange_6 rfl hl (by decide) rfl (fun ls hl => ?_)
  refine lv_aload_n hx hb dX3_exchange_7 rfl (lv_at hl 1 rfl) ?_
  refine va_get (ci := 2) (v := .ref (ad 16)) (C := RX3) (T := TX3) (N := 52) hx hb hts in_X3 hown hK hP 0 rfl rfl 16 (by decide) (hts _ q1674) (fun _ h9 => h9) rfl dX3_exchange_8 ?_
  refine lv_iload_n hx hb dX3_exchange_11 rfl (lv_at hl 2 rfl) ?_
  refine lv_aload_n hx hb dX3_exchange_12 rfl (lv_at hl 1 rfl) ?_
  refine va_get (ci := 2) (v := .ref (ad 16)) (C := RX3) (T := TX3) (N := 52) hx hb hts in_X3 hown hK hP 0 rfl rfl 16 (by decide) (hts _ q1674) (fun _ h9 => h9) rfl dX3_exchange_13 ?_
  refine lv_iload_n hx hb dX3_exchange_16 rfl (lv_at hl 3 rfl) ?_
  obtain ⟨i2, h⟩ := ckI_s h
  refine va_iald (f := c_naming) hx hb hK hP 5 0 rfl rfl i2 dX3_exchange_17 ?_
  obtain ⟨i3, h⟩ := ckI_s h
  refine va_iast (f := c_naming) hx hb hK hP hD hS 5 0 rfl rfl i3 dX3_exchange_18 (fun H locs hP hD hS => ?_)
  have hP : va_P G.2.1 vwCl (mW h0 ad G.2.2 c_code c_now c_read c_status c_tape c_taped c_at c_textSize c_token c_number c_begins c_stops c_bad c_badPlace c_faultPlace c_clauses (upd c_naming (Int32.toNatClampNeg v1) (c_naming (Int32.toNatClampNeg v2))) c_lineBy c_becomes c_dualLines c_on c_rowNow c_least c_wayFirst c_ways c_acts c_past c_listPoints c_listLines c_listed c_list c_path c_places c_firstPlaces c_px c_py c_pz c_placeMany c_modulus c_drawn c_halvesMany c_halvesFirst c_spreadsMany c_spreadsFirst c_comesTo c_seedNow c_rowThen c_hasImage c_actsThen c_imageRow c_pastThen c_statusThen) H := hP
  have hD : va_D A (mW h0 ad G.2.2 c_code c_now c_read c_status c_tape c_taped c_at c_textSize c_token c_number c_begins c_stops c_bad c_badPlace c_faultPlace c_clauses (upd c_naming (Int32.toNatClampNeg v1) (c_naming (Int32.toNatClampNeg v2))) c_lineBy c_becomes c_dualLines c_on c_rowNow c_least c_wayFirst c_ways c_acts c_past c_listPoints c_listLines c_listed c_list c_path c_places c_firstPlaces c_px c_py c_pz c_placeMany c_modulus c_drawn c_halvesMany c_halvesFirst c_spreadsMany c_spreadsFirst c_comesTo c_seedNow c_rowThen c_hasImage c_actsThen c_imageRow c_pastThen c_statusThen) := hD
  refine lv_aload_n hx hb dX3_exchange_19 rfl (lv_at hl 1 rfl) ?_
  refine va_get (ci := 2) (v := .ref (ad 16)) (C := RX3) (T := TX3) (N := 52) hx hb hts in_X3 hown hK hP 0 rfl rfl 16 (by decide) (hts _ q1674) (fun _ h9 => h9) rfl dX3_exchange_20 ?_
  refine lv_iload_n hx hb dX3_exchange_23 rfl (lv_at hl 3 rfl) ?_
  refine lv_iload_n hx hb dX3_exchange_24 rfl (lv_at hl 0 rfl) ?_
  obtain ⟨i4, h⟩ := ckI_s h
  refine va_iast (f := (upd c_naming (Int32.toNatClampNeg v1) (c_naming (Int32.toNatClampNeg v2)))) hx hb hK hP hD hS 5 0 rfl rfl i4 dX3_exchange_25 (fun H locs hP hD hS => ?_)
  have hP : va_P G.2.1 vwCl (mW h0 ad G.2.2 c_code c_now c_read c_status c_tape c_taped c_at c_textSize c_token c_number c_begins c_stops c_bad c_badPlace c_faultPlace c_clauses (upd (upd c_naming (Int32.toNatClampNeg v1) (c_naming (Int32.toNatClampNeg v2))) (Int32.toNatClampNeg v2) (c_naming (Int32.toNatClampNeg v1))) c_lineBy c_becomes c_dualLines c_on c_rowNow c_least c_wayFirst c_ways c_acts c_past c_listPoints c_listLines c_listed c_list c_path c_places c_firstPlaces c_px c_py c_pz c_placeMany c_modulus c_drawn c_halvesMany c_halvesFirst c_spreadsMany c_spreadsFirst c_comesTo c_seedNow c_rowThen c_hasImage c_actsThen c_imageRow c_pastThen c_statusThen) H := hP
  have hD : va_D A (mW h0 ad G.2.2 c_code c_now c_read c_status c_tape c_taped c_at c_textSize c_token c_number c_begins c_stops c_bad c_badPlace c_faultPlace c_clauses (upd (upd c_naming (Int32.toNatClampNeg v1) (c_naming (Int32.toNatClampNeg v2))) (Int32.toNatClampNeg v2) (c_naming (Int32.toNatClampNeg v1))) c_lineBy c_becomes c_dualLines c_on c_rowNow c_least c_wayFirst c_ways c_acts c_past c_listPoints c_listLines c_listed c_list c_path c_places c_firstPlaces c_px c_py c_pz c_placeMany c_modulus c_drawn c_halvesMany c_halvesFirst c_spreadsMany c_spreadsFirst c_comesTo c_seedNow c_rowThen c_hasImage c_actsThen c_imageRow c_pastThen c_statusThen) := hD
  obtain rfl := Option.some.inj h
  exact hretv rfl dX3_exchange_26 rfl hP hD hS
def F_X3_nextNaming_4 (N : Nat) (c_naming : (Nat → Int32)) : Nat → Int32 → (Int32 → Option (Int32 × (Nat → Int32))) → Option (Int32 × (Nat → Int32))
  | 0, _, _ => none
  | n + 1, v2, k31 => (if v2 < 0 then (k31 v2) else (ckI v2 8 (ckI (v2 + (1 : Int32)) 8 (if (c_naming (Int32.toNatClampNeg v2)) ≤ (c_naming (Int32.toNatClampNeg (v2 + (1 : Int32)))) then (k31 v2) else (F_X3_nextNaming_4 N c_naming n (v2 + (-1)) k31)))))
def F_X3_nextNaming_41 (N : Nat) (v2 : Int32) (c_naming : (Nat → Int32)) : Nat → Int32 → (Int32 → Option (Int32 × (Nat → Int32))) → Option (Int32 × (Nat → Int32))
  | 0, _, _ => none
  | n + 1, v3, k62 => (ckI v3 8 (ckI v2 8 (if (c_naming (Int32.toNatClampNeg v2)) ≤ (c_naming (Int32.toNatClampNeg v3)) then (k62 v3) else (F_X3_nextNaming_41 N v2 c_naming n (v3 + (-1)) k62))))
def F_X3_nextNaming_78 (N : Nat) : Nat → Int32 → Int32 → (Nat → Int32) → Option (Int32 × (Nat → Int32))
  | 0, _, _, _ => none
  | n + 1, v4, v5, c_naming => (if v5 ≤ v4 then (some (1, c_naming)) else ((F_X3_exchange N v4 v5 c_naming).bind fun y14 => (F_X3_nextNaming_78 N n (v4 + 1) (v5 + (-1)) y14)))
def F_X3_nextNaming_31 (N : Nat) (v1 : Int32) (v2 : Int32) (c_naming : (Nat → Int32)) : Option (Int32 × (Nat → Int32)) := (if 0 ≤ v2 then (F_X3_nextNaming_41 N v2 c_naming N (v1 - (1 : Int32)) (fun u3_10 => ((F_X3_exchange N v2 u3_10 c_naming).bind fun y11 => (F_X3_nextNaming_78 N N (v2 + (1 : Int32)) (v1 - (1 : Int32)) y11)))) else (some (0, c_naming)))
def F_X3_nextNaming (N : Nat) (v1 : Int32) (c_naming : (Nat → Int32)) : Option (Int32 × (Nat → Int32)) := (F_X3_nextNaming_4 N c_naming N (v1 - (2 : Int32)) (fun u2_5 => (F_X3_nextNaming_31 N v1 u2_5 c_naming)))
theorem cw_X3_nextNaming {R : Room} {s : State} {args : Array Value} {own : String} {index lev mc ms : Nat} (hts : ∀ w ∈ lw_all, w.before args s = true) (hl : Cond.methodLink own index yX3_nextNaming ∈ lw_all) (hR : (rmL lev mc ms).frames + 1 ≤ R.frames ∧ 8 + (6 + 11) + (rmL lev mc ms).locals ≤ R.locals) : CallW R s args own RX3 index yX3_nextNaming cX3_nextNaming 6 (some .boolean) (ws_ yX3_nextNaming cX3_nextNaming 6 (some .boolean)) (rmL lev mc ms) mc ms 1 := cwV 1 hts (lw_V hl q1992 qs102 q172 q1993) rfl rfl rfl (by decide +kernel) hR
set_option maxHeartbeats 4000000 in
theorem M_X3_nextNaming {l : Launch} {G : GE} (hG : GC G) {N : Nat} {h0 : Nat} {ad : Nat → Nat} {c_code : Int32} {c_now : (Nat → Int32)} {c_read : (Nat → Int32)} {c_status : (Nat → Int32)} {c_tape : (Nat → Int32)} {c_taped : Int32} {c_at : Int32} {c_textSize : Int32} {c_token : Int32} {c_number : Int32} {c_begins : Int32} {c_stops : Int32} {c_bad : Int32} {c_badPlace : Int32} {c_faultPlace : Int32} {c_clauses : Int32} {c_lineBy : (Nat → Int32)} {c_becomes : (Nat → Int32)} {c_dualLines : (Nat → Int32)} {c_on : (Nat → Int32)} {c_rowNow : (Nat → Int32)} {c_least : (Nat → Int32)} {c_wayFirst : (Nat → Int32)} {c_ways : Int32} {c_acts : Int32} {c_past : (Nat → Int32)} {c_listPoints : Int32} {c_listLines : Int32} {c_listed : Int32} {c_list : (Nat → Int32)} {c_path : (Nat → Int32)} {c_places : (Nat → Int32)} {c_firstPlaces : (Nat → Int32)} {c_px : (Nat → Int32)} {c_py : (Nat → Int32)} {c_pz : (Nat → Int32)} {c_placeMany : Int32} {c_modulus : Int32} {c_drawn : Int32} {c_halvesMany : Int32} {c_halvesFirst : Int32} {c_spreadsMany : Int32} {c_spreadsFirst : Int32} {c_comesTo : (Nat → Int32)} {c_seedNow : Int32} {c_rowThen : (Nat → Int32)} {c_hasImage : Int32} {c_actsThen : Int32} {c_imageRow : (Nat → Int32)} {c_pastThen : (Nat → Int32)} {c_statusThen : (Nat → Int32)} {v1 : Int32} {c_naming : (Nat → Int32)} {ρ : (Int32 × (Nat → Int32))} (h : F_X3_nextNaming N v1 c_naming = some ρ) : MW l G yX3_nextNaming cX3_nextNaming 6 (some .boolean) 2 (mW h0 ad G.2.2 c_code c_now c_read c_status c_tape c_taped c_at c_textSize c_token c_number c_begins c_stops c_bad c_badPlace c_faultPlace c_clauses c_naming c_lineBy c_becomes c_dualLines c_on c_rowNow c_least c_wayFirst c_ways c_acts c_past c_listPoints c_listLines c_listed c_list c_path c_places c_firstPlaces c_px c_py c_pz c_placeMany c_modulus c_drawn c_halvesMany c_halvesFirst c_spreadsMany c_spreadsFirst c_comesTo c_seedNow c_rowThen c_hasImage c_actsThen c_imageRow c_pastThen c_statusThen) [.ref h0, .int v1] (some (.int ρ.1)) (mW h0 ad G.2.2 c_code c_now c_read c_status c_tape c_taped c_at c_textSize c_token c_number c_begins c_stops c_bad c_badPlace c_faultPlace c_clauses ρ.2 c_lineBy c_becomes c_dualLines c_on c_rowNow c_least c_wayFirst c_ways c_acts c_past c_listPoints c_listLines c_listed c_list c_path c_places c_firstPlaces c_px c_py c_pz c_placeMany c_modulus c_drawn c_halvesMany c_halvesFirst c_spreadsMany c_spreadsFirst c_comesTo c_seedNow c_rowThen c_hasImage c_actsThen c_imageRow c_pastThen c_statusThen) := by
  rw [F_X3_nextNaming] at h
  refine MW.start hG (by decide) (Nat.le_of_ble_eq_true rfl) ?_
  intro p e s m args below meth c Q A S hW0 hK hP hD hA hreti hretv ls hl
  have hS : va_S A s.heap s.heap [] := va_S.rf
  obtain ⟨hx, hb, hml, hown, hts⟩ := id S
  have hl : lv_has ls 6 [(0, .ref h0), (1, .int v1)] := hl
  have S_X3_nextNaming_4 : ∀ (n : Nat) (v1 : Int32) (v2 : Int32) (c_naming : (Nat → Int32)) (k31 : Int32 → Option (Int32 × (Nat → Int32))), F_X3_nextNaming_4 N c_naming n v2 k31 = some ρ → (∀ (u2 : Int32) (H : Heap) (locs : List Loc) (ls : Array Slot), k31 u2 = some ρ → va_P G.2.1 vwCl (mW h0 ad G.2.2 c_code c_now c_read c_status c_tape c_taped c_at c_textSize c_token c_number c_begins c_stops c_bad c_badPlace c_faultPlace c_clauses c_naming c_lineBy c_becomes c_dualLines c_on c_rowNow c_least c_wayFirst c_ways c_acts c_past c_listPoints c_listLines c_listed c_list c_path c_places c_firstPlaces c_px c_py c_pz c_placeMany c_modulus c_drawn c_halvesMany c_halvesFirst c_spreadsMany c_spreadsFirst c_comesTo c_seedNow c_rowThen c_hasImage c_actsThen c_imageRow c_pastThen c_statusThen) H → va_D A (mW h0 ad G.2.2 c_code c_now c_read c_status c_tape c_taped c_at c_textSize c_token c_number c_begins c_stops c_bad c_badPlace c_faultPlace c_clauses c_naming c_lineBy c_becomes c_dualLines c_on c_rowNow c_least c_wayFirst c_ways c_acts c_past c_listPoints c_listLines c_listed c_list c_path c_places c_firstPlaces c_px c_py c_pz c_placeMany c_modulus c_drawn c_halvesMany c_halvesFirst c_spreadsMany c_spreadsFirst c_comesTo c_seedNow c_rowThen c_hasImage c_actsThen c_imageRow c_pastThen c_statusThen) → va_S A s.heap H locs → lv_has ls 6 [(0, .ref h0), (1, .int v1), (2, .int u2)] → W p l e (rmL 2 0 0) s m args below meth c H locs 0 0 Q (F0 m 31 ls [])) → ∀ (H : Heap) (locs : List Loc), va_P G.2.1 vwCl (mW h0 ad G.2.2 c_code c_now c_read c_status c_tape c_taped c_at c_textSize c_token c_number c_begins c_stops c_bad c_badPlace c_faultPlace c_clauses c_naming c_lineBy c_becomes c_dualLines c_on c_rowNow c_least c_wayFirst c_ways c_acts c_past c_listPoints c_listLines c_listed c_list c_path c_places c_firstPlaces c_px c_py c_pz c_placeMany c_modulus c_drawn c_halvesMany c_halvesFirst c_spreadsMany c_spreadsFirst c_comesTo c_seedNow c_rowThen c_hasImage c_actsThen c_imageRow c_pastThen c_statusThen) H → va_D A (mW h0 ad G.2.2 c_code c_now c_read c_status c_tape c_taped c_at c_textSize c_token c_number c_begins c_stops c_bad c_badPlace c_faultPlace c_clauses c_naming c_lineBy c_becomes c_dualLines c_on c_rowNow c_least c_wayFirst c_ways c_acts c_past c_listPoints c_listLines c_listed c_list c_path c_places c_firstPlaces c_px c_py c_pz c_placeMany c_modulus c_drawn c_halvesMany c_halvesFirst c_spreadsMany c_spreadsFirst c_comesTo c_seedNow c_rowThen c_hasImage c_actsThen c_imageRow c_pastThen c_statusThen) → va_S A s.heap H locs → ∀ (ls : Array Slot), lv_has ls 6 [(0, .ref h0), (1, .int v1), (2, .int v2)] → W p l e (rmL 2 0 0) s m args below meth c H locs 0 0 Q (F0 m 4 ls []) := by
    intro n
    induction n with
    | zero =>
      intro v1 v2 c_naming k31 h
      exact absurd h (by simp [F_X3_nextNaming_4])
    | succ n ih =>
      intro v1 v2 c_naming k31 h hk31 H locs hP hD hS ls hl
      rw [F_X3_nextNaming_4] at h
      refine lv_iload_n hx hb dX3_nextNaming_4 rfl (lv_at hl 2 rfl) ?_
      refine lv_if_lt (tgt := 31) hx hb dX3_nextNaming_5 (by decide) (fun c1 => ?_) (fun c1 => ?_)
      · rw [if_pos c1] at h
        exact hk31 v2 _ _ _ h hP hD hS (lv_sub hl [0, 1, 2] rfl)
      · rw [if_neg c1] at h
        refine lv_aload_n hx hb dX3_nextNaming_8 rfl (lv_at hl 0 rfl) ?_
        refine va_get (ci := 2) (v := .ref (ad 16)) (C := RX3) (T := TX3) (N := 52) hx hb hts in_X3 hown hK hP 0 rfl rfl 16 (by decide) (hts _ q1674) (fun _ h9 => h9) rfl dX3_nextNaming_9 ?_
        refine lv_iload_n hx hb dX3_nextNaming_12 rfl (lv_at hl 2 rfl) ?_
        obtain ⟨i2, h⟩ := ckI_s h
        refine va_iald (f := c_naming) hx hb hK hP 5 0 rfl rfl i2 dX3_nextNaming_13 ?_
        refine lv_aload_n hx hb dX3_nextNaming_14 rfl (lv_at hl 0 rfl) ?_
        refine va_get (ci := 2) (v := .ref (ad 16)) (C := RX3) (T := TX3) (N := 52) hx hb hts in_X3 hown hK hP 0 rfl rfl 16 (by decide) (hts _ q1674) (fun _ h9 => h9) rfl dX3_nextNaming_15 ?_
        refine lv_iload_n hx hb dX3_nextNaming_18 rfl (lv_at hl 2 rfl) ?_
        refine lv_iconst (v := 1) hx hb dX3_nextNaming_19 (by decide) ?_
        refine lv_iadd hx hb dX3_nextNaming_20 ?_
        obtain ⟨i3, h⟩ := ckI_s h
        refine va_iald (f := c_naming) hx hb hK hP 5 0 rfl rfl i3 dX3_nextNaming_21 ?_
        refine lv_icmp_le (tgt := 31) hx hb dX3_nextNaming_22 (by decide) (fun c4 => ?_) (fun c4 => ?_)
        · rw [if_pos c4] at h
          exact hk31 v2 _ _ _ h hP hD hS (lv_sub hl [0, 1, 2] rfl)
        · rw [if_neg c4] at h
          refine lv_iinc (v := (v2 + (-1))) (lv' := [(2, .int (v2 + (-1))), (0, .ref h0), (1, .int v1)]) hx hb dX3_nextNaming_25 hl (k := 2) rfl rfl (by decide) rfl (fun ls hl => ?_)
          refine lv_goto (tgt := 4) hx hb dX3_nextNaming_28 (by decide) ?_
          exact ih v1 (v2 + (-1)) c_naming _ h hk31 _ _ hP hD hS _ (lv_sub hl [1, 2, 0] rfl)
  have S_X3_nextNaming_41 : ∀ (n : Nat) (v1 : Int32) (v2 : Int32) (v3 : Int32) (c_naming : (Nat → Int32)) (k62 : Int32 → Option (Int32 × (Nat → Int32))), F_X3_nextNaming_41 N v2 c_naming n v3 k62 = some ρ → (∀ (u3 : Int32) (H : Heap) (locs : List Loc) (ls : Array Slot), k62 u3 = some ρ → va_P G.2.1 vwCl (mW h0 ad G.2.2 c_code c_now c_read c_status c_tape c_taped c_at c_textSize c_token c_number c_begins c_stops c_bad c_badPlace c_faultPlace c_clauses c_naming c_lineBy c_becomes c_dualLines c_on c_rowNow c_least c_wayFirst c_ways c_acts c_past c_listPoints c_listLines c_listed c_list c_path c_places c_firstPlaces c_px c_py c_pz c_placeMany c_modulus c_drawn c_halvesMany c_halvesFirst c_spreadsMany c_spreadsFirst c_comesTo c_seedNow c_rowThen c_hasImage c_actsThen c_imageRow c_pastThen c_statusThen) H → va_D A (mW h0 ad G.2.2 c_code c_now c_read c_status c_tape c_taped c_at c_textSize c_token c_number c_begins c_stops c_bad c_badPlace c_faultPlace c_clauses c_naming c_lineBy c_becomes c_dualLines c_on c_rowNow c_least c_wayFirst c_ways c_acts c_past c_listPoints c_listLines c_listed c_list c_path c_places c_firstPlaces c_px c_py c_pz c_placeMany c_modulus c_drawn c_halvesMany c_halvesFirst c_spreadsMany c_spreadsFirst c_comesTo c_seedNow c_rowThen c_hasImage c_actsThen c_imageRow c_pastThen c_statusThen) → va_S A s.heap H locs → lv_has ls 6 [(0, .ref h0), (1, .int v1), (2, .int v2), (3, .int u3)] → W p l e (rmL 2 0 0) s m args below meth c H locs 0 0 Q (F0 m 62 ls [])) → ∀ (H : Heap) (locs : List Loc), va_P G.2.1 vwCl (mW h0 ad G.2.2 c_code c_now c_read c_status c_tape c_taped c_at c_textSize c_token c_number c_begins c_stops c_bad c_badPlace c_faultPlace c_clauses c_naming c_lineBy c_becomes c_dualLines c_on c_rowNow c_least c_wayFirst c_ways c_acts c_past c_listPoints c_listLines c_listed c_list c_path c_places c_firstPlaces c_px c_py c_pz c_placeMany c_modulus c_drawn c_halvesMany c_halvesFirst c_spreadsMany c_spreadsFirst c_comesTo c_seedNow c_rowThen c_hasImage c_actsThen c_imageRow c_pastThen c_statusThen) H → va_D A (mW h0 ad G.2.2 c_code c_now c_read c_status c_tape c_taped c_at c_textSize c_token c_number c_begins c_stops c_bad c_badPlace c_faultPlace c_clauses c_naming c_lineBy c_becomes c_dualLines c_on c_rowNow c_least c_wayFirst c_ways c_acts c_past c_listPoints c_listLines c_listed c_list c_path c_places c_firstPlaces c_px c_py c_pz c_placeMany c_modulus c_drawn c_halvesMany c_halvesFirst c_spreadsMany c_spreadsFirst c_comesTo c_seedNow c_rowThen c_hasImage c_actsThen c_imageRow c_pastThen c_statusThen) → va_S A s.heap H locs → ∀ (ls : Array Slot), lv_has ls 6 [(0, .ref h0), (1, .int v1), (2, .int v2), (3, .int v3)] → W p l e (rmL 2 0 0) s m args below meth c H locs 0 0 Q (F0 m 41 ls []) := by
    intro n
    induction n with
    | zero =>
      intro v1 v2 v3 c_naming k62 h
      exact absurd h (by simp [F_X3_nextNaming_41])
    | succ n ih =>
      intro v1 v2 v3 c_naming k62 h hk62 H locs hP hD hS ls hl
      rw [F_X3_nextNaming_41] at h
      refine lv_aload_n hx hb dX3_nextNaming_41 rfl (lv_at hl 0 rfl) ?_
      refine va_get (ci := 2) (v := .ref (ad 16)) (C := RX3) (T := TX3) (N := 52) hx hb hts in_X3 hown hK hP 0 rfl rfl 16 (by decide) (hts _ q1674) (fun _ h9 => h9) rfl dX3_nextNaming_42 ?_
      refine lv_iload_n hx hb dX3_nextNaming_45 rfl (lv_at hl 3 rfl) ?_
      obtain ⟨i7, h⟩ := ckI_s h
      refine va_iald (f := c_naming) hx hb hK hP 5 0 rfl rfl i7 dX3_nextNaming_46 ?_
      refine lv_aload_n hx hb dX3_nextNaming_47 rfl (lv_at hl 0 rfl) ?_
      refine va_get (ci := 2) (v := .ref (ad 16)) (C := RX3) (T := TX3) (N := 52) hx hb hts in_X3 hown hK hP 0 rfl rfl 16 (by decide) (hts _ q1674) (fun _ h9 => h9) rfl dX3_nextNaming_48 ?_
      refine lv_iload_n hx hb dX3_nextNaming_51 rfl (lv_at hl 2 rfl) ?_
      obtain ⟨i8, h⟩ := ckI_s h
      refine va_iald (f := c_naming) hx hb hK hP 5 0 rfl rfl i8 dX3_nextNaming_52 ?_
      refine lv_icmp_ge (tgt := 62) hx hb dX3_nextNaming_53 (by decide) (fun c9 => ?_) (fun c9 => ?_)
      · rw [if_pos c9] at h
        exact hk62 v3 _ _ _ h hP hD hS (lv_sub hl [0, 1, 2, 3] rfl)
      · rw [if_neg c9] at h
        refine lv_iinc (v := (v3 + (-1))) (lv' := [(3, .int (v3 + (-1))), (0, .ref h0), (1, .int v1), (2, .int v2)]) hx hb dX3_nextNaming_56 hl (k := 3) rfl rfl (by decide) rfl (fun ls hl => ?_)
        refine lv_goto (tgt := 41) hx hb dX3_nextNaming_59 (by decide) ?_
        exact ih v1 v2 (v3 + (-1)) c_naming _ h hk62 _ _ hP hD hS _ (lv_sub hl [1, 2, 3, 0] rfl)
  have S_X3_nextNaming_78 : ∀ (n : Nat) (v4 : Int32) (v5 : Int32) (c_naming : (Nat → Int32)), F_X3_nextNaming_78 N n v4 v5 c_naming = some ρ → ∀ (H : Heap) (locs : List Loc), va_P G.2.1 vwCl (mW h0 ad G.2.2 c_code c_now c_read c_status c_tape c_taped c_at c_textSize c_token c_number c_begins c_stops c_bad c_badPlace c_faultPlace c_clauses c_naming c_lineBy c_becomes c_dualLines c_on c_rowNow c_least c_wayFirst c_ways c_acts c_past c_listPoints c_listLines c_listed c_list c_path c_places c_firstPlaces c_px c_py c_pz c_placeMany c_modulus c_drawn c_halvesMany c_halvesFirst c_spreadsMany c_spreadsFirst c_comesTo c_seedNow c_rowThen c_hasImage c_actsThen c_imageRow c_pastThen c_statusThen) H → va_D A (mW h0 ad G.2.2 c_code c_now c_read c_status c_tape c_taped c_at c_textSize c_token c_number c_begins c_stops c_bad c_badPlace c_faultPlace c_clauses c_naming c_lineBy c_becomes c_dualLines c_on c_rowNow c_least c_wayFirst c_ways c_acts c_past c_listPoints c_listLines c_listed c_list c_path c_places c_firstPlaces c_px c_py c_pz c_placeMany c_modulus c_drawn c_halvesMany c_halvesFirst c_spreadsMany c_spreadsFirst c_comesTo c_seedNow c_rowThen c_hasImage c_actsThen c_imageRow c_pastThen c_statusThen) → va_S A s.heap H locs → ∀ (ls : Array Slot), lv_has ls 6 [(0, .ref h0), (4, .int v4), (5, .int v5)] → W p l e (rmL 2 0 0) s m args below meth c H locs 0 0 Q (F0 m 78 ls []) := by
    intro n
    induction n with
    | zero =>
      intro v4 v5 c_naming h
      exact absurd h (by simp [F_X3_nextNaming_78])
    | succ n ih =>
      intro v4 v5 c_naming h H locs hP hD hS ls hl
      rw [F_X3_nextNaming_78] at h
      refine lv_iload hx hb dX3_nextNaming_78 (lv_at hl 1 rfl) ?_
      refine lv_iload hx hb dX3_nextNaming_80 (lv_at hl 2 rfl) ?_
      refine lv_icmp_ge (tgt := 102) hx hb dX3_nextNaming_82 (by decide) (fun c12 => ?_) (fun c12 => ?_)
      · rw [if_pos c12] at h
        refine lv_iconst (v := 1) hx hb dX3_nextNaming_102 (by decide) ?_
        obtain rfl := Option.some.inj h
        exact hreti rfl dX3_nextNaming_103 rfl rfl hP hD hS
      · rw [if_neg c12] at h
        refine lv_aload_n hx hb dX3_nextNaming_85 rfl (lv_at hl 0 rfl) ?_
        refine lv_iload hx hb dX3_nextNaming_86 (lv_at hl 1 rfl) ?_
        refine lv_iload hx hb dX3_nextNaming_88 (lv_at hl 2 rfl) ?_
        obtain ⟨y14, e14, h⟩ := ob_s h
        refine MW.callV (q0 := 0) (M_X3_exchange hG e14) S (cw_X3_exchange hts q1994 ⟨Nat.le_of_ble_eq_true rfl, Nat.le_of_ble_eq_true rfl⟩) hW0 hK hP hD hS hA rfl rfl rfl hl.1 rfl (Nat.le_of_ble_eq_true rfl) dX3_nextNaming_90 ⟨Nat.zero_le _, Nat.zero_le _⟩ (fun H locs hP hD hS => ?_)
        have hP : va_P G.2.1 vwCl (mW h0 ad G.2.2 c_code c_now c_read c_status c_tape c_taped c_at c_textSize c_token c_number c_begins c_stops c_bad c_badPlace c_faultPlace c_clauses y14 c_lineBy c_becomes c_dualLines c_on c_rowNow c_least c_wayFirst c_ways c_acts c_past c_listPoints c_listLines c_listed c_list c_path c_places c_firstPlaces c_px c_py c_pz c_placeMany c_modulus c_drawn c_halvesMany c_halvesFirst c_spreadsMany c_spreadsFirst c_comesTo c_seedNow c_rowThen c_hasImage c_actsThen c_imageRow c_pastThen c_statusThen) H := hP
        have hD : va_D A (mW h0 ad G.2.2 c_code c_now c_read c_status c_tape c_taped c_at c_textSize c_token c_number c_begins c_stops c_bad c_badPlace c_faultPlace c_clauses y14 c_lineBy c_becomes c_dualLines c_on c_rowNow c_least c_wayFirst c_ways c_acts c_past c_listPoints c_listLines c_listed c_list c_path c_places c_firstPlaces c_px c_py c_pz c_placeMany c_modulus c_drawn c_halvesMany c_halvesFirst c_spreadsMany c_spreadsFirst c_comesTo c_seedNow c_rowThen c_hasImage c_actsThen c_imageRow c_pastThen c_statusThen) := hD
        refine W.eq (g2 := F0 m 93 ls []) rfl ?_
        refine lv_iinc (v := (v4 + 1)) (lv' := [(4, .int (v4 + 1)), (0, .ref h0), (5, .int v5)]) hx hb dX3_nextNaming_93 hl (k := 1) rfl rfl (by decide) rfl (fun ls hl => ?_)
        refine lv_iinc (v := (v5 + (-1))) (lv' := [(5, .int (v5 + (-1))), (4, .int (v4 + 1)), (0, .ref h0)]) hx hb dX3_nextNaming_96 hl (k := 2) rfl rfl (by decide) rfl (fun ls hl => ?_)
        refine lv_goto (tgt := 78) hx hb dX3_nextNaming_99 (by decide) ?_
        exact ih (v4 + 1) (v5 + (-1)) y14 h _ _ hP hD hS _ (lv_sub hl [2, 1, 0] rfl)
  have S_X3_nextNaming_31 : ∀ (v1 : Int32) (v2 : Int32) (c_naming : (Nat → Int32)), F_X3_nextNaming_31 N v1 v2 c_naming = some ρ → ∀ (H : Heap) (locs : List Loc), va_P G.2.1 vwCl (mW h0 ad G.2.2 c_code c_now c_read c_status c_tape c_taped c_at c_textSize c_token c_number c_begins c_stops c_bad c_badPlace c_faultPlace c_clauses c_naming c_lineBy c_becomes c_dualLines c_on c_rowNow c_least c_wayFirst c_ways c_acts c_past c_listPoints c_listLines c_listed c_list c_path c_places c_firstPlaces c_px c_py c_pz c_placeMany c_modulus c_drawn c_halvesMany c_halvesFirst c_spreadsMany c_spreadsFirst c_comesTo c_seedNow c_rowThen c_hasImage c_actsThen c_imageRow c_pastThen c_statusThen) H → va_D A (mW h0 ad G.2.2 c_code c_now c_read c_status c_tape c_taped c_at c_textSize c_token c_number c_begins c_stops c_bad c_badPlace c_faultPlace c_clauses c_naming c_lineBy c_becomes c_dualLines c_on c_rowNow c_least c_wayFirst c_ways c_acts c_past c_listPoints c_listLines c_listed c_list c_path c_places c_firstPlaces c_px c_py c_pz c_placeMany c_modulus c_drawn c_halvesMany c_halvesFirst c_spreadsMany c_spreadsFirst c_comesTo c_seedNow c_rowThen c_hasImage c_actsThen c_imageRow c_pastThen c_statusThen) → va_S A s.heap H locs → ∀ (ls : Array Slot), lv_has ls 6 [(0, .ref h0), (1, .int v1), (2, .int v2)] → W p l e (rmL 2 0 0) s m args below meth c H locs 0 0 Q (F0 m 31 ls []) := by
    intro v1 v2 c_naming h H locs hP hD hS ls hl
    rw [F_X3_nextNaming_31] at h
    refine lv_iload_n hx hb dX3_nextNaming_31 rfl (lv_at hl 2 rfl) ?_
    refine lv_if_ge (tgt := 37) hx hb dX3_nextNaming_32 (by decide) (fun c6 => ?_) (fun c6 => ?_)
    · rw [if_pos c6] at h
      refine lv_iload_n hx hb dX3_nextNaming_37 rfl (lv_at hl 1 rfl) ?_
      refine lv_iconst (v := 1) hx hb dX3_nextNaming_38 (by decide) ?_
      refine lv_isub hx hb dX3_nextNaming_39 ?_
      refine lv_istore_n (lv' := [(3, .int (v1 - (1 : Int32))), (0, .ref h0), (1, .int v1), (2, .int v2)]) hx hb dX3_nextNaming_40 rfl hl (by decide) rfl (fun ls hl => ?_)
      refine S_X3_nextNaming_41 N v1 v2 (v1 - (1 : Int32)) c_naming _ h ?_ _ _ hP hD hS _ (lv_sub hl [1, 2, 3, 0] rfl)
      · intro u3_10 H locs ls h hP hD hS hl
        refine lv_aload_n hx hb dX3_nextNaming_62 rfl (lv_at hl 0 rfl) ?_
        refine lv_iload_n hx hb dX3_nextNaming_63 rfl (lv_at hl 2 rfl) ?_
        refine lv_iload_n hx hb dX3_nextNaming_64 rfl (lv_at hl 3 rfl) ?_
        obtain ⟨y11, e11, h⟩ := ob_s h
        refine MW.callV (q0 := 0) (M_X3_exchange hG e11) S (cw_X3_exchange hts q1994 ⟨Nat.le_of_ble_eq_true rfl, Nat.le_of_ble_eq_true rfl⟩) hW0 hK hP hD hS hA rfl rfl rfl hl.1 rfl (Nat.le_of_ble_eq_true rfl) dX3_nextNaming_65 ⟨Nat.zero_le _, Nat.zero_le _⟩ (fun H locs hP hD hS => ?_)
        have hP : va_P G.2.1 vwCl (mW h0 ad G.2.2 c_code c_now c_read c_status c_tape c_taped c_at c_textSize c_token c_number c_begins c_stops c_bad c_badPlace c_faultPlace c_clauses y11 c_lineBy c_becomes c_dualLines c_on c_rowNow c_least c_wayFirst c_ways c_acts c_past c_listPoints c_listLines c_listed c_list c_path c_places c_firstPlaces c_px c_py c_pz c_placeMany c_modulus c_drawn c_halvesMany c_halvesFirst c_spreadsMany c_spreadsFirst c_comesTo c_seedNow c_rowThen c_hasImage c_actsThen c_imageRow c_pastThen c_statusThen) H := hP
        have hD : va_D A (mW h0 ad G.2.2 c_code c_now c_read c_status c_tape c_taped c_at c_textSize c_token c_number c_begins c_stops c_bad c_badPlace c_faultPlace c_clauses y11 c_lineBy c_becomes c_dualLines c_on c_rowNow c_least c_wayFirst c_ways c_acts c_past c_listPoints c_listLines c_listed c_list c_path c_places c_firstPlaces c_px c_py c_pz c_placeMany c_modulus c_drawn c_halvesMany c_halvesFirst c_spreadsMany c_spreadsFirst c_comesTo c_seedNow c_rowThen c_hasImage c_actsThen c_imageRow c_pastThen c_statusThen) := hD
        refine W.eq (g2 := F0 m 68 ls []) rfl ?_
        refine lv_iload_n hx hb dX3_nextNaming_68 rfl (lv_at hl 2 rfl) ?_
        refine lv_iconst (v := 1) hx hb dX3_nextNaming_69 (by decide) ?_
        refine lv_iadd hx hb dX3_nextNaming_70 ?_
        refine lv_istore (lv' := [(4, .int (v2 + (1 : Int32))), (0, .ref h0), (1, .int v1), (2, .int v2), (3, .int u3_10)]) hx hb dX3_nextNaming_71 hl (by decide) rfl (fun ls hl => ?_)
        refine lv_iload_n hx hb dX3_nextNaming_73 rfl (lv_at hl 2 rfl) ?_
        refine lv_iconst (v := 1) hx hb dX3_nextNaming_74 (by decide) ?_
        refine lv_isub hx hb dX3_nextNaming_75 ?_
        refine lv_istore (lv' := [(5, .int (v1 - (1 : Int32))), (4, .int (v2 + (1 : Int32))), (0, .ref h0), (1, .int v1), (2, .int v2), (3, .int u3_10)]) hx hb dX3_nextNaming_76 hl (by decide) rfl (fun ls hl => ?_)
        refine S_X3_nextNaming_78 N (v2 + (1 : Int32)) (v1 - (1 : Int32)) y11 h  _ _ hP hD hS _ (lv_sub hl [2, 1, 0] rfl)
    · rw [if_neg c6] at h
      refine lv_iconst (v := 0) hx hb dX3_nextNaming_35 (by decide) ?_
      obtain rfl := Option.some.inj h
      exact hreti rfl dX3_nextNaming_36 rfl rfl hP hD hS
  refine lv_iload_n hx hb dX3_nextNaming_0 rfl (lv_at hl 1 rfl) ?_
  refine lv_iconst (v := 2) hx hb dX3_nextNaming_1 (by decide) ?_
  refine lv_isub hx hb dX3_nextNaming_2 ?_
  refine lv_istore_n (lv' := [(2, .int (v1 - (2 : Int32))), (0, .ref h0), (1, .int v1)]) hx hb dX3_nextNaming_3 rfl hl (by decide) rfl (fun ls hl => ?_)
  refine S_X3_nextNaming_4 N v1 (v1 - (2 : Int32)) c_naming _ h ?_ _ _ hP hD hS _ (lv_sub hl [1, 2, 0] rfl)
  · intro u2_5 H locs ls h hP hD hS hl
    refine S_X3_nextNaming_31 v1 u2_5 c_naming h  _ _ hP hD hS _ (lv_sub hl [0, 1, 2] rfl)
def F_X3_symmetries_8 (N : Nat) : Nat → Int32 → (Nat → Int32) → ((Nat → Int32) → Option (Int32 × (Nat → Int32) × (Nat → Int32) × (Nat → Int32))) → Option (Int32 × (Nat → Int32) × (Nat → Int32) × (Nat → Int32))
  | 0, _, _, _ => none
  | n + 1, v2, c_becomes, k27 => (if 8 ≤ v2 then (k27 c_becomes) else (ckI v2 8 (F_X3_symmetries_8 N n (v2 + 1) (upd c_becomes (Int32.toNatClampNeg v2) 0) k27)))
def F_X3_symmetries_53 (N : Nat) (c_now : (Nat → Int32)) (c_naming : (Nat → Int32)) : Nat → Int32 → (Nat → Int32) → ((Nat → Int32) → Option (Int32 × (Nat → Int32) × (Nat → Int32) × (Nat → Int32))) → Option (Int32 × (Nat → Int32) × (Nat → Int32) × (Nat → Int32))
  | 0, _, _, _ => none
  | n + 1, v3, c_becomes, k84 => ((F_X3_points N c_now).bind fun y13 => (if y13 ≤ v3 then (k84 c_becomes) else (ckI v3 8 (ckI v3 8 (ckI v3 8 (F_X3_symmetries_53 N c_now c_naming n (v3 + 1) (upd c_becomes (Int32.toNatClampNeg v3) ((c_becomes (Int32.toNatClampNeg v3)) ||| ((1 : Int32) <<< ((c_naming (Int32.toNatClampNeg v3)) &&& 31)))) k84))))))
def F_X3_symmetries_37 (N : Nat) (c_now : (Nat → Int32)) (c_lineBy : (Nat → Int32)) : Nat → Int32 → Int32 → (Nat → Int32) → (Nat → Int32) → Option (Int32 × (Nat → Int32) × (Nat → Int32) × (Nat → Int32))
  | 0, _, _, _, _ => none
  | n + 1, v1, v2, c_naming, c_becomes => (if v2 = 0 then (some (v1, c_naming, c_lineBy, c_becomes)) else ((F_X3_isSymmetry N c_now c_naming c_lineBy).bind fun y9 => (if y9 = 0 then ((F_X3_points N c_now).bind fun y11 => ((F_X3_nextNaming N y11 c_naming).bind fun y12 => (F_X3_symmetries_37 N c_now c_lineBy n v1 y12.1 y12.2 c_becomes))) else (F_X3_symmetries_53 N c_now c_naming N 0 c_becomes (fun c_becomes_18 => ((F_X3_points N c_now).bind fun y19 => ((F_X3_nextNaming N y19 c_naming).bind fun y20 => (F_X3_symmetries_37 N c_now c_lineBy n (v1 + 1) y20.1 y20.2 c_becomes_18))))))))
def F_X3_symmetries (N : Nat) (c_now : (Nat → Int32)) (c_naming : (Nat → Int32)) (c_lineBy : (Nat → Int32)) (c_becomes : (Nat → Int32)) : Option (Int32 × (Nat → Int32) × (Nat → Int32) × (Nat → Int32)) := ((F_X3_tellLines N c_now c_lineBy).bind fun y1 => (F_X3_symmetries_8 N N 0 c_becomes (fun c_becomes_4 => ((F_X3_points N c_now).bind fun y5 => ((F_X3_beginNaming N y5 c_naming).bind fun y6 => (F_X3_symmetries_37 N c_now y1 N 0 1 y6 c_becomes_4))))))
theorem cw_X3_symmetries {R : Room} {s : State} {args : Array Value} {own : String} {index lev mc ms : Nat} (hts : ∀ w ∈ lw_all, w.before args s = true) (hl : Cond.methodLink own index yX3_symmetries ∈ lw_all) (hR : (rmL lev mc ms).frames + 1 ≤ R.frames ∧ 8 + (4 + 11) + (rmL lev mc ms).locals ≤ R.locals) : CallW R s args own RX3 index yX3_symmetries cX3_symmetries 4 (some .int) (ws_ yX3_symmetries cX3_symmetries 4 (some .int)) (rmL lev mc ms) mc ms 0 := cwV 0 hts (lw_V hl q1972 qs97 q172 q1973) rfl rfl rfl (by decide +kernel) hR
set_option maxHeartbeats 4000000 in
theorem M_X3_symmetries {l : Launch} {G : GE} (hG : GC G) {N : Nat} {h0 : Nat} {ad : Nat → Nat} {c_code : Int32} {c_read : (Nat → Int32)} {c_status : (Nat → Int32)} {c_tape : (Nat → Int32)} {c_taped : Int32} {c_at : Int32} {c_textSize : Int32} {c_token : Int32} {c_number : Int32} {c_begins : Int32} {c_stops : Int32} {c_bad : Int32} {c_badPlace : Int32} {c_faultPlace : Int32} {c_clauses : Int32} {c_dualLines : (Nat → Int32)} {c_on : (Nat → Int32)} {c_rowNow : (Nat → Int32)} {c_least : (Nat → Int32)} {c_wayFirst : (Nat → Int32)} {c_ways : Int32} {c_acts : Int32} {c_past : (Nat → Int32)} {c_listPoints : Int32} {c_listLines : Int32} {c_listed : Int32} {c_list : (Nat → Int32)} {c_path : (Nat → Int32)} {c_places : (Nat → Int32)} {c_firstPlaces : (Nat → Int32)} {c_px : (Nat → Int32)} {c_py : (Nat → Int32)} {c_pz : (Nat → Int32)} {c_placeMany : Int32} {c_modulus : Int32} {c_drawn : Int32} {c_halvesMany : Int32} {c_halvesFirst : Int32} {c_spreadsMany : Int32} {c_spreadsFirst : Int32} {c_comesTo : (Nat → Int32)} {c_seedNow : Int32} {c_rowThen : (Nat → Int32)} {c_hasImage : Int32} {c_actsThen : Int32} {c_imageRow : (Nat → Int32)} {c_pastThen : (Nat → Int32)} {c_statusThen : (Nat → Int32)} {c_now : (Nat → Int32)} {c_naming : (Nat → Int32)} {c_lineBy : (Nat → Int32)} {c_becomes : (Nat → Int32)} {ρ : (Int32 × (Nat → Int32) × (Nat → Int32) × (Nat → Int32))} (h : F_X3_symmetries N c_now c_naming c_lineBy c_becomes = some ρ) : MW l G yX3_symmetries cX3_symmetries 4 (some .int) 4 (mW h0 ad G.2.2 c_code c_now c_read c_status c_tape c_taped c_at c_textSize c_token c_number c_begins c_stops c_bad c_badPlace c_faultPlace c_clauses c_naming c_lineBy c_becomes c_dualLines c_on c_rowNow c_least c_wayFirst c_ways c_acts c_past c_listPoints c_listLines c_listed c_list c_path c_places c_firstPlaces c_px c_py c_pz c_placeMany c_modulus c_drawn c_halvesMany c_halvesFirst c_spreadsMany c_spreadsFirst c_comesTo c_seedNow c_rowThen c_hasImage c_actsThen c_imageRow c_pastThen c_statusThen) [.ref h0] (some (.int ρ.1)) (mW h0 ad G.2.2 c_code c_now c_read c_status c_tape c_taped c_at c_textSize c_token c_number c_begins c_stops c_bad c_badPlace c_faultPlace c_clauses ρ.2.1 ρ.2.2.1 ρ.2.2.2 c_dualLines c_on c_rowNow c_least c_wayFirst c_ways c_acts c_past c_listPoints c_listLines c_listed c_list c_path c_places c_firstPlaces c_px c_py c_pz c_placeMany c_modulus c_drawn c_halvesMany c_halvesFirst c_spreadsMany c_spreadsFirst c_comesTo c_seedNow c_rowThen c_hasImage c_actsThen c_imageRow c_pastThen c_statusThen) := by
  rw [F_X3_symmetries] at h
  refine MW.start hG (by decide) (Nat.le_of_ble_eq_true rfl) ?_
  intro p e s m args below meth c Q A S hW0 hK hP hD hA hreti hretv ls hl
  have hS : va_S A s.heap s.heap [] := va_S.rf
  obtain ⟨hx, hb, hml, hown, hts⟩ := id S
  have hl : lv_has ls 4 [(0, .ref h0)] := hl
  have S_X3_symmetries_8 : ∀ (n : Nat) (v1 : Int32) (v2 : Int32) (c_naming : (Nat → Int32)) (c_lineBy : (Nat → Int32)) (c_becomes : (Nat → Int32)) (k27 : (Nat → Int32) → Option (Int32 × (Nat → Int32) × (Nat → Int32) × (Nat → Int32))), F_X3_symmetries_8 N n v2 c_becomes k27 = some ρ → (∀ (z_c_becomes : (Nat → Int32)) (H : Heap) (locs : List Loc) (ls : Array Slot), k27 z_c_becomes = some ρ → va_P G.2.1 vwCl (mW h0 ad G.2.2 c_code c_now c_read c_status c_tape c_taped c_at c_textSize c_token c_number c_begins c_stops c_bad c_badPlace c_faultPlace c_clauses c_naming c_lineBy z_c_becomes c_dualLines c_on c_rowNow c_least c_wayFirst c_ways c_acts c_past c_listPoints c_listLines c_listed c_list c_path c_places c_firstPlaces c_px c_py c_pz c_placeMany c_modulus c_drawn c_halvesMany c_halvesFirst c_spreadsMany c_spreadsFirst c_comesTo c_seedNow c_rowThen c_hasImage c_actsThen c_imageRow c_pastThen c_statusThen) H → va_D A (mW h0 ad G.2.2 c_code c_now c_read c_status c_tape c_taped c_at c_textSize c_token c_number c_begins c_stops c_bad c_badPlace c_faultPlace c_clauses c_naming c_lineBy z_c_becomes c_dualLines c_on c_rowNow c_least c_wayFirst c_ways c_acts c_past c_listPoints c_listLines c_listed c_list c_path c_places c_firstPlaces c_px c_py c_pz c_placeMany c_modulus c_drawn c_halvesMany c_halvesFirst c_spreadsMany c_spreadsFirst c_comesTo c_seedNow c_rowThen c_hasImage c_actsThen c_imageRow c_pastThen c_statusThen) → va_S A s.heap H locs → lv_has ls 4 [(0, .ref h0), (1, .int v1)] → W p l e (rmL 4 0 0) s m args below meth c H locs 0 0 Q (F0 m 27 ls [])) → ∀ (H : Heap) (locs : List Loc), va_P G.2.1 vwCl (mW h0 ad G.2.2 c_code c_now c_read c_status c_tape c_taped c_at c_textSize c_token c_number c_begins c_stops c_bad c_badPlace c_faultPlace c_clauses c_naming c_lineBy c_becomes c_dualLines c_on c_rowNow c_least c_wayFirst c_ways c_acts c_past c_listPoints c_listLines c_listed c_list c_path c_places c_firstPlaces c_px c_py c_pz c_placeMany c_modulus c_drawn c_halvesMany c_halvesFirst c_spreadsMany c_spreadsFirst c_comesTo c_seedNow c_rowThen c_hasImage c_actsThen c_imageRow c_pastThen c_statusThen) H → va_D A (mW h0 ad G.2.2 c_code c_now c_read c_status c_tape c_taped c_at c_textSize c_token c_number c_begins c_stops c_bad c_badPlace c_faultPlace c_clauses c_naming c_lineBy c_becomes c_dualLines c_on c_rowNow c_least c_wayFirst c_ways c_acts c_past c_listPoints c_listLines c_listed c_list c_path c_places c_firstPlaces c_px c_py c_pz c_placeMany c_modulus c_drawn c_halvesMany c_halvesFirst c_spreadsMany c_spreadsFirst c_comesTo c_seedNow c_rowThen c_hasImage c_actsThen c_imageRow c_pastThen c_statusThen) → va_S A s.heap H locs → ∀ (ls : Array Slot), lv_has ls 4 [(0, .ref h0), (1, .int v1), (2, .int v2)] → W p l e (rmL 4 0 0) s m args below meth c H locs 0 0 Q (F0 m 8 ls []) := by
    intro n
    induction n with
    | zero =>
      intro v1 v2 c_naming c_lineBy c_becomes k27 h
      exact absurd h (by simp [F_X3_symmetries_8])
    | succ n ih =>
      intro v1 v2 c_naming c_lineBy c_becomes k27 h hk27 H locs hP hD hS ls hl
      rw [F_X3_symmetries_8] at h
      refine lv_iload_n hx hb dX3_symmetries_8 rfl (lv_at hl 2 rfl) ?_
      refine lv_bipush (v := 8) hx hb dX3_symmetries_9 (by decide) ?_
      refine lv_icmp_ge (tgt := 27) hx hb dX3_symmetries_11 (by decide) (fun c2 => ?_) (fun c2 => ?_)
      · rw [if_pos c2] at h
        exact hk27 c_becomes _ _ _ h hP hD hS (lv_sub hl [0, 1] rfl)
      · rw [if_neg c2] at h
        refine lv_aload_n hx hb dX3_symmetries_14 rfl (lv_at hl 0 rfl) ?_
        refine va_get (ci := 2) (v := .ref (ad 18)) (C := RX3) (T := TX3) (N := 52) hx hb hts in_X3 hown hK hP 0 rfl rfl 18 (by decide) (hts _ q1676) (fun _ h9 => h9) rfl dX3_symmetries_15 ?_
        refine lv_iload_n hx hb dX3_symmetries_18 rfl (lv_at hl 2 rfl) ?_
        refine lv_iconst (v := 0) hx hb dX3_symmetries_19 (by decide) ?_
        obtain ⟨i3, h⟩ := ckI_s h
        refine va_iast (f := c_becomes) hx hb hK hP hD hS 7 0 rfl rfl i3 dX3_symmetries_20 (fun H locs hP hD hS => ?_)
        have hP : va_P G.2.1 vwCl (mW h0 ad G.2.2 c_code c_now c_read c_status c_tape c_taped c_at c_textSize c_token c_number c_begins c_stops c_bad c_badPlace c_faultPlace c_clauses c_naming c_lineBy (upd c_becomes (Int32.toNatClampNeg v2) 0) c_dualLines c_on c_rowNow c_least c_wayFirst c_ways c_acts c_past c_listPoints c_listLines c_listed c_list c_path c_places c_firstPlaces c_px c_py c_pz c_placeMany c_modulus c_drawn c_halvesMany c_halvesFirst c_spreadsMany c_spreadsFirst c_comesTo c_seedNow c_rowThen c_hasImage c_actsThen c_imageRow c_pastThen c_statusThen) H := hP
        have hD : va_D A (mW h0 ad G.2.2 c_code c_now c_read c_status c_tape c_taped c_at c_textSize c_token c_number c_begins c_stops c_bad c_badPlace c_faultPlace c_clauses c_naming c_lineBy (upd c_becomes (Int32.toNatClampNeg v2) 0) c_dualLines c_on c_rowNow c_least c_wayFirst c_ways c_acts c_past c_listPoints c_listLines c_listed c_list c_path c_places c_firstPlaces c_px c_py c_pz c_placeMany c_modulus c_drawn c_halvesMany c_halvesFirst c_spreadsMany c_spreadsFirst c_comesTo c_seedNow c_rowThen c_hasImage c_actsThen c_imageRow c_pastThen c_statusThen) := hD
        refine lv_iinc (v := (v2 + 1)) (lv' := [(2, .int (v2 + 1)), (0, .ref h0), (1, .int v1)]) hx hb dX3_symmetries_21 hl (k := 2) rfl rfl (by decide) rfl (fun ls hl => ?_)
        refine lv_goto (tgt := 8) hx hb dX3_symmetries_24 (by decide) ?_
        exact ih v1 (v2 + 1) c_naming c_lineBy (upd c_becomes (Int32.toNatClampNeg v2) 0) _ h hk27 _ _ hP hD hS _ (lv_sub hl [1, 2, 0] rfl)
  have S_X3_symmetries_53 : ∀ (n : Nat) (v1 : Int32) (v3 : Int32) (c_naming : (Nat → Int32)) (c_lineBy : (Nat → Int32)) (c_becomes : (Nat → Int32)) (k84 : (Nat → Int32) → Option (Int32 × (Nat → Int32) × (Nat → Int32) × (Nat → Int32))), F_X3_symmetries_53 N c_now c_naming n v3 c_becomes k84 = some ρ → (∀ (z_c_becomes : (Nat → Int32)) (H : Heap) (locs : List Loc) (ls : Array Slot), k84 z_c_becomes = some ρ → va_P G.2.1 vwCl (mW h0 ad G.2.2 c_code c_now c_read c_status c_tape c_taped c_at c_textSize c_token c_number c_begins c_stops c_bad c_badPlace c_faultPlace c_clauses c_naming c_lineBy z_c_becomes c_dualLines c_on c_rowNow c_least c_wayFirst c_ways c_acts c_past c_listPoints c_listLines c_listed c_list c_path c_places c_firstPlaces c_px c_py c_pz c_placeMany c_modulus c_drawn c_halvesMany c_halvesFirst c_spreadsMany c_spreadsFirst c_comesTo c_seedNow c_rowThen c_hasImage c_actsThen c_imageRow c_pastThen c_statusThen) H → va_D A (mW h0 ad G.2.2 c_code c_now c_read c_status c_tape c_taped c_at c_textSize c_token c_number c_begins c_stops c_bad c_badPlace c_faultPlace c_clauses c_naming c_lineBy z_c_becomes c_dualLines c_on c_rowNow c_least c_wayFirst c_ways c_acts c_past c_listPoints c_listLines c_listed c_list c_path c_places c_firstPlaces c_px c_py c_pz c_placeMany c_modulus c_drawn c_halvesMany c_halvesFirst c_spreadsMany c_spreadsFirst c_comesTo c_seedNow c_rowThen c_hasImage c_actsThen c_imageRow c_pastThen c_statusThen) → va_S A s.heap H locs → lv_has ls 4 [(0, .ref h0), (1, .int v1)] → W p l e (rmL 4 0 0) s m args below meth c H locs 0 0 Q (F0 m 84 ls [])) → ∀ (H : Heap) (locs : List Loc), va_P G.2.1 vwCl (mW h0 ad G.2.2 c_code c_now c_read c_status c_tape c_taped c_at c_textSize c_token c_number c_begins c_stops c_bad c_badPlace c_faultPlace c_clauses c_naming c_lineBy c_becomes c_dualLines c_on c_rowNow c_least c_wayFirst c_ways c_acts c_past c_listPoints c_listLines c_listed c_list c_path c_places c_firstPlaces c_px c_py c_pz c_placeMany c_modulus c_drawn c_halvesMany c_halvesFirst c_spreadsMany c_spreadsFirst c_comesTo c_seedNow c_rowThen c_hasImage c_actsThen c_imageRow c_pastThen c_statusThen) H → va_D A (mW h0 ad G.2.2 c_code c_now c_read c_status c_tape c_taped c_at c_textSize c_token c_number c_begins c_stops c_bad c_badPlace c_faultPlace c_clauses c_naming c_lineBy c_becomes c_dualLines c_on c_rowNow c_least c_wayFirst c_ways c_acts c_past c_listPoints c_listLines c_listed c_list c_path c_places c_firstPlaces c_px c_py c_pz c_placeMany c_modulus c_drawn c_halvesMany c_halvesFirst c_spreadsMany c_spreadsFirst c_comesTo c_seedNow c_rowThen c_hasImage c_actsThen c_imageRow c_pastThen c_statusThen) → va_S A s.heap H locs → ∀ (ls : Array Slot), lv_has ls 4 [(0, .ref h0), (1, .int v1), (3, .int v3)] → W p l e (rmL 4 0 0) s m args below meth c H locs 0 0 Q (F0 m 53 ls []) := by
    intro n
    induction n with
    | zero =>
      intro v1 v3 c_naming c_lineBy c_becomes k84 h
      exact absurd h (by simp [F_X3_symmetries_53])
    | succ n ih =>
      intro v1 v3 c_naming c_lineBy c_becomes k84 h hk84 H locs hP hD hS ls hl
      rw [F_X3_symmetries_53] at h
      refine lv_iload_n hx hb dX3_symmetries_53 rfl (lv_at hl 2 rfl) ?_
      refine lv_aload_n hx hb dX3_symmetries_54 rfl (lv_at hl 0 rfl) ?_
      obtain ⟨y13, e13, h⟩ := ob_s h
      refine MR.callV (q0 := 0) (M_X3_points hG e13) S (cw_X3_points hts q1913 ⟨Nat.le_of_ble_eq_true rfl, Nat.le_of_ble_eq_true rfl⟩) hW0 hK hP rfl rfl rfl hl.1 rfl (Nat.le_of_ble_eq_true rfl) dX3_symmetries_55 ⟨Nat.zero_le _, Nat.zero_le _⟩ ?_
      refine lv_icmp_ge (tgt := 84) hx hb dX3_symmetries_58 (by decide) (fun c14 => ?_) (fun c14 => ?_)
      · rw [if_pos c14] at h
        exact hk84 c_becomes _ _ _ h hP hD hS (lv_sub hl [0, 1] rfl)
      · rw [if_neg c14] at h
        refine lv_aload_n hx hb dX3_symmetries_61 rfl (lv_at hl 0 rfl) ?_
        refine va_get (ci := 2) (v := .ref (ad 18)) (C := RX3) (T := TX3) (N := 52) hx hb hts in_X3 hown hK hP 0 rfl rfl 18 (by decide) (hts _ q1676) (fun _ h9 => h9) rfl dX3_symmetries_62 ?_
        refine lv_iload_n hx hb dX3_symmetries_65 rfl (lv_at hl 2 rfl) ?_
        refine lv_dup2_11 hx hb dX3_symmetries_66 rfl rfl ?_
        obtain ⟨i15, h⟩ := ckI_s h
        refine va_iald (f := c_becomes) hx hb hK hP 7 0 rfl rfl i15 dX3_symmetries_67 ?_
        refine lv_iconst (v := 1) hx hb dX3_symmetries_68 (by decide) ?_
        refine lv_aload_n hx hb dX3_symmetries_69 rfl (lv_at hl 0 rfl) ?_
        refine va_get (ci := 2) (v := .ref (ad 16)) (C := RX3) (T := TX3) (N := 52) hx hb hts in_X3 hown hK hP 0 rfl rfl 16 (by decide) (hts _ q1674) (fun _ h9 => h9) rfl dX3_symmetries_70 ?_
        refine lv_iload_n hx hb dX3_symmetries_73 rfl (lv_at hl 2 rfl) ?_
        obtain ⟨i16, h⟩ := ckI_s h
        refine va_iald (f := c_naming) hx hb hK hP 5 0 rfl rfl i16 dX3_symmetries_74 ?_
        refine lv_ishl hx hb dX3_symmetries_75 ?_
        refine lv_ior hx hb dX3_symmetries_76 ?_
        obtain ⟨i17, h⟩ := ckI_s h
        refine va_iast (f := c_becomes) hx hb hK hP hD hS 7 0 rfl rfl i17 dX3_symmetries_77 (fun H locs hP hD hS => ?_)
        have hP : va_P G.2.1 vwCl (mW h0 ad G.2.2 c_code c_now c_read c_status c_tape c_taped c_at c_textSize c_token c_number c_begins c_stops c_bad c_badPlace c_faultPlace c_clauses c_naming c_lineBy (upd c_becomes (Int32.toNatClampNeg v3) ((c_becomes (Int32.toNatClampNeg v3)) ||| ((1 : Int32) <<< ((c_naming (Int32.toNatClampNeg v3)) &&& 31)))) c_dualLines c_on c_rowNow c_least c_wayFirst c_ways c_acts c_past c_listPoints c_listLines c_listed c_list c_path c_places c_firstPlaces c_px c_py c_pz c_placeMany c_modulus c_drawn c_halvesMany c_halvesFirst c_spreadsMany c_spreadsFirst c_comesTo c_seedNow c_rowThen c_hasImage c_actsThen c_imageRow c_pastThen c_statusThen) H := hP
        have hD : va_D A (mW h0 ad G.2.2 c_code c_now c_read c_status c_tape c_taped c_at c_textSize c_token c_number c_begins c_stops c_bad c_badPlace c_faultPlace c_clauses c_naming c_lineBy (upd c_becomes (Int32.toNatClampNeg v3) ((c_becomes (Int32.toNatClampNeg v3)) ||| ((1 : Int32) <<< ((c_naming (Int32.toNatClampNeg v3)) &&& 31)))) c_dualLines c_on c_rowNow c_least c_wayFirst c_ways c_acts c_past c_listPoints c_listLines c_listed c_list c_path c_places c_firstPlaces c_px c_py c_pz c_placeMany c_modulus c_drawn c_halvesMany c_halvesFirst c_spreadsMany c_spreadsFirst c_comesTo c_seedNow c_rowThen c_hasImage c_actsThen c_imageRow c_pastThen c_statusThen) := hD
        refine lv_iinc (v := (v3 + 1)) (lv' := [(3, .int (v3 + 1)), (0, .ref h0), (1, .int v1)]) hx hb dX3_symmetries_78 hl (k := 2) rfl rfl (by decide) rfl (fun ls hl => ?_)
        refine lv_goto (tgt := 53) hx hb dX3_symmetries_81 (by decide) ?_
        exact ih v1 (v3 + 1) c_naming c_lineBy (upd c_becomes (Int32.toNatClampNeg v3) ((c_becomes (Int32.toNatClampNeg v3)) ||| ((1 : Int32) <<< ((c_naming (Int32.toNatClampNeg v3)) &&& 31)))) _ h hk84 _ _ hP hD hS _ (lv_sub hl [1, 2, 0] rfl)
  have S_X3_symmetries_37 : ∀ (n : Nat) (v1 : Int32) (v2 : Int32) (c_naming : (Nat → Int32)) (c_lineBy : (Nat → Int32)) (c_becomes : (Nat → Int32)), F_X3_symmetries_37 N c_now c_lineBy n v1 v2 c_naming c_becomes = some ρ → ∀ (H : Heap) (locs : List Loc), va_P G.2.1 vwCl (mW h0 ad G.2.2 c_code c_now c_read c_status c_tape c_taped c_at c_textSize c_token c_number c_begins c_stops c_bad c_badPlace c_faultPlace c_clauses c_naming c_lineBy c_becomes c_dualLines c_on c_rowNow c_least c_wayFirst c_ways c_acts c_past c_listPoints c_listLines c_listed c_list c_path c_places c_firstPlaces c_px c_py c_pz c_placeMany c_modulus c_drawn c_halvesMany c_halvesFirst c_spreadsMany c_spreadsFirst c_comesTo c_seedNow c_rowThen c_hasImage c_actsThen c_imageRow c_pastThen c_statusThen) H → va_D A (mW h0 ad G.2.2 c_code c_now c_read c_status c_tape c_taped c_at c_textSize c_token c_number c_begins c_stops c_bad c_badPlace c_faultPlace c_clauses c_naming c_lineBy c_becomes c_dualLines c_on c_rowNow c_least c_wayFirst c_ways c_acts c_past c_listPoints c_listLines c_listed c_list c_path c_places c_firstPlaces c_px c_py c_pz c_placeMany c_modulus c_drawn c_halvesMany c_halvesFirst c_spreadsMany c_spreadsFirst c_comesTo c_seedNow c_rowThen c_hasImage c_actsThen c_imageRow c_pastThen c_statusThen) → va_S A s.heap H locs → ∀ (ls : Array Slot), lv_has ls 4 [(0, .ref h0), (1, .int v1), (2, .int v2)] → W p l e (rmL 4 0 0) s m args below meth c H locs 0 0 Q (F0 m 37 ls []) := by
    intro n
    induction n with
    | zero =>
      intro v1 v2 c_naming c_lineBy c_becomes h
      exact absurd h (by simp [F_X3_symmetries_37])
    | succ n ih =>
      intro v1 v2 c_naming c_lineBy c_becomes h H locs hP hD hS ls hl
      rw [F_X3_symmetries_37] at h
      refine lv_iload_n hx hb dX3_symmetries_37 rfl (lv_at hl 2 rfl) ?_
      refine lv_if_eq (tgt := 96) hx hb dX3_symmetries_38 (by decide) (fun c7 => ?_) (fun c7 => ?_)
      · rw [if_pos c7] at h
        refine lv_iload_n hx hb dX3_symmetries_96 rfl (lv_at hl 1 rfl) ?_
        obtain rfl := Option.some.inj h
        exact hreti rfl dX3_symmetries_97 rfl rfl hP hD hS
      · rw [if_neg c7] at h
        refine lv_aload_n hx hb dX3_symmetries_41 rfl (lv_at hl 0 rfl) ?_
        obtain ⟨y9, e9, h⟩ := ob_s h
        refine MR.callV (q0 := 0) (M_X3_isSymmetry hG e9) S (cw_X3_isSymmetry hts q1982 ⟨Nat.le_of_ble_eq_true rfl, Nat.le_of_ble_eq_true rfl⟩) hW0 hK hP rfl rfl rfl hl.1 rfl (Nat.le_of_ble_eq_true rfl) dX3_symmetries_42 ⟨Nat.zero_le _, Nat.zero_le _⟩ ?_
        refine lv_if_eq (tgt := 84) hx hb dX3_symmetries_45 (by decide) (fun c10 => ?_) (fun c10 => ?_)
        · rw [if_pos c10] at h
          refine lv_aload_n hx hb dX3_symmetries_84 rfl (lv_at hl 0 rfl) ?_
          refine lv_aload_n hx hb dX3_symmetries_85 rfl (lv_at hl 0 rfl) ?_
          obtain ⟨y11, e11, h⟩ := ob_s h
          refine MR.callV (q0 := 0) (M_X3_points hG e11) S (cw_X3_points hts q1913 ⟨Nat.le_of_ble_eq_true rfl, Nat.le_of_ble_eq_true rfl⟩) hW0 hK hP rfl rfl rfl hl.1 rfl (Nat.le_of_ble_eq_true rfl) dX3_symmetries_86 ⟨Nat.zero_le _, Nat.zero_le _⟩ ?_
          obtain ⟨y12, e12, h⟩ := ob_s h
          refine MW.callV (q0 := 0) (M_X3_nextNaming hG e12) S (cw_X3_nextNaming hts q1990 ⟨Nat.le_of_ble_eq_true rfl, Nat.le_of_ble_eq_true rfl⟩) hW0 hK hP hD hS hA rfl rfl rfl hl.1 rfl (Nat.le_of_ble_eq_true rfl) dX3_symmetries_89 ⟨Nat.zero_le _, Nat.zero_le _⟩ (fun H locs hP hD hS => ?_)
          have hP : va_P G.2.1 vwCl (mW h0 ad G.2.2 c_code c_now c_read c_status c_tape c_taped c_at c_textSize c_token c_number c_begins c_stops c_bad c_badPlace c_faultPlace c_clauses y12.2 c_lineBy c_becomes c_dualLines c_on c_rowNow c_least c_wayFirst c_ways c_acts c_past c_listPoints c_listLines c_listed c_list c_path c_places c_firstPlaces c_px c_py c_pz c_placeMany c_modulus c_drawn c_halvesMany c_halvesFirst c_spreadsMany c_spreadsFirst c_comesTo c_seedNow c_rowThen c_hasImage c_actsThen c_imageRow c_pastThen c_statusThen) H := hP
          have hD : va_D A (mW h0 ad G.2.2 c_code c_now c_read c_status c_tape c_taped c_at c_textSize c_token c_number c_begins c_stops c_bad c_badPlace c_faultPlace c_clauses y12.2 c_lineBy c_becomes c_dualLines c_on c_rowNow c_least c_wayFirst c_ways c_acts c_past c_listPoints c_listLines c_listed c_list c_path c_places c_firstPlaces c_px c_py c_pz c_placeMany c_modulus c_drawn c_halvesMany c_halvesFirst c_spreadsMany c_spreadsFirst c_comesTo c_seedNow c_rowThen c_hasImage c_actsThen c_imageRow c_pastThen c_statusThen) := hD
          refine W.eq (g2 := F0 m 92 ls [.int y12.1]) rfl ?_
          refine lv_istore_n (lv' := [(2, .int y12.1), (0, .ref h0), (1, .int v1)]) hx hb dX3_symmetries_92 rfl hl (by decide) rfl (fun ls hl => ?_)
          refine lv_goto (tgt := 37) hx hb dX3_symmetries_93 (by decide) ?_
          exact ih v1 y12.1 y12.2 c_lineBy c_becomes h _ _ hP hD hS _ (lv_sub hl [1, 2, 0] rfl)
        · rw [if_neg c10] at h
          refine lv_iinc (v := (v1 + 1)) (lv' := [(1, .int (v1 + 1)), (0, .ref h0), (2, .int v2)]) hx hb dX3_symmetries_48 hl (k := 1) rfl rfl (by decide) rfl (fun ls hl => ?_)
          refine lv_iconst (v := 0) hx hb dX3_symmetries_51 (by decide) ?_
          refine lv_istore_n (lv' := [(3, .int 0), (1, .int (v1 + 1)), (0, .ref h0), (2, .int v2)]) hx hb dX3_symmetries_52 rfl hl (by decide) rfl (fun ls hl => ?_)
          refine S_X3_symmetries_53 N (v1 + 1) 0 c_naming c_lineBy c_becomes _ h ?_ _ _ hP hD hS _ (lv_sub hl [2, 1, 0] rfl)
          · intro c_becomes_18 H locs ls h hP hD hS hl
            refine lv_aload_n hx hb dX3_symmetries_84 rfl (lv_at hl 0 rfl) ?_
            refine lv_aload_n hx hb dX3_symmetries_85 rfl (lv_at hl 0 rfl) ?_
            obtain ⟨y19, e19, h⟩ := ob_s h
            refine MR.callV (q0 := 0) (M_X3_points hG e19) S (cw_X3_points hts q1913 ⟨Nat.le_of_ble_eq_true rfl, Nat.le_of_ble_eq_true rfl⟩) hW0 hK hP rfl rfl rfl hl.1 rfl (Nat.le_of_ble_eq_true rfl) dX3_symmetries_86 ⟨Nat.zero_le _, Nat.zero_le _⟩ ?_
            obtain ⟨y20, e20, h⟩ := ob_s h
            refine MW.callV (q0 := 0) (M_X3_nextNaming hG e20) S (cw_X3_nextNaming hts q1990 ⟨Nat.le_of_ble_eq_true rfl, Nat.le_of_ble_eq_true rfl⟩) hW0 hK hP hD hS hA rfl rfl rfl hl.1 rfl (Nat.le_of_ble_eq_true rfl) dX3_symmetries_89 ⟨Nat.zero_le _, Nat.zero_le _⟩ (fun H locs hP hD hS => ?_)
            have hP : va_P G.2.1 vwCl (mW h0 ad G.2.2 c_code c_now c_read c_status c_tape c_taped c_at c_textSize c_token c_number c_begins c_stops c_bad c_badPlace c_faultPlace c_clauses y20.2 c_lineBy c_becomes_18 c_dualLines c_on c_rowNow c_least c_wayFirst c_ways c_acts c_past c_listPoints c_listLines c_listed c_list c_path c_places c_firstPlaces c_px c_py c_pz c_placeMany c_modulus c_drawn c_halvesMany c_halvesFirst c_spreadsMany c_spreadsFirst c_comesTo c_seedNow c_rowThen c_hasImage c_actsThen c_imageRow c_pastThen c_statusThen) H := hP
            have hD : va_D A (mW h0 ad G.2.2 c_code c_now c_read c_status c_tape c_taped c_at c_textSize c_token c_number c_begins c_stops c_bad c_badPlace c_faultPlace c_clauses y20.2 c_lineBy c_becomes_18 c_dualLines c_on c_rowNow c_least c_wayFirst c_ways c_acts c_past c_listPoints c_listLines c_listed c_list c_path c_places c_firstPlaces c_px c_py c_pz c_placeMany c_modulus c_drawn c_halvesMany c_halvesFirst c_spreadsMany c_spreadsFirst c_comesTo c_seedNow c_rowThen c_hasImage c_actsThen c_imageRow c_pastThen c_statusThen) := hD
            refine W.eq (g2 := F0 m 92 ls [.int y20.1]) rfl ?_
            refine lv_istore_n (lv' := [(2, .int y20.1), (0, .ref h0), (1, .int (v1 + 1))]) hx hb dX3_symmetries_92 rfl hl (by decide) rfl (fun ls hl => ?_)
            refine lv_goto (tgt := 37) hx hb dX3_symmetries_93 (by decide) ?_
            exact ih (v1 + 1) y20.1 y20.2 c_lineBy c_becomes_18 h _ _ hP hD hS _ (lv_sub hl [1, 2, 0] rfl)
  refine lv_iconst (v := 0) hx hb dX3_symmetries_0 (by decide) ?_
  refine lv_istore_n (lv' := [(1, .int 0), (0, .ref h0)]) hx hb dX3_symmetries_1 rfl hl (by decide) rfl (fun ls hl => ?_)
  refine lv_aload_n hx hb dX3_symmetries_2 rfl (lv_at hl 1 rfl) ?_
  obtain ⟨y1, e1, h⟩ := ob_s h
  refine MW.callV (q0 := 0) (M_X3_tellLines hG e1) S (cw_X3_tellLines hts q1974 ⟨Nat.le_of_ble_eq_true rfl, Nat.le_of_ble_eq_true rfl⟩) hW0 hK hP hD hS hA rfl rfl rfl hl.1 rfl (Nat.le_of_ble_eq_true rfl) dX3_symmetries_3 ⟨Nat.zero_le _, Nat.zero_le _⟩ (fun H locs hP hD hS => ?_)
  have hP : va_P G.2.1 vwCl (mW h0 ad G.2.2 c_code c_now c_read c_status c_tape c_taped c_at c_textSize c_token c_number c_begins c_stops c_bad c_badPlace c_faultPlace c_clauses c_naming y1 c_becomes c_dualLines c_on c_rowNow c_least c_wayFirst c_ways c_acts c_past c_listPoints c_listLines c_listed c_list c_path c_places c_firstPlaces c_px c_py c_pz c_placeMany c_modulus c_drawn c_halvesMany c_halvesFirst c_spreadsMany c_spreadsFirst c_comesTo c_seedNow c_rowThen c_hasImage c_actsThen c_imageRow c_pastThen c_statusThen) H := hP
  have hD : va_D A (mW h0 ad G.2.2 c_code c_now c_read c_status c_tape c_taped c_at c_textSize c_token c_number c_begins c_stops c_bad c_badPlace c_faultPlace c_clauses c_naming y1 c_becomes c_dualLines c_on c_rowNow c_least c_wayFirst c_ways c_acts c_past c_listPoints c_listLines c_listed c_list c_path c_places c_firstPlaces c_px c_py c_pz c_placeMany c_modulus c_drawn c_halvesMany c_halvesFirst c_spreadsMany c_spreadsFirst c_comesTo c_seedNow c_rowThen c_hasImage c_actsThen c_imageRow c_pastThen c_statusThen) := hD
  refine W.eq (g2 := F0 m 6 ls []) rfl ?_
  refine lv_iconst (v := 0) hx hb dX3_symmetries_6 (by decide) ?_
  refine lv_istore_n (lv' := [(2, .int 0), (1, .int 0), (0, .ref h0)]) hx hb dX3_symmetries_7 rfl hl (by decide) rfl (fun ls hl => ?_)
  refine S_X3_symmetries_8 N 0 0 c_naming y1 c_becomes _ h ?_ _ _ hP hD hS _ (lv_sub hl [2, 1, 0] rfl)
  · intro c_becomes_4 H locs ls h hP hD hS hl
    refine lv_aload_n hx hb dX3_symmetries_27 rfl (lv_at hl 0 rfl) ?_
    refine lv_aload_n hx hb dX3_symmetries_28 rfl (lv_at hl 0 rfl) ?_
    obtain ⟨y5, e5, h⟩ := ob_s h
    refine MR.callV (q0 := 0) (M_X3_points hG e5) S (cw_X3_points hts q1913 ⟨Nat.le_of_ble_eq_true rfl, Nat.le_of_ble_eq_true rfl⟩) hW0 hK hP rfl rfl rfl hl.1 rfl (Nat.le_of_ble_eq_true rfl) dX3_symmetries_29 ⟨Nat.zero_le _, Nat.zero_le _⟩ ?_
    obtain ⟨y6, e6, h⟩ := ob_s h
    refine MW.callV (q0 := 0) (M_X3_beginNaming hG e6) S (cw_X3_beginNaming hts q1978 ⟨Nat.le_of_ble_eq_true rfl, Nat.le_of_ble_eq_true rfl⟩) hW0 hK hP hD hS hA rfl rfl rfl hl.1 rfl (Nat.le_of_ble_eq_true rfl) dX3_symmetries_32 ⟨Nat.zero_le _, Nat.zero_le _⟩ (fun H locs hP hD hS => ?_)
    have hP : va_P G.2.1 vwCl (mW h0 ad G.2.2 c_code c_now c_read c_status c_tape c_taped c_at c_textSize c_token c_number c_begins c_stops c_bad c_badPlace c_faultPlace c_clauses y6 y1 c_becomes_4 c_dualLines c_on c_rowNow c_least c_wayFirst c_ways c_acts c_past c_listPoints c_listLines c_listed c_list c_path c_places c_firstPlaces c_px c_py c_pz c_placeMany c_modulus c_drawn c_halvesMany c_halvesFirst c_spreadsMany c_spreadsFirst c_comesTo c_seedNow c_rowThen c_hasImage c_actsThen c_imageRow c_pastThen c_statusThen) H := hP
    have hD : va_D A (mW h0 ad G.2.2 c_code c_now c_read c_status c_tape c_taped c_at c_textSize c_token c_number c_begins c_stops c_bad c_badPlace c_faultPlace c_clauses y6 y1 c_becomes_4 c_dualLines c_on c_rowNow c_least c_wayFirst c_ways c_acts c_past c_listPoints c_listLines c_listed c_list c_path c_places c_firstPlaces c_px c_py c_pz c_placeMany c_modulus c_drawn c_halvesMany c_halvesFirst c_spreadsMany c_spreadsFirst c_comesTo c_seedNow c_rowThen c_hasImage c_actsThen c_imageRow c_pastThen c_statusThen) := hD
    refine W.eq (g2 := F0 m 35 ls []) rfl ?_
    refine lv_iconst (v := 1) hx hb dX3_symmetries_35 (by decide) ?_
    refine lv_istore_n (lv' := [(2, .int 1), (0, .ref h0), (1, .int 0)]) hx hb dX3_symmetries_36 rfl hl (by decide) rfl (fun ls hl => ?_)
    refine S_X3_symmetries_37 N 0 1 y6 y1 c_becomes_4 h  _ _ hP hD hS _ (lv_sub hl [1, 2, 0] rfl)
def F_X3_orbits_9 (N : Nat) (c_now : (Nat → Int32)) (c_naming : (Nat → Int32)) (c_lineBy : (Nat → Int32)) (c_becomes : (Nat → Int32)) : Nat → Int32 → Int32 → Option (Int32 × (Nat → Int32) × (Nat → Int32) × (Nat → Int32))
  | 0, _, _ => none
  | n + 1, v1, v2 => ((F_X3_points N c_now).bind fun y2 => (if y2 ≤ v2 then (some (v1, c_naming, c_lineBy, c_becomes)) else (ckI v2 8 ((F_J16_numberOfTrailingZeros N (c_becomes (Int32.toNatClampNeg v2))).bind fun y6 => (if y6 = v2 then (F_X3_orbits_9 N c_now c_naming c_lineBy c_becomes n (v1 + (1 : Int32)) (v2 + 1)) else (F_X3_orbits_9 N c_now c_naming c_lineBy c_becomes n (v1 + (0 : Int32)) (v2 + 1)))))))
def F_X3_orbits (N : Nat) (c_now : (Nat → Int32)) (c_naming : (Nat → Int32)) (c_lineBy : (Nat → Int32)) (c_becomes : (Nat → Int32)) : Option (Int32 × (Nat → Int32) × (Nat → Int32) × (Nat → Int32)) := ((F_X3_symmetries N c_now c_naming c_lineBy c_becomes).bind fun y1 => (F_X3_orbits_9 N c_now y1.2.1 y1.2.2.1 y1.2.2.2 N 0 0))
theorem cw_X3_orbits {R : Room} {s : State} {args : Array Value} {own : String} {index lev mc ms : Nat} (hts : ∀ w ∈ lw_all, w.before args s = true) (hl : Cond.methodLink own index yX3_orbits ∈ lw_all) (hR : (rmL lev mc ms).frames + 1 ≤ R.frames ∧ 8 + (3 + 11) + (rmL lev mc ms).locals ≤ R.locals) : CallW R s args own RX3 index yX3_orbits cX3_orbits 3 (some .int) (ws_ yX3_orbits cX3_orbits 3 (some .int)) (rmL lev mc ms) mc ms 0 := cwV 0 hts (lw_V hl q2000 qs104 q172 q2001) rfl rfl rfl (by decide +kernel) hR
set_option maxHeartbeats 4000000 in
theorem M_X3_orbits {l : Launch} {G : GE} (hG : GC G) {N : Nat} {h0 : Nat} {ad : Nat → Nat} {c_code : Int32} {c_read : (Nat → Int32)} {c_status : (Nat → Int32)} {c_tape : (Nat → Int32)} {c_taped : Int32} {c_at : Int32} {c_textSize : Int32} {c_token : Int32} {c_number : Int32} {c_begins : Int32} {c_stops : Int32} {c_bad : Int32} {c_badPlace : Int32} {c_faultPlace : Int32} {c_clauses : Int32} {c_dualLines : (Nat → Int32)} {c_on : (Nat → Int32)} {c_rowNow : (Nat → Int32)} {c_least : (Nat → Int32)} {c_wayFirst : (Nat → Int32)} {c_ways : Int32} {c_acts : Int32} {c_past : (Nat → Int32)} {c_listPoints : Int32} {c_listLines : Int32} {c_listed : Int32} {c_list : (Nat → Int32)} {c_path : (Nat → Int32)} {c_places : (Nat → Int32)} {c_firstPlaces : (Nat → Int32)} {c_px : (Nat → Int32)} {c_py : (Nat → Int32)} {c_pz : (Nat → Int32)} {c_placeMany : Int32} {c_modulus : Int32} {c_drawn : Int32} {c_halvesMany : Int32} {c_halvesFirst : Int32} {c_spreadsMany : Int32} {c_spreadsFirst : Int32} {c_comesTo : (Nat → Int32)} {c_seedNow : Int32} {c_rowThen : (Nat → Int32)} {c_hasImage : Int32} {c_actsThen : Int32} {c_imageRow : (Nat → Int32)} {c_pastThen : (Nat → Int32)} {c_statusThen : (Nat → Int32)} {c_now : (Nat → Int32)} {c_naming : (Nat → Int32)} {c_lineBy : (Nat → Int32)} {c_becomes : (Nat → Int32)} {ρ : (Int32 × (Nat → Int32) × (Nat → Int32) × (Nat → Int32))} (h : F_X3_orbits N c_now c_naming c_lineBy c_becomes = some ρ) : MW l G yX3_orbits cX3_orbits 3 (some .int) 5 (mW h0 ad G.2.2 c_code c_now c_read c_status c_tape c_taped c_at c_textSize c_token c_number c_begins c_stops c_bad c_badPlace c_faultPlace c_clauses c_naming c_lineBy c_becomes c_dualLines c_on c_rowNow c_least c_wayFirst c_ways c_acts c_past c_listPoints c_listLines c_listed c_list c_path c_places c_firstPlaces c_px c_py c_pz c_placeMany c_modulus c_drawn c_halvesMany c_halvesFirst c_spreadsMany c_spreadsFirst c_comesTo c_seedNow c_rowThen c_hasImage c_actsThen c_imageRow c_pastThen c_statusThen) [.ref h0] (some (.int ρ.1)) (mW h0 ad G.2.2 c_code c_now c_read c_status c_tape c_taped c_at c_textSize c_token c_number c_begins c_stops c_bad c_badPlace c_faultPlace c_clauses ρ.2.1 ρ.2.2.1 ρ.2.2.2 c_dualLines c_on c_rowNow c_least c_wayFirst c_ways c_acts c_past c_listPoints c_listLines c_listed c_list c_path c_places c_firstPlaces c_px c_py c_pz c_placeMany c_modulus c_drawn c_halvesMany c_halvesFirst c_spreadsMany c_spreadsFirst c_comesTo c_seedNow c_rowThen c_hasImage c_actsThen c_imageRow c_pastThen c_statusThen) := by
  rw [F_X3_orbits] at h
  refine MW.start hG (by decide) (Nat.le_of_ble_eq_true rfl) ?_
  intro p e s m args below meth c Q A S hW0 hK hP hD hA hreti hretv ls hl
  have hS : va_S A s.heap s.heap [] := va_S.rf
  obtain ⟨hx, hb, hml, hown, hts⟩ := id S
  have hl : lv_has ls 3 [(0, .ref h0)] := hl
  have S_X3_orbits_9 : ∀ (n : Nat) (v1 : Int32) (v2 : Int32) (c_naming : (Nat → Int32)) (c_lineBy : (Nat → Int32)) (c_becomes : (Nat → Int32)), F_X3_orbits_9 N c_now c_naming c_lineBy c_becomes n v1 v2 = some ρ → ∀ (H : Heap) (locs : List Loc), va_P G.2.1 vwCl (mW h0 ad G.2.2 c_code c_now c_read c_status c_tape c_taped c_at c_textSize c_token c_number c_begins c_stops c_bad c_badPlace c_faultPlace c_clauses c_naming c_lineBy c_becomes c_dualLines c_on c_rowNow c_least c_wayFirst c_ways c_acts c_past c_listPoints c_listLines c_listed c_list c_path c_places c_firstPlaces c_px c_py c_pz c_placeMany c_modulus c_drawn c_halvesMany c_halvesFirst c_spreadsMany c_spreadsFirst c_comesTo c_seedNow c_rowThen c_hasImage c_actsThen c_imageRow c_pastThen c_statusThen) H → va_D A (mW h0 ad G.2.2 c_code c_now c_read c_status c_tape c_taped c_at c_textSize c_token c_number c_begins c_stops c_bad c_badPlace c_faultPlace c_clauses c_naming c_lineBy c_becomes c_dualLines c_on c_rowNow c_least c_wayFirst c_ways c_acts c_past c_listPoints c_listLines c_listed c_list c_path c_places c_firstPlaces c_px c_py c_pz c_placeMany c_modulus c_drawn c_halvesMany c_halvesFirst c_spreadsMany c_spreadsFirst c_comesTo c_seedNow c_rowThen c_hasImage c_actsThen c_imageRow c_pastThen c_statusThen) → va_S A s.heap H locs → ∀ (ls : Array Slot), lv_has ls 3 [(0, .ref h0), (1, .int v1), (2, .int v2)] → W p l e (rmL 5 0 0) s m args below meth c H locs 0 0 Q (F0 m 9 ls []) := by
    intro n
    induction n with
    | zero =>
      intro v1 v2 c_naming c_lineBy c_becomes h
      exact absurd h (by simp [F_X3_orbits_9])
    | succ n ih =>
      intro v1 v2 c_naming c_lineBy c_becomes h H locs hP hD hS ls hl
      rw [F_X3_orbits_9] at h
      refine lv_iload_n hx hb dX3_orbits_9 rfl (lv_at hl 2 rfl) ?_
      refine lv_aload_n hx hb dX3_orbits_10 rfl (lv_at hl 0 rfl) ?_
      obtain ⟨y2, e2, h⟩ := ob_s h
      refine MR.callV (q0 := 0) (M_X3_points hG e2) S (cw_X3_points hts q1913 ⟨Nat.le_of_ble_eq_true rfl, Nat.le_of_ble_eq_true rfl⟩) hW0 hK hP rfl rfl rfl hl.1 rfl (Nat.le_of_ble_eq_true rfl) dX3_orbits_11 ⟨Nat.zero_le _, Nat.zero_le _⟩ ?_
      refine lv_icmp_ge (tgt := 44) hx hb dX3_orbits_14 (by decide) (fun c3 => ?_) (fun c3 => ?_)
      · rw [if_pos c3] at h
        refine lv_iload_n hx hb dX3_orbits_44 rfl (lv_at hl 1 rfl) ?_
        obtain rfl := Option.some.inj h
        exact hreti rfl dX3_orbits_45 rfl rfl hP hD hS
      · rw [if_neg c3] at h
        refine lv_iload_n hx hb dX3_orbits_17 rfl (lv_at hl 1 rfl) ?_
        refine lv_aload_n hx hb dX3_orbits_18 rfl (lv_at hl 0 rfl) ?_
        refine va_get (ci := 2) (v := .ref (ad 18)) (C := RX3) (T := TX3) (N := 52) hx hb hts in_X3 hown hK hP 0 rfl rfl 18 (by decide) (hts _ q1676) (fun _ h9 => h9) rfl dX3_orbits_19 ?_
        refine lv_iload_n hx hb dX3_orbits_22 rfl (lv_at hl 2 rfl) ?_
        obtain ⟨i5, h⟩ := ckI_s h
        refine va_iald (f := c_becomes) hx hb hK hP 7 0 rfl rfl i5 dX3_orbits_23 ?_
        obtain ⟨y6, e6, h⟩ := ob_s h
        refine MR.callS (M_J16_numberOfTrailingZeros hG e6) S (cw_J16_numberOfTrailingZeros hts q1969 ⟨Nat.le_of_ble_eq_true rfl, Nat.le_of_ble_eq_true rfl⟩) hW0 vaP0 rfl hl.1 rfl (Nat.le_of_ble_eq_true rfl) dX3_orbits_24 ⟨Nat.zero_le _, Nat.zero_le _⟩ ?_
        refine lv_iload_n hx hb dX3_orbits_27 rfl (lv_at hl 2 rfl) ?_
        refine lv_icmp_ne (tgt := 35) hx hb dX3_orbits_28 (by decide) (fun c7 => ?_) (fun c7 => ?_)
        · rw [if_neg c7] at h
          refine lv_iconst (v := 0) hx hb dX3_orbits_35 (by decide) ?_
          refine lv_iadd hx hb dX3_orbits_36 ?_
          refine lv_istore_n (lv' := [(1, .int (v1 + (0 : Int32))), (0, .ref h0), (2, .int v2)]) hx hb dX3_orbits_37 rfl hl (by decide) rfl (fun ls hl => ?_)
          refine lv_iinc (v := (v2 + 1)) (lv' := [(2, .int (v2 + 1)), (1, .int (v1 + (0 : Int32))), (0, .ref h0)]) hx hb dX3_orbits_38 hl (k := 2) rfl rfl (by decide) rfl (fun ls hl => ?_)
          refine lv_goto (tgt := 9) hx hb dX3_orbits_41 (by decide) ?_
          exact ih (v1 + (0 : Int32)) (v2 + 1) c_naming c_lineBy c_becomes h _ _ hP hD hS _ (lv_sub hl [2, 1, 0] rfl)
        · rw [if_pos c7] at h
          refine lv_iconst (v := 1) hx hb dX3_orbits_31 (by decide) ?_
          refine lv_goto (tgt := 36) hx hb dX3_orbits_32 (by decide) ?_
          refine lv_iadd hx hb dX3_orbits_36 ?_
          refine lv_istore_n (lv' := [(1, .int (v1 + (1 : Int32))), (0, .ref h0), (2, .int v2)]) hx hb dX3_orbits_37 rfl hl (by decide) rfl (fun ls hl => ?_)
          refine lv_iinc (v := (v2 + 1)) (lv' := [(2, .int (v2 + 1)), (1, .int (v1 + (1 : Int32))), (0, .ref h0)]) hx hb dX3_orbits_38 hl (k := 2) rfl rfl (by decide) rfl (fun ls hl => ?_)
          refine lv_goto (tgt := 9) hx hb dX3_orbits_41 (by decide) ?_
          exact ih (v1 + (1 : Int32)) (v2 + 1) c_naming c_lineBy c_becomes h _ _ hP hD hS _ (lv_sub hl [2, 1, 0] rfl)
  refine lv_aload_n hx hb dX3_orbits_0 rfl (lv_at hl 0 rfl) ?_
  obtain ⟨y1, e1, h⟩ := ob_s h
  refine MW.callV (q0 := 0) (M_X3_symmetries hG e1) S (cw_X3_symmetries hts q1970 ⟨Nat.le_of_ble_eq_true rfl, Nat.le_of_ble_eq_true rfl⟩) hW0 hK hP hD hS hA rfl rfl rfl hl.1 rfl (Nat.le_of_ble_eq_true rfl) dX3_orbits_1 ⟨Nat.zero_le _, Nat.zero_le _⟩ (fun H locs hP hD hS => ?_)
  have hP : va_P G.2.1 vwCl (mW h0 ad G.2.2 c_code c_now c_read c_status c_tape c_taped c_at c_textSize c_token c_number c_begins c_stops c_bad c_badPlace c_faultPlace c_clauses y1.2.1 y1.2.2.1 y1.2.2.2 c_dualLines c_on c_rowNow c_least c_wayFirst c_ways c_acts c_past c_listPoints c_listLines c_listed c_list c_path c_places c_firstPlaces c_px c_py c_pz c_placeMany c_modulus c_drawn c_halvesMany c_halvesFirst c_spreadsMany c_spreadsFirst c_comesTo c_seedNow c_rowThen c_hasImage c_actsThen c_imageRow c_pastThen c_statusThen) H := hP
  have hD : va_D A (mW h0 ad G.2.2 c_code c_now c_read c_status c_tape c_taped c_at c_textSize c_token c_number c_begins c_stops c_bad c_badPlace c_faultPlace c_clauses y1.2.1 y1.2.2.1 y1.2.2.2 c_dualLines c_on c_rowNow c_least c_wayFirst c_ways c_acts c_past c_listPoints c_listLines c_listed c_list c_path c_places c_firstPlaces c_px c_py c_pz c_placeMany c_modulus c_drawn c_halvesMany c_halvesFirst c_spreadsMany c_spreadsFirst c_comesTo c_seedNow c_rowThen c_hasImage c_actsThen c_imageRow c_pastThen c_statusThen) := hD
  refine W.eq (g2 := F0 m 4 ls [.int y1.1]) rfl ?_
  refine lv_istore_n (lv' := [(1, .int y1.1), (0, .ref h0)]) hx hb dX3_orbits_4 rfl hl (by decide) rfl (fun ls hl => ?_)
  refine lv_iconst (v := 0) hx hb dX3_orbits_5 (by decide) ?_
  refine lv_istore_n (lv' := [(1, .int 0), (0, .ref h0)]) hx hb dX3_orbits_6 rfl hl (by decide) rfl (fun ls hl => ?_)
  refine lv_iconst (v := 0) hx hb dX3_orbits_7 (by decide) ?_
  refine lv_istore_n (lv' := [(2, .int 0), (1, .int 0), (0, .ref h0)]) hx hb dX3_orbits_8 rfl hl (by decide) rfl (fun ls hl => ?_)
  refine S_X3_orbits_9 N 0 0 y1.2.1 y1.2.2.1 y1.2.2.2 h  _ _ hP hD hS _ (lv_sub hl [2, 1, 0] rfl)
def F_X3_isDuality_28 (N : Nat) (v3 : Int32) (c_now : (Nat → Int32)) (c_on : (Nat → Int32)) : Nat → Int32 → Int32 → (Int32 → Option (Int32)) → Option (Int32)
  | 0, _, _, _ => none
  | n + 1, v4, v5, k63 => ((F_X3_points N c_now).bind fun y6 => (if y6 ≤ v5 then (k63 v4) else (ckI v5 8 (if (c_on (Int32.toNatClampNeg v5)) = v3 then (F_X3_isDuality_28 N v3 c_now c_on n v5 (v5 + 1) k63) else (F_X3_isDuality_28 N v3 c_now c_on n v4 (v5 + 1) k63)))))
def F_X3_isDuality_4 (N : Nat) (c_now : (Nat → Int32)) (c_naming : (Nat → Int32)) (c_on : (Nat → Int32)) : Nat → Int32 → Int32 → Option (Int32)
  | 0, _, _ => none
  | n + 1, v1, v2 => ((F_X3_lines N c_now).bind fun y1 => (if y1 ≤ v2 then (some (1)) else ((F_X3_lineAt N v2 c_now).bind fun y4 => ((F_X3_named N y4 c_naming).bind fun y5 => (F_X3_isDuality_28 N y5 c_now c_on N (-1) 0 (fun u4_10 => (if u4_10 = (-1) then (some (0)) else (if ((v1 >>> (u4_10 &&& 31)) &&& (1 : Int32)) = 1 then (some (0)) else (F_X3_isDuality_4 N c_now c_naming c_on n (v1 ||| ((1 : Int32) <<< (u4_10 &&& 31))) (v2 + 1))))))))))
def F_X3_isDuality (N : Nat) (c_now : (Nat → Int32)) (c_naming : (Nat → Int32)) (c_on : (Nat → Int32)) : Option (Int32) := (F_X3_isDuality_4 N c_now c_naming c_on N 0 0)
theorem cw_X3_isDuality {R : Room} {s : State} {args : Array Value} {own : String} {index lev mc ms : Nat} (hts : ∀ w ∈ lw_all, w.before args s = true) (hl : Cond.methodLink own index yX3_isDuality ∈ lw_all) (hR : (rmL lev mc ms).frames + 1 ≤ R.frames ∧ 8 + (6 + 11) + (rmL lev mc ms).locals ≤ R.locals) : CallW R s args own RX3 index yX3_isDuality cX3_isDuality 6 (some .boolean) (ws_ yX3_isDuality cX3_isDuality 6 (some .boolean)) (rmL lev mc ms) mc ms 0 := cwV 0 hts (lw_V hl q2008 qs106 q172 q2009) rfl rfl rfl (by decide +kernel) hR
set_option maxHeartbeats 4000000 in
theorem M_X3_isDuality {l : Launch} {G : GE} (hG : GC G) {N : Nat} {h0 : Nat} {ad : Nat → Nat} {c_code : Int32} {c_read : (Nat → Int32)} {c_status : (Nat → Int32)} {c_tape : (Nat → Int32)} {c_taped : Int32} {c_at : Int32} {c_textSize : Int32} {c_token : Int32} {c_number : Int32} {c_begins : Int32} {c_stops : Int32} {c_bad : Int32} {c_badPlace : Int32} {c_faultPlace : Int32} {c_clauses : Int32} {c_lineBy : (Nat → Int32)} {c_becomes : (Nat → Int32)} {c_dualLines : (Nat → Int32)} {c_rowNow : (Nat → Int32)} {c_least : (Nat → Int32)} {c_wayFirst : (Nat → Int32)} {c_ways : Int32} {c_acts : Int32} {c_past : (Nat → Int32)} {c_listPoints : Int32} {c_listLines : Int32} {c_listed : Int32} {c_list : (Nat → Int32)} {c_path : (Nat → Int32)} {c_places : (Nat → Int32)} {c_firstPlaces : (Nat → Int32)} {c_px : (Nat → Int32)} {c_py : (Nat → Int32)} {c_pz : (Nat → Int32)} {c_placeMany : Int32} {c_modulus : Int32} {c_drawn : Int32} {c_halvesMany : Int32} {c_halvesFirst : Int32} {c_spreadsMany : Int32} {c_spreadsFirst : Int32} {c_comesTo : (Nat → Int32)} {c_seedNow : Int32} {c_rowThen : (Nat → Int32)} {c_hasImage : Int32} {c_actsThen : Int32} {c_imageRow : (Nat → Int32)} {c_pastThen : (Nat → Int32)} {c_statusThen : (Nat → Int32)} {c_now : (Nat → Int32)} {c_naming : (Nat → Int32)} {c_on : (Nat → Int32)} {ρ : (Int32)} (h : F_X3_isDuality N c_now c_naming c_on = some ρ) : MR l G yX3_isDuality cX3_isDuality 6 (some .boolean) 3 (mW h0 ad G.2.2 c_code c_now c_read c_status c_tape c_taped c_at c_textSize c_token c_number c_begins c_stops c_bad c_badPlace c_faultPlace c_clauses c_naming c_lineBy c_becomes c_dualLines c_on c_rowNow c_least c_wayFirst c_ways c_acts c_past c_listPoints c_listLines c_listed c_list c_path c_places c_firstPlaces c_px c_py c_pz c_placeMany c_modulus c_drawn c_halvesMany c_halvesFirst c_spreadsMany c_spreadsFirst c_comesTo c_seedNow c_rowThen c_hasImage c_actsThen c_imageRow c_pastThen c_statusThen) [.ref h0] ρ := by
  rw [F_X3_isDuality] at h
  refine MR.start (rt := .boolean) hG (by decide) (Nat.le_of_ble_eq_true rfl) ?_
  intro p e s m args below meth c Q S hW0 hK hP hret ls hl
  obtain ⟨hx, hb, hml, hown, hts⟩ := id S
  have hl : lv_has ls 6 [(0, .ref h0)] := hl
  have S_X3_isDuality_28 : ∀ (n : Nat) (v1 : Int32) (v2 : Int32) (v3 : Int32) (v4 : Int32) (v5 : Int32) (k63 : Int32 → Option (Int32)), F_X3_isDuality_28 N v3 c_now c_on n v4 v5 k63 = some ρ → (∀ (u4 : Int32) (ls : Array Slot), k63 u4 = some ρ → lv_has ls 6 [(0, .ref h0), (1, .int v1), (2, .int v2), (4, .int u4)] → W p l e (rmL 3 0 0) s m args below meth c s.heap [] 0 0 Q (F0 m 63 ls [])) → ∀ (ls : Array Slot), lv_has ls 6 [(0, .ref h0), (1, .int v1), (2, .int v2), (3, .int v3), (4, .int v4), (5, .int v5)] → W p l e (rmL 3 0 0) s m args below meth c s.heap [] 0 0 Q (F0 m 28 ls []) := by
    intro n
    induction n with
    | zero =>
      intro v1 v2 v3 v4 v5 k63 h
      exact absurd h (by simp [F_X3_isDuality_28])
    | succ n ih =>
      intro v1 v2 v3 v4 v5 k63 h hk63 ls hl
      rw [F_X3_isDuality_28] at h
      refine lv_iload hx hb dX3_isDuality_28 (lv_at hl 5 rfl) ?_
      refine lv_aload_n hx hb dX3_isDuality_30 rfl (lv_at hl 0 rfl) ?_
      obtain ⟨y6, e6, h⟩ := ob_s h
      refine MR.callV (q0 := 0) (M_X3_points hG e6) S (cw_X3_points hts q1913 ⟨Nat.le_of_ble_eq_true rfl, Nat.le_of_ble_eq_true rfl⟩) hW0 hK hP rfl rfl rfl hl.1 rfl (Nat.le_of_ble_eq_true rfl) dX3_isDuality_31 ⟨Nat.zero_le _, Nat.zero_le _⟩ ?_
      refine lv_icmp_ge (tgt := 63) hx hb dX3_isDuality_34 (by decide) (fun c7 => ?_) (fun c7 => ?_)
      · rw [if_pos c7] at h
        exact hk63 v4 _ h (lv_sub hl [0, 1, 2, 4] rfl)
      · rw [if_neg c7] at h
        refine lv_aload_n hx hb dX3_isDuality_37 rfl (lv_at hl 0 rfl) ?_
        refine va_get (ci := 2) (v := .ref (ad 20)) (C := RX3) (T := TX3) (N := 52) hx hb hts in_X3 hown hK hP 0 rfl rfl 20 (by decide) (hts _ q1678) (fun _ h9 => h9) rfl dX3_isDuality_38 ?_
        refine lv_iload hx hb dX3_isDuality_41 (lv_at hl 5 rfl) ?_
        obtain ⟨i8, h⟩ := ckI_s h
        refine va_iald (f := c_on) hx hb hK hP 9 0 rfl rfl i8 dX3_isDuality_43 ?_
        refine lv_iload_n hx hb dX3_isDuality_44 rfl (lv_at hl 3 rfl) ?_
        refine lv_icmp_ne (tgt := 53) hx hb dX3_isDuality_45 (by decide) (fun c9 => ?_) (fun c9 => ?_)
        · rw [if_neg c9] at h
          refine lv_iload hx hb dX3_isDuality_53 (lv_at hl 4 rfl) ?_
          refine lv_istore (lv' := [(4, .int v4), (0, .ref h0), (1, .int v1), (2, .int v2), (3, .int v3), (5, .int v5)]) hx hb dX3_isDuality_55 hl (by decide) rfl (fun ls hl => ?_)
          refine lv_iinc (v := (v5 + 1)) (lv' := [(5, .int (v5 + 1)), (4, .int v4), (0, .ref h0), (1, .int v1), (2, .int v2), (3, .int v3)]) hx hb dX3_isDuality_57 hl (k := 5) rfl rfl (by decide) rfl (fun ls hl => ?_)
          refine lv_goto (tgt := 28) hx hb dX3_isDuality_60 (by decide) ?_
          exact ih v1 v2 v3 v4 (v5 + 1) _ h hk63 _ (lv_sub hl [2, 3, 4, 5, 1, 0] rfl)
        · rw [if_pos c9] at h
          refine lv_iload hx hb dX3_isDuality_48 (lv_at hl 5 rfl) ?_
          refine lv_goto (tgt := 55) hx hb dX3_isDuality_50 (by decide) ?_
          refine lv_istore (lv' := [(4, .int v5), (0, .ref h0), (1, .int v1), (2, .int v2), (3, .int v3), (5, .int v5)]) hx hb dX3_isDuality_55 hl (by decide) rfl (fun ls hl => ?_)
          refine lv_iinc (v := (v5 + 1)) (lv' := [(5, .int (v5 + 1)), (4, .int v5), (0, .ref h0), (1, .int v1), (2, .int v2), (3, .int v3)]) hx hb dX3_isDuality_57 hl (k := 5) rfl rfl (by decide) rfl (fun ls hl => ?_)
          refine lv_goto (tgt := 28) hx hb dX3_isDuality_60 (by decide) ?_
          exact ih v1 v2 v3 v5 (v5 + 1) _ h hk63 _ (lv_sub hl [2, 3, 4, 5, 1, 0] rfl)
  have S_X3_isDuality_4 : ∀ (n : Nat) (v1 : Int32) (v2 : Int32), F_X3_isDuality_4 N c_now c_naming c_on n v1 v2 = some ρ → ∀ (ls : Array Slot), lv_has ls 6 [(0, .ref h0), (1, .int v1), (2, .int v2)] → W p l e (rmL 3 0 0) s m args below meth c s.heap [] 0 0 Q (F0 m 4 ls []) := by
    intro n
    induction n with
    | zero =>
      intro v1 v2 h
      exact absurd h (by simp [F_X3_isDuality_4])
    | succ n ih =>
      intro v1 v2 h ls hl
      rw [F_X3_isDuality_4] at h
      refine lv_iload_n hx hb dX3_isDuality_4 rfl (lv_at hl 2 rfl) ?_
      refine lv_aload_n hx hb dX3_isDuality_5 rfl (lv_at hl 0 rfl) ?_
      obtain ⟨y1, e1, h⟩ := ob_s h
      refine MR.callV (q0 := 0) (M_X3_lines hG e1) S (cw_X3_lines hts q1917 ⟨Nat.le_of_ble_eq_true rfl, Nat.le_of_ble_eq_true rfl⟩) hW0 hK hP rfl rfl rfl hl.1 rfl (Nat.le_of_ble_eq_true rfl) dX3_isDuality_6 ⟨Nat.zero_le _, Nat.zero_le _⟩ ?_
      refine lv_icmp_ge (tgt := 94) hx hb dX3_isDuality_9 (by decide) (fun c2 => ?_) (fun c2 => ?_)
      · rw [if_pos c2] at h
        refine lv_iconst (v := 1) hx hb dX3_isDuality_94 (by decide) ?_
        obtain rfl := Option.some.inj h
        exact hret dX3_isDuality_95 rfl
      · rw [if_neg c2] at h
        refine lv_aload_n hx hb dX3_isDuality_12 rfl (lv_at hl 0 rfl) ?_
        refine lv_aload_n hx hb dX3_isDuality_13 rfl (lv_at hl 0 rfl) ?_
        refine lv_iload_n hx hb dX3_isDuality_14 rfl (lv_at hl 2 rfl) ?_
        obtain ⟨y4, e4, h⟩ := ob_s h
        refine MR.callV (q0 := 0) (M_X3_lineAt hG e4) S (cw_X3_lineAt hts q1925 ⟨Nat.le_of_ble_eq_true rfl, Nat.le_of_ble_eq_true rfl⟩) hW0 hK hP rfl rfl rfl hl.1 rfl (Nat.le_of_ble_eq_true rfl) dX3_isDuality_15 ⟨Nat.zero_le _, Nat.zero_le _⟩ ?_
        obtain ⟨y5, e5, h⟩ := ob_s h
        refine MR.callV (q0 := 0) (M_X3_named hG e5) S (cw_X3_named hts q1986 ⟨Nat.le_of_ble_eq_true rfl, Nat.le_of_ble_eq_true rfl⟩) hW0 hK hP rfl rfl rfl hl.1 rfl (Nat.le_of_ble_eq_true rfl) dX3_isDuality_18 ⟨Nat.zero_le _, Nat.zero_le _⟩ ?_
        refine lv_istore_n (lv' := [(3, .int y5), (0, .ref h0), (1, .int v1), (2, .int v2)]) hx hb dX3_isDuality_21 rfl hl (by decide) rfl (fun ls hl => ?_)
        refine lv_iconst (v := (-1)) hx hb dX3_isDuality_22 (by decide) ?_
        refine lv_istore (lv' := [(4, .int (-1)), (3, .int y5), (0, .ref h0), (1, .int v1), (2, .int v2)]) hx hb dX3_isDuality_23 hl (by decide) rfl (fun ls hl => ?_)
        refine lv_iconst (v := 0) hx hb dX3_isDuality_25 (by decide) ?_
        refine lv_istore (lv' := [(5, .int 0), (4, .int (-1)), (3, .int y5), (0, .ref h0), (1, .int v1), (2, .int v2)]) hx hb dX3_isDuality_26 hl (by decide) rfl (fun ls hl => ?_)
        refine S_X3_isDuality_28 N v1 v2 y5 (-1) 0 _ h ?_ _ (lv_sub hl [3, 4, 5, 2, 1, 0] rfl)
        · intro u4_10 ls h hl
          refine lv_iload hx hb dX3_isDuality_63 (lv_at hl 3 rfl) ?_
          refine lv_iconst (v := (-1)) hx hb dX3_isDuality_65 (by decide) ?_
          refine lv_icmp_eq (tgt := 79) hx hb dX3_isDuality_66 (by decide) (fun c11 => ?_) (fun c11 => ?_)
          · rw [if_pos c11] at h
            refine lv_iconst (v := 0) hx hb dX3_isDuality_79 (by decide) ?_
            obtain rfl := Option.some.inj h
            exact hret dX3_isDuality_80 rfl
          · rw [if_neg c11] at h
            refine lv_iload_n hx hb dX3_isDuality_69 rfl (lv_at hl 1 rfl) ?_
            refine lv_iload hx hb dX3_isDuality_70 (lv_at hl 3 rfl) ?_
            refine lv_ishr hx hb dX3_isDuality_72 ?_
            refine lv_iconst (v := 1) hx hb dX3_isDuality_73 (by decide) ?_
            refine lv_iand hx hb dX3_isDuality_74 ?_
            refine lv_iconst (v := 1) hx hb dX3_isDuality_75 (by decide) ?_
            refine lv_icmp_ne (tgt := 81) hx hb dX3_isDuality_76 (by decide) (fun c13 => ?_) (fun c13 => ?_)
            · rw [if_neg c13] at h
              refine lv_iload_n hx hb dX3_isDuality_81 rfl (lv_at hl 1 rfl) ?_
              refine lv_iconst (v := 1) hx hb dX3_isDuality_82 (by decide) ?_
              refine lv_iload hx hb dX3_isDuality_83 (lv_at hl 3 rfl) ?_
              refine lv_ishl hx hb dX3_isDuality_85 ?_
              refine lv_ior hx hb dX3_isDuality_86 ?_
              refine lv_istore_n (lv' := [(1, .int (v1 ||| ((1 : Int32) <<< (u4_10 &&& 31)))), (0, .ref h0), (2, .int v2), (4, .int u4_10)]) hx hb dX3_isDuality_87 rfl hl (by decide) rfl (fun ls hl => ?_)
              refine lv_iinc (v := (v2 + 1)) (lv' := [(2, .int (v2 + 1)), (1, .int (v1 ||| ((1 : Int32) <<< (u4_10 &&& 31)))), (0, .ref h0), (4, .int u4_10)]) hx hb dX3_isDuality_88 hl (k := 2) rfl rfl (by decide) rfl (fun ls hl => ?_)
              refine lv_goto (tgt := 4) hx hb dX3_isDuality_91 (by decide) ?_
              exact ih (v1 ||| ((1 : Int32) <<< (u4_10 &&& 31))) (v2 + 1) h _ (lv_sub hl [2, 1, 0] rfl)
            · rw [if_pos c13] at h
              refine lv_iconst (v := 0) hx hb dX3_isDuality_79 (by decide) ?_
              obtain rfl := Option.some.inj h
              exact hret dX3_isDuality_80 rfl
  refine lv_iconst (v := 0) hx hb dX3_isDuality_0 (by decide) ?_
  refine lv_istore_n (lv' := [(1, .int 0), (0, .ref h0)]) hx hb dX3_isDuality_1 rfl hl (by decide) rfl (fun ls hl => ?_)
  refine lv_iconst (v := 0) hx hb dX3_isDuality_2 (by decide) ?_
  refine lv_istore_n (lv' := [(2, .int 0), (1, .int 0), (0, .ref h0)]) hx hb dX3_isDuality_3 rfl hl (by decide) rfl (fun ls hl => ?_)
  refine S_X3_isDuality_4 N 0 0 h  _ (lv_sub hl [2, 1, 0] rfl)
def F_X3_isPolarity_12 (N : Nat) (v1 : Int32) (c_now : (Nat → Int32)) (c_naming : (Nat → Int32)) : Nat → Int32 → (Unit → Option (Int32)) → Option (Int32)
  | 0, _, _ => none
  | n + 1, v2, k56 => (if v1 ≤ v2 then (k56 ()) else (ckI v2 8 ((F_X3_lineAt N (c_naming (Int32.toNatClampNeg v2)) c_now).bind fun y6 => (ckI v1 8 ((F_X3_lineAt N (c_naming (Int32.toNatClampNeg v1)) c_now).bind fun y8 => (if ((y6 >>> (v1 &&& 31)) &&& (1 : Int32)) = ((y8 >>> (v2 &&& 31)) &&& (1 : Int32)) then (F_X3_isPolarity_12 N v1 c_now c_naming n (v2 + 1) k56) else (some (0))))))))
def F_X3_isPolarity_2 (N : Nat) (c_now : (Nat → Int32)) (c_naming : (Nat → Int32)) : Nat → Int32 → Option (Int32)
  | 0, _ => none
  | n + 1, v1 => ((F_X3_points N c_now).bind fun y1 => (if y1 ≤ v1 then (some (1)) else (F_X3_isPolarity_12 N v1 c_now c_naming N 0 (fun _u => (F_X3_isPolarity_2 N c_now c_naming n (v1 + 1))))))
def F_X3_isPolarity (N : Nat) (c_now : (Nat → Int32)) (c_naming : (Nat → Int32)) : Option (Int32) := (F_X3_isPolarity_2 N c_now c_naming N 0)
theorem cw_X3_isPolarity {R : Room} {s : State} {args : Array Value} {own : String} {index lev mc ms : Nat} (hts : ∀ w ∈ lw_all, w.before args s = true) (hl : Cond.methodLink own index yX3_isPolarity ∈ lw_all) (hR : (rmL lev mc ms).frames + 1 ≤ R.frames ∧ 8 + (3 + 11) + (rmL lev mc ms).locals ≤ R.locals) : CallW R s args own RX3 index yX3_isPolarity cX3_isPolarity 3 (some .boolean) (ws_ yX3_isPolarity cX3_isPolarity 3 (some .boolean)) (rmL lev mc ms) mc ms 0 := cwV 0 hts (lw_V hl q2012 qs107 q172 q2013) rfl rfl rfl (by decide +kernel) hR
set_option maxHeartbeats 4000000 in
theorem M_X3_isPolarity {l : Launch} {G : GE} (hG : GC G) {N : Nat} {h0 : Nat} {ad : Nat → Nat} {c_code : Int32} {c_read : (Nat → Int32)} {c_status : (Nat → Int32)} {c_tape : (Nat → Int32)} {c_taped : Int32} {c_at : Int32} {c_textSize : Int32} {c_token : Int32} {c_number : Int32} {c_begins : Int32} {c_stops : Int32} {c_bad : Int32} {c_badPlace : Int32} {c_faultPlace : Int32} {c_clauses : Int32} {c_lineBy : (Nat → Int32)} {c_becomes : (Nat → Int32)} {c_dualLines : (Nat → Int32)} {c_on : (Nat → Int32)} {c_rowNow : (Nat → Int32)} {c_least : (Nat → Int32)} {c_wayFirst : (Nat → Int32)} {c_ways : Int32} {c_acts : Int32} {c_past : (Nat → Int32)} {c_listPoints : Int32} {c_listLines : Int32} {c_listed : Int32} {c_list : (Nat → Int32)} {c_path : (Nat → Int32)} {c_places : (Nat → Int32)} {c_firstPlaces : (Nat → Int32)} {c_px : (Nat → Int32)} {c_py : (Nat → Int32)} {c_pz : (Nat → Int32)} {c_placeMany : Int32} {c_modulus : Int32} {c_drawn : Int32} {c_halvesMany : Int32} {c_halvesFirst : Int32} {c_spreadsMany : Int32} {c_spreadsFirst : Int32} {c_comesTo : (Nat → Int32)} {c_seedNow : Int32} {c_rowThen : (Nat → Int32)} {c_hasImage : Int32} {c_actsThen : Int32} {c_imageRow : (Nat → Int32)} {c_pastThen : (Nat → Int32)} {c_statusThen : (Nat → Int32)} {c_now : (Nat → Int32)} {c_naming : (Nat → Int32)} {ρ : (Int32)} (h : F_X3_isPolarity N c_now c_naming = some ρ) : MR l G yX3_isPolarity cX3_isPolarity 3 (some .boolean) 2 (mW h0 ad G.2.2 c_code c_now c_read c_status c_tape c_taped c_at c_textSize c_token c_number c_begins c_stops c_bad c_badPlace c_faultPlace c_clauses c_naming c_lineBy c_becomes c_dualLines c_on c_rowNow c_least c_wayFirst c_ways c_acts c_past c_listPoints c_listLines c_listed c_list c_path c_places c_firstPlaces c_px c_py c_pz c_placeMany c_modulus c_drawn c_halvesMany c_halvesFirst c_spreadsMany c_spreadsFirst c_comesTo c_seedNow c_rowThen c_hasImage c_actsThen c_imageRow c_pastThen c_statusThen) [.ref h0] ρ := by
  rw [F_X3_isPolarity] at h
  refine MR.start (rt := .boolean) hG (by decide) (Nat.le_of_ble_eq_true rfl) ?_
  intro p e s m args below meth c Q S hW0 hK hP hret ls hl
  obtain ⟨hx, hb, hml, hown, hts⟩ := id S
  have hl : lv_has ls 3 [(0, .ref h0)] := hl
  have S_X3_isPolarity_12 : ∀ (n : Nat) (v1 : Int32) (v2 : Int32) (k56 : Unit → Option (Int32)), F_X3_isPolarity_12 N v1 c_now c_naming n v2 k56 = some ρ → (∀ (ls : Array Slot), k56 () = some ρ → lv_has ls 3 [(0, .ref h0), (1, .int v1)] → W p l e (rmL 2 0 0) s m args below meth c s.heap [] 0 0 Q (F0 m 56 ls [])) → ∀ (ls : Array Slot), lv_has ls 3 [(0, .ref h0), (1, .int v1), (2, .int v2)] → W p l e (rmL 2 0 0) s m args below meth c s.heap [] 0 0 Q (F0 m 12 ls []) := by
    intro n
    induction n with
    | zero =>
      intro v1 v2 k56 h
      exact absurd h (by simp [F_X3_isPolarity_12])
    | succ n ih =>
      intro v1 v2 k56 h hk56 ls hl
      rw [F_X3_isPolarity_12] at h
      refine lv_iload_n hx hb dX3_isPolarity_12 rfl (lv_at hl 2 rfl) ?_
      refine lv_iload_n hx hb dX3_isPolarity_13 rfl (lv_at hl 1 rfl) ?_
      refine lv_icmp_ge (tgt := 56) hx hb dX3_isPolarity_14 (by decide) (fun c4 => ?_) (fun c4 => ?_)
      · rw [if_pos c4] at h
        exact hk56 _ h (lv_sub hl [0, 1] rfl)
      · rw [if_neg c4] at h
        refine lv_aload_n hx hb dX3_isPolarity_17 rfl (lv_at hl 0 rfl) ?_
        refine lv_aload_n hx hb dX3_isPolarity_18 rfl (lv_at hl 0 rfl) ?_
        refine va_get (ci := 2) (v := .ref (ad 16)) (C := RX3) (T := TX3) (N := 52) hx hb hts in_X3 hown hK hP 0 rfl rfl 16 (by decide) (hts _ q1674) (fun _ h9 => h9) rfl dX3_isPolarity_19 ?_
        refine lv_iload_n hx hb dX3_isPolarity_22 rfl (lv_at hl 2 rfl) ?_
        obtain ⟨i5, h⟩ := ckI_s h
        refine va_iald (f := c_naming) hx hb hK hP 5 0 rfl rfl i5 dX3_isPolarity_23 ?_
        obtain ⟨y6, e6, h⟩ := ob_s h
        refine MR.callV (q0 := 0) (M_X3_lineAt hG e6) S (cw_X3_lineAt hts q1925 ⟨Nat.le_of_ble_eq_true rfl, Nat.le_of_ble_eq_true rfl⟩) hW0 hK hP rfl rfl rfl hl.1 rfl (Nat.le_of_ble_eq_true rfl) dX3_isPolarity_24 ⟨Nat.zero_le _, Nat.zero_le _⟩ ?_
        refine lv_iload_n hx hb dX3_isPolarity_27 rfl (lv_at hl 1 rfl) ?_
        refine lv_ishr hx hb dX3_isPolarity_28 ?_
        refine lv_iconst (v := 1) hx hb dX3_isPolarity_29 (by decide) ?_
        refine lv_iand hx hb dX3_isPolarity_30 ?_
        refine lv_aload_n hx hb dX3_isPolarity_31 rfl (lv_at hl 0 rfl) ?_
        refine lv_aload_n hx hb dX3_isPolarity_32 rfl (lv_at hl 0 rfl) ?_
        refine va_get (ci := 2) (v := .ref (ad 16)) (C := RX3) (T := TX3) (N := 52) hx hb hts in_X3 hown hK hP 0 rfl rfl 16 (by decide) (hts _ q1674) (fun _ h9 => h9) rfl dX3_isPolarity_33 ?_
        refine lv_iload_n hx hb dX3_isPolarity_36 rfl (lv_at hl 1 rfl) ?_
        obtain ⟨i7, h⟩ := ckI_s h
        refine va_iald (f := c_naming) hx hb hK hP 5 0 rfl rfl i7 dX3_isPolarity_37 ?_
        obtain ⟨y8, e8, h⟩ := ob_s h
        refine MR.callV (q0 := 0) (M_X3_lineAt hG e8) S (cw_X3_lineAt hts q1925 ⟨Nat.le_of_ble_eq_true rfl, Nat.le_of_ble_eq_true rfl⟩) hW0 hK hP rfl rfl rfl hl.1 rfl (Nat.le_of_ble_eq_true rfl) dX3_isPolarity_38 ⟨Nat.zero_le _, Nat.zero_le _⟩ ?_
        refine lv_iload_n hx hb dX3_isPolarity_41 rfl (lv_at hl 2 rfl) ?_
        refine lv_ishr hx hb dX3_isPolarity_42 ?_
        refine lv_iconst (v := 1) hx hb dX3_isPolarity_43 (by decide) ?_
        refine lv_iand hx hb dX3_isPolarity_44 ?_
        refine lv_icmp_eq (tgt := 50) hx hb dX3_isPolarity_45 (by decide) (fun c9 => ?_) (fun c9 => ?_)
        · rw [if_pos c9] at h
          refine lv_iinc (v := (v2 + 1)) (lv' := [(2, .int (v2 + 1)), (0, .ref h0), (1, .int v1)]) hx hb dX3_isPolarity_50 hl (k := 2) rfl rfl (by decide) rfl (fun ls hl => ?_)
          refine lv_goto (tgt := 12) hx hb dX3_isPolarity_53 (by decide) ?_
          exact ih v1 (v2 + 1) _ h hk56 _ (lv_sub hl [1, 2, 0] rfl)
        · rw [if_neg c9] at h
          refine lv_iconst (v := 0) hx hb dX3_isPolarity_48 (by decide) ?_
          obtain rfl := Option.some.inj h
          exact hret dX3_isPolarity_49 rfl
  have S_X3_isPolarity_2 : ∀ (n : Nat) (v1 : Int32), F_X3_isPolarity_2 N c_now c_naming n v1 = some ρ → ∀ (ls : Array Slot), lv_has ls 3 [(0, .ref h0), (1, .int v1)] → W p l e (rmL 2 0 0) s m args below meth c s.heap [] 0 0 Q (F0 m 2 ls []) := by
    intro n
    induction n with
    | zero =>
      intro v1 h
      exact absurd h (by simp [F_X3_isPolarity_2])
    | succ n ih =>
      intro v1 h ls hl
      rw [F_X3_isPolarity_2] at h
      refine lv_iload_n hx hb dX3_isPolarity_2 rfl (lv_at hl 1 rfl) ?_
      refine lv_aload_n hx hb dX3_isPolarity_3 rfl (lv_at hl 0 rfl) ?_
      obtain ⟨y1, e1, h⟩ := ob_s h
      refine MR.callV (q0 := 0) (M_X3_points hG e1) S (cw_X3_points hts q1913 ⟨Nat.le_of_ble_eq_true rfl, Nat.le_of_ble_eq_true rfl⟩) hW0 hK hP rfl rfl rfl hl.1 rfl (Nat.le_of_ble_eq_true rfl) dX3_isPolarity_4 ⟨Nat.zero_le _, Nat.zero_le _⟩ ?_
      refine lv_icmp_ge (tgt := 62) hx hb dX3_isPolarity_7 (by decide) (fun c2 => ?_) (fun c2 => ?_)
      · rw [if_pos c2] at h
        refine lv_iconst (v := 1) hx hb dX3_isPolarity_62 (by decide) ?_
        obtain rfl := Option.some.inj h
        exact hret dX3_isPolarity_63 rfl
      · rw [if_neg c2] at h
        refine lv_iconst (v := 0) hx hb dX3_isPolarity_10 (by decide) ?_
        refine lv_istore_n (lv' := [(2, .int 0), (0, .ref h0), (1, .int v1)]) hx hb dX3_isPolarity_11 rfl hl (by decide) rfl (fun ls hl => ?_)
        refine S_X3_isPolarity_12 N v1 0 _ h ?_ _ (lv_sub hl [1, 2, 0] rfl)
        · intro  ls h hl
          refine lv_iinc (v := (v1 + 1)) (lv' := [(1, .int (v1 + 1)), (0, .ref h0)]) hx hb dX3_isPolarity_56 hl (k := 1) rfl rfl (by decide) rfl (fun ls hl => ?_)
          refine lv_goto (tgt := 2) hx hb dX3_isPolarity_59 (by decide) ?_
          exact ih (v1 + 1) h _ (lv_sub hl [1, 0] rfl)
  refine lv_iconst (v := 0) hx hb dX3_isPolarity_0 (by decide) ?_
  refine lv_istore_n (lv' := [(1, .int 0), (0, .ref h0)]) hx hb dX3_isPolarity_1 rfl hl (by decide) rfl (fun ls hl => ?_)
  refine S_X3_isPolarity_2 N 0 h  _ (lv_sub hl [1, 0] rfl)
def F_X3_dualities_17 (N : Nat) (c_now : (Nat → Int32)) : Nat → Int32 → (Nat → Int32) → ((Nat → Int32) → Option (Int32 × (Nat → Int32) × (Nat → Int32))) → Option (Int32 × (Nat → Int32) × (Nat → Int32))
  | 0, _, _, _ => none
  | n + 1, v3, c_on, k42 => ((F_X3_points N c_now).bind fun y4 => (if y4 ≤ v3 then (k42 c_on) else ((F_X3_linesOn N v3 c_now).bind fun y6 => (ckI v3 8 (F_X3_dualities_17 N c_now n (v3 + 1) (upd c_on (Int32.toNatClampNeg v3) y6) k42)))))
def F_X3_dualities_52 (N : Nat) (v1 : Int32) (c_now : (Nat → Int32)) (c_on : (Nat → Int32)) : Nat → Int32 → Int32 → (Nat → Int32) → Option (Int32 × (Nat → Int32) × (Nat → Int32))
  | 0, _, _, _ => none
  | n + 1, v2, v3, c_naming => (if v3 = 0 then (some (v2, c_naming, c_on)) else ((F_X3_isDuality N c_now c_naming c_on).bind fun y13 => (if y13 = 0 then ((F_X3_points N c_now).bind fun y15 => ((F_X3_nextNaming N y15 c_naming).bind fun y16 => (F_X3_dualities_52 N v1 c_now c_on n (v2 + (0 : Int32)) y16.1 y16.2))) else (if v1 = 0 then ((F_X3_points N c_now).bind fun y18 => ((F_X3_nextNaming N y18 c_naming).bind fun y19 => (F_X3_dualities_52 N v1 c_now c_on n (v2 + (1 : Int32)) y19.1 y19.2))) else ((F_X3_isPolarity N c_now c_naming).bind fun y20 => (if y20 = 0 then ((F_X3_points N c_now).bind fun y22 => ((F_X3_nextNaming N y22 c_naming).bind fun y23 => (F_X3_dualities_52 N v1 c_now c_on n (v2 + (0 : Int32)) y23.1 y23.2))) else ((F_X3_points N c_now).bind fun y24 => ((F_X3_nextNaming N y24 c_naming).bind fun y25 => (F_X3_dualities_52 N v1 c_now c_on n (v2 + (1 : Int32)) y25.1 y25.2)))))))))
def F_X3_dualities (N : Nat) (v1 : Int32) (c_now : (Nat → Int32)) (c_naming : (Nat → Int32)) (c_on : (Nat → Int32)) : Option (Int32 × (Nat → Int32) × (Nat → Int32)) := ((F_X3_points N c_now).bind fun y1 => ((F_X3_lines N c_now).bind fun y2 => (if y1 = y2 then (F_X3_dualities_17 N c_now N 0 c_on (fun c_on_8 => ((F_X3_points N c_now).bind fun y9 => ((F_X3_beginNaming N y9 c_naming).bind fun y10 => (F_X3_dualities_52 N v1 c_now c_on_8 N 0 1 y10))))) else (some (0, c_naming, c_on)))))
theorem cw_X3_dualities {R : Room} {s : State} {args : Array Value} {own : String} {index lev mc ms : Nat} (hts : ∀ w ∈ lw_all, w.before args s = true) (hl : Cond.methodLink own index yX3_dualities ∈ lw_all) (hR : (rmL lev mc ms).frames + 1 ≤ R.frames ∧ 8 + (4 + 11) + (rmL lev mc ms).locals ≤ R.locals) : CallW R s args own RX3 index yX3_dualities cX3_dualities 4 (some .int) (ws_ yX3_dualities cX3_dualities 4 (some .int)) (rmL lev mc ms) mc ms 1 := cwV 1 hts (lw_V hl q2004 qs105 q172 q2005) rfl rfl rfl (by decide +kernel) hR
set_option maxHeartbeats 4000000 in
theorem M_X3_dualities {l : Launch} {G : GE} (hG : GC G) {N : Nat} {h0 : Nat} {ad : Nat → Nat} {c_code : Int32} {c_read : (Nat → Int32)} {c_status : (Nat → Int32)} {c_tape : (Nat → Int32)} {c_taped : Int32} {c_at : Int32} {c_textSize : Int32} {c_token : Int32} {c_number : Int32} {c_begins : Int32} {c_stops : Int32} {c_bad : Int32} {c_badPlace : Int32} {c_faultPlace : Int32} {c_clauses : Int32} {c_lineBy : (Nat → Int32)} {c_becomes : (Nat → Int32)} {c_dualLines : (Nat → Int32)} {c_rowNow : (Nat → Int32)} {c_least : (Nat → Int32)} {c_wayFirst : (Nat → Int32)} {c_ways : Int32} {c_acts : Int32} {c_past : (Nat → Int32)} {c_listPoints : Int32} {c_listLines : Int32} {c_listed : Int32} {c_list : (Nat → Int32)} {c_path : (Nat → Int32)} {c_places : (Nat → Int32)} {c_firstPlaces : (Nat → Int32)} {c_px : (Nat → Int32)} {c_py : (Nat → Int32)} {c_pz : (Nat → Int32)} {c_placeMany : Int32} {c_modulus : Int32} {c_drawn : Int32} {c_halvesMany : Int32} {c_halvesFirst : Int32} {c_spreadsMany : Int32} {c_spreadsFirst : Int32} {c_comesTo : (Nat → Int32)} {c_seedNow : Int32} {c_rowThen : (Nat → Int32)} {c_hasImage : Int32} {c_actsThen : Int32} {c_imageRow : (Nat → Int32)} {c_pastThen : (Nat → Int32)} {c_statusThen : (Nat → Int32)} {v1 : Int32} {c_now : (Nat → Int32)} {c_naming : (Nat → Int32)} {c_on : (Nat → Int32)} {ρ : (Int32 × (Nat → Int32) × (Nat → Int32))} (h : F_X3_dualities N v1 c_now c_naming c_on = some ρ) : MW l G yX3_dualities cX3_dualities 4 (some .int) 4 (mW h0 ad G.2.2 c_code c_now c_read c_status c_tape c_taped c_at c_textSize c_token c_number c_begins c_stops c_bad c_badPlace c_faultPlace c_clauses c_naming c_lineBy c_becomes c_dualLines c_on c_rowNow c_least c_wayFirst c_ways c_acts c_past c_listPoints c_listLines c_listed c_list c_path c_places c_firstPlaces c_px c_py c_pz c_placeMany c_modulus c_drawn c_halvesMany c_halvesFirst c_spreadsMany c_spreadsFirst c_comesTo c_seedNow c_rowThen c_hasImage c_actsThen c_imageRow c_pastThen c_statusThen) [.ref h0, .int v1] (some (.int ρ.1)) (mW h0 ad G.2.2 c_code c_now c_read c_status c_tape c_taped c_at c_textSize c_token c_number c_begins c_stops c_bad c_badPlace c_faultPlace c_clauses ρ.2.1 c_lineBy c_becomes c_dualLines ρ.2.2 c_rowNow c_least c_wayFirst c_ways c_acts c_past c_listPoints c_listLines c_listed c_list c_path c_places c_firstPlaces c_px c_py c_pz c_placeMany c_modulus c_drawn c_halvesMany c_halvesFirst c_spreadsMany c_spreadsFirst c_comesTo c_seedNow c_rowThen c_hasImage c_actsThen c_imageRow c_pastThen c_statusThen) := by
  rw [F_X3_dualities] at h
  refine MW.start hG (by decide) (Nat.le_of_ble_eq_true rfl) ?_
  intro p e s m args below meth c Q A S hW0 hK hP hD hA hreti hretv ls hl
  have hS : va_S A s.heap s.heap [] := va_S.rf
  obtain ⟨hx, hb, hml, hown, hts⟩ := id S
  have hl : lv_has ls 4 [(0, .ref h0), (1, .int v1)] := hl
  have S_X3_dualities_17 : ∀ (n : Nat) (v1 : Int32) (v2 : Int32) (v3 : Int32) (c_naming : (Nat → Int32)) (c_on : (Nat → Int32)) (k42 : (Nat → Int32) → Option (Int32 × (Nat → Int32) × (Nat → Int32))), F_X3_dualities_17 N c_now n v3 c_on k42 = some ρ → (∀ (z_c_on : (Nat → Int32)) (H : Heap) (locs : List Loc) (ls : Array Slot), k42 z_c_on = some ρ → va_P G.2.1 vwCl (mW h0 ad G.2.2 c_code c_now c_read c_status c_tape c_taped c_at c_textSize c_token c_number c_begins c_stops c_bad c_badPlace c_faultPlace c_clauses c_naming c_lineBy c_becomes c_dualLines z_c_on c_rowNow c_least c_wayFirst c_ways c_acts c_past c_listPoints c_listLines c_listed c_list c_path c_places c_firstPlaces c_px c_py c_pz c_placeMany c_modulus c_drawn c_halvesMany c_halvesFirst c_spreadsMany c_spreadsFirst c_comesTo c_seedNow c_rowThen c_hasImage c_actsThen c_imageRow c_pastThen c_statusThen) H → va_D A (mW h0 ad G.2.2 c_code c_now c_read c_status c_tape c_taped c_at c_textSize c_token c_number c_begins c_stops c_bad c_badPlace c_faultPlace c_clauses c_naming c_lineBy c_becomes c_dualLines z_c_on c_rowNow c_least c_wayFirst c_ways c_acts c_past c_listPoints c_listLines c_listed c_list c_path c_places c_firstPlaces c_px c_py c_pz c_placeMany c_modulus c_drawn c_halvesMany c_halvesFirst c_spreadsMany c_spreadsFirst c_comesTo c_seedNow c_rowThen c_hasImage c_actsThen c_imageRow c_pastThen c_statusThen) → va_S A s.heap H locs → lv_has ls 4 [(0, .ref h0), (1, .int v1), (2, .int v2)] → W p l e (rmL 4 0 0) s m args below meth c H locs 0 0 Q (F0 m 42 ls [])) → ∀ (H : Heap) (locs : List Loc), va_P G.2.1 vwCl (mW h0 ad G.2.2 c_code c_now c_read c_status c_tape c_taped c_at c_textSize c_token c_number c_begins c_stops c_bad c_badPlace c_faultPlace c_clauses c_naming c_lineBy c_becomes c_dualLines c_on c_rowNow c_least c_wayFirst c_ways c_acts c_past c_listPoints c_listLines c_listed c_list c_path c_places c_firstPlaces c_px c_py c_pz c_placeMany c_modulus c_drawn c_halvesMany c_halvesFirst c_spreadsMany c_spreadsFirst c_comesTo c_seedNow c_rowThen c_hasImage c_actsThen c_imageRow c_pastThen c_statusThen) H → va_D A (mW h0 ad G.2.2 c_code c_now c_read c_status c_tape c_taped c_at c_textSize c_token c_number c_begins c_stops c_bad c_badPlace c_faultPlace c_clauses c_naming c_lineBy c_becomes c_dualLines c_on c_rowNow c_least c_wayFirst c_ways c_acts c_past c_listPoints c_listLines c_listed c_list c_path c_places c_firstPlaces c_px c_py c_pz c_placeMany c_modulus c_drawn c_halvesMany c_halvesFirst c_spreadsMany c_spreadsFirst c_comesTo c_seedNow c_rowThen c_hasImage c_actsThen c_imageRow c_pastThen c_statusThen) → va_S A s.heap H locs → ∀ (ls : Array Slot), lv_has ls 4 [(0, .ref h0), (1, .int v1), (2, .int v2), (3, .int v3)] → W p l e (rmL 4 0 0) s m args below meth c H locs 0 0 Q (F0 m 17 ls []) := by
    intro n
    induction n with
    | zero =>
      intro v1 v2 v3 c_naming c_on k42 h
      exact absurd h (by simp [F_X3_dualities_17])
    | succ n ih =>
      intro v1 v2 v3 c_naming c_on k42 h hk42 H locs hP hD hS ls hl
      rw [F_X3_dualities_17] at h
      refine lv_iload_n hx hb dX3_dualities_17 rfl (lv_at hl 3 rfl) ?_
      refine lv_aload_n hx hb dX3_dualities_18 rfl (lv_at hl 0 rfl) ?_
      obtain ⟨y4, e4, h⟩ := ob_s h
      refine MR.callV (q0 := 0) (M_X3_points hG e4) S (cw_X3_points hts q1913 ⟨Nat.le_of_ble_eq_true rfl, Nat.le_of_ble_eq_true rfl⟩) hW0 hK hP rfl rfl rfl hl.1 rfl (Nat.le_of_ble_eq_true rfl) dX3_dualities_19 ⟨Nat.zero_le _, Nat.zero_le _⟩ ?_
      refine lv_icmp_ge (tgt := 42) hx hb dX3_dualities_22 (by decide) (fun c5 => ?_) (fun c5 => ?_)
      · rw [if_pos c5] at h
        exact hk42 c_on _ _ _ h hP hD hS (lv_sub hl [0, 1, 2] rfl)
      · rw [if_neg c5] at h
        refine lv_aload_n hx hb dX3_dualities_25 rfl (lv_at hl 0 rfl) ?_
        refine va_get (ci := 2) (v := .ref (ad 20)) (C := RX3) (T := TX3) (N := 52) hx hb hts in_X3 hown hK hP 0 rfl rfl 20 (by decide) (hts _ q1678) (fun _ h9 => h9) rfl dX3_dualities_26 ?_
        refine lv_iload_n hx hb dX3_dualities_29 rfl (lv_at hl 3 rfl) ?_
        refine lv_aload_n hx hb dX3_dualities_30 rfl (lv_at hl 0 rfl) ?_
        refine lv_iload_n hx hb dX3_dualities_31 rfl (lv_at hl 3 rfl) ?_
        obtain ⟨y6, e6, h⟩ := ob_s h
        refine MR.callV (q0 := 0) (M_X3_linesOn hG e6) S (cw_X3_linesOn hts q1937 ⟨Nat.le_of_ble_eq_true rfl, Nat.le_of_ble_eq_true rfl⟩) hW0 hK hP rfl rfl rfl hl.1 rfl (Nat.le_of_ble_eq_true rfl) dX3_dualities_32 ⟨Nat.zero_le _, Nat.zero_le _⟩ ?_
        obtain ⟨i7, h⟩ := ckI_s h
        refine va_iast (f := c_on) hx hb hK hP hD hS 9 0 rfl rfl i7 dX3_dualities_35 (fun H locs hP hD hS => ?_)
        have hP : va_P G.2.1 vwCl (mW h0 ad G.2.2 c_code c_now c_read c_status c_tape c_taped c_at c_textSize c_token c_number c_begins c_stops c_bad c_badPlace c_faultPlace c_clauses c_naming c_lineBy c_becomes c_dualLines (upd c_on (Int32.toNatClampNeg v3) y6) c_rowNow c_least c_wayFirst c_ways c_acts c_past c_listPoints c_listLines c_listed c_list c_path c_places c_firstPlaces c_px c_py c_pz c_placeMany c_modulus c_drawn c_halvesMany c_halvesFirst c_spreadsMany c_spreadsFirst c_comesTo c_seedNow c_rowThen c_hasImage c_actsThen c_imageRow c_pastThen c_statusThen) H := hP
        have hD : va_D A (mW h0 ad G.2.2 c_code c_now c_read c_status c_tape c_taped c_at c_textSize c_token c_number c_begins c_stops c_bad c_badPlace c_faultPlace c_clauses c_naming c_lineBy c_becomes c_dualLines (upd c_on (Int32.toNatClampNeg v3) y6) c_rowNow c_least c_wayFirst c_ways c_acts c_past c_listPoints c_listLines c_listed c_list c_path c_places c_firstPlaces c_px c_py c_pz c_placeMany c_modulus c_drawn c_halvesMany c_halvesFirst c_spreadsMany c_spreadsFirst c_comesTo c_seedNow c_rowThen c_hasImage c_actsThen c_imageRow c_pastThen c_statusThen) := hD
        refine lv_iinc (v := (v3 + 1)) (lv' := [(3, .int (v3 + 1)), (0, .ref h0), (1, .int v1), (2, .int v2)]) hx hb dX3_dualities_36 hl (k := 3) rfl rfl (by decide) rfl (fun ls hl => ?_)
        refine lv_goto (tgt := 17) hx hb dX3_dualities_39 (by decide) ?_
        exact ih v1 v2 (v3 + 1) c_naming (upd c_on (Int32.toNatClampNeg v3) y6) _ h hk42 _ _ hP hD hS _ (lv_sub hl [1, 2, 3, 0] rfl)
  have S_X3_dualities_52 : ∀ (n : Nat) (v1 : Int32) (v2 : Int32) (v3 : Int32) (c_naming : (Nat → Int32)) (c_on : (Nat → Int32)), F_X3_dualities_52 N v1 c_now c_on n v2 v3 c_naming = some ρ → ∀ (H : Heap) (locs : List Loc), va_P G.2.1 vwCl (mW h0 ad G.2.2 c_code c_now c_read c_status c_tape c_taped c_at c_textSize c_token c_number c_begins c_stops c_bad c_badPlace c_faultPlace c_clauses c_naming c_lineBy c_becomes c_dualLines c_on c_rowNow c_least c_wayFirst c_ways c_acts c_past c_listPoints c_listLines c_listed c_list c_path c_places c_firstPlaces c_px c_py c_pz c_placeMany c_modulus c_drawn c_halvesMany c_halvesFirst c_spreadsMany c_spreadsFirst c_comesTo c_seedNow c_rowThen c_hasImage c_actsThen c_imageRow c_pastThen c_statusThen) H → va_D A (mW h0 ad G.2.2 c_code c_now c_read c_status c_tape c_taped c_at c_textSize c_token c_number c_begins c_stops c_bad c_badPlace c_faultPlace c_clauses c_naming c_lineBy c_becomes c_dualLines c_on c_rowNow c_least c_wayFirst c_ways c_acts c_past c_listPoints c_listLines c_listed c_list c_path c_places c_firstPlaces c_px c_py c_pz c_placeMany c_modulus c_drawn c_halvesMany c_halvesFirst c_spreadsMany c_spreadsFirst c_comesTo c_seedNow c_rowThen c_hasImage c_actsThen c_imageRow c_pastThen c_statusThen) → va_S A s.heap H locs → ∀ (ls : Array Slot), lv_has ls 4 [(0, .ref h0), (1, .int v1), (2, .int v2), (3, .int v3)] → W p l e (rmL 4 0 0) s m args below meth c H locs 0 0 Q (F0 m 52 ls []) := by
    intro n
    induction n with
    | zero =>
      intro v1 v2 v3 c_naming c_on h
      exact absurd h (by simp [F_X3_dualities_52])
    | succ n ih =>
      intro v1 v2 v3 c_naming c_on h H locs hP hD hS ls hl
      rw [F_X3_dualities_52] at h
      refine lv_iload_n hx hb dX3_dualities_52 rfl (lv_at hl 3 rfl) ?_
      refine lv_if_eq (tgt := 94) hx hb dX3_dualities_53 (by decide) (fun c11 => ?_) (fun c11 => ?_)
      · rw [if_pos c11] at h
        refine lv_iload_n hx hb dX3_dualities_94 rfl (lv_at hl 2 rfl) ?_
        obtain rfl := Option.some.inj h
        exact hreti rfl dX3_dualities_95 rfl rfl hP hD hS
      · rw [if_neg c11] at h
        refine lv_iload_n hx hb dX3_dualities_56 rfl (lv_at hl 2 rfl) ?_
        refine lv_aload_n hx hb dX3_dualities_57 rfl (lv_at hl 0 rfl) ?_
        obtain ⟨y13, e13, h⟩ := ob_s h
        refine MR.callV (q0 := 0) (M_X3_isDuality hG e13) S (cw_X3_isDuality hts q2006 ⟨Nat.le_of_ble_eq_true rfl, Nat.le_of_ble_eq_true rfl⟩) hW0 hK hP rfl rfl rfl hl.1 rfl (Nat.le_of_ble_eq_true rfl) dX3_dualities_58 ⟨Nat.zero_le _, Nat.zero_le _⟩ ?_
        refine lv_if_eq (tgt := 79) hx hb dX3_dualities_61 (by decide) (fun c14 => ?_) (fun c14 => ?_)
        · rw [if_pos c14] at h
          refine lv_iconst (v := 0) hx hb dX3_dualities_79 (by decide) ?_
          refine lv_iadd hx hb dX3_dualities_80 ?_
          refine lv_istore_n (lv' := [(2, .int (v2 + (0 : Int32))), (0, .ref h0), (1, .int v1), (3, .int v3)]) hx hb dX3_dualities_81 rfl hl (by decide) rfl (fun ls hl => ?_)
          refine lv_aload_n hx hb dX3_dualities_82 rfl (lv_at hl 1 rfl) ?_
          refine lv_aload_n hx hb dX3_dualities_83 rfl (lv_at hl 1 rfl) ?_
          obtain ⟨y15, e15, h⟩ := ob_s h
          refine MR.callV (q0 := 0) (M_X3_points hG e15) S (cw_X3_points hts q1913 ⟨Nat.le_of_ble_eq_true rfl, Nat.le_of_ble_eq_true rfl⟩) hW0 hK hP rfl rfl rfl hl.1 rfl (Nat.le_of_ble_eq_true rfl) dX3_dualities_84 ⟨Nat.zero_le _, Nat.zero_le _⟩ ?_
          obtain ⟨y16, e16, h⟩ := ob_s h
          refine MW.callV (q0 := 0) (M_X3_nextNaming hG e16) S (cw_X3_nextNaming hts q1990 ⟨Nat.le_of_ble_eq_true rfl, Nat.le_of_ble_eq_true rfl⟩) hW0 hK hP hD hS hA rfl rfl rfl hl.1 rfl (Nat.le_of_ble_eq_true rfl) dX3_dualities_87 ⟨Nat.zero_le _, Nat.zero_le _⟩ (fun H locs hP hD hS => ?_)
          have hP : va_P G.2.1 vwCl (mW h0 ad G.2.2 c_code c_now c_read c_status c_tape c_taped c_at c_textSize c_token c_number c_begins c_stops c_bad c_badPlace c_faultPlace c_clauses y16.2 c_lineBy c_becomes c_dualLines c_on c_rowNow c_least c_wayFirst c_ways c_acts c_past c_listPoints c_listLines c_listed c_list c_path c_places c_firstPlaces c_px c_py c_pz c_placeMany c_modulus c_drawn c_halvesMany c_halvesFirst c_spreadsMany c_spreadsFirst c_comesTo c_seedNow c_rowThen c_hasImage c_actsThen c_imageRow c_pastThen c_statusThen) H := hP
          have hD : va_D A (mW h0 ad G.2.2 c_code c_now c_read c_status c_tape c_taped c_at c_textSize c_token c_number c_begins c_stops c_bad c_badPlace c_faultPlace c_clauses y16.2 c_lineBy c_becomes c_dualLines c_on c_rowNow c_least c_wayFirst c_ways c_acts c_past c_listPoints c_listLines c_listed c_list c_path c_places c_firstPlaces c_px c_py c_pz c_placeMany c_modulus c_drawn c_halvesMany c_halvesFirst c_spreadsMany c_spreadsFirst c_comesTo c_seedNow c_rowThen c_hasImage c_actsThen c_imageRow c_pastThen c_statusThen) := hD
          refine W.eq (g2 := F0 m 90 ls [.int y16.1]) rfl ?_
          refine lv_istore_n (lv' := [(3, .int y16.1), (2, .int (v2 + (0 : Int32))), (0, .ref h0), (1, .int v1)]) hx hb dX3_dualities_90 rfl hl (by decide) rfl (fun ls hl => ?_)
          refine lv_goto (tgt := 52) hx hb dX3_dualities_91 (by decide) ?_
          exact ih v1 (v2 + (0 : Int32)) y16.1 y16.2 c_on h _ _ hP hD hS _ (lv_sub hl [2, 3, 1, 0] rfl)
        · rw [if_neg c14] at h
          refine lv_iload_n hx hb dX3_dualities_64 rfl (lv_at hl 1 rfl) ?_
          refine lv_if_eq (tgt := 75) hx hb dX3_dualities_65 (by decide) (fun c17 => ?_) (fun c17 => ?_)
          · rw [if_pos c17] at h
            refine lv_iconst (v := 1) hx hb dX3_dualities_75 (by decide) ?_
            refine lv_goto (tgt := 80) hx hb dX3_dualities_76 (by decide) ?_
            refine lv_iadd hx hb dX3_dualities_80 ?_
            refine lv_istore_n (lv' := [(2, .int (v2 + (1 : Int32))), (0, .ref h0), (1, .int v1), (3, .int v3)]) hx hb dX3_dualities_81 rfl hl (by decide) rfl (fun ls hl => ?_)
            refine lv_aload_n hx hb dX3_dualities_82 rfl (lv_at hl 1 rfl) ?_
            refine lv_aload_n hx hb dX3_dualities_83 rfl (lv_at hl 1 rfl) ?_
            obtain ⟨y18, e18, h⟩ := ob_s h
            refine MR.callV (q0 := 0) (M_X3_points hG e18) S (cw_X3_points hts q1913 ⟨Nat.le_of_ble_eq_true rfl, Nat.le_of_ble_eq_true rfl⟩) hW0 hK hP rfl rfl rfl hl.1 rfl (Nat.le_of_ble_eq_true rfl) dX3_dualities_84 ⟨Nat.zero_le _, Nat.zero_le _⟩ ?_
            obtain ⟨y19, e19, h⟩ := ob_s h
            refine MW.callV (q0 := 0) (M_X3_nextNaming hG e19) S (cw_X3_nextNaming hts q1990 ⟨Nat.le_of_ble_eq_true rfl, Nat.le_of_ble_eq_true rfl⟩) hW0 hK hP hD hS hA rfl rfl rfl hl.1 rfl (Nat.le_of_ble_eq_true rfl) dX3_dualities_87 ⟨Nat.zero_le _, Nat.zero_le _⟩ (fun H locs hP hD hS => ?_)
            have hP : va_P G.2.1 vwCl (mW h0 ad G.2.2 c_code c_now c_read c_status c_tape c_taped c_at c_textSize c_token c_number c_begins c_stops c_bad c_badPlace c_faultPlace c_clauses y19.2 c_lineBy c_becomes c_dualLines c_on c_rowNow c_least c_wayFirst c_ways c_acts c_past c_listPoints c_listLines c_listed c_list c_path c_places c_firstPlaces c_px c_py c_pz c_placeMany c_modulus c_drawn c_halvesMany c_halvesFirst c_spreadsMany c_spreadsFirst c_comesTo c_seedNow c_rowThen c_hasImage c_actsThen c_imageRow c_pastThen c_statusThen) H := hP
            have hD : va_D A (mW h0 ad G.2.2 c_code c_now c_read c_status c_tape c_taped c_at c_textSize c_token c_number c_begins c_stops c_bad c_badPlace c_faultPlace c_clauses y19.2 c_lineBy c_becomes c_dualLines c_on c_rowNow c_least c_wayFirst c_ways c_acts c_past c_listPoints c_listLines c_listed c_list c_path c_places c_firstPlaces c_px c_py c_pz c_placeMany c_modulus c_drawn c_halvesMany c_halvesFirst c_spreadsMany c_spreadsFirst c_comesTo c_seedNow c_rowThen c_hasImage c_actsThen c_imageRow c_pastThen c_statusThen) := hD
            refine W.eq (g2 := F0 m 90 ls [.int y19.1]) rfl ?_
            refine lv_istore_n (lv' := [(3, .int y19.1), (2, .int (v2 + (1 : Int32))), (0, .ref h0), (1, .int v1)]) hx hb dX3_dualities_90 rfl hl (by decide) rfl (fun ls hl => ?_)
            refine lv_goto (tgt := 52) hx hb dX3_dualities_91 (by decide) ?_
            exact ih v1 (v2 + (1 : Int32)) y19.1 y19.2 c_on h _ _ hP hD hS _ (lv_sub hl [2, 3, 1, 0] rfl)
          · rw [if_neg c17] at h
            refine lv_aload_n hx hb dX3_dualities_68 rfl (lv_at hl 0 rfl) ?_
            obtain ⟨y20, e20, h⟩ := ob_s h
            refine MR.callV (q0 := 0) (M_X3_isPolarity hG e20) S (cw_X3_isPolarity hts q2010 ⟨Nat.le_of_ble_eq_true rfl, Nat.le_of_ble_eq_true rfl⟩) hW0 hK hP rfl rfl rfl hl.1 rfl (Nat.le_of_ble_eq_true rfl) dX3_dualities_69 ⟨Nat.zero_le _, Nat.zero_le _⟩ ?_
            refine lv_if_eq (tgt := 79) hx hb dX3_dualities_72 (by decide) (fun c21 => ?_) (fun c21 => ?_)
            · rw [if_pos c21] at h
              refine lv_iconst (v := 0) hx hb dX3_dualities_79 (by decide) ?_
              refine lv_iadd hx hb dX3_dualities_80 ?_
              refine lv_istore_n (lv' := [(2, .int (v2 + (0 : Int32))), (0, .ref h0), (1, .int v1), (3, .int v3)]) hx hb dX3_dualities_81 rfl hl (by decide) rfl (fun ls hl => ?_)
              refine lv_aload_n hx hb dX3_dualities_82 rfl (lv_at hl 1 rfl) ?_
              refine lv_aload_n hx hb dX3_dualities_83 rfl (lv_at hl 1 rfl) ?_
              obtain ⟨y22, e22, h⟩ := ob_s h
              refine MR.callV (q0 := 0) (M_X3_points hG e22) S (cw_X3_points hts q1913 ⟨Nat.le_of_ble_eq_true rfl, Nat.le_of_ble_eq_true rfl⟩) hW0 hK hP rfl rfl rfl hl.1 rfl (Nat.le_of_ble_eq_true rfl) dX3_dualities_84 ⟨Nat.zero_le _, Nat.zero_le _⟩ ?_
              obtain ⟨y23, e23, h⟩ := ob_s h
              refine MW.callV (q0 := 0) (M_X3_nextNaming hG e23) S (cw_X3_nextNaming hts q1990 ⟨Nat.le_of_ble_eq_true rfl, Nat.le_of_ble_eq_true rfl⟩) hW0 hK hP hD hS hA rfl rfl rfl hl.1 rfl (Nat.le_of_ble_eq_true rfl) dX3_dualities_87 ⟨Nat.zero_le _, Nat.zero_le _⟩ (fun H locs hP hD hS => ?_)
              have hP : va_P G.2.1 vwCl (mW h0 ad G.2.2 c_code c_now c_read c_status c_tape c_taped c_at c_textSize c_token c_number c_begins c_stops c_bad c_badPlace c_faultPlace c_clauses y23.2 c_lineBy c_becomes c_dualLines c_on c_rowNow c_least c_wayFirst c_ways c_acts c_past c_listPoints c_listLines c_listed c_list c_path c_places c_firstPlaces c_px c_py c_pz c_placeMany c_modulus c_drawn c_halvesMany c_halvesFirst c_spreadsMany c_spreadsFirst c_comesTo c_seedNow c_rowThen c_hasImage c_actsThen c_imageRow c_pastThen c_statusThen) H := hP
              have hD : va_D A (mW h0 ad G.2.2 c_code c_now c_read c_status c_tape c_taped c_at c_textSize c_token c_number c_begins c_stops c_bad c_badPlace c_faultPlace c_clauses y23.2 c_lineBy c_becomes c_dualLines c_on c_rowNow c_least c_wayFirst c_ways c_acts c_past c_listPoints c_listLines c_listed c_list c_path c_places c_firstPlaces c_px c_py c_pz c_placeMany c_modulus c_drawn c_halvesMany c_halvesFirst c_spreadsMany c_spreadsFirst c_comesTo c_seedNow c_rowThen c_hasImage c_actsThen c_imageRow c_pastThen c_statusThen) := hD
              refine W.eq (g2 := F0 m 90 ls [.int y23.1]) rfl ?_
              refine lv_istore_n (lv' := [(3, .int y23.1), (2, .int (v2 + (0 : Int32))), (0, .ref h0), (1, .int v1)]) hx hb dX3_dualities_90 rfl hl (by decide) rfl (fun ls hl => ?_)
              refine lv_goto (tgt := 52) hx hb dX3_dualities_91 (by decide) ?_
              exact ih v1 (v2 + (0 : Int32)) y23.1 y23.2 c_on h _ _ hP hD hS _ (lv_sub hl [2, 3, 1, 0] rfl)
            · rw [if_neg c21] at h
              refine lv_iconst (v := 1) hx hb dX3_dualities_75 (by decide) ?_
              refine lv_goto (tgt := 80) hx hb dX3_dualities_76 (by decide) ?_
              refine lv_iadd hx hb dX3_dualities_80 ?_
              refine lv_istore_n (lv' := [(2, .int (v2 + (1 : Int32))), (0, .ref h0), (1, .int v1), (3, .int v3)]) hx hb dX3_dualities_81 rfl hl (by decide) rfl (fun ls hl => ?_)
              refine lv_aload_n hx hb dX3_dualities_82 rfl (lv_at hl 1 rfl) ?_
              refine lv_aload_n hx hb dX3_dualities_83 rfl (lv_at hl 1 rfl) ?_
              obtain ⟨y24, e24, h⟩ := ob_s h
              refine MR.callV (q0 := 0) (M_X3_points hG e24) S (cw_X3_points hts q1913 ⟨Nat.le_of_ble_eq_true rfl, Nat.le_of_ble_eq_true rfl⟩) hW0 hK hP rfl rfl rfl hl.1 rfl (Nat.le_of_ble_eq_true rfl) dX3_dualities_84 ⟨Nat.zero_le _, Nat.zero_le _⟩ ?_
              obtain ⟨y25, e25, h⟩ := ob_s h
              refine MW.callV (q0 := 0) (M_X3_nextNaming hG e25) S (cw_X3_nextNaming hts q1990 ⟨Nat.le_of_ble_eq_true rfl, Nat.le_of_ble_eq_true rfl⟩) hW0 hK hP hD hS hA rfl rfl rfl hl.1 rfl (Nat.le_of_ble_eq_true rfl) dX3_dualities_87 ⟨Nat.zero_le _, Nat.zero_le _⟩ (fun H locs hP hD hS => ?_)
              have hP : va_P G.2.1 vwCl (mW h0 ad G.2.2 c_code c_now c_read c_status c_tape c_taped c_at c_textSize c_token c_number c_begins c_stops c_bad c_badPlace c_faultPlace c_clauses y25.2 c_lineBy c_becomes c_dualLines c_on c_rowNow c_least c_wayFirst c_ways c_acts c_past c_listPoints c_listLines c_listed c_list c_path c_places c_firstPlaces c_px c_py c_pz c_placeMany c_modulus c_drawn c_halvesMany c_halvesFirst c_spreadsMany c_spreadsFirst c_comesTo c_seedNow c_rowThen c_hasImage c_actsThen c_imageRow c_pastThen c_statusThen) H := hP
              have hD : va_D A (mW h0 ad G.2.2 c_code c_now c_read c_status c_tape c_taped c_at c_textSize c_token c_number c_begins c_stops c_bad c_badPlace c_faultPlace c_clauses y25.2 c_lineBy c_becomes c_dualLines c_on c_rowNow c_least c_wayFirst c_ways c_acts c_past c_listPoints c_listLines c_listed c_list c_path c_places c_firstPlaces c_px c_py c_pz c_placeMany c_modulus c_drawn c_halvesMany c_halvesFirst c_spreadsMany c_spreadsFirst c_comesTo c_seedNow c_rowThen c_hasImage c_actsThen c_imageRow c_pastThen c_statusThen) := hD
              refine W.eq (g2 := F0 m 90 ls [.int y25.1]) rfl ?_
              refine lv_istore_n (lv' := [(3, .int y25.1), (2, .int (v2 + (1 : Int32))), (0, .ref h0), (1, .int v1)]) hx hb dX3_dualities_90 rfl hl (by decide) rfl (fun ls hl => ?_)
              refine lv_goto (tgt := 52) hx hb dX3_dualities_91 (by decide) ?_
              exact ih v1 (v2 + (1 : Int32)) y25.1 y25.2 c_on h _ _ hP hD hS _ (lv_sub hl [2, 3, 1, 0] rfl)
  refine lv_aload_n hx hb dX3_dualities_0 rfl (lv_at hl 0 rfl) ?_
  obtain ⟨y1, e1, h⟩ := ob_s h
  refine MR.callV (q0 := 0) (M_X3_points hG e1) S (cw_X3_points hts q1913 ⟨Nat.le_of_ble_eq_true rfl, Nat.le_of_ble_eq_true rfl⟩) hW0 hK hP rfl rfl rfl hl.1 rfl (Nat.le_of_ble_eq_true rfl) dX3_dualities_1 ⟨Nat.zero_le _, Nat.zero_le _⟩ ?_
  refine lv_aload_n hx hb dX3_dualities_4 rfl (lv_at hl 0 rfl) ?_
  obtain ⟨y2, e2, h⟩ := ob_s h
  refine MR.callV (q0 := 0) (M_X3_lines hG e2) S (cw_X3_lines hts q1917 ⟨Nat.le_of_ble_eq_true rfl, Nat.le_of_ble_eq_true rfl⟩) hW0 hK hP rfl rfl rfl hl.1 rfl (Nat.le_of_ble_eq_true rfl) dX3_dualities_5 ⟨Nat.zero_le _, Nat.zero_le _⟩ ?_
  refine lv_icmp_eq (tgt := 13) hx hb dX3_dualities_8 (by decide) (fun c3 => ?_) (fun c3 => ?_)
  · rw [if_pos c3] at h
    refine lv_iconst (v := 0) hx hb dX3_dualities_13 (by decide) ?_
    refine lv_istore_n (lv' := [(2, .int 0), (0, .ref h0), (1, .int v1)]) hx hb dX3_dualities_14 rfl hl (by decide) rfl (fun ls hl => ?_)
    refine lv_iconst (v := 0) hx hb dX3_dualities_15 (by decide) ?_
    refine lv_istore_n (lv' := [(3, .int 0), (2, .int 0), (0, .ref h0), (1, .int v1)]) hx hb dX3_dualities_16 rfl hl (by decide) rfl (fun ls hl => ?_)
    refine S_X3_dualities_17 N v1 0 0 c_naming c_on _ h ?_ _ _ hP hD hS _ (lv_sub hl [2, 3, 1, 0] rfl)
    · intro c_on_8 H locs ls h hP hD hS hl
      refine lv_aload_n hx hb dX3_dualities_42 rfl (lv_at hl 0 rfl) ?_
      refine lv_aload_n hx hb dX3_dualities_43 rfl (lv_at hl 0 rfl) ?_
      obtain ⟨y9, e9, h⟩ := ob_s h
      refine MR.callV (q0 := 0) (M_X3_points hG e9) S (cw_X3_points hts q1913 ⟨Nat.le_of_ble_eq_true rfl, Nat.le_of_ble_eq_true rfl⟩) hW0 hK hP rfl rfl rfl hl.1 rfl (Nat.le_of_ble_eq_true rfl) dX3_dualities_44 ⟨Nat.zero_le _, Nat.zero_le _⟩ ?_
      obtain ⟨y10, e10, h⟩ := ob_s h
      refine MW.callV (q0 := 0) (M_X3_beginNaming hG e10) S (cw_X3_beginNaming hts q1978 ⟨Nat.le_of_ble_eq_true rfl, Nat.le_of_ble_eq_true rfl⟩) hW0 hK hP hD hS hA rfl rfl rfl hl.1 rfl (Nat.le_of_ble_eq_true rfl) dX3_dualities_47 ⟨Nat.zero_le _, Nat.zero_le _⟩ (fun H locs hP hD hS => ?_)
      have hP : va_P G.2.1 vwCl (mW h0 ad G.2.2 c_code c_now c_read c_status c_tape c_taped c_at c_textSize c_token c_number c_begins c_stops c_bad c_badPlace c_faultPlace c_clauses y10 c_lineBy c_becomes c_dualLines c_on_8 c_rowNow c_least c_wayFirst c_ways c_acts c_past c_listPoints c_listLines c_listed c_list c_path c_places c_firstPlaces c_px c_py c_pz c_placeMany c_modulus c_drawn c_halvesMany c_halvesFirst c_spreadsMany c_spreadsFirst c_comesTo c_seedNow c_rowThen c_hasImage c_actsThen c_imageRow c_pastThen c_statusThen) H := hP
      have hD : va_D A (mW h0 ad G.2.2 c_code c_now c_read c_status c_tape c_taped c_at c_textSize c_token c_number c_begins c_stops c_bad c_badPlace c_faultPlace c_clauses y10 c_lineBy c_becomes c_dualLines c_on_8 c_rowNow c_least c_wayFirst c_ways c_acts c_past c_listPoints c_listLines c_listed c_list c_path c_places c_firstPlaces c_px c_py c_pz c_placeMany c_modulus c_drawn c_halvesMany c_halvesFirst c_spreadsMany c_spreadsFirst c_comesTo c_seedNow c_rowThen c_hasImage c_actsThen c_imageRow c_pastThen c_statusThen) := hD
      refine W.eq (g2 := F0 m 50 ls []) rfl ?_
      refine lv_iconst (v := 1) hx hb dX3_dualities_50 (by decide) ?_
      refine lv_istore_n (lv' := [(3, .int 1), (0, .ref h0), (1, .int v1), (2, .int 0)]) hx hb dX3_dualities_51 rfl hl (by decide) rfl (fun ls hl => ?_)
      refine S_X3_dualities_52 N v1 0 1 y10 c_on_8 h  _ _ hP hD hS _ (lv_sub hl [1, 2, 3, 0] rfl)
  · rw [if_neg c3] at h
    refine lv_iconst (v := 0) hx hb dX3_dualities_11 (by decide) ?_
    obtain rfl := Option.some.inj h
    exact hreti rfl dX3_dualities_12 rfl rfl hP hD hS
def F_X3_areAtOne (N : Nat) (v1 : Int32) (v2 : Int32) (c_now : (Nat → Int32)) : Option (Int32) := (ckI ((14 : Int32) + v1) 154 (ckI ((14 : Int32) + v2) 154 (if (c_now (Int32.toNatClampNeg ((14 : Int32) + v1))) = (c_now (Int32.toNatClampNeg ((14 : Int32) + v2))) then (ckI ((22 : Int32) + v1) 154 (ckI ((22 : Int32) + v2) 154 (if (c_now (Int32.toNatClampNeg ((22 : Int32) + v1))) = (c_now (Int32.toNatClampNeg ((22 : Int32) + v2))) then (some (1)) else (some (0))))) else (some (0)))))
theorem cw_X3_areAtOne {R : Room} {s : State} {args : Array Value} {own : String} {index lev mc ms : Nat} (hts : ∀ w ∈ lw_all, w.before args s = true) (hl : Cond.methodLink own index yX3_areAtOne ∈ lw_all) (hR : (rmL lev mc ms).frames + 1 ≤ R.frames ∧ 8 + (3 + 11) + (rmL lev mc ms).locals ≤ R.locals) : CallW R s args own RX3 index yX3_areAtOne cX3_areAtOne 3 (some .boolean) (ws_ yX3_areAtOne cX3_areAtOne 3 (some .boolean)) (rmL lev mc ms) mc ms 2 := cwV 2 hts (lw_V hl q2024 qs110 q172 q2025) rfl rfl rfl (by decide +kernel) hR
set_option maxHeartbeats 4000000 in
theorem M_X3_areAtOne {l : Launch} {G : GE} (hG : GC G) {N : Nat} {h0 : Nat} {ad : Nat → Nat} {c_code : Int32} {c_read : (Nat → Int32)} {c_status : (Nat → Int32)} {c_tape : (Nat → Int32)} {c_taped : Int32} {c_at : Int32} {c_textSize : Int32} {c_token : Int32} {c_number : Int32} {c_begins : Int32} {c_stops : Int32} {c_bad : Int32} {c_badPlace : Int32} {c_faultPlace : Int32} {c_clauses : Int32} {c_naming : (Nat → Int32)} {c_lineBy : (Nat → Int32)} {c_becomes : (Nat → Int32)} {c_dualLines : (Nat → Int32)} {c_on : (Nat → Int32)} {c_rowNow : (Nat → Int32)} {c_least : (Nat → Int32)} {c_wayFirst : (Nat → Int32)} {c_ways : Int32} {c_acts : Int32} {c_past : (Nat → Int32)} {c_listPoints : Int32} {c_listLines : Int32} {c_listed : Int32} {c_list : (Nat → Int32)} {c_path : (Nat → Int32)} {c_places : (Nat → Int32)} {c_firstPlaces : (Nat → Int32)} {c_px : (Nat → Int32)} {c_py : (Nat → Int32)} {c_pz : (Nat → Int32)} {c_placeMany : Int32} {c_modulus : Int32} {c_drawn : Int32} {c_halvesMany : Int32} {c_halvesFirst : Int32} {c_spreadsMany : Int32} {c_spreadsFirst : Int32} {c_comesTo : (Nat → Int32)} {c_seedNow : Int32} {c_rowThen : (Nat → Int32)} {c_hasImage : Int32} {c_actsThen : Int32} {c_imageRow : (Nat → Int32)} {c_pastThen : (Nat → Int32)} {c_statusThen : (Nat → Int32)} {v1 : Int32} {v2 : Int32} {c_now : (Nat → Int32)} {ρ : (Int32)} (h : F_X3_areAtOne N v1 v2 c_now = some ρ) : MR l G yX3_areAtOne cX3_areAtOne 3 (some .boolean) 1 (mW h0 ad G.2.2 c_code c_now c_read c_status c_tape c_taped c_at c_textSize c_token c_number c_begins c_stops c_bad c_badPlace c_faultPlace c_clauses c_naming c_lineBy c_becomes c_dualLines c_on c_rowNow c_least c_wayFirst c_ways c_acts c_past c_listPoints c_listLines c_listed c_list c_path c_places c_firstPlaces c_px c_py c_pz c_placeMany c_modulus c_drawn c_halvesMany c_halvesFirst c_spreadsMany c_spreadsFirst c_comesTo c_seedNow c_rowThen c_hasImage c_actsThen c_imageRow c_pastThen c_statusThen) [.ref h0, .int v1, .int v2] ρ := by
  rw [F_X3_areAtOne] at h
  refine MR.start (rt := .boolean) hG (by decide) (Nat.le_of_ble_eq_true rfl) ?_
  intro p e s m args below meth c Q S hW0 hK hP hret ls hl
  obtain ⟨hx, hb, hml, hown, hts⟩ := id S
  have hl : lv_has ls 3 [(0, .ref h0), (1, .int v1), (2, .int v2)] := hl
  refine lv_aload_n hx hb dX3_areAtOne_0 rfl (lv_at hl 0 rfl) ?_
  refine va_get (ci := 2) (v := .ref (ad 1)) (C := RX3) (T := TX3) (N := 52) hx hb hts in_X3 hown hK hP 0 rfl rfl 1 (by decide) (hts _ q1659) (fun _ h9 => h9) rfl dX3_areAtOne_1 ?_
  refine lv_bipush (v := 14) hx hb dX3_areAtOne_4 (by decide) ?_
  refine lv_iload_n hx hb dX3_areAtOne_6 rfl (lv_at hl 1 rfl) ?_
  refine lv_iadd hx hb dX3_areAtOne_7 ?_
  obtain ⟨i1, h⟩ := ckI_s h
  refine va_iald (f := c_now) hx hb hK hP 1 0 rfl rfl i1 dX3_areAtOne_8 ?_
  refine lv_aload_n hx hb dX3_areAtOne_9 rfl (lv_at hl 0 rfl) ?_
  refine va_get (ci := 2) (v := .ref (ad 1)) (C := RX3) (T := TX3) (N := 52) hx hb hts in_X3 hown hK hP 0 rfl rfl 1 (by decide) (hts _ q1659) (fun _ h9 => h9) rfl dX3_areAtOne_10 ?_
  refine lv_bipush (v := 14) hx hb dX3_areAtOne_13 (by decide) ?_
  refine lv_iload_n hx hb dX3_areAtOne_15 rfl (lv_at hl 2 rfl) ?_
  refine lv_iadd hx hb dX3_areAtOne_16 ?_
  obtain ⟨i2, h⟩ := ckI_s h
  refine va_iald (f := c_now) hx hb hK hP 1 0 rfl rfl i2 dX3_areAtOne_17 ?_
  refine lv_icmp_ne (tgt := 46) hx hb dX3_areAtOne_18 (by decide) (fun c3 => ?_) (fun c3 => ?_)
  · rw [if_neg c3] at h
    refine lv_iconst (v := 0) hx hb dX3_areAtOne_46 (by decide) ?_
    obtain rfl := Option.some.inj h
    exact hret dX3_areAtOne_47 rfl
  · rw [if_pos c3] at h
    refine lv_aload_n hx hb dX3_areAtOne_21 rfl (lv_at hl 0 rfl) ?_
    refine va_get (ci := 2) (v := .ref (ad 1)) (C := RX3) (T := TX3) (N := 52) hx hb hts in_X3 hown hK hP 0 rfl rfl 1 (by decide) (hts _ q1659) (fun _ h9 => h9) rfl dX3_areAtOne_22 ?_
    refine lv_bipush (v := 22) hx hb dX3_areAtOne_25 (by decide) ?_
    refine lv_iload_n hx hb dX3_areAtOne_27 rfl (lv_at hl 1 rfl) ?_
    refine lv_iadd hx hb dX3_areAtOne_28 ?_
    obtain ⟨i5, h⟩ := ckI_s h
    refine va_iald (f := c_now) hx hb hK hP 1 0 rfl rfl i5 dX3_areAtOne_29 ?_
    refine lv_aload_n hx hb dX3_areAtOne_30 rfl (lv_at hl 0 rfl) ?_
    refine va_get (ci := 2) (v := .ref (ad 1)) (C := RX3) (T := TX3) (N := 52) hx hb hts in_X3 hown hK hP 0 rfl rfl 1 (by decide) (hts _ q1659) (fun _ h9 => h9) rfl dX3_areAtOne_31 ?_
    refine lv_bipush (v := 22) hx hb dX3_areAtOne_34 (by decide) ?_
    refine lv_iload_n hx hb dX3_areAtOne_36 rfl (lv_at hl 2 rfl) ?_
    refine lv_iadd hx hb dX3_areAtOne_37 ?_
    obtain ⟨i6, h⟩ := ckI_s h
    refine va_iald (f := c_now) hx hb hK hP 1 0 rfl rfl i6 dX3_areAtOne_38 ?_
    refine lv_icmp_ne (tgt := 46) hx hb dX3_areAtOne_39 (by decide) (fun c7 => ?_) (fun c7 => ?_)
    · rw [if_neg c7] at h
      refine lv_iconst (v := 0) hx hb dX3_areAtOne_46 (by decide) ?_
      obtain rfl := Option.some.inj h
      exact hret dX3_areAtOne_47 rfl
    · rw [if_pos c7] at h
      refine lv_iconst (v := 1) hx hb dX3_areAtOne_42 (by decide) ?_
      refine lv_goto (tgt := 47) hx hb dX3_areAtOne_43 (by decide) ?_
      obtain rfl := Option.some.inj h
      exact hret dX3_areAtOne_47 rfl
def F_X3_areInLine (N : Nat) (v0 : Int32) (v1 : Int32) (v2 : Int32) (v3 : Int32) (v4 : Int32) (v5 : Int32) : Option (Int32) := (if ((v2 - v0) * (v5 - v1)) = ((v4 - v0) * (v3 - v1)) then (some (1)) else (some (0)))
theorem cw_X3_areInLine {R : Room} {s : State} {args : Array Value} {own : String} {index lev mc ms : Nat} (hts : ∀ w ∈ lw_all, w.before args s = true) (hl : Cond.methodLink own index yX3_areInLine ∈ lw_all) (hR : (rmL lev mc ms).frames + 1 ≤ R.frames ∧ 8 + (6 + 11) + (rmL lev mc ms).locals ≤ R.locals) : CallB R s args own index yX3_areInLine cX3_areInLine 6 (some .boolean) (ws_ yX3_areInLine cX3_areInLine 6 (some .boolean)) (rmL lev mc ms) mc ms 6 ∧ (Cond.static yX3_areInLine).before args s = true := va_cwS 6 hts (lw_S hl q2031 q172 q2032) rfl rfl rfl (by decide +kernel) hR
set_option maxHeartbeats 4000000 in
theorem M_X3_areInLine {l : Launch} {G : GE} (hG : GC G) {N : Nat} {v0 : Int32} {v1 : Int32} {v2 : Int32} {v3 : Int32} {v4 : Int32} {v5 : Int32} {ρ : (Int32)} (h : F_X3_areInLine N v0 v1 v2 v3 v4 v5 = some ρ) : MR l G yX3_areInLine cX3_areInLine 6 (some .boolean) 1 [] [.int v0, .int v1, .int v2, .int v3, .int v4, .int v5] ρ := by
  rw [F_X3_areInLine] at h
  refine MR.start (rt := .boolean) hG (by decide) (Nat.le_of_ble_eq_true rfl) ?_
  intro p e s m args below meth c Q S hW0 hK hP hret ls hl
  obtain ⟨hx, hb, hml, hown, hts⟩ := id S
  have hl : lv_has ls 6 [(0, .int v0), (1, .int v1), (2, .int v2), (3, .int v3), (4, .int v4), (5, .int v5)] := hl
  refine lv_iload_n hx hb dX3_areInLine_0 rfl (lv_at hl 2 rfl) ?_
  refine lv_iload_n hx hb dX3_areInLine_1 rfl (lv_at hl 0 rfl) ?_
  refine lv_isub hx hb dX3_areInLine_2 ?_
  refine lv_iload hx hb dX3_areInLine_3 (lv_at hl 5 rfl) ?_
  refine lv_iload_n hx hb dX3_areInLine_5 rfl (lv_at hl 1 rfl) ?_
  refine lv_isub hx hb dX3_areInLine_6 ?_
  refine lv_imul hx hb dX3_areInLine_7 ?_
  refine lv_iload hx hb dX3_areInLine_8 (lv_at hl 4 rfl) ?_
  refine lv_iload_n hx hb dX3_areInLine_10 rfl (lv_at hl 0 rfl) ?_
  refine lv_isub hx hb dX3_areInLine_11 ?_
  refine lv_iload_n hx hb dX3_areInLine_12 rfl (lv_at hl 3 rfl) ?_
  refine lv_iload_n hx hb dX3_areInLine_13 rfl (lv_at hl 1 rfl) ?_
  refine lv_isub hx hb dX3_areInLine_14 ?_
  refine lv_imul hx hb dX3_areInLine_15 ?_
  refine lv_icmp_ne (tgt := 23) hx hb dX3_areInLine_16 (by decide) (fun c1 => ?_) (fun c1 => ?_)
  · rw [if_neg c1] at h
    refine lv_iconst (v := 0) hx hb dX3_areInLine_23 (by decide) ?_
    obtain rfl := Option.some.inj h
    exact hret dX3_areInLine_24 rfl
  · rw [if_pos c1] at h
    refine lv_iconst (v := 1) hx hb dX3_areInLine_19 (by decide) ?_
    refine lv_goto (tgt := 24) hx hb dX3_areInLine_20 (by decide) ?_
    obtain rfl := Option.some.inj h
    exact hret dX3_areInLine_24 rfl
def F_X3_areInLineAt (N : Nat) (v1 : Int32) (v2 : Int32) (v3 : Int32) (c_now : (Nat → Int32)) : Option (Int32) := (ckI ((14 : Int32) + v1) 154 (ckI ((22 : Int32) + v1) 154 (ckI ((14 : Int32) + v2) 154 (ckI ((22 : Int32) + v2) 154 (ckI ((14 : Int32) + v3) 154 (ckI ((22 : Int32) + v3) 154 ((F_X3_areInLine N (c_now (Int32.toNatClampNeg ((14 : Int32) + v1))) (c_now (Int32.toNatClampNeg ((22 : Int32) + v1))) (c_now (Int32.toNatClampNeg ((14 : Int32) + v2))) (c_now (Int32.toNatClampNeg ((22 : Int32) + v2))) (c_now (Int32.toNatClampNeg ((14 : Int32) + v3))) (c_now (Int32.toNatClampNeg ((22 : Int32) + v3)))).bind fun y7 => (ckP (y7 &&& 1 = y7) ((some (y7)))))))))))
theorem cw_X3_areInLineAt {R : Room} {s : State} {args : Array Value} {own : String} {index lev mc ms : Nat} (hts : ∀ w ∈ lw_all, w.before args s = true) (hl : Cond.methodLink own index yX3_areInLineAt ∈ lw_all) (hR : (rmL lev mc ms).frames + 1 ≤ R.frames ∧ 8 + (4 + 11) + (rmL lev mc ms).locals ≤ R.locals) : CallW R s args own RX3 index yX3_areInLineAt cX3_areInLineAt 4 (some .boolean) (ws_ yX3_areInLineAt cX3_areInLineAt 4 (some .boolean)) (rmL lev mc ms) mc ms 3 := cwV 3 hts (lw_V hl q2028 qs111 q172 q2029) rfl rfl rfl (by decide +kernel) hR
set_option maxHeartbeats 4000000 in
theorem M_X3_areInLineAt {l : Launch} {G : GE} (hG : GC G) {N : Nat} {h0 : Nat} {ad : Nat → Nat} {c_code : Int32} {c_read : (Nat → Int32)} {c_status : (Nat → Int32)} {c_tape : (Nat → Int32)} {c_taped : Int32} {c_at : Int32} {c_textSize : Int32} {c_token : Int32} {c_number : Int32} {c_begins : Int32} {c_stops : Int32} {c_bad : Int32} {c_badPlace : Int32} {c_faultPlace : Int32} {c_clauses : Int32} {c_naming : (Nat → Int32)} {c_lineBy : (Nat → Int32)} {c_becomes : (Nat → Int32)} {c_dualLines : (Nat → Int32)} {c_on : (Nat → Int32)} {c_rowNow : (Nat → Int32)} {c_least : (Nat → Int32)} {c_wayFirst : (Nat → Int32)} {c_ways : Int32} {c_acts : Int32} {c_past : (Nat → Int32)} {c_listPoints : Int32} {c_listLines : Int32} {c_listed : Int32} {c_list : (Nat → Int32)} {c_path : (Nat → Int32)} {c_places : (Nat → Int32)} {c_firstPlaces : (Nat → Int32)} {c_px : (Nat → Int32)} {c_py : (Nat → Int32)} {c_pz : (Nat → Int32)} {c_placeMany : Int32} {c_modulus : Int32} {c_drawn : Int32} {c_halvesMany : Int32} {c_halvesFirst : Int32} {c_spreadsMany : Int32} {c_spreadsFirst : Int32} {c_comesTo : (Nat → Int32)} {c_seedNow : Int32} {c_rowThen : (Nat → Int32)} {c_hasImage : Int32} {c_actsThen : Int32} {c_imageRow : (Nat → Int32)} {c_pastThen : (Nat → Int32)} {c_statusThen : (Nat → Int32)} {v1 : Int32} {v2 : Int32} {v3 : Int32} {c_now : (Nat → Int32)} {ρ : (Int32)} (h : F_X3_areInLineAt N v1 v2 v3 c_now = some ρ) : MR l G yX3_areInLineAt cX3_areInLineAt 4 (some .boolean) 2 (mW h0 ad G.2.2 c_code c_now c_read c_status c_tape c_taped c_at c_textSize c_token c_number c_begins c_stops c_bad c_badPlace c_faultPlace c_clauses c_naming c_lineBy c_becomes c_dualLines c_on c_rowNow c_least c_wayFirst c_ways c_acts c_past c_listPoints c_listLines c_listed c_list c_path c_places c_firstPlaces c_px c_py c_pz c_placeMany c_modulus c_drawn c_halvesMany c_halvesFirst c_spreadsMany c_spreadsFirst c_comesTo c_seedNow c_rowThen c_hasImage c_actsThen c_imageRow c_pastThen c_statusThen) [.ref h0, .int v1, .int v2, .int v3] ρ := by
  rw [F_X3_areInLineAt] at h
  refine MR.start (rt := .boolean) hG (by decide) (Nat.le_of_ble_eq_true rfl) ?_
  intro p e s m args below meth c Q S hW0 hK hP hret ls hl
  obtain ⟨hx, hb, hml, hown, hts⟩ := id S
  have hl : lv_has ls 4 [(0, .ref h0), (1, .int v1), (2, .int v2), (3, .int v3)] := hl
  refine lv_aload_n hx hb dX3_areInLineAt_0 rfl (lv_at hl 0 rfl) ?_
  refine va_get (ci := 2) (v := .ref (ad 1)) (C := RX3) (T := TX3) (N := 52) hx hb hts in_X3 hown hK hP 0 rfl rfl 1 (by decide) (hts _ q1659) (fun _ h9 => h9) rfl dX3_areInLineAt_1 ?_
  refine lv_bipush (v := 14) hx hb dX3_areInLineAt_4 (by decide) ?_
  refine lv_iload_n hx hb dX3_areInLineAt_6 rfl (lv_at hl 1 rfl) ?_
  refine lv_iadd hx hb dX3_areInLineAt_7 ?_
  obtain ⟨i1, h⟩ := ckI_s h
  refine va_iald (f := c_now) hx hb hK hP 1 0 rfl rfl i1 dX3_areInLineAt_8 ?_
  refine lv_aload_n hx hb dX3_areInLineAt_9 rfl (lv_at hl 0 rfl) ?_
  refine va_get (ci := 2) (v := .ref (ad 1)) (C := RX3) (T := TX3) (N := 52) hx hb hts in_X3 hown hK hP 0 rfl rfl 1 (by decide) (hts _ q1659) (fun _ h9 => h9) rfl dX3_areInLineAt_10 ?_
  refine lv_bipush (v := 22) hx hb dX3_areInLineAt_13 (by decide) ?_
  refine lv_iload_n hx hb dX3_areInLineAt_15 rfl (lv_at hl 1 rfl) ?_
  refine lv_iadd hx hb dX3_areInLineAt_16 ?_
  obtain ⟨i2, h⟩ := ckI_s h
  refine va_iald (f := c_now) hx hb hK hP 1 0 rfl rfl i2 dX3_areInLineAt_17 ?_
  refine lv_aload_n hx hb dX3_areInLineAt_18 rfl (lv_at hl 0 rfl) ?_
  refine va_get (ci := 2) (v := .ref (ad 1)) (C := RX3) (T := TX3) (N := 52) hx hb hts in_X3 hown hK hP 0 rfl rfl 1 (by decide) (hts _ q1659) (fun _ h9 => h9) rfl dX3_areInLineAt_19 ?_
  refine lv_bipush (v := 14) hx hb dX3_areInLineAt_22 (by decide) ?_
  refine lv_iload_n hx hb dX3_areInLineAt_24 rfl (lv_at hl 2 rfl) ?_
  refine lv_iadd hx hb dX3_areInLineAt_25 ?_
  obtain ⟨i3, h⟩ := ckI_s h
  refine va_iald (f := c_now) hx hb hK hP 1 0 rfl rfl i3 dX3_areInLineAt_26 ?_
  refine lv_aload_n hx hb dX3_areInLineAt_27 rfl (lv_at hl 0 rfl) ?_
  refine va_get (ci := 2) (v := .ref (ad 1)) (C := RX3) (T := TX3) (N := 52) hx hb hts in_X3 hown hK hP 0 rfl rfl 1 (by decide) (hts _ q1659) (fun _ h9 => h9) rfl dX3_areInLineAt_28 ?_
  refine lv_bipush (v := 22) hx hb dX3_areInLineAt_31 (by decide) ?_
  refine lv_iload_n hx hb dX3_areInLineAt_33 rfl (lv_at hl 2 rfl) ?_
  refine lv_iadd hx hb dX3_areInLineAt_34 ?_
  obtain ⟨i4, h⟩ := ckI_s h
  refine va_iald (f := c_now) hx hb hK hP 1 0 rfl rfl i4 dX3_areInLineAt_35 ?_
  refine lv_aload_n hx hb dX3_areInLineAt_36 rfl (lv_at hl 0 rfl) ?_
  refine va_get (ci := 2) (v := .ref (ad 1)) (C := RX3) (T := TX3) (N := 52) hx hb hts in_X3 hown hK hP 0 rfl rfl 1 (by decide) (hts _ q1659) (fun _ h9 => h9) rfl dX3_areInLineAt_37 ?_
  refine lv_bipush (v := 14) hx hb dX3_areInLineAt_40 (by decide) ?_
  refine lv_iload_n hx hb dX3_areInLineAt_42 rfl (lv_at hl 3 rfl) ?_
  refine lv_iadd hx hb dX3_areInLineAt_43 ?_
  obtain ⟨i5, h⟩ := ckI_s h
  refine va_iald (f := c_now) hx hb hK hP 1 0 rfl rfl i5 dX3_areInLineAt_44 ?_
  refine lv_aload_n hx hb dX3_areInLineAt_45 rfl (lv_at hl 0 rfl) ?_
  refine va_get (ci := 2) (v := .ref (ad 1)) (C := RX3) (T := TX3) (N := 52) hx hb hts in_X3 hown hK hP 0 rfl rfl 1 (by decide) (hts _ q1659) (fun _ h9 => h9) rfl dX3_areInLineAt_46 ?_
  refine lv_bipush (v := 22) hx hb dX3_areInLineAt_49 (by decide) ?_
  refine lv_iload_n hx hb dX3_areInLineAt_51 rfl (lv_at hl 3 rfl) ?_
  refine lv_iadd hx hb dX3_areInLineAt_52 ?_
  obtain ⟨i6, h⟩ := ckI_s h
  refine va_iald (f := c_now) hx hb hK hP 1 0 rfl rfl i6 dX3_areInLineAt_53 ?_
  obtain ⟨y7, e7, h⟩ := ob_s h
  refine MR.callS (M_X3_areInLine hG e7) S (cw_X3_areInLine hts q2030 ⟨Nat.le_of_ble_eq_true rfl, Nat.le_of_ble_eq_true rfl⟩) hW0 vaP0 rfl hl.1 rfl (Nat.le_of_ble_eq_true rfl) dX3_areInLineAt_54 ⟨Nat.zero_le _, Nat.zero_le _⟩ ?_
  obtain ⟨i9, h⟩ := ckP_s h
  obtain rfl := Option.some.inj h
  exact hret dX3_areInLineAt_57 (nz_of i9)
def F_X3_doesSlip_56 (N : Nat) (v2 : Int32) (v3 : Int32) (v4 : Int32) (c_now : (Nat → Int32)) : Nat → Int32 → (Unit → Option (Int32)) → Option (Int32)
  | 0, _, _ => none
  | n + 1, v5, k93 => (if v4 ≤ v5 then (k93 ()) else (if ((v2 >>> (v5 &&& 31)) &&& (1 : Int32)) = 1 then ((F_X3_areInLineAt N v3 v4 v5 c_now).bind fun y11 => (if y11 = 0 then (some (1)) else (F_X3_doesSlip_56 N v2 v3 v4 c_now n (v5 + 1) k93))) else (F_X3_doesSlip_56 N v2 v3 v4 c_now n (v5 + 1) k93)))
def F_X3_doesSlip_19 (N : Nat) (v2 : Int32) (v3 : Int32) (c_now : (Nat → Int32)) : Nat → Int32 → (Unit → Option (Int32)) → Option (Int32)
  | 0, _, _ => none
  | n + 1, v4, k99 => (if v3 ≤ v4 then (k99 ()) else (if (((v2 >>> (v3 &&& 31)) &&& (v2 >>> (v4 &&& 31))) &&& (1 : Int32)) = 0 then (F_X3_doesSlip_19 N v2 v3 c_now n (v4 + 1) k99) else ((F_X3_areAtOne N v3 v4 c_now).bind fun y7 => (if y7 = 0 then (F_X3_doesSlip_56 N v2 v3 v4 c_now N 0 (fun _u => (F_X3_doesSlip_19 N v2 v3 c_now n (v4 + 1) k99))) else (some (1))))))
def F_X3_doesSlip_8 (N : Nat) (v2 : Int32) (c_now : (Nat → Int32)) : Nat → Int32 → Option (Int32)
  | 0, _ => none
  | n + 1, v3 => ((F_X3_points N c_now).bind fun y2 => (if y2 ≤ v3 then (some (0)) else (F_X3_doesSlip_19 N v2 v3 c_now N 0 (fun _u => (F_X3_doesSlip_8 N v2 c_now n (v3 + 1))))))
def F_X3_doesSlip (N : Nat) (v1 : Int32) (c_now : (Nat → Int32)) : Option (Int32) := ((F_X3_lineAt N v1 c_now).bind fun y1 => (F_X3_doesSlip_8 N y1 c_now N 0))
theorem cw_X3_doesSlip {R : Room} {s : State} {args : Array Value} {own : String} {index lev mc ms : Nat} (hts : ∀ w ∈ lw_all, w.before args s = true) (hl : Cond.methodLink own index yX3_doesSlip ∈ lw_all) (hR : (rmL lev mc ms).frames + 1 ≤ R.frames ∧ 8 + (6 + 11) + (rmL lev mc ms).locals ≤ R.locals) : CallW R s args own RX3 index yX3_doesSlip cX3_doesSlip 6 (some .boolean) (ws_ yX3_doesSlip cX3_doesSlip 6 (some .boolean)) (rmL lev mc ms) mc ms 1 := cwV 1 hts (lw_V hl q2020 qs109 q172 q2021) rfl rfl rfl (by decide +kernel) hR
set_option maxHeartbeats 4000000 in
theorem M_X3_doesSlip {l : Launch} {G : GE} (hG : GC G) {N : Nat} {h0 : Nat} {ad : Nat → Nat} {c_code : Int32} {c_read : (Nat → Int32)} {c_status : (Nat → Int32)} {c_tape : (Nat → Int32)} {c_taped : Int32} {c_at : Int32} {c_textSize : Int32} {c_token : Int32} {c_number : Int32} {c_begins : Int32} {c_stops : Int32} {c_bad : Int32} {c_badPlace : Int32} {c_faultPlace : Int32} {c_clauses : Int32} {c_naming : (Nat → Int32)} {c_lineBy : (Nat → Int32)} {c_becomes : (Nat → Int32)} {c_dualLines : (Nat → Int32)} {c_on : (Nat → Int32)} {c_rowNow : (Nat → Int32)} {c_least : (Nat → Int32)} {c_wayFirst : (Nat → Int32)} {c_ways : Int32} {c_acts : Int32} {c_past : (Nat → Int32)} {c_listPoints : Int32} {c_listLines : Int32} {c_listed : Int32} {c_list : (Nat → Int32)} {c_path : (Nat → Int32)} {c_places : (Nat → Int32)} {c_firstPlaces : (Nat → Int32)} {c_px : (Nat → Int32)} {c_py : (Nat → Int32)} {c_pz : (Nat → Int32)} {c_placeMany : Int32} {c_modulus : Int32} {c_drawn : Int32} {c_halvesMany : Int32} {c_halvesFirst : Int32} {c_spreadsMany : Int32} {c_spreadsFirst : Int32} {c_comesTo : (Nat → Int32)} {c_seedNow : Int32} {c_rowThen : (Nat → Int32)} {c_hasImage : Int32} {c_actsThen : Int32} {c_imageRow : (Nat → Int32)} {c_pastThen : (Nat → Int32)} {c_statusThen : (Nat → Int32)} {v1 : Int32} {c_now : (Nat → Int32)} {ρ : (Int32)} (h : F_X3_doesSlip N v1 c_now = some ρ) : MR l G yX3_doesSlip cX3_doesSlip 6 (some .boolean) 3 (mW h0 ad G.2.2 c_code c_now c_read c_status c_tape c_taped c_at c_textSize c_token c_number c_begins c_stops c_bad c_badPlace c_faultPlace c_clauses c_naming c_lineBy c_becomes c_dualLines c_on c_rowNow c_least c_wayFirst c_ways c_acts c_past c_listPoints c_listLines c_listed c_list c_path c_places c_firstPlaces c_px c_py c_pz c_placeMany c_modulus c_drawn c_halvesMany c_halvesFirst c_spreadsMany c_spreadsFirst c_comesTo c_seedNow c_rowThen c_hasImage c_actsThen c_imageRow c_pastThen c_statusThen) [.ref h0, .int v1] ρ := by
  rw [F_X3_doesSlip] at h
  refine MR.start (rt := .boolean) hG (by decide) (Nat.le_of_ble_eq_true rfl) ?_
  intro p e s m args below meth c Q S hW0 hK hP hret ls hl
  obtain ⟨hx, hb, hml, hown, hts⟩ := id S
  have hl : lv_has ls 6 [(0, .ref h0), (1, .int v1)] := hl
  have S_X3_doesSlip_56 : ∀ (n : Nat) (v2 : Int32) (v3 : Int32) (v4 : Int32) (v5 : Int32) (k93 : Unit → Option (Int32)), F_X3_doesSlip_56 N v2 v3 v4 c_now n v5 k93 = some ρ → (∀ (ls : Array Slot), k93 () = some ρ → lv_has ls 6 [(0, .ref h0), (2, .int v2), (3, .int v3), (4, .int v4)] → W p l e (rmL 3 0 0) s m args below meth c s.heap [] 0 0 Q (F0 m 93 ls [])) → ∀ (ls : Array Slot), lv_has ls 6 [(0, .ref h0), (2, .int v2), (3, .int v3), (4, .int v4), (5, .int v5)] → W p l e (rmL 3 0 0) s m args below meth c s.heap [] 0 0 Q (F0 m 56 ls []) := by
    intro n
    induction n with
    | zero =>
      intro v2 v3 v4 v5 k93 h
      exact absurd h (by simp [F_X3_doesSlip_56])
    | succ n ih =>
      intro v2 v3 v4 v5 k93 h hk93 ls hl
      rw [F_X3_doesSlip_56] at h
      refine lv_iload hx hb dX3_doesSlip_56 (lv_at hl 4 rfl) ?_
      refine lv_iload hx hb dX3_doesSlip_58 (lv_at hl 3 rfl) ?_
      refine lv_icmp_ge (tgt := 93) hx hb dX3_doesSlip_60 (by decide) (fun c9 => ?_) (fun c9 => ?_)
      · rw [if_pos c9] at h
        exact hk93 _ h (lv_sub hl [0, 1, 2, 3] rfl)
      · rw [if_neg c9] at h
        refine lv_iload_n hx hb dX3_doesSlip_63 rfl (lv_at hl 1 rfl) ?_
        refine lv_iload hx hb dX3_doesSlip_64 (lv_at hl 4 rfl) ?_
        refine lv_ishr hx hb dX3_doesSlip_66 ?_
        refine lv_iconst (v := 1) hx hb dX3_doesSlip_67 (by decide) ?_
        refine lv_iand hx hb dX3_doesSlip_68 ?_
        refine lv_iconst (v := 1) hx hb dX3_doesSlip_69 (by decide) ?_
        refine lv_icmp_ne (tgt := 87) hx hb dX3_doesSlip_70 (by decide) (fun c10 => ?_) (fun c10 => ?_)
        · rw [if_neg c10] at h
          refine lv_iinc (v := (v5 + 1)) (lv' := [(5, .int (v5 + 1)), (0, .ref h0), (2, .int v2), (3, .int v3), (4, .int v4)]) hx hb dX3_doesSlip_87 hl (k := 4) rfl rfl (by decide) rfl (fun ls hl => ?_)
          refine lv_goto (tgt := 56) hx hb dX3_doesSlip_90 (by decide) ?_
          exact ih v2 v3 v4 (v5 + 1) _ h hk93 _ (lv_sub hl [1, 2, 3, 4, 0] rfl)
        · rw [if_pos c10] at h
          refine lv_aload_n hx hb dX3_doesSlip_73 rfl (lv_at hl 0 rfl) ?_
          refine lv_iload_n hx hb dX3_doesSlip_74 rfl (lv_at hl 2 rfl) ?_
          refine lv_iload hx hb dX3_doesSlip_75 (lv_at hl 3 rfl) ?_
          refine lv_iload hx hb dX3_doesSlip_77 (lv_at hl 4 rfl) ?_
          obtain ⟨y11, e11, h⟩ := ob_s h
          refine MR.callV (q0 := 0) (M_X3_areInLineAt hG e11) S (cw_X3_areInLineAt hts q2026 ⟨Nat.le_of_ble_eq_true rfl, Nat.le_of_ble_eq_true rfl⟩) hW0 hK hP rfl rfl rfl hl.1 rfl (Nat.le_of_ble_eq_true rfl) dX3_doesSlip_79 ⟨Nat.zero_le _, Nat.zero_le _⟩ ?_
          refine lv_if_ne (tgt := 87) hx hb dX3_doesSlip_82 (by decide) (fun c12 => ?_) (fun c12 => ?_)
          · rw [if_neg c12] at h
            refine lv_iinc (v := (v5 + 1)) (lv' := [(5, .int (v5 + 1)), (0, .ref h0), (2, .int v2), (3, .int v3), (4, .int v4)]) hx hb dX3_doesSlip_87 hl (k := 4) rfl rfl (by decide) rfl (fun ls hl => ?_)
            refine lv_goto (tgt := 56) hx hb dX3_doesSlip_90 (by decide) ?_
            exact ih v2 v3 v4 (v5 + 1) _ h hk93 _ (lv_sub hl [1, 2, 3, 4, 0] rfl)
          · rw [if_pos c12] at h
            refine lv_iconst (v := 1) hx hb dX3_doesSlip_85 (by decide) ?_
            obtain rfl := Option.some.inj h
            exact hret dX3_doesSlip_86 rfl
  have S_X3_doesSlip_19 : ∀ (n : Nat) (v2 : Int32) (v3 : Int32) (v4 : Int32) (k99 : Unit → Option (Int32)), F_X3_doesSlip_19 N v2 v3 c_now n v4 k99 = some ρ → (∀ (ls : Array Slot), k99 () = some ρ → lv_has ls 6 [(0, .ref h0), (2, .int v2), (3, .int v3)] → W p l e (rmL 3 0 0) s m args below meth c s.heap [] 0 0 Q (F0 m 99 ls [])) → ∀ (ls : Array Slot), lv_has ls 6 [(0, .ref h0), (2, .int v2), (3, .int v3), (4, .int v4)] → W p l e (rmL 3 0 0) s m args below meth c s.heap [] 0 0 Q (F0 m 19 ls []) := by
    intro n
    induction n with
    | zero =>
      intro v2 v3 v4 k99 h
      exact absurd h (by simp [F_X3_doesSlip_19])
    | succ n ih =>
      intro v2 v3 v4 k99 h hk99 ls hl
      rw [F_X3_doesSlip_19] at h
      refine lv_iload hx hb dX3_doesSlip_19 (lv_at hl 3 rfl) ?_
      refine lv_iload_n hx hb dX3_doesSlip_21 rfl (lv_at hl 2 rfl) ?_
      refine lv_icmp_ge (tgt := 99) hx hb dX3_doesSlip_22 (by decide) (fun c5 => ?_) (fun c5 => ?_)
      · rw [if_pos c5] at h
        exact hk99 _ h (lv_sub hl [0, 1, 2] rfl)
      · rw [if_neg c5] at h
        refine lv_iload_n hx hb dX3_doesSlip_25 rfl (lv_at hl 1 rfl) ?_
        refine lv_iload_n hx hb dX3_doesSlip_26 rfl (lv_at hl 2 rfl) ?_
        refine lv_ishr hx hb dX3_doesSlip_27 ?_
        refine lv_iload_n hx hb dX3_doesSlip_28 rfl (lv_at hl 1 rfl) ?_
        refine lv_iload hx hb dX3_doesSlip_29 (lv_at hl 3 rfl) ?_
        refine lv_ishr hx hb dX3_doesSlip_31 ?_
        refine lv_iand hx hb dX3_doesSlip_32 ?_
        refine lv_iconst (v := 1) hx hb dX3_doesSlip_33 (by decide) ?_
        refine lv_iand hx hb dX3_doesSlip_34 ?_
        refine lv_if_ne (tgt := 41) hx hb dX3_doesSlip_35 (by decide) (fun c6 => ?_) (fun c6 => ?_)
        · rw [if_neg c6] at h
          refine lv_aload_n hx hb dX3_doesSlip_41 rfl (lv_at hl 0 rfl) ?_
          refine lv_iload_n hx hb dX3_doesSlip_42 rfl (lv_at hl 2 rfl) ?_
          refine lv_iload hx hb dX3_doesSlip_43 (lv_at hl 3 rfl) ?_
          obtain ⟨y7, e7, h⟩ := ob_s h
          refine MR.callV (q0 := 0) (M_X3_areAtOne hG e7) S (cw_X3_areAtOne hts q2022 ⟨Nat.le_of_ble_eq_true rfl, Nat.le_of_ble_eq_true rfl⟩) hW0 hK hP rfl rfl rfl hl.1 rfl (Nat.le_of_ble_eq_true rfl) dX3_doesSlip_45 ⟨Nat.zero_le _, Nat.zero_le _⟩ ?_
          refine lv_if_eq (tgt := 53) hx hb dX3_doesSlip_48 (by decide) (fun c8 => ?_) (fun c8 => ?_)
          · rw [if_pos c8] at h
            refine lv_iconst (v := 0) hx hb dX3_doesSlip_53 (by decide) ?_
            refine lv_istore (lv' := [(5, .int 0), (0, .ref h0), (2, .int v2), (3, .int v3), (4, .int v4)]) hx hb dX3_doesSlip_54 hl (by decide) rfl (fun ls hl => ?_)
            refine S_X3_doesSlip_56 N v2 v3 v4 0 _ h ?_ _ (lv_sub hl [1, 2, 3, 4, 0] rfl)
            · intro  ls h hl
              refine lv_iinc (v := (v4 + 1)) (lv' := [(4, .int (v4 + 1)), (0, .ref h0), (2, .int v2), (3, .int v3)]) hx hb dX3_doesSlip_93 hl (k := 3) rfl rfl (by decide) rfl (fun ls hl => ?_)
              refine lv_goto (tgt := 19) hx hb dX3_doesSlip_96 (by decide) ?_
              exact ih v2 v3 (v4 + 1) _ h hk99 _ (lv_sub hl [1, 2, 3, 0] rfl)
          · rw [if_neg c8] at h
            refine lv_iconst (v := 1) hx hb dX3_doesSlip_51 (by decide) ?_
            obtain rfl := Option.some.inj h
            exact hret dX3_doesSlip_52 rfl
        · rw [if_pos c6] at h
          refine lv_goto (tgt := 93) hx hb dX3_doesSlip_38 (by decide) ?_
          refine lv_iinc (v := (v4 + 1)) (lv' := [(4, .int (v4 + 1)), (0, .ref h0), (2, .int v2), (3, .int v3)]) hx hb dX3_doesSlip_93 hl (k := 3) rfl rfl (by decide) rfl (fun ls hl => ?_)
          refine lv_goto (tgt := 19) hx hb dX3_doesSlip_96 (by decide) ?_
          exact ih v2 v3 (v4 + 1) _ h hk99 _ (lv_sub hl [1, 2, 3, 0] rfl)
  have S_X3_doesSlip_8 : ∀ (n : Nat) (v2 : Int32) (v3 : Int32), F_X3_doesSlip_8 N v2 c_now n v3 = some ρ → ∀ (ls : Array Slot), lv_has ls 6 [(0, .ref h0), (2, .int v2), (3, .int v3)] → W p l e (rmL 3 0 0) s m args below meth c s.heap [] 0 0 Q (F0 m 8 ls []) := by
    intro n
    induction n with
    | zero =>
      intro v2 v3 h
      exact absurd h (by simp [F_X3_doesSlip_8])
    | succ n ih =>
      intro v2 v3 h ls hl
      rw [F_X3_doesSlip_8] at h
      refine lv_iload_n hx hb dX3_doesSlip_8 rfl (lv_at hl 2 rfl) ?_
      refine lv_aload_n hx hb dX3_doesSlip_9 rfl (lv_at hl 0 rfl) ?_
      obtain ⟨y2, e2, h⟩ := ob_s h
      refine MR.callV (q0 := 0) (M_X3_points hG e2) S (cw_X3_points hts q1913 ⟨Nat.le_of_ble_eq_true rfl, Nat.le_of_ble_eq_true rfl⟩) hW0 hK hP rfl rfl rfl hl.1 rfl (Nat.le_of_ble_eq_true rfl) dX3_doesSlip_10 ⟨Nat.zero_le _, Nat.zero_le _⟩ ?_
      refine lv_icmp_ge (tgt := 105) hx hb dX3_doesSlip_13 (by decide) (fun c3 => ?_) (fun c3 => ?_)
      · rw [if_pos c3] at h
        refine lv_iconst (v := 0) hx hb dX3_doesSlip_105 (by decide) ?_
        obtain rfl := Option.some.inj h
        exact hret dX3_doesSlip_106 rfl
      · rw [if_neg c3] at h
        refine lv_iconst (v := 0) hx hb dX3_doesSlip_16 (by decide) ?_
        refine lv_istore (lv' := [(4, .int 0), (0, .ref h0), (2, .int v2), (3, .int v3)]) hx hb dX3_doesSlip_17 hl (by decide) rfl (fun ls hl => ?_)
        refine S_X3_doesSlip_19 N v2 v3 0 _ h ?_ _ (lv_sub hl [1, 2, 3, 0] rfl)
        · intro  ls h hl
          refine lv_iinc (v := (v3 + 1)) (lv' := [(3, .int (v3 + 1)), (0, .ref h0), (2, .int v2)]) hx hb dX3_doesSlip_99 hl (k := 2) rfl rfl (by decide) rfl (fun ls hl => ?_)
          refine lv_goto (tgt := 8) hx hb dX3_doesSlip_102 (by decide) ?_
          exact ih v2 (v3 + 1) h _ (lv_sub hl [1, 2, 0] rfl)
  refine lv_aload_n hx hb dX3_doesSlip_0 rfl (lv_at hl 0 rfl) ?_
  refine lv_iload_n hx hb dX3_doesSlip_1 rfl (lv_at hl 1 rfl) ?_
  obtain ⟨y1, e1, h⟩ := ob_s h
  refine MR.callV (q0 := 0) (M_X3_lineAt hG e1) S (cw_X3_lineAt hts q1925 ⟨Nat.le_of_ble_eq_true rfl, Nat.le_of_ble_eq_true rfl⟩) hW0 hK hP rfl rfl rfl hl.1 rfl (Nat.le_of_ble_eq_true rfl) dX3_doesSlip_2 ⟨Nat.zero_le _, Nat.zero_le _⟩ ?_
  refine lv_istore_n (lv' := [(2, .int y1), (0, .ref h0), (1, .int v1)]) hx hb dX3_doesSlip_5 rfl hl (by decide) rfl (fun ls hl => ?_)
  refine lv_iconst (v := 0) hx hb dX3_doesSlip_6 (by decide) ?_
  refine lv_istore_n (lv' := [(3, .int 0), (2, .int y1), (0, .ref h0), (1, .int v1)]) hx hb dX3_doesSlip_7 rfl hl (by decide) rfl (fun ls hl => ?_)
  refine S_X3_doesSlip_8 N y1 0 h  _ (lv_sub hl [2, 1, 0] rfl)
def F_X3_slips_4 (N : Nat) (c_now : (Nat → Int32)) : Nat → Int32 → Int32 → Option (Int32)
  | 0, _, _ => none
  | n + 1, v1, v2 => ((F_X3_lines N c_now).bind fun y1 => (if y1 ≤ v2 then (some (v1)) else ((F_X3_doesSlip N v2 c_now).bind fun y4 => (if y4 = 0 then (F_X3_slips_4 N c_now n (v1 + (0 : Int32)) (v2 + 1)) else (F_X3_slips_4 N c_now n (v1 + (1 : Int32)) (v2 + 1))))))
def F_X3_slips (N : Nat) (c_now : (Nat → Int32)) : Option (Int32) := (F_X3_slips_4 N c_now N 0 0)
theorem cw_X3_slips {R : Room} {s : State} {args : Array Value} {own : String} {index lev mc ms : Nat} (hts : ∀ w ∈ lw_all, w.before args s = true) (hl : Cond.methodLink own index yX3_slips ∈ lw_all) (hR : (rmL lev mc ms).frames + 1 ≤ R.frames ∧ 8 + (3 + 11) + (rmL lev mc ms).locals ≤ R.locals) : CallW R s args own RX3 index yX3_slips cX3_slips 3 (some .int) (ws_ yX3_slips cX3_slips 3 (some .int)) (rmL lev mc ms) mc ms 0 := cwV 0 hts (lw_V hl q2016 qs108 q172 q2017) rfl rfl rfl (by decide +kernel) hR
set_option maxHeartbeats 4000000 in
theorem M_X3_slips {l : Launch} {G : GE} (hG : GC G) {N : Nat} {h0 : Nat} {ad : Nat → Nat} {c_code : Int32} {c_read : (Nat → Int32)} {c_status : (Nat → Int32)} {c_tape : (Nat → Int32)} {c_taped : Int32} {c_at : Int32} {c_textSize : Int32} {c_token : Int32} {c_number : Int32} {c_begins : Int32} {c_stops : Int32} {c_bad : Int32} {c_badPlace : Int32} {c_faultPlace : Int32} {c_clauses : Int32} {c_naming : (Nat → Int32)} {c_lineBy : (Nat → Int32)} {c_becomes : (Nat → Int32)} {c_dualLines : (Nat → Int32)} {c_on : (Nat → Int32)} {c_rowNow : (Nat → Int32)} {c_least : (Nat → Int32)} {c_wayFirst : (Nat → Int32)} {c_ways : Int32} {c_acts : Int32} {c_past : (Nat → Int32)} {c_listPoints : Int32} {c_listLines : Int32} {c_listed : Int32} {c_list : (Nat → Int32)} {c_path : (Nat → Int32)} {c_places : (Nat → Int32)} {c_firstPlaces : (Nat → Int32)} {c_px : (Nat → Int32)} {c_py : (Nat → Int32)} {c_pz : (Nat → Int32)} {c_placeMany : Int32} {c_modulus : Int32} {c_drawn : Int32} {c_halvesMany : Int32} {c_halvesFirst : Int32} {c_spreadsMany : Int32} {c_spreadsFirst : Int32} {c_comesTo : (Nat → Int32)} {c_seedNow : Int32} {c_rowThen : (Nat → Int32)} {c_hasImage : Int32} {c_actsThen : Int32} {c_imageRow : (Nat → Int32)} {c_pastThen : (Nat → Int32)} {c_statusThen : (Nat → Int32)} {c_now : (Nat → Int32)} {ρ : (Int32)} (h : F_X3_slips N c_now = some ρ) : MR l G yX3_slips cX3_slips 3 (some .int) 4 (mW h0 ad G.2.2 c_code c_now c_read c_status c_tape c_taped c_at c_textSize c_token c_number c_begins c_stops c_bad c_badPlace c_faultPlace c_clauses c_naming c_lineBy c_becomes c_dualLines c_on c_rowNow c_least c_wayFirst c_ways c_acts c_past c_listPoints c_listLines c_listed c_list c_path c_places c_firstPlaces c_px c_py c_pz c_placeMany c_modulus c_drawn c_halvesMany c_halvesFirst c_spreadsMany c_spreadsFirst c_comesTo c_seedNow c_rowThen c_hasImage c_actsThen c_imageRow c_pastThen c_statusThen) [.ref h0] ρ := by
  rw [F_X3_slips] at h
  refine MR.start (rt := .int) hG (by decide) (Nat.le_of_ble_eq_true rfl) ?_
  intro p e s m args below meth c Q S hW0 hK hP hret ls hl
  obtain ⟨hx, hb, hml, hown, hts⟩ := id S
  have hl : lv_has ls 3 [(0, .ref h0)] := hl
  have S_X3_slips_4 : ∀ (n : Nat) (v1 : Int32) (v2 : Int32), F_X3_slips_4 N c_now n v1 v2 = some ρ → ∀ (ls : Array Slot), lv_has ls 3 [(0, .ref h0), (1, .int v1), (2, .int v2)] → W p l e (rmL 4 0 0) s m args below meth c s.heap [] 0 0 Q (F0 m 4 ls []) := by
    intro n
    induction n with
    | zero =>
      intro v1 v2 h
      exact absurd h (by simp [F_X3_slips_4])
    | succ n ih =>
      intro v1 v2 h ls hl
      rw [F_X3_slips_4] at h
      refine lv_iload_n hx hb dX3_slips_4 rfl (lv_at hl 2 rfl) ?_
      refine lv_aload_n hx hb dX3_slips_5 rfl (lv_at hl 0 rfl) ?_
      obtain ⟨y1, e1, h⟩ := ob_s h
      refine MR.callV (q0 := 0) (M_X3_lines hG e1) S (cw_X3_lines hts q1917 ⟨Nat.le_of_ble_eq_true rfl, Nat.le_of_ble_eq_true rfl⟩) hW0 hK hP rfl rfl rfl hl.1 rfl (Nat.le_of_ble_eq_true rfl) dX3_slips_6 ⟨Nat.zero_le _, Nat.zero_le _⟩ ?_
      refine lv_icmp_ge (tgt := 34) hx hb dX3_slips_9 (by decide) (fun c2 => ?_) (fun c2 => ?_)
      · rw [if_pos c2] at h
        refine lv_iload_n hx hb dX3_slips_34 rfl (lv_at hl 1 rfl) ?_
        obtain rfl := Option.some.inj h
        exact hret dX3_slips_35 rfl
      · rw [if_neg c2] at h
        refine lv_iload_n hx hb dX3_slips_12 rfl (lv_at hl 1 rfl) ?_
        refine lv_aload_n hx hb dX3_slips_13 rfl (lv_at hl 0 rfl) ?_
        refine lv_iload_n hx hb dX3_slips_14 rfl (lv_at hl 2 rfl) ?_
        obtain ⟨y4, e4, h⟩ := ob_s h
        refine MR.callV (q0 := 0) (M_X3_doesSlip hG e4) S (cw_X3_doesSlip hts q2018 ⟨Nat.le_of_ble_eq_true rfl, Nat.le_of_ble_eq_true rfl⟩) hW0 hK hP rfl rfl rfl hl.1 rfl (Nat.le_of_ble_eq_true rfl) dX3_slips_15 ⟨Nat.zero_le _, Nat.zero_le _⟩ ?_
        refine lv_if_eq (tgt := 25) hx hb dX3_slips_18 (by decide) (fun c5 => ?_) (fun c5 => ?_)
        · rw [if_pos c5] at h
          refine lv_iconst (v := 0) hx hb dX3_slips_25 (by decide) ?_
          refine lv_iadd hx hb dX3_slips_26 ?_
          refine lv_istore_n (lv' := [(1, .int (v1 + (0 : Int32))), (0, .ref h0), (2, .int v2)]) hx hb dX3_slips_27 rfl hl (by decide) rfl (fun ls hl => ?_)
          refine lv_iinc (v := (v2 + 1)) (lv' := [(2, .int (v2 + 1)), (1, .int (v1 + (0 : Int32))), (0, .ref h0)]) hx hb dX3_slips_28 hl (k := 2) rfl rfl (by decide) rfl (fun ls hl => ?_)
          refine lv_goto (tgt := 4) hx hb dX3_slips_31 (by decide) ?_
          exact ih (v1 + (0 : Int32)) (v2 + 1) h _ (lv_sub hl [2, 1, 0] rfl)
        · rw [if_neg c5] at h
          refine lv_iconst (v := 1) hx hb dX3_slips_21 (by decide) ?_
          refine lv_goto (tgt := 26) hx hb dX3_slips_22 (by decide) ?_
          refine lv_iadd hx hb dX3_slips_26 ?_
          refine lv_istore_n (lv' := [(1, .int (v1 + (1 : Int32))), (0, .ref h0), (2, .int v2)]) hx hb dX3_slips_27 rfl hl (by decide) rfl (fun ls hl => ?_)
          refine lv_iinc (v := (v2 + 1)) (lv' := [(2, .int (v2 + 1)), (1, .int (v1 + (1 : Int32))), (0, .ref h0)]) hx hb dX3_slips_28 hl (k := 2) rfl rfl (by decide) rfl (fun ls hl => ?_)
          refine lv_goto (tgt := 4) hx hb dX3_slips_31 (by decide) ?_
          exact ih (v1 + (1 : Int32)) (v2 + 1) h _ (lv_sub hl [2, 1, 0] rfl)
  refine lv_iconst (v := 0) hx hb dX3_slips_0 (by decide) ?_
  refine lv_istore_n (lv' := [(1, .int 0), (0, .ref h0)]) hx hb dX3_slips_1 rfl hl (by decide) rfl (fun ls hl => ?_)
  refine lv_iconst (v := 0) hx hb dX3_slips_2 (by decide) ?_
  refine lv_istore_n (lv' := [(2, .int 0), (1, .int 0), (0, .ref h0)]) hx hb dX3_slips_3 rfl hl (by decide) rfl (fun ls hl => ?_)
  refine S_X3_slips_4 N 0 0 h  _ (lv_sub hl [2, 1, 0] rfl)
def F_X3_strays_22 (N : Nat) (v2 : Int32) (v3 : Int32) (c_now : (Nat → Int32)) : Nat → Int32 → Int32 → (Int32 → Option (Int32)) → Option (Int32)
  | 0, _, _, _ => none
  | n + 1, v1, v4, k73 => (if v3 ≤ v4 then (k73 v1) else ((F_X3_lineOf N ((((1 : Int32) <<< (v2 &&& 31)) ||| ((1 : Int32) <<< (v3 &&& 31))) ||| ((1 : Int32) <<< (v4 &&& 31))) c_now).bind fun y6 => (if y6 = (-1) then ((F_X3_areInLineAt N v2 v3 v4 c_now).bind fun y8 => (if y8 = 0 then (F_X3_strays_22 N v2 v3 c_now n (v1 + (0 : Int32)) (v4 + 1) k73) else (F_X3_strays_22 N v2 v3 c_now n (v1 + (1 : Int32)) (v4 + 1) k73))) else (F_X3_strays_22 N v2 v3 c_now n (v1 + (0 : Int32)) (v4 + 1) k73))))
def F_X3_strays_14 (N : Nat) (v2 : Int32) (c_now : (Nat → Int32)) : Nat → Int32 → Int32 → (Int32 → Option (Int32)) → Option (Int32)
  | 0, _, _, _ => none
  | n + 1, v1, v3, k79 => (if v2 ≤ v3 then (k79 v1) else (F_X3_strays_22 N v2 v3 c_now N v1 0 (fun u1_10 => (F_X3_strays_14 N v2 c_now n u1_10 (v3 + 1) k79))))
def F_X3_strays_4 (N : Nat) (c_now : (Nat → Int32)) : Nat → Int32 → Int32 → Option (Int32)
  | 0, _, _ => none
  | n + 1, v1, v2 => ((F_X3_points N c_now).bind fun y1 => (if y1 ≤ v2 then (some (v1)) else (F_X3_strays_14 N v2 c_now N v1 0 (fun u1_11 => (F_X3_strays_4 N c_now n u1_11 (v2 + 1))))))
def F_X3_strays (N : Nat) (c_now : (Nat → Int32)) : Option (Int32) := (F_X3_strays_4 N c_now N 0 0)
theorem cw_X3_strays {R : Room} {s : State} {args : Array Value} {own : String} {index lev mc ms : Nat} (hts : ∀ w ∈ lw_all, w.before args s = true) (hl : Cond.methodLink own index yX3_strays ∈ lw_all) (hR : (rmL lev mc ms).frames + 1 ≤ R.frames ∧ 8 + (5 + 11) + (rmL lev mc ms).locals ≤ R.locals) : CallW R s args own RX3 index yX3_strays cX3_strays 5 (some .int) (ws_ yX3_strays cX3_strays 5 (some .int)) (rmL lev mc ms) mc ms 0 := cwV 0 hts (lw_V hl q2035 qs112 q172 q2036) rfl rfl rfl (by decide +kernel) hR
set_option maxHeartbeats 4000000 in
theorem M_X3_strays {l : Launch} {G : GE} (hG : GC G) {N : Nat} {h0 : Nat} {ad : Nat → Nat} {c_code : Int32} {c_read : (Nat → Int32)} {c_status : (Nat → Int32)} {c_tape : (Nat → Int32)} {c_taped : Int32} {c_at : Int32} {c_textSize : Int32} {c_token : Int32} {c_number : Int32} {c_begins : Int32} {c_stops : Int32} {c_bad : Int32} {c_badPlace : Int32} {c_faultPlace : Int32} {c_clauses : Int32} {c_naming : (Nat → Int32)} {c_lineBy : (Nat → Int32)} {c_becomes : (Nat → Int32)} {c_dualLines : (Nat → Int32)} {c_on : (Nat → Int32)} {c_rowNow : (Nat → Int32)} {c_least : (Nat → Int32)} {c_wayFirst : (Nat → Int32)} {c_ways : Int32} {c_acts : Int32} {c_past : (Nat → Int32)} {c_listPoints : Int32} {c_listLines : Int32} {c_listed : Int32} {c_list : (Nat → Int32)} {c_path : (Nat → Int32)} {c_places : (Nat → Int32)} {c_firstPlaces : (Nat → Int32)} {c_px : (Nat → Int32)} {c_py : (Nat → Int32)} {c_pz : (Nat → Int32)} {c_placeMany : Int32} {c_modulus : Int32} {c_drawn : Int32} {c_halvesMany : Int32} {c_halvesFirst : Int32} {c_spreadsMany : Int32} {c_spreadsFirst : Int32} {c_comesTo : (Nat → Int32)} {c_seedNow : Int32} {c_rowThen : (Nat → Int32)} {c_hasImage : Int32} {c_actsThen : Int32} {c_imageRow : (Nat → Int32)} {c_pastThen : (Nat → Int32)} {c_statusThen : (Nat → Int32)} {c_now : (Nat → Int32)} {ρ : (Int32)} (h : F_X3_strays N c_now = some ρ) : MR l G yX3_strays cX3_strays 5 (some .int) 3 (mW h0 ad G.2.2 c_code c_now c_read c_status c_tape c_taped c_at c_textSize c_token c_number c_begins c_stops c_bad c_badPlace c_faultPlace c_clauses c_naming c_lineBy c_becomes c_dualLines c_on c_rowNow c_least c_wayFirst c_ways c_acts c_past c_listPoints c_listLines c_listed c_list c_path c_places c_firstPlaces c_px c_py c_pz c_placeMany c_modulus c_drawn c_halvesMany c_halvesFirst c_spreadsMany c_spreadsFirst c_comesTo c_seedNow c_rowThen c_hasImage c_actsThen c_imageRow c_pastThen c_statusThen) [.ref h0] ρ := by
  rw [F_X3_strays] at h
  refine MR.start (rt := .int) hG (by decide) (Nat.le_of_ble_eq_true rfl) ?_
  intro p e s m args below meth c Q S hW0 hK hP hret ls hl
  obtain ⟨hx, hb, hml, hown, hts⟩ := id S
  have hl : lv_has ls 5 [(0, .ref h0)] := hl
  have S_X3_strays_22 : ∀ (n : Nat) (v1 : Int32) (v2 : Int32) (v3 : Int32) (v4 : Int32) (k73 : Int32 → Option (Int32)), F_X3_strays_22 N v2 v3 c_now n v1 v4 k73 = some ρ → (∀ (u1 : Int32) (ls : Array Slot), k73 u1 = some ρ → lv_has ls 5 [(0, .ref h0), (1, .int u1), (2, .int v2), (3, .int v3)] → W p l e (rmL 3 0 0) s m args below meth c s.heap [] 0 0 Q (F0 m 73 ls [])) → ∀ (ls : Array Slot), lv_has ls 5 [(0, .ref h0), (1, .int v1), (2, .int v2), (3, .int v3), (4, .int v4)] → W p l e (rmL 3 0 0) s m args below meth c s.heap [] 0 0 Q (F0 m 22 ls []) := by
    intro n
    induction n with
    | zero =>
      intro v1 v2 v3 v4 k73 h
      exact absurd h (by simp [F_X3_strays_22])
    | succ n ih =>
      intro v1 v2 v3 v4 k73 h hk73 ls hl
      rw [F_X3_strays_22] at h
      refine lv_iload hx hb dX3_strays_22 (lv_at hl 4 rfl) ?_
      refine lv_iload_n hx hb dX3_strays_24 rfl (lv_at hl 3 rfl) ?_
      refine lv_icmp_ge (tgt := 73) hx hb dX3_strays_25 (by decide) (fun c5 => ?_) (fun c5 => ?_)
      · rw [if_pos c5] at h
        exact hk73 v1 _ h (lv_sub hl [0, 1, 2, 3] rfl)
      · rw [if_neg c5] at h
        refine lv_iload_n hx hb dX3_strays_28 rfl (lv_at hl 1 rfl) ?_
        refine lv_aload_n hx hb dX3_strays_29 rfl (lv_at hl 0 rfl) ?_
        refine lv_iconst (v := 1) hx hb dX3_strays_30 (by decide) ?_
        refine lv_iload_n hx hb dX3_strays_31 rfl (lv_at hl 2 rfl) ?_
        refine lv_ishl hx hb dX3_strays_32 ?_
        refine lv_iconst (v := 1) hx hb dX3_strays_33 (by decide) ?_
        refine lv_iload_n hx hb dX3_strays_34 rfl (lv_at hl 3 rfl) ?_
        refine lv_ishl hx hb dX3_strays_35 ?_
        refine lv_ior hx hb dX3_strays_36 ?_
        refine lv_iconst (v := 1) hx hb dX3_strays_37 (by decide) ?_
        refine lv_iload hx hb dX3_strays_38 (lv_at hl 4 rfl) ?_
        refine lv_ishl hx hb dX3_strays_40 ?_
        refine lv_ior hx hb dX3_strays_41 ?_
        obtain ⟨y6, e6, h⟩ := ob_s h
        refine MR.callV (q0 := 0) (M_X3_lineOf hG e6) S (cw_X3_lineOf hts q1953 ⟨Nat.le_of_ble_eq_true rfl, Nat.le_of_ble_eq_true rfl⟩) hW0 hK hP rfl rfl rfl hl.1 rfl (Nat.le_of_ble_eq_true rfl) dX3_strays_42 ⟨Nat.zero_le _, Nat.zero_le _⟩ ?_
        refine lv_iconst (v := (-1)) hx hb dX3_strays_45 (by decide) ?_
        refine lv_icmp_ne (tgt := 64) hx hb dX3_strays_46 (by decide) (fun c7 => ?_) (fun c7 => ?_)
        · rw [if_neg c7] at h
          refine lv_iconst (v := 0) hx hb dX3_strays_64 (by decide) ?_
          refine lv_iadd hx hb dX3_strays_65 ?_
          refine lv_istore_n (lv' := [(1, .int (v1 + (0 : Int32))), (0, .ref h0), (2, .int v2), (3, .int v3), (4, .int v4)]) hx hb dX3_strays_66 rfl hl (by decide) rfl (fun ls hl => ?_)
          refine lv_iinc (v := (v4 + 1)) (lv' := [(4, .int (v4 + 1)), (1, .int (v1 + (0 : Int32))), (0, .ref h0), (2, .int v2), (3, .int v3)]) hx hb dX3_strays_67 hl (k := 4) rfl rfl (by decide) rfl (fun ls hl => ?_)
          refine lv_goto (tgt := 22) hx hb dX3_strays_70 (by decide) ?_
          exact ih (v1 + (0 : Int32)) v2 v3 (v4 + 1) _ h hk73 _ (lv_sub hl [2, 1, 3, 4, 0] rfl)
        · rw [if_pos c7] at h
          refine lv_aload_n hx hb dX3_strays_49 rfl (lv_at hl 0 rfl) ?_
          refine lv_iload_n hx hb dX3_strays_50 rfl (lv_at hl 2 rfl) ?_
          refine lv_iload_n hx hb dX3_strays_51 rfl (lv_at hl 3 rfl) ?_
          refine lv_iload hx hb dX3_strays_52 (lv_at hl 4 rfl) ?_
          obtain ⟨y8, e8, h⟩ := ob_s h
          refine MR.callV (q0 := 0) (M_X3_areInLineAt hG e8) S (cw_X3_areInLineAt hts q2026 ⟨Nat.le_of_ble_eq_true rfl, Nat.le_of_ble_eq_true rfl⟩) hW0 hK hP rfl rfl rfl hl.1 rfl (Nat.le_of_ble_eq_true rfl) dX3_strays_54 ⟨Nat.zero_le _, Nat.zero_le _⟩ ?_
          refine lv_if_eq (tgt := 64) hx hb dX3_strays_57 (by decide) (fun c9 => ?_) (fun c9 => ?_)
          · rw [if_pos c9] at h
            refine lv_iconst (v := 0) hx hb dX3_strays_64 (by decide) ?_
            refine lv_iadd hx hb dX3_strays_65 ?_
            refine lv_istore_n (lv' := [(1, .int (v1 + (0 : Int32))), (0, .ref h0), (2, .int v2), (3, .int v3), (4, .int v4)]) hx hb dX3_strays_66 rfl hl (by decide) rfl (fun ls hl => ?_)
            refine lv_iinc (v := (v4 + 1)) (lv' := [(4, .int (v4 + 1)), (1, .int (v1 + (0 : Int32))), (0, .ref h0), (2, .int v2), (3, .int v3)]) hx hb dX3_strays_67 hl (k := 4) rfl rfl (by decide) rfl (fun ls hl => ?_)
            refine lv_goto (tgt := 22) hx hb dX3_strays_70 (by decide) ?_
            exact ih (v1 + (0 : Int32)) v2 v3 (v4 + 1) _ h hk73 _ (lv_sub hl [2, 1, 3, 4, 0] rfl)
          · rw [if_neg c9] at h
            refine lv_iconst (v := 1) hx hb dX3_strays_60 (by decide) ?_
            refine lv_goto (tgt := 65) hx hb dX3_strays_61 (by decide) ?_
            refine lv_iadd hx hb dX3_strays_65 ?_
            refine lv_istore_n (lv' := [(1, .int (v1 + (1 : Int32))), (0, .ref h0), (2, .int v2), (3, .int v3), (4, .int v4)]) hx hb dX3_strays_66 rfl hl (by decide) rfl (fun ls hl => ?_)
            refine lv_iinc (v := (v4 + 1)) (lv' := [(4, .int (v4 + 1)), (1, .int (v1 + (1 : Int32))), (0, .ref h0), (2, .int v2), (3, .int v3)]) hx hb dX3_strays_67 hl (k := 4) rfl rfl (by decide) rfl (fun ls hl => ?_)
            refine lv_goto (tgt := 22) hx hb dX3_strays_70 (by decide) ?_
            exact ih (v1 + (1 : Int32)) v2 v3 (v4 + 1) _ h hk73 _ (lv_sub hl [2, 1, 3, 4, 0] rfl)
  have S_X3_strays_14 : ∀ (n : Nat) (v1 : Int32) (v2 : Int32) (v3 : Int32) (k79 : Int32 → Option (Int32)), F_X3_strays_14 N v2 c_now n v1 v3 k79 = some ρ → (∀ (u1 : Int32) (ls : Array Slot), k79 u1 = some ρ → lv_has ls 5 [(0, .ref h0), (1, .int u1), (2, .int v2)] → W p l e (rmL 3 0 0) s m args below meth c s.heap [] 0 0 Q (F0 m 79 ls [])) → ∀ (ls : Array Slot), lv_has ls 5 [(0, .ref h0), (1, .int v1), (2, .int v2), (3, .int v3)] → W p l e (rmL 3 0 0) s m args below meth c s.heap [] 0 0 Q (F0 m 14 ls []) := by
    intro n
    induction n with
    | zero =>
      intro v1 v2 v3 k79 h
      exact absurd h (by simp [F_X3_strays_14])
    | succ n ih =>
      intro v1 v2 v3 k79 h hk79 ls hl
      rw [F_X3_strays_14] at h
      refine lv_iload_n hx hb dX3_strays_14 rfl (lv_at hl 3 rfl) ?_
      refine lv_iload_n hx hb dX3_strays_15 rfl (lv_at hl 2 rfl) ?_
      refine lv_icmp_ge (tgt := 79) hx hb dX3_strays_16 (by decide) (fun c4 => ?_) (fun c4 => ?_)
      · rw [if_pos c4] at h
        exact hk79 v1 _ h (lv_sub hl [0, 1, 2] rfl)
      · rw [if_neg c4] at h
        refine lv_iconst (v := 0) hx hb dX3_strays_19 (by decide) ?_
        refine lv_istore (lv' := [(4, .int 0), (0, .ref h0), (1, .int v1), (2, .int v2), (3, .int v3)]) hx hb dX3_strays_20 hl (by decide) rfl (fun ls hl => ?_)
        refine S_X3_strays_22 N v1 v2 v3 0 _ h ?_ _ (lv_sub hl [1, 2, 3, 4, 0] rfl)
        · intro u1_10 ls h hl
          refine lv_iinc (v := (v3 + 1)) (lv' := [(3, .int (v3 + 1)), (0, .ref h0), (1, .int u1_10), (2, .int v2)]) hx hb dX3_strays_73 hl (k := 3) rfl rfl (by decide) rfl (fun ls hl => ?_)
          refine lv_goto (tgt := 14) hx hb dX3_strays_76 (by decide) ?_
          exact ih u1_10 v2 (v3 + 1) _ h hk79 _ (lv_sub hl [1, 2, 3, 0] rfl)
  have S_X3_strays_4 : ∀ (n : Nat) (v1 : Int32) (v2 : Int32), F_X3_strays_4 N c_now n v1 v2 = some ρ → ∀ (ls : Array Slot), lv_has ls 5 [(0, .ref h0), (1, .int v1), (2, .int v2)] → W p l e (rmL 3 0 0) s m args below meth c s.heap [] 0 0 Q (F0 m 4 ls []) := by
    intro n
    induction n with
    | zero =>
      intro v1 v2 h
      exact absurd h (by simp [F_X3_strays_4])
    | succ n ih =>
      intro v1 v2 h ls hl
      rw [F_X3_strays_4] at h
      refine lv_iload_n hx hb dX3_strays_4 rfl (lv_at hl 2 rfl) ?_
      refine lv_aload_n hx hb dX3_strays_5 rfl (lv_at hl 0 rfl) ?_
      obtain ⟨y1, e1, h⟩ := ob_s h
      refine MR.callV (q0 := 0) (M_X3_points hG e1) S (cw_X3_points hts q1913 ⟨Nat.le_of_ble_eq_true rfl, Nat.le_of_ble_eq_true rfl⟩) hW0 hK hP rfl rfl rfl hl.1 rfl (Nat.le_of_ble_eq_true rfl) dX3_strays_6 ⟨Nat.zero_le _, Nat.zero_le _⟩ ?_
      refine lv_icmp_ge (tgt := 85) hx hb dX3_strays_9 (by decide) (fun c2 => ?_) (fun c2 => ?_)
      · rw [if_pos c2] at h
        refine lv_iload_n hx hb dX3_strays_85 rfl (lv_at hl 1 rfl) ?_
        obtain rfl := Option.some.inj h
        exact hret dX3_strays_86 rfl
      · rw [if_neg c2] at h
        refine lv_iconst (v := 0) hx hb dX3_strays_12 (by decide) ?_
        refine lv_istore_n (lv' := [(3, .int 0), (0, .ref h0), (1, .int v1), (2, .int v2)]) hx hb dX3_strays_13 rfl hl (by decide) rfl (fun ls hl => ?_)
        refine S_X3_strays_14 N v1 v2 0 _ h ?_ _ (lv_sub hl [1, 2, 3, 0] rfl)
        · intro u1_11 ls h hl
          refine lv_iinc (v := (v2 + 1)) (lv' := [(2, .int (v2 + 1)), (0, .ref h0), (1, .int u1_11)]) hx hb dX3_strays_79 hl (k := 2) rfl rfl (by decide) rfl (fun ls hl => ?_)
          refine lv_goto (tgt := 4) hx hb dX3_strays_82 (by decide) ?_
          exact ih u1_11 (v2 + 1) h _ (lv_sub hl [1, 2, 0] rfl)
  refine lv_iconst (v := 0) hx hb dX3_strays_0 (by decide) ?_
  refine lv_istore_n (lv' := [(1, .int 0), (0, .ref h0)]) hx hb dX3_strays_1 rfl hl (by decide) rfl (fun ls hl => ?_)
  refine lv_iconst (v := 0) hx hb dX3_strays_2 (by decide) ?_
  refine lv_istore_n (lv' := [(2, .int 0), (1, .int 0), (0, .ref h0)]) hx hb dX3_strays_3 rfl hl (by decide) rfl (fun ls hl => ?_)
  refine S_X3_strays_4 N 0 0 h  _ (lv_sub hl [2, 1, 0] rfl)
def F_X3_goesRound_51 (N : Nat) (rc : Int32 → Int32 → Int32 → Int32 → Int32 → (Nat → Int32) → Option (Int32)) (c_now : (Nat → Int32)) (v1 : Int32) (v2 : Int32) (v3 : Int32) (v4 : Int32) (v5 : Int32) (v6 : Int32) (v7 : Int32) (k3 : Int32 → Option (Int32)) : Option (Int32) := ((F_X3_lineAt N v2 c_now).bind fun y7 => ((F_X3_lineAt N v6 c_now).bind fun y8 => (if (y7 &&& y8) = 0 then (k3 (v6 + 1)) else (if ((y7 &&& y8) &&& v5) = 0 then (if v7 = 0 then ((rc v1 v6 (v3 - (1 : Int32)) (v4 ||| ((1 : Int32) <<< (v6 &&& 31))) (v5 ||| (y7 &&& y8)) c_now).bind fun y13 => (if y13 = 0 then (k3 (v6 + 1)) else (some (1)))) else (some (1))) else (k3 (v6 + 1))))))
def F_X3_goesRound_21 (N : Nat) (rc : Int32 → Int32 → Int32 → Int32 → Int32 → (Nat → Int32) → Option (Int32)) (c_now : (Nat → Int32)) (s0 : Int32) (v1 : Int32) (v2 : Int32) (v3 : Int32) (v4 : Int32) (v5 : Int32) (v6 : Int32) (k3 : Int32 → Option (Int32)) : Option (Int32) := (if s0 = 0 then (if ((v4 >>> (v6 &&& 31)) &&& (1 : Int32)) = 1 then (k3 (v6 + 1)) else (F_X3_goesRound_51 N rc c_now v1 v2 v3 v4 v5 v6 s0 k3)) else (if v6 = v1 then (F_X3_goesRound_51 N rc c_now v1 v2 v3 v4 v5 v6 s0 k3) else (k3 (v6 + 1))))
def F_X3_goesRound_3 (N : Nat) (rc : Int32 → Int32 → Int32 → Int32 → Int32 → (Nat → Int32) → Option (Int32)) (v1 : Int32) (v2 : Int32) (v3 : Int32) (v4 : Int32) (v5 : Int32) (c_now : (Nat → Int32)) : Nat → Int32 → Option (Int32)
  | 0, _ => none
  | n + 1, v6 => ((F_X3_lines N c_now).bind fun y1 => (if y1 ≤ v6 then (some (0)) else (if v3 = 0 then (F_X3_goesRound_21 N rc c_now 1 v1 v2 v3 v4 v5 v6 (fun u6 => (F_X3_goesRound_3 N rc v1 v2 v3 v4 v5 c_now n u6))) else (F_X3_goesRound_21 N rc c_now 0 v1 v2 v3 v4 v5 v6 (fun u6 => (F_X3_goesRound_3 N rc v1 v2 v3 v4 v5 c_now n u6))))))
def F_X3_goesRound (N : Nat) : Nat → (v1 : Int32) → (v2 : Int32) → (v3 : Int32) → (v4 : Int32) → (v5 : Int32) → (c_now : (Nat → Int32)) → Option (Int32)
  | 0, _, _, _, _, _, _ => none
  | d + 1, v1, v2, v3, v4, v5, c_now => (F_X3_goesRound_3 N (F_X3_goesRound N d) v1 v2 v3 v4 v5 c_now N 0)
theorem cw_X3_goesRound {R : Room} {s : State} {args : Array Value} {own : String} {index lev mc ms : Nat} (hts : ∀ w ∈ lw_all, w.before args s = true) (hl : Cond.methodLink own index yX3_goesRound ∈ lw_all) (hR : (rmL lev mc ms).frames + 1 ≤ R.frames ∧ 8 + (9 + 11) + (rmL lev mc ms).locals ≤ R.locals) : CallW R s args own RX3 index yX3_goesRound cX3_goesRound 9 (some .boolean) (ws_ yX3_goesRound cX3_goesRound 9 (some .boolean)) (rmL lev mc ms) mc ms 5 := cwV 5 hts (lw_V hl q2043 qs114 q172 q2044) rfl rfl rfl (by decide +kernel) hR
set_option maxHeartbeats 4000000 in
theorem M_X3_goesRound {l : Launch} {G : GE} (hG : GC G) {N : Nat} {h0 : Nat} {ad : Nat → Nat} {c_code : Int32} {c_read : (Nat → Int32)} {c_status : (Nat → Int32)} {c_tape : (Nat → Int32)} {c_taped : Int32} {c_at : Int32} {c_textSize : Int32} {c_token : Int32} {c_number : Int32} {c_begins : Int32} {c_stops : Int32} {c_bad : Int32} {c_badPlace : Int32} {c_faultPlace : Int32} {c_clauses : Int32} {c_naming : (Nat → Int32)} {c_lineBy : (Nat → Int32)} {c_becomes : (Nat → Int32)} {c_dualLines : (Nat → Int32)} {c_on : (Nat → Int32)} {c_rowNow : (Nat → Int32)} {c_least : (Nat → Int32)} {c_wayFirst : (Nat → Int32)} {c_ways : Int32} {c_acts : Int32} {c_past : (Nat → Int32)} {c_listPoints : Int32} {c_listLines : Int32} {c_listed : Int32} {c_list : (Nat → Int32)} {c_path : (Nat → Int32)} {c_places : (Nat → Int32)} {c_firstPlaces : (Nat → Int32)} {c_px : (Nat → Int32)} {c_py : (Nat → Int32)} {c_pz : (Nat → Int32)} {c_placeMany : Int32} {c_modulus : Int32} {c_drawn : Int32} {c_halvesMany : Int32} {c_halvesFirst : Int32} {c_spreadsMany : Int32} {c_spreadsFirst : Int32} {c_comesTo : (Nat → Int32)} {c_seedNow : Int32} {c_rowThen : (Nat → Int32)} {c_hasImage : Int32} {c_actsThen : Int32} {c_imageRow : (Nat → Int32)} {c_pastThen : (Nat → Int32)} {c_statusThen : (Nat → Int32)} : ∀ (d : Nat) {v1 : Int32} {v2 : Int32} {v3 : Int32} {v4 : Int32} {v5 : Int32} {c_now : (Nat → Int32)} {ρ : (Int32)} (h : F_X3_goesRound N d v1 v2 v3 v4 v5 c_now = some ρ), MR l G yX3_goesRound cX3_goesRound 9 (some .boolean) (2 + d) (mW h0 ad G.2.2 c_code c_now c_read c_status c_tape c_taped c_at c_textSize c_token c_number c_begins c_stops c_bad c_badPlace c_faultPlace c_clauses c_naming c_lineBy c_becomes c_dualLines c_on c_rowNow c_least c_wayFirst c_ways c_acts c_past c_listPoints c_listLines c_listed c_list c_path c_places c_firstPlaces c_px c_py c_pz c_placeMany c_modulus c_drawn c_halvesMany c_halvesFirst c_spreadsMany c_spreadsFirst c_comesTo c_seedNow c_rowThen c_hasImage c_actsThen c_imageRow c_pastThen c_statusThen) [.ref h0, .int v1, .int v2, .int v3, .int v4, .int v5] ρ := by
  intro d
  induction d with
  | zero =>
    intro v1 v2 v3 v4 v5 c_now ρ h
    exact absurd h (by simp [F_X3_goesRound])
  | succ d ihd =>
    intro v1 v2 v3 v4 v5 c_now ρ h
    rw [F_X3_goesRound] at h
    refine MR.start (rt := .boolean) hG (by decide) (Nat.le_of_ble_eq_true rfl) ?_
    intro p e s m args below meth c Q S hW0 hK hP hret ls hl
    obtain ⟨hx, hb, hml, hown, hts⟩ := id S
    have hl : lv_has ls 9 [(0, .ref h0), (1, .int v1), (2, .int v2), (3, .int v3), (4, .int v4), (5, .int v5)] := hl
    have S_X3_goesRound_51 : ∀ (v1 : Int32) (v2 : Int32) (v3 : Int32) (v4 : Int32) (v5 : Int32) (v6 : Int32) (v7 : Int32) (k3 : Int32 → Option (Int32)), F_X3_goesRound_51 N (F_X3_goesRound N d) c_now v1 v2 v3 v4 v5 v6 v7 k3 = some ρ → (∀ (u6 : Int32) (ls : Array Slot), k3 u6 = some ρ → lv_has ls 9 [(0, .ref h0), (1, .int v1), (2, .int v2), (3, .int v3), (4, .int v4), (5, .int v5), (6, .int u6)] → W p l e (rmL (2 + (d + 1)) 0 0) s m args below meth c s.heap [] 0 0 Q (F0 m 3 ls [])) → ∀ (ls : Array Slot), lv_has ls 9 [(0, .ref h0), (1, .int v1), (2, .int v2), (3, .int v3), (4, .int v4), (5, .int v5), (6, .int v6), (7, .int v7)] → W p l e (rmL (2 + (d + 1)) 0 0) s m args below meth c s.heap [] 0 0 Q (F0 m 51 ls []) := by
      intro v1 v2 v3 v4 v5 v6 v7 k3 h hk3 ls hl
      rw [F_X3_goesRound_51] at h
      refine lv_aload_n hx hb dX3_goesRound_51 rfl (lv_at hl 0 rfl) ?_
      refine lv_iload_n hx hb dX3_goesRound_52 rfl (lv_at hl 2 rfl) ?_
      obtain ⟨y7, e7, h⟩ := ob_s h
      refine MR.callV (q0 := 0) (M_X3_lineAt hG e7) S (cw_X3_lineAt hts q1925 ⟨by dsimp only; omega, by dsimp only; omega⟩) hW0 hK hP rfl rfl rfl hl.1 rfl (Nat.le_of_ble_eq_true rfl) dX3_goesRound_53 ⟨Nat.zero_le _, Nat.zero_le _⟩ ?_
      refine lv_aload_n hx hb dX3_goesRound_56 rfl (lv_at hl 0 rfl) ?_
      refine lv_iload hx hb dX3_goesRound_57 (lv_at hl 6 rfl) ?_
      obtain ⟨y8, e8, h⟩ := ob_s h
      refine MR.callV (q0 := 0) (M_X3_lineAt hG e8) S (cw_X3_lineAt hts q1925 ⟨by dsimp only; omega, by dsimp only; omega⟩) hW0 hK hP rfl rfl rfl hl.1 rfl (Nat.le_of_ble_eq_true rfl) dX3_goesRound_59 ⟨Nat.zero_le _, Nat.zero_le _⟩ ?_
      refine lv_iand hx hb dX3_goesRound_62 ?_
      refine lv_istore (lv' := [(8, .int (y7 &&& y8)), (0, .ref h0), (1, .int v1), (2, .int v2), (3, .int v3), (4, .int v4), (5, .int v5), (6, .int v6), (7, .int v7)]) hx hb dX3_goesRound_63 hl (by decide) rfl (fun ls hl => ?_)
      refine lv_iload hx hb dX3_goesRound_65 (lv_at hl 0 rfl) ?_
      refine lv_if_eq (tgt := 113) hx hb dX3_goesRound_67 (by decide) (fun c9 => ?_) (fun c9 => ?_)
      · rw [if_pos c9] at h
        refine lv_iinc (v := (v6 + 1)) (lv' := [(6, .int (v6 + 1)), (8, .int (y7 &&& y8)), (0, .ref h0), (1, .int v1), (2, .int v2), (3, .int v3), (4, .int v4), (5, .int v5), (7, .int v7)]) hx hb dX3_goesRound_113 hl (k := 7) rfl rfl (by decide) rfl (fun ls hl => ?_)
        refine lv_goto (tgt := 3) hx hb dX3_goesRound_116 (by decide) ?_
        exact hk3 (v6 + 1) _ h (lv_sub hl [2, 3, 4, 5, 6, 7, 0] rfl)
      · rw [if_neg c9] at h
        refine lv_iload hx hb dX3_goesRound_70 (lv_at hl 0 rfl) ?_
        refine lv_iload hx hb dX3_goesRound_72 (lv_at hl 6 rfl) ?_
        refine lv_iand hx hb dX3_goesRound_74 ?_
        refine lv_if_eq (tgt := 81) hx hb dX3_goesRound_75 (by decide) (fun c10 => ?_) (fun c10 => ?_)
        · rw [if_pos c10] at h
          refine lv_iload hx hb dX3_goesRound_81 (lv_at hl 8 rfl) ?_
          refine lv_if_ne (tgt := 111) hx hb dX3_goesRound_83 (by decide) (fun c11 => ?_) (fun c11 => ?_)
          · rw [if_neg c11] at h
            refine lv_iconst (v := 1) hx hb dX3_goesRound_111 (by decide) ?_
            obtain rfl := Option.some.inj h
            exact hret dX3_goesRound_112 rfl
          · rw [if_pos c11] at h
            refine lv_aload_n hx hb dX3_goesRound_86 rfl (lv_at hl 1 rfl) ?_
            refine lv_iload_n hx hb dX3_goesRound_87 rfl (lv_at hl 2 rfl) ?_
            refine lv_iload hx hb dX3_goesRound_88 (lv_at hl 7 rfl) ?_
            refine lv_iload_n hx hb dX3_goesRound_90 rfl (lv_at hl 4 rfl) ?_
            refine lv_iconst (v := 1) hx hb dX3_goesRound_91 (by decide) ?_
            refine lv_isub hx hb dX3_goesRound_92 ?_
            refine lv_iload hx hb dX3_goesRound_93 (lv_at hl 5 rfl) ?_
            refine lv_iconst (v := 1) hx hb dX3_goesRound_95 (by decide) ?_
            refine lv_iload hx hb dX3_goesRound_96 (lv_at hl 7 rfl) ?_
            refine lv_ishl hx hb dX3_goesRound_98 ?_
            refine lv_ior hx hb dX3_goesRound_99 ?_
            refine lv_iload hx hb dX3_goesRound_100 (lv_at hl 6 rfl) ?_
            refine lv_iload hx hb dX3_goesRound_102 (lv_at hl 0 rfl) ?_
            refine lv_ior hx hb dX3_goesRound_104 ?_
            obtain ⟨y13, e13, h⟩ := ob_s h
            refine MR.callV (q0 := 0) (ihd e13) S (cw_X3_goesRound hts q2041 ⟨by dsimp only; omega, by dsimp only; omega⟩) hW0 hK hP rfl rfl rfl hl.1 rfl (Nat.le_of_ble_eq_true rfl) dX3_goesRound_105 ⟨Nat.zero_le _, Nat.zero_le _⟩ ?_
            refine lv_if_eq (tgt := 113) hx hb dX3_goesRound_108 (by decide) (fun c14 => ?_) (fun c14 => ?_)
            · rw [if_pos c14] at h
              refine lv_iinc (v := (v6 + 1)) (lv' := [(6, .int (v6 + 1)), (8, .int (y7 &&& y8)), (0, .ref h0), (1, .int v1), (2, .int v2), (3, .int v3), (4, .int v4), (5, .int v5), (7, .int v7)]) hx hb dX3_goesRound_113 hl (k := 7) rfl rfl (by decide) rfl (fun ls hl => ?_)
              refine lv_goto (tgt := 3) hx hb dX3_goesRound_116 (by decide) ?_
              exact hk3 (v6 + 1) _ h (lv_sub hl [2, 3, 4, 5, 6, 7, 0] rfl)
            · rw [if_neg c14] at h
              refine lv_iconst (v := 1) hx hb dX3_goesRound_111 (by decide) ?_
              obtain rfl := Option.some.inj h
              exact hret dX3_goesRound_112 rfl
        · rw [if_neg c10] at h
          refine lv_goto (tgt := 113) hx hb dX3_goesRound_78 (by decide) ?_
          refine lv_iinc (v := (v6 + 1)) (lv' := [(6, .int (v6 + 1)), (8, .int (y7 &&& y8)), (0, .ref h0), (1, .int v1), (2, .int v2), (3, .int v3), (4, .int v4), (5, .int v5), (7, .int v7)]) hx hb dX3_goesRound_113 hl (k := 7) rfl rfl (by decide) rfl (fun ls hl => ?_)
          refine lv_goto (tgt := 3) hx hb dX3_goesRound_116 (by decide) ?_
          exact hk3 (v6 + 1) _ h (lv_sub hl [2, 3, 4, 5, 6, 7, 0] rfl)
    have S_X3_goesRound_21 : ∀ (s0 : Int32) (v1 : Int32) (v2 : Int32) (v3 : Int32) (v4 : Int32) (v5 : Int32) (v6 : Int32) (k3 : Int32 → Option (Int32)), F_X3_goesRound_21 N (F_X3_goesRound N d) c_now s0 v1 v2 v3 v4 v5 v6 k3 = some ρ → (∀ (u6 : Int32) (ls : Array Slot), k3 u6 = some ρ → lv_has ls 9 [(0, .ref h0), (1, .int v1), (2, .int v2), (3, .int v3), (4, .int v4), (5, .int v5), (6, .int u6)] → W p l e (rmL (2 + (d + 1)) 0 0) s m args below meth c s.heap [] 0 0 Q (F0 m 3 ls [])) → ∀ (ls : Array Slot), lv_has ls 9 [(0, .ref h0), (1, .int v1), (2, .int v2), (3, .int v3), (4, .int v4), (5, .int v5), (6, .int v6)] → W p l e (rmL (2 + (d + 1)) 0 0) s m args below meth c s.heap [] 0 0 Q (F0 m 21 ls [.int s0]) := by
      intro s0 v1 v2 v3 v4 v5 v6 k3 h hk3 ls hl
      rw [F_X3_goesRound_21] at h
      refine lv_istore (lv' := [(7, .int s0), (0, .ref h0), (1, .int v1), (2, .int v2), (3, .int v3), (4, .int v4), (5, .int v5), (6, .int v6)]) hx hb dX3_goesRound_21 hl (by decide) rfl (fun ls hl => ?_)
      refine lv_iload hx hb dX3_goesRound_23 (lv_at hl 0 rfl) ?_
      refine lv_if_eq (tgt := 37) hx hb dX3_goesRound_25 (by decide) (fun c5 => ?_) (fun c5 => ?_)
      · rw [if_pos c5] at h
        refine lv_iload hx hb dX3_goesRound_37 (lv_at hl 5 rfl) ?_
        refine lv_iload hx hb dX3_goesRound_39 (lv_at hl 7 rfl) ?_
        refine lv_ishr hx hb dX3_goesRound_41 ?_
        refine lv_iconst (v := 1) hx hb dX3_goesRound_42 (by decide) ?_
        refine lv_iand hx hb dX3_goesRound_43 ?_
        refine lv_iconst (v := 1) hx hb dX3_goesRound_44 (by decide) ?_
        refine lv_icmp_ne (tgt := 51) hx hb dX3_goesRound_45 (by decide) (fun c6 => ?_) (fun c6 => ?_)
        · rw [if_neg c6] at h
          refine S_X3_goesRound_51 v1 v2 v3 v4 v5 v6 s0 _ h hk3 _ (lv_sub hl [1, 2, 3, 4, 5, 6, 7, 0] rfl)
        · rw [if_pos c6] at h
          refine lv_goto (tgt := 113) hx hb dX3_goesRound_48 (by decide) ?_
          refine lv_iinc (v := (v6 + 1)) (lv' := [(6, .int (v6 + 1)), (7, .int s0), (0, .ref h0), (1, .int v1), (2, .int v2), (3, .int v3), (4, .int v4), (5, .int v5)]) hx hb dX3_goesRound_113 hl (k := 7) rfl rfl (by decide) rfl (fun ls hl => ?_)
          refine lv_goto (tgt := 3) hx hb dX3_goesRound_116 (by decide) ?_
          exact hk3 (v6 + 1) _ h (lv_sub hl [2, 3, 4, 5, 6, 7, 0] rfl)
      · rw [if_neg c5] at h
        refine lv_iload hx hb dX3_goesRound_28 (lv_at hl 7 rfl) ?_
        refine lv_iload_n hx hb dX3_goesRound_30 rfl (lv_at hl 2 rfl) ?_
        refine lv_icmp_eq (tgt := 51) hx hb dX3_goesRound_31 (by decide) (fun c16 => ?_) (fun c16 => ?_)
        · rw [if_pos c16] at h
          refine S_X3_goesRound_51 v1 v2 v3 v4 v5 v6 s0 _ h hk3 _ (lv_sub hl [1, 2, 3, 4, 5, 6, 7, 0] rfl)
        · rw [if_neg c16] at h
          refine lv_goto (tgt := 113) hx hb dX3_goesRound_34 (by decide) ?_
          refine lv_iinc (v := (v6 + 1)) (lv' := [(6, .int (v6 + 1)), (7, .int s0), (0, .ref h0), (1, .int v1), (2, .int v2), (3, .int v3), (4, .int v4), (5, .int v5)]) hx hb dX3_goesRound_113 hl (k := 7) rfl rfl (by decide) rfl (fun ls hl => ?_)
          refine lv_goto (tgt := 3) hx hb dX3_goesRound_116 (by decide) ?_
          exact hk3 (v6 + 1) _ h (lv_sub hl [2, 3, 4, 5, 6, 7, 0] rfl)
    have S_X3_goesRound_3 : ∀ (n : Nat) (v1 : Int32) (v2 : Int32) (v3 : Int32) (v4 : Int32) (v5 : Int32) (v6 : Int32), F_X3_goesRound_3 N (F_X3_goesRound N d) v1 v2 v3 v4 v5 c_now n v6 = some ρ → ∀ (ls : Array Slot), lv_has ls 9 [(0, .ref h0), (1, .int v1), (2, .int v2), (3, .int v3), (4, .int v4), (5, .int v5), (6, .int v6)] → W p l e (rmL (2 + (d + 1)) 0 0) s m args below meth c s.heap [] 0 0 Q (F0 m 3 ls []) := by
      intro n
      induction n with
      | zero =>
        intro v1 v2 v3 v4 v5 v6 h
        exact absurd h (by simp [F_X3_goesRound_3])
      | succ n ih =>
        intro v1 v2 v3 v4 v5 v6 h ls hl
        rw [F_X3_goesRound_3] at h
        refine lv_iload hx hb dX3_goesRound_3 (lv_at hl 6 rfl) ?_
        refine lv_aload_n hx hb dX3_goesRound_5 rfl (lv_at hl 0 rfl) ?_
        obtain ⟨y1, e1, h⟩ := ob_s h
        refine MR.callV (q0 := 0) (M_X3_lines hG e1) S (cw_X3_lines hts q1917 ⟨by dsimp only; omega, by dsimp only; omega⟩) hW0 hK hP rfl rfl rfl hl.1 rfl (Nat.le_of_ble_eq_true rfl) dX3_goesRound_6 ⟨Nat.zero_le _, Nat.zero_le _⟩ ?_
        refine lv_icmp_ge (tgt := 119) hx hb dX3_goesRound_9 (by decide) (fun c2 => ?_) (fun c2 => ?_)
        · rw [if_pos c2] at h
          refine lv_iconst (v := 0) hx hb dX3_goesRound_119 (by decide) ?_
          obtain rfl := Option.some.inj h
          exact hret dX3_goesRound_120 rfl
        · rw [if_neg c2] at h
          refine lv_iload_n hx hb dX3_goesRound_12 rfl (lv_at hl 3 rfl) ?_
          refine lv_if_ne (tgt := 20) hx hb dX3_goesRound_13 (by decide) (fun c4 => ?_) (fun c4 => ?_)
          · rw [if_neg c4] at h
            refine lv_iconst (v := 0) hx hb dX3_goesRound_20 (by decide) ?_
            refine S_X3_goesRound_21 0 v1 v2 v3 v4 v5 v6 _ h (fun u6 ls h hl => ih v1 v2 v3 v4 v5 u6 h ls hl) _ (lv_sub hl [0, 1, 2, 3, 4, 5, 6] rfl)
          · rw [if_pos c4] at h
            refine lv_iconst (v := 1) hx hb dX3_goesRound_16 (by decide) ?_
            refine lv_goto (tgt := 21) hx hb dX3_goesRound_17 (by decide) ?_
            refine S_X3_goesRound_21 1 v1 v2 v3 v4 v5 v6 _ h (fun u6 ls h hl => ih v1 v2 v3 v4 v5 u6 h ls hl) _ (lv_sub hl [0, 1, 2, 3, 4, 5, 6] rfl)
    refine lv_iconst (v := 0) hx hb dX3_goesRound_0 (by decide) ?_
    refine lv_istore (lv' := [(6, .int 0), (0, .ref h0), (1, .int v1), (2, .int v2), (3, .int v3), (4, .int v4), (5, .int v5)]) hx hb dX3_goesRound_1 hl (by decide) rfl (fun ls hl => ?_)
    refine S_X3_goesRound_3 N v1 v2 v3 v4 v5 0 h  _ (lv_sub hl [1, 2, 3, 4, 5, 6, 0] rfl)
def F_X3_girth_12 (N : Nat) (v1 : Int32) (c_now : (Nat → Int32)) : Nat → Int32 → (Unit → Option (Int32)) → Option (Int32)
  | 0, _, _ => none
  | n + 1, v2, k44 => ((F_X3_lines N c_now).bind fun y4 => (if y4 ≤ v2 then (k44 ()) else ((F_X3_goesRound N 16 v2 v2 (v1 - (1 : Int32)) ((1 : Int32) <<< (v2 &&& 31)) 0 c_now).bind fun y6 => (if y6 = 0 then (F_X3_girth_12 N v1 c_now n (v2 + 1) k44) else (some (v1))))))
def F_X3_girth_2 (N : Nat) (c_now : (Nat → Int32)) : Nat → Int32 → Option (Int32)
  | 0, _ => none
  | n + 1, v1 => ((F_X3_lines N c_now).bind fun y1 => (if y1 < v1 then (some ((-1))) else (F_X3_girth_12 N v1 c_now N 0 (fun _u => (F_X3_girth_2 N c_now n (v1 + 1))))))
def F_X3_girth (N : Nat) (c_now : (Nat → Int32)) : Option (Int32) := (F_X3_girth_2 N c_now N 3)
theorem cw_X3_girth {R : Room} {s : State} {args : Array Value} {own : String} {index lev mc ms : Nat} (hts : ∀ w ∈ lw_all, w.before args s = true) (hl : Cond.methodLink own index yX3_girth ∈ lw_all) (hR : (rmL lev mc ms).frames + 1 ≤ R.frames ∧ 8 + (3 + 11) + (rmL lev mc ms).locals ≤ R.locals) : CallW R s args own RX3 index yX3_girth cX3_girth 3 (some .int) (ws_ yX3_girth cX3_girth 3 (some .int)) (rmL lev mc ms) mc ms 0 := cwV 0 hts (lw_V hl q2039 qs113 q172 q2040) rfl rfl rfl (by decide +kernel) hR
set_option maxHeartbeats 4000000 in
theorem M_X3_girth {l : Launch} {G : GE} (hG : GC G) {N : Nat} {h0 : Nat} {ad : Nat → Nat} {c_code : Int32} {c_read : (Nat → Int32)} {c_status : (Nat → Int32)} {c_tape : (Nat → Int32)} {c_taped : Int32} {c_at : Int32} {c_textSize : Int32} {c_token : Int32} {c_number : Int32} {c_begins : Int32} {c_stops : Int32} {c_bad : Int32} {c_badPlace : Int32} {c_faultPlace : Int32} {c_clauses : Int32} {c_naming : (Nat → Int32)} {c_lineBy : (Nat → Int32)} {c_becomes : (Nat → Int32)} {c_dualLines : (Nat → Int32)} {c_on : (Nat → Int32)} {c_rowNow : (Nat → Int32)} {c_least : (Nat → Int32)} {c_wayFirst : (Nat → Int32)} {c_ways : Int32} {c_acts : Int32} {c_past : (Nat → Int32)} {c_listPoints : Int32} {c_listLines : Int32} {c_listed : Int32} {c_list : (Nat → Int32)} {c_path : (Nat → Int32)} {c_places : (Nat → Int32)} {c_firstPlaces : (Nat → Int32)} {c_px : (Nat → Int32)} {c_py : (Nat → Int32)} {c_pz : (Nat → Int32)} {c_placeMany : Int32} {c_modulus : Int32} {c_drawn : Int32} {c_halvesMany : Int32} {c_halvesFirst : Int32} {c_spreadsMany : Int32} {c_spreadsFirst : Int32} {c_comesTo : (Nat → Int32)} {c_seedNow : Int32} {c_rowThen : (Nat → Int32)} {c_hasImage : Int32} {c_actsThen : Int32} {c_imageRow : (Nat → Int32)} {c_pastThen : (Nat → Int32)} {c_statusThen : (Nat → Int32)} {c_now : (Nat → Int32)} {ρ : (Int32)} (h : F_X3_girth N c_now = some ρ) : MR l G yX3_girth cX3_girth 3 (some .int) 19 (mW h0 ad G.2.2 c_code c_now c_read c_status c_tape c_taped c_at c_textSize c_token c_number c_begins c_stops c_bad c_badPlace c_faultPlace c_clauses c_naming c_lineBy c_becomes c_dualLines c_on c_rowNow c_least c_wayFirst c_ways c_acts c_past c_listPoints c_listLines c_listed c_list c_path c_places c_firstPlaces c_px c_py c_pz c_placeMany c_modulus c_drawn c_halvesMany c_halvesFirst c_spreadsMany c_spreadsFirst c_comesTo c_seedNow c_rowThen c_hasImage c_actsThen c_imageRow c_pastThen c_statusThen) [.ref h0] ρ := by
  rw [F_X3_girth] at h
  refine MR.start (rt := .int) hG (by decide) (Nat.le_of_ble_eq_true rfl) ?_
  intro p e s m args below meth c Q S hW0 hK hP hret ls hl
  obtain ⟨hx, hb, hml, hown, hts⟩ := id S
  have hl : lv_has ls 3 [(0, .ref h0)] := hl
  have S_X3_girth_12 : ∀ (n : Nat) (v1 : Int32) (v2 : Int32) (k44 : Unit → Option (Int32)), F_X3_girth_12 N v1 c_now n v2 k44 = some ρ → (∀ (ls : Array Slot), k44 () = some ρ → lv_has ls 3 [(0, .ref h0), (1, .int v1)] → W p l e (rmL 19 0 0) s m args below meth c s.heap [] 0 0 Q (F0 m 44 ls [])) → ∀ (ls : Array Slot), lv_has ls 3 [(0, .ref h0), (1, .int v1), (2, .int v2)] → W p l e (rmL 19 0 0) s m args below meth c s.heap [] 0 0 Q (F0 m 12 ls []) := by
    intro n
    induction n with
    | zero =>
      intro v1 v2 k44 h
      exact absurd h (by simp [F_X3_girth_12])
    | succ n ih =>
      intro v1 v2 k44 h hk44 ls hl
      rw [F_X3_girth_12] at h
      refine lv_iload_n hx hb dX3_girth_12 rfl (lv_at hl 2 rfl) ?_
      refine lv_aload_n hx hb dX3_girth_13 rfl (lv_at hl 0 rfl) ?_
      obtain ⟨y4, e4, h⟩ := ob_s h
      refine MR.callV (q0 := 0) (M_X3_lines hG e4) S (cw_X3_lines hts q1917 ⟨Nat.le_of_ble_eq_true rfl, Nat.le_of_ble_eq_true rfl⟩) hW0 hK hP rfl rfl rfl hl.1 rfl (Nat.le_of_ble_eq_true rfl) dX3_girth_14 ⟨Nat.zero_le _, Nat.zero_le _⟩ ?_
      refine lv_icmp_ge (tgt := 44) hx hb dX3_girth_17 (by decide) (fun c5 => ?_) (fun c5 => ?_)
      · rw [if_pos c5] at h
        exact hk44 _ h (lv_sub hl [0, 1] rfl)
      · rw [if_neg c5] at h
        refine lv_aload_n hx hb dX3_girth_20 rfl (lv_at hl 0 rfl) ?_
        refine lv_iload_n hx hb dX3_girth_21 rfl (lv_at hl 2 rfl) ?_
        refine lv_iload_n hx hb dX3_girth_22 rfl (lv_at hl 2 rfl) ?_
        refine lv_iload_n hx hb dX3_girth_23 rfl (lv_at hl 1 rfl) ?_
        refine lv_iconst (v := 1) hx hb dX3_girth_24 (by decide) ?_
        refine lv_isub hx hb dX3_girth_25 ?_
        refine lv_iconst (v := 1) hx hb dX3_girth_26 (by decide) ?_
        refine lv_iload_n hx hb dX3_girth_27 rfl (lv_at hl 2 rfl) ?_
        refine lv_ishl hx hb dX3_girth_28 ?_
        refine lv_iconst (v := 0) hx hb dX3_girth_29 (by decide) ?_
        obtain ⟨y6, e6, h⟩ := ob_s h
        refine MR.callV (q0 := 0) (M_X3_goesRound hG 16 e6) S (cw_X3_goesRound hts q2041 ⟨Nat.le_of_ble_eq_true rfl, Nat.le_of_ble_eq_true rfl⟩) hW0 hK hP rfl rfl rfl hl.1 rfl (Nat.le_of_ble_eq_true rfl) dX3_girth_30 ⟨Nat.zero_le _, Nat.zero_le _⟩ ?_
        refine lv_if_eq (tgt := 38) hx hb dX3_girth_33 (by decide) (fun c7 => ?_) (fun c7 => ?_)
        · rw [if_pos c7] at h
          refine lv_iinc (v := (v2 + 1)) (lv' := [(2, .int (v2 + 1)), (0, .ref h0), (1, .int v1)]) hx hb dX3_girth_38 hl (k := 2) rfl rfl (by decide) rfl (fun ls hl => ?_)
          refine lv_goto (tgt := 12) hx hb dX3_girth_41 (by decide) ?_
          exact ih v1 (v2 + 1) _ h hk44 _ (lv_sub hl [1, 2, 0] rfl)
        · rw [if_neg c7] at h
          refine lv_iload_n hx hb dX3_girth_36 rfl (lv_at hl 1 rfl) ?_
          obtain rfl := Option.some.inj h
          exact hret dX3_girth_37 rfl
  have S_X3_girth_2 : ∀ (n : Nat) (v1 : Int32), F_X3_girth_2 N c_now n v1 = some ρ → ∀ (ls : Array Slot), lv_has ls 3 [(0, .ref h0), (1, .int v1)] → W p l e (rmL 19 0 0) s m args below meth c s.heap [] 0 0 Q (F0 m 2 ls []) := by
    intro n
    induction n with
    | zero =>
      intro v1 h
      exact absurd h (by simp [F_X3_girth_2])
    | succ n ih =>
      intro v1 h ls hl
      rw [F_X3_girth_2] at h
      refine lv_iload_n hx hb dX3_girth_2 rfl (lv_at hl 1 rfl) ?_
      refine lv_aload_n hx hb dX3_girth_3 rfl (lv_at hl 0 rfl) ?_
      obtain ⟨y1, e1, h⟩ := ob_s h
      refine MR.callV (q0 := 0) (M_X3_lines hG e1) S (cw_X3_lines hts q1917 ⟨Nat.le_of_ble_eq_true rfl, Nat.le_of_ble_eq_true rfl⟩) hW0 hK hP rfl rfl rfl hl.1 rfl (Nat.le_of_ble_eq_true rfl) dX3_girth_4 ⟨Nat.zero_le _, Nat.zero_le _⟩ ?_
      refine lv_icmp_gt (tgt := 50) hx hb dX3_girth_7 (by decide) (fun c2 => ?_) (fun c2 => ?_)
      · rw [if_pos c2] at h
        refine lv_iconst (v := (-1)) hx hb dX3_girth_50 (by decide) ?_
        obtain rfl := Option.some.inj h
        exact hret dX3_girth_51 rfl
      · rw [if_neg c2] at h
        refine lv_iconst (v := 0) hx hb dX3_girth_10 (by decide) ?_
        refine lv_istore_n (lv' := [(2, .int 0), (0, .ref h0), (1, .int v1)]) hx hb dX3_girth_11 rfl hl (by decide) rfl (fun ls hl => ?_)
        refine S_X3_girth_12 N v1 0 _ h ?_ _ (lv_sub hl [1, 2, 0] rfl)
        · intro  ls h hl
          refine lv_iinc (v := (v1 + 1)) (lv' := [(1, .int (v1 + 1)), (0, .ref h0)]) hx hb dX3_girth_44 hl (k := 1) rfl rfl (by decide) rfl (fun ls hl => ?_)
          refine lv_goto (tgt := 2) hx hb dX3_girth_47 (by decide) ?_
          exact ih (v1 + 1) h _ (lv_sub hl [1, 0] rfl)
  refine lv_iconst (v := 3) hx hb dX3_girth_0 (by decide) ?_
  refine lv_istore_n (lv' := [(1, .int 3), (0, .ref h0)]) hx hb dX3_girth_1 rfl hl (by decide) rfl (fun ls hl => ?_)
  refine S_X3_girth_2 N 3 h  _ (lv_sub hl [1, 0] rfl)
def F_X3_fours_42 (N : Nat) (v2 : Int32) (v4 : Int32) (c_now : (Nat → Int32)) : Nat → Int32 → Int32 → (Int32 → Option (Int32)) → Option (Int32)
  | 0, _, _, _ => none
  | n + 1, v3, v5, k86 => (if v4 ≤ v5 then (k86 v3) else (if (((v2 >>> (v4 &&& 31)) &&& (v2 >>> (v5 &&& 31))) &&& (1 : Int32)) = 1 then ((F_X3_lineAt N v4 c_now).bind fun y10 => ((F_X3_lineAt N v5 c_now).bind fun y11 => (F_X3_fours_42 N v2 v4 c_now n (v3 ||| (y10 &&& y11)) (v5 + 1) k86))) else (F_X3_fours_42 N v2 v4 c_now n v3 (v5 + 1) k86)))
def F_X3_fours_30 (N : Nat) (v2 : Int32) (c_now : (Nat → Int32)) : Nat → Int32 → Int32 → (Int32 → Option (Int32)) → Option (Int32)
  | 0, _, _, _ => none
  | n + 1, v3, v4, k92 => ((F_X3_lines N c_now).bind fun y6 => (if y6 ≤ v4 then (k92 v3) else (F_X3_fours_42 N v2 v4 c_now N v3 0 (fun u3_12 => (F_X3_fours_30 N v2 c_now n u3_12 (v4 + 1) k92)))))
def F_X3_fours_4 (N : Nat) (c_now : (Nat → Int32)) : Nat → Int32 → Int32 → Option (Int32)
  | 0, _, _ => none
  | n + 1, v1, v2 => ((F_X3_lines N c_now).bind fun y1 => (if ((1 : Int32) <<< (y1 &&& 31)) ≤ v2 then (some (v1)) else ((F_X3_bits N v2).bind fun y4 => (if y4 = 4 then (F_X3_fours_30 N v2 c_now N 0 0 (fun u3_13 => ((F_X3_bits N u3_13).bind fun y14 => (if y14 = 6 then (F_X3_fours_4 N c_now n (v1 + (1 : Int32)) (v2 + 1)) else (F_X3_fours_4 N c_now n (v1 + (0 : Int32)) (v2 + 1)))))) else (F_X3_fours_4 N c_now n v1 (v2 + 1))))))
def F_X3_fours (N : Nat) (c_now : (Nat → Int32)) : Option (Int32) := (F_X3_fours_4 N c_now N 0 0)
theorem cw_X3_fours {R : Room} {s : State} {args : Array Value} {own : String} {index lev mc ms : Nat} (hts : ∀ w ∈ lw_all, w.before args s = true) (hl : Cond.methodLink own index yX3_fours ∈ lw_all) (hR : (rmL lev mc ms).frames + 1 ≤ R.frames ∧ 8 + (6 + 11) + (rmL lev mc ms).locals ≤ R.locals) : CallW R s args own RX3 index yX3_fours cX3_fours 6 (some .int) (ws_ yX3_fours cX3_fours 6 (some .int)) (rmL lev mc ms) mc ms 0 := cwV 0 hts (lw_V hl q2047 qs115 q172 q2048) rfl rfl rfl (by decide +kernel) hR
set_option maxHeartbeats 4000000 in
theorem M_X3_fours {l : Launch} {G : GE} (hG : GC G) {N : Nat} {h0 : Nat} {ad : Nat → Nat} {c_code : Int32} {c_read : (Nat → Int32)} {c_status : (Nat → Int32)} {c_tape : (Nat → Int32)} {c_taped : Int32} {c_at : Int32} {c_textSize : Int32} {c_token : Int32} {c_number : Int32} {c_begins : Int32} {c_stops : Int32} {c_bad : Int32} {c_badPlace : Int32} {c_faultPlace : Int32} {c_clauses : Int32} {c_naming : (Nat → Int32)} {c_lineBy : (Nat → Int32)} {c_becomes : (Nat → Int32)} {c_dualLines : (Nat → Int32)} {c_on : (Nat → Int32)} {c_rowNow : (Nat → Int32)} {c_least : (Nat → Int32)} {c_wayFirst : (Nat → Int32)} {c_ways : Int32} {c_acts : Int32} {c_past : (Nat → Int32)} {c_listPoints : Int32} {c_listLines : Int32} {c_listed : Int32} {c_list : (Nat → Int32)} {c_path : (Nat → Int32)} {c_places : (Nat → Int32)} {c_firstPlaces : (Nat → Int32)} {c_px : (Nat → Int32)} {c_py : (Nat → Int32)} {c_pz : (Nat → Int32)} {c_placeMany : Int32} {c_modulus : Int32} {c_drawn : Int32} {c_halvesMany : Int32} {c_halvesFirst : Int32} {c_spreadsMany : Int32} {c_spreadsFirst : Int32} {c_comesTo : (Nat → Int32)} {c_seedNow : Int32} {c_rowThen : (Nat → Int32)} {c_hasImage : Int32} {c_actsThen : Int32} {c_imageRow : (Nat → Int32)} {c_pastThen : (Nat → Int32)} {c_statusThen : (Nat → Int32)} {c_now : (Nat → Int32)} {ρ : (Int32)} (h : F_X3_fours N c_now = some ρ) : MR l G yX3_fours cX3_fours 6 (some .int) 3 (mW h0 ad G.2.2 c_code c_now c_read c_status c_tape c_taped c_at c_textSize c_token c_number c_begins c_stops c_bad c_badPlace c_faultPlace c_clauses c_naming c_lineBy c_becomes c_dualLines c_on c_rowNow c_least c_wayFirst c_ways c_acts c_past c_listPoints c_listLines c_listed c_list c_path c_places c_firstPlaces c_px c_py c_pz c_placeMany c_modulus c_drawn c_halvesMany c_halvesFirst c_spreadsMany c_spreadsFirst c_comesTo c_seedNow c_rowThen c_hasImage c_actsThen c_imageRow c_pastThen c_statusThen) [.ref h0] ρ := by
  rw [F_X3_fours] at h
  refine MR.start (rt := .int) hG (by decide) (Nat.le_of_ble_eq_true rfl) ?_
  intro p e s m args below meth c Q S hW0 hK hP hret ls hl
  obtain ⟨hx, hb, hml, hown, hts⟩ := id S
  have hl : lv_has ls 6 [(0, .ref h0)] := hl
  have S_X3_fours_42 : ∀ (n : Nat) (v1 : Int32) (v2 : Int32) (v3 : Int32) (v4 : Int32) (v5 : Int32) (k86 : Int32 → Option (Int32)), F_X3_fours_42 N v2 v4 c_now n v3 v5 k86 = some ρ → (∀ (u3 : Int32) (ls : Array Slot), k86 u3 = some ρ → lv_has ls 6 [(0, .ref h0), (1, .int v1), (2, .int v2), (3, .int u3), (4, .int v4)] → W p l e (rmL 3 0 0) s m args below meth c s.heap [] 0 0 Q (F0 m 86 ls [])) → ∀ (ls : Array Slot), lv_has ls 6 [(0, .ref h0), (1, .int v1), (2, .int v2), (3, .int v3), (4, .int v4), (5, .int v5)] → W p l e (rmL 3 0 0) s m args below meth c s.heap [] 0 0 Q (F0 m 42 ls []) := by
    intro n
    induction n with
    | zero =>
      intro v1 v2 v3 v4 v5 k86 h
      exact absurd h (by simp [F_X3_fours_42])
    | succ n ih =>
      intro v1 v2 v3 v4 v5 k86 h hk86 ls hl
      rw [F_X3_fours_42] at h
      refine lv_iload hx hb dX3_fours_42 (lv_at hl 5 rfl) ?_
      refine lv_iload hx hb dX3_fours_44 (lv_at hl 4 rfl) ?_
      refine lv_icmp_ge (tgt := 86) hx hb dX3_fours_46 (by decide) (fun c8 => ?_) (fun c8 => ?_)
      · rw [if_pos c8] at h
        exact hk86 v3 _ h (lv_sub hl [0, 1, 2, 3, 4] rfl)
      · rw [if_neg c8] at h
        refine lv_iload_n hx hb dX3_fours_49 rfl (lv_at hl 2 rfl) ?_
        refine lv_iload hx hb dX3_fours_50 (lv_at hl 4 rfl) ?_
        refine lv_ishr hx hb dX3_fours_52 ?_
        refine lv_iload_n hx hb dX3_fours_53 rfl (lv_at hl 2 rfl) ?_
        refine lv_iload hx hb dX3_fours_54 (lv_at hl 5 rfl) ?_
        refine lv_ishr hx hb dX3_fours_56 ?_
        refine lv_iand hx hb dX3_fours_57 ?_
        refine lv_iconst (v := 1) hx hb dX3_fours_58 (by decide) ?_
        refine lv_iand hx hb dX3_fours_59 ?_
        refine lv_iconst (v := 1) hx hb dX3_fours_60 (by decide) ?_
        refine lv_icmp_ne (tgt := 80) hx hb dX3_fours_61 (by decide) (fun c9 => ?_) (fun c9 => ?_)
        · rw [if_neg c9] at h
          refine lv_iinc (v := (v5 + 1)) (lv' := [(5, .int (v5 + 1)), (0, .ref h0), (1, .int v1), (2, .int v2), (3, .int v3), (4, .int v4)]) hx hb dX3_fours_80 hl (k := 5) rfl rfl (by decide) rfl (fun ls hl => ?_)
          refine lv_goto (tgt := 42) hx hb dX3_fours_83 (by decide) ?_
          exact ih v1 v2 v3 v4 (v5 + 1) _ h hk86 _ (lv_sub hl [1, 2, 3, 4, 5, 0] rfl)
        · rw [if_pos c9] at h
          refine lv_iload_n hx hb dX3_fours_64 rfl (lv_at hl 3 rfl) ?_
          refine lv_aload_n hx hb dX3_fours_65 rfl (lv_at hl 0 rfl) ?_
          refine lv_iload hx hb dX3_fours_66 (lv_at hl 4 rfl) ?_
          obtain ⟨y10, e10, h⟩ := ob_s h
          refine MR.callV (q0 := 0) (M_X3_lineAt hG e10) S (cw_X3_lineAt hts q1925 ⟨Nat.le_of_ble_eq_true rfl, Nat.le_of_ble_eq_true rfl⟩) hW0 hK hP rfl rfl rfl hl.1 rfl (Nat.le_of_ble_eq_true rfl) dX3_fours_68 ⟨Nat.zero_le _, Nat.zero_le _⟩ ?_
          refine lv_aload_n hx hb dX3_fours_71 rfl (lv_at hl 0 rfl) ?_
          refine lv_iload hx hb dX3_fours_72 (lv_at hl 5 rfl) ?_
          obtain ⟨y11, e11, h⟩ := ob_s h
          refine MR.callV (q0 := 0) (M_X3_lineAt hG e11) S (cw_X3_lineAt hts q1925 ⟨Nat.le_of_ble_eq_true rfl, Nat.le_of_ble_eq_true rfl⟩) hW0 hK hP rfl rfl rfl hl.1 rfl (Nat.le_of_ble_eq_true rfl) dX3_fours_74 ⟨Nat.zero_le _, Nat.zero_le _⟩ ?_
          refine lv_iand hx hb dX3_fours_77 ?_
          refine lv_ior hx hb dX3_fours_78 ?_
          refine lv_istore_n (lv' := [(3, .int (v3 ||| (y10 &&& y11))), (0, .ref h0), (1, .int v1), (2, .int v2), (4, .int v4), (5, .int v5)]) hx hb dX3_fours_79 rfl hl (by decide) rfl (fun ls hl => ?_)
          refine lv_iinc (v := (v5 + 1)) (lv' := [(5, .int (v5 + 1)), (3, .int (v3 ||| (y10 &&& y11))), (0, .ref h0), (1, .int v1), (2, .int v2), (4, .int v4)]) hx hb dX3_fours_80 hl (k := 5) rfl rfl (by decide) rfl (fun ls hl => ?_)
          refine lv_goto (tgt := 42) hx hb dX3_fours_83 (by decide) ?_
          exact ih v1 v2 (v3 ||| (y10 &&& y11)) v4 (v5 + 1) _ h hk86 _ (lv_sub hl [2, 3, 4, 1, 5, 0] rfl)
  have S_X3_fours_30 : ∀ (n : Nat) (v1 : Int32) (v2 : Int32) (v3 : Int32) (v4 : Int32) (k92 : Int32 → Option (Int32)), F_X3_fours_30 N v2 c_now n v3 v4 k92 = some ρ → (∀ (u3 : Int32) (ls : Array Slot), k92 u3 = some ρ → lv_has ls 6 [(0, .ref h0), (1, .int v1), (2, .int v2), (3, .int u3)] → W p l e (rmL 3 0 0) s m args below meth c s.heap [] 0 0 Q (F0 m 92 ls [])) → ∀ (ls : Array Slot), lv_has ls 6 [(0, .ref h0), (1, .int v1), (2, .int v2), (3, .int v3), (4, .int v4)] → W p l e (rmL 3 0 0) s m args below meth c s.heap [] 0 0 Q (F0 m 30 ls []) := by
    intro n
    induction n with
    | zero =>
      intro v1 v2 v3 v4 k92 h
      exact absurd h (by simp [F_X3_fours_30])
    | succ n ih =>
      intro v1 v2 v3 v4 k92 h hk92 ls hl
      rw [F_X3_fours_30] at h
      refine lv_iload hx hb dX3_fours_30 (lv_at hl 4 rfl) ?_
      refine lv_aload_n hx hb dX3_fours_32 rfl (lv_at hl 0 rfl) ?_
      obtain ⟨y6, e6, h⟩ := ob_s h
      refine MR.callV (q0 := 0) (M_X3_lines hG e6) S (cw_X3_lines hts q1917 ⟨Nat.le_of_ble_eq_true rfl, Nat.le_of_ble_eq_true rfl⟩) hW0 hK hP rfl rfl rfl hl.1 rfl (Nat.le_of_ble_eq_true rfl) dX3_fours_33 ⟨Nat.zero_le _, Nat.zero_le _⟩ ?_
      refine lv_icmp_ge (tgt := 92) hx hb dX3_fours_36 (by decide) (fun c7 => ?_) (fun c7 => ?_)
      · rw [if_pos c7] at h
        exact hk92 v3 _ h (lv_sub hl [0, 1, 2, 3] rfl)
      · rw [if_neg c7] at h
        refine lv_iconst (v := 0) hx hb dX3_fours_39 (by decide) ?_
        refine lv_istore (lv' := [(5, .int 0), (0, .ref h0), (1, .int v1), (2, .int v2), (3, .int v3), (4, .int v4)]) hx hb dX3_fours_40 hl (by decide) rfl (fun ls hl => ?_)
        refine S_X3_fours_42 N v1 v2 v3 v4 0 _ h ?_ _ (lv_sub hl [1, 2, 3, 4, 5, 0] rfl)
        · intro u3_12 ls h hl
          refine lv_iinc (v := (v4 + 1)) (lv' := [(4, .int (v4 + 1)), (0, .ref h0), (1, .int v1), (2, .int v2), (3, .int u3_12)]) hx hb dX3_fours_86 hl (k := 4) rfl rfl (by decide) rfl (fun ls hl => ?_)
          refine lv_goto (tgt := 30) hx hb dX3_fours_89 (by decide) ?_
          exact ih v1 v2 u3_12 (v4 + 1) _ h hk92 _ (lv_sub hl [1, 2, 3, 4, 0] rfl)
  have S_X3_fours_4 : ∀ (n : Nat) (v1 : Int32) (v2 : Int32), F_X3_fours_4 N c_now n v1 v2 = some ρ → ∀ (ls : Array Slot), lv_has ls 6 [(0, .ref h0), (1, .int v1), (2, .int v2)] → W p l e (rmL 3 0 0) s m args below meth c s.heap [] 0 0 Q (F0 m 4 ls []) := by
    intro n
    induction n with
    | zero =>
      intro v1 v2 h
      exact absurd h (by simp [F_X3_fours_4])
    | succ n ih =>
      intro v1 v2 h ls hl
      rw [F_X3_fours_4] at h
      refine lv_iload_n hx hb dX3_fours_4 rfl (lv_at hl 2 rfl) ?_
      refine lv_iconst (v := 1) hx hb dX3_fours_5 (by decide) ?_
      refine lv_aload_n hx hb dX3_fours_6 rfl (lv_at hl 0 rfl) ?_
      obtain ⟨y1, e1, h⟩ := ob_s h
      refine MR.callV (q0 := 0) (M_X3_lines hG e1) S (cw_X3_lines hts q1917 ⟨Nat.le_of_ble_eq_true rfl, Nat.le_of_ble_eq_true rfl⟩) hW0 hK hP rfl rfl rfl hl.1 rfl (Nat.le_of_ble_eq_true rfl) dX3_fours_7 ⟨Nat.zero_le _, Nat.zero_le _⟩ ?_
      refine lv_ishl hx hb dX3_fours_10 ?_
      refine lv_icmp_ge (tgt := 115) hx hb dX3_fours_11 (by decide) (fun c2 => ?_) (fun c2 => ?_)
      · rw [if_pos c2] at h
        refine lv_iload_n hx hb dX3_fours_115 rfl (lv_at hl 1 rfl) ?_
        obtain rfl := Option.some.inj h
        exact hret dX3_fours_116 rfl
      · rw [if_neg c2] at h
        refine lv_iload_n hx hb dX3_fours_14 rfl (lv_at hl 2 rfl) ?_
        obtain ⟨y4, e4, h⟩ := ob_s h
        refine MR.callS (M_X3_bits hG e4) S (cw_X3_bits hts q1896 ⟨Nat.le_of_ble_eq_true rfl, Nat.le_of_ble_eq_true rfl⟩) hW0 vaP0 rfl hl.1 rfl (Nat.le_of_ble_eq_true rfl) dX3_fours_15 ⟨Nat.zero_le _, Nat.zero_le _⟩ ?_
        refine lv_iconst (v := 4) hx hb dX3_fours_18 (by decide) ?_
        refine lv_icmp_eq (tgt := 25) hx hb dX3_fours_19 (by decide) (fun c5 => ?_) (fun c5 => ?_)
        · rw [if_pos c5] at h
          refine lv_iconst (v := 0) hx hb dX3_fours_25 (by decide) ?_
          refine lv_istore_n (lv' := [(3, .int 0), (0, .ref h0), (1, .int v1), (2, .int v2)]) hx hb dX3_fours_26 rfl hl (by decide) rfl (fun ls hl => ?_)
          refine lv_iconst (v := 0) hx hb dX3_fours_27 (by decide) ?_
          refine lv_istore (lv' := [(4, .int 0), (3, .int 0), (0, .ref h0), (1, .int v1), (2, .int v2)]) hx hb dX3_fours_28 hl (by decide) rfl (fun ls hl => ?_)
          refine S_X3_fours_30 N v1 v2 0 0 _ h ?_ _ (lv_sub hl [2, 3, 4, 1, 0] rfl)
          · intro u3_13 ls h hl
            refine lv_iload_n hx hb dX3_fours_92 rfl (lv_at hl 1 rfl) ?_
            refine lv_iload_n hx hb dX3_fours_93 rfl (lv_at hl 3 rfl) ?_
            obtain ⟨y14, e14, h⟩ := ob_s h
            refine MR.callS (M_X3_bits hG e14) S (cw_X3_bits hts q1896 ⟨Nat.le_of_ble_eq_true rfl, Nat.le_of_ble_eq_true rfl⟩) hW0 vaP0 rfl hl.1 rfl (Nat.le_of_ble_eq_true rfl) dX3_fours_94 ⟨Nat.zero_le _, Nat.zero_le _⟩ ?_
            refine lv_bipush (v := 6) hx hb dX3_fours_97 (by decide) ?_
            refine lv_icmp_ne (tgt := 106) hx hb dX3_fours_99 (by decide) (fun c15 => ?_) (fun c15 => ?_)
            · rw [if_neg c15] at h
              refine lv_iconst (v := 0) hx hb dX3_fours_106 (by decide) ?_
              refine lv_iadd hx hb dX3_fours_107 ?_
              refine lv_istore_n (lv' := [(1, .int (v1 + (0 : Int32))), (0, .ref h0), (2, .int v2), (3, .int u3_13)]) hx hb dX3_fours_108 rfl hl (by decide) rfl (fun ls hl => ?_)
              refine lv_iinc (v := (v2 + 1)) (lv' := [(2, .int (v2 + 1)), (1, .int (v1 + (0 : Int32))), (0, .ref h0), (3, .int u3_13)]) hx hb dX3_fours_109 hl (k := 2) rfl rfl (by decide) rfl (fun ls hl => ?_)
              refine lv_goto (tgt := 4) hx hb dX3_fours_112 (by decide) ?_
              exact ih (v1 + (0 : Int32)) (v2 + 1) h _ (lv_sub hl [2, 1, 0] rfl)
            · rw [if_pos c15] at h
              refine lv_iconst (v := 1) hx hb dX3_fours_102 (by decide) ?_
              refine lv_goto (tgt := 107) hx hb dX3_fours_103 (by decide) ?_
              refine lv_iadd hx hb dX3_fours_107 ?_
              refine lv_istore_n (lv' := [(1, .int (v1 + (1 : Int32))), (0, .ref h0), (2, .int v2), (3, .int u3_13)]) hx hb dX3_fours_108 rfl hl (by decide) rfl (fun ls hl => ?_)
              refine lv_iinc (v := (v2 + 1)) (lv' := [(2, .int (v2 + 1)), (1, .int (v1 + (1 : Int32))), (0, .ref h0), (3, .int u3_13)]) hx hb dX3_fours_109 hl (k := 2) rfl rfl (by decide) rfl (fun ls hl => ?_)
              refine lv_goto (tgt := 4) hx hb dX3_fours_112 (by decide) ?_
              exact ih (v1 + (1 : Int32)) (v2 + 1) h _ (lv_sub hl [2, 1, 0] rfl)
        · rw [if_neg c5] at h
          refine lv_goto (tgt := 109) hx hb dX3_fours_22 (by decide) ?_
          refine lv_iinc (v := (v2 + 1)) (lv' := [(2, .int (v2 + 1)), (0, .ref h0), (1, .int v1)]) hx hb dX3_fours_109 hl (k := 2) rfl rfl (by decide) rfl (fun ls hl => ?_)
          refine lv_goto (tgt := 4) hx hb dX3_fours_112 (by decide) ?_
          exact ih v1 (v2 + 1) h _ (lv_sub hl [1, 2, 0] rfl)
  refine lv_iconst (v := 0) hx hb dX3_fours_0 (by decide) ?_
  refine lv_istore_n (lv' := [(1, .int 0), (0, .ref h0)]) hx hb dX3_fours_1 rfl hl (by decide) rfl (fun ls hl => ?_)
  refine lv_iconst (v := 0) hx hb dX3_fours_2 (by decide) ?_
  refine lv_istore_n (lv' := [(2, .int 0), (1, .int 0), (0, .ref h0)]) hx hb dX3_fours_3 rfl hl (by decide) rfl (fun ls hl => ?_)
  refine S_X3_fours_4 N 0 0 h  _ (lv_sub hl [2, 1, 0] rfl)
def F_X3_apart_16 (N : Nat) (v2 : Int32) (c_now : (Nat → Int32)) : Nat → Int32 → Int32 → (Int32 → Option (Int32)) → Option (Int32)
  | 0, _, _, _ => none
  | n + 1, v1, v3, k52 => ((F_X3_lines N c_now).bind fun y4 => (if y4 ≤ v3 then (k52 v1) else ((F_X3_lineAt N v2 c_now).bind fun y6 => ((F_X3_lineAt N v3 c_now).bind fun y7 => (if (y6 &&& y7) = 0 then (F_X3_apart_16 N v2 c_now n (v1 + (1 : Int32)) (v3 + 1) k52) else (F_X3_apart_16 N v2 c_now n (v1 + (0 : Int32)) (v3 + 1) k52))))))
def F_X3_apart_4 (N : Nat) (c_now : (Nat → Int32)) : Nat → Int32 → Int32 → Option (Int32)
  | 0, _, _ => none
  | n + 1, v1, v2 => ((F_X3_lines N c_now).bind fun y1 => (if y1 ≤ v2 then (some (v1)) else (F_X3_apart_16 N v2 c_now N v1 (v2 + (1 : Int32)) (fun u1_9 => (F_X3_apart_4 N c_now n u1_9 (v2 + 1))))))
def F_X3_apart (N : Nat) (c_now : (Nat → Int32)) : Option (Int32) := (F_X3_apart_4 N c_now N 0 0)
theorem cw_X3_apart {R : Room} {s : State} {args : Array Value} {own : String} {index lev mc ms : Nat} (hts : ∀ w ∈ lw_all, w.before args s = true) (hl : Cond.methodLink own index yX3_apart ∈ lw_all) (hR : (rmL lev mc ms).frames + 1 ≤ R.frames ∧ 8 + (4 + 11) + (rmL lev mc ms).locals ≤ R.locals) : CallW R s args own RX3 index yX3_apart cX3_apart 4 (some .int) (ws_ yX3_apart cX3_apart 4 (some .int)) (rmL lev mc ms) mc ms 0 := cwV 0 hts (lw_V hl q2051 qs116 q172 q2052) rfl rfl rfl (by decide +kernel) hR
set_option maxHeartbeats 4000000 in
theorem M_X3_apart {l : Launch} {G : GE} (hG : GC G) {N : Nat} {h0 : Nat} {ad : Nat → Nat} {c_code : Int32} {c_read : (Nat → Int32)} {c_status : (Nat → Int32)} {c_tape : (Nat → Int32)} {c_taped : Int32} {c_at : Int32} {c_textSize : Int32} {c_token : Int32} {c_number : Int32} {c_begins : Int32} {c_stops : Int32} {c_bad : Int32} {c_badPlace : Int32} {c_faultPlace : Int32} {c_clauses : Int32} {c_naming : (Nat → Int32)} {c_lineBy : (Nat → Int32)} {c_becomes : (Nat → Int32)} {c_dualLines : (Nat → Int32)} {c_on : (Nat → Int32)} {c_rowNow : (Nat → Int32)} {c_least : (Nat → Int32)} {c_wayFirst : (Nat → Int32)} {c_ways : Int32} {c_acts : Int32} {c_past : (Nat → Int32)} {c_listPoints : Int32} {c_listLines : Int32} {c_listed : Int32} {c_list : (Nat → Int32)} {c_path : (Nat → Int32)} {c_places : (Nat → Int32)} {c_firstPlaces : (Nat → Int32)} {c_px : (Nat → Int32)} {c_py : (Nat → Int32)} {c_pz : (Nat → Int32)} {c_placeMany : Int32} {c_modulus : Int32} {c_drawn : Int32} {c_halvesMany : Int32} {c_halvesFirst : Int32} {c_spreadsMany : Int32} {c_spreadsFirst : Int32} {c_comesTo : (Nat → Int32)} {c_seedNow : Int32} {c_rowThen : (Nat → Int32)} {c_hasImage : Int32} {c_actsThen : Int32} {c_imageRow : (Nat → Int32)} {c_pastThen : (Nat → Int32)} {c_statusThen : (Nat → Int32)} {c_now : (Nat → Int32)} {ρ : (Int32)} (h : F_X3_apart N c_now = some ρ) : MR l G yX3_apart cX3_apart 4 (some .int) 2 (mW h0 ad G.2.2 c_code c_now c_read c_status c_tape c_taped c_at c_textSize c_token c_number c_begins c_stops c_bad c_badPlace c_faultPlace c_clauses c_naming c_lineBy c_becomes c_dualLines c_on c_rowNow c_least c_wayFirst c_ways c_acts c_past c_listPoints c_listLines c_listed c_list c_path c_places c_firstPlaces c_px c_py c_pz c_placeMany c_modulus c_drawn c_halvesMany c_halvesFirst c_spreadsMany c_spreadsFirst c_comesTo c_seedNow c_rowThen c_hasImage c_actsThen c_imageRow c_pastThen c_statusThen) [.ref h0] ρ := by
  rw [F_X3_apart] at h
  refine MR.start (rt := .int) hG (by decide) (Nat.le_of_ble_eq_true rfl) ?_
  intro p e s m args below meth c Q S hW0 hK hP hret ls hl
  obtain ⟨hx, hb, hml, hown, hts⟩ := id S
  have hl : lv_has ls 4 [(0, .ref h0)] := hl
  have S_X3_apart_16 : ∀ (n : Nat) (v1 : Int32) (v2 : Int32) (v3 : Int32) (k52 : Int32 → Option (Int32)), F_X3_apart_16 N v2 c_now n v1 v3 k52 = some ρ → (∀ (u1 : Int32) (ls : Array Slot), k52 u1 = some ρ → lv_has ls 4 [(0, .ref h0), (1, .int u1), (2, .int v2)] → W p l e (rmL 2 0 0) s m args below meth c s.heap [] 0 0 Q (F0 m 52 ls [])) → ∀ (ls : Array Slot), lv_has ls 4 [(0, .ref h0), (1, .int v1), (2, .int v2), (3, .int v3)] → W p l e (rmL 2 0 0) s m args below meth c s.heap [] 0 0 Q (F0 m 16 ls []) := by
    intro n
    induction n with
    | zero =>
      intro v1 v2 v3 k52 h
      exact absurd h (by simp [F_X3_apart_16])
    | succ n ih =>
      intro v1 v2 v3 k52 h hk52 ls hl
      rw [F_X3_apart_16] at h
      refine lv_iload_n hx hb dX3_apart_16 rfl (lv_at hl 3 rfl) ?_
      refine lv_aload_n hx hb dX3_apart_17 rfl (lv_at hl 0 rfl) ?_
      obtain ⟨y4, e4, h⟩ := ob_s h
      refine MR.callV (q0 := 0) (M_X3_lines hG e4) S (cw_X3_lines hts q1917 ⟨Nat.le_of_ble_eq_true rfl, Nat.le_of_ble_eq_true rfl⟩) hW0 hK hP rfl rfl rfl hl.1 rfl (Nat.le_of_ble_eq_true rfl) dX3_apart_18 ⟨Nat.zero_le _, Nat.zero_le _⟩ ?_
      refine lv_icmp_ge (tgt := 52) hx hb dX3_apart_21 (by decide) (fun c5 => ?_) (fun c5 => ?_)
      · rw [if_pos c5] at h
        exact hk52 v1 _ h (lv_sub hl [0, 1, 2] rfl)
      · rw [if_neg c5] at h
        refine lv_iload_n hx hb dX3_apart_24 rfl (lv_at hl 1 rfl) ?_
        refine lv_aload_n hx hb dX3_apart_25 rfl (lv_at hl 0 rfl) ?_
        refine lv_iload_n hx hb dX3_apart_26 rfl (lv_at hl 2 rfl) ?_
        obtain ⟨y6, e6, h⟩ := ob_s h
        refine MR.callV (q0 := 0) (M_X3_lineAt hG e6) S (cw_X3_lineAt hts q1925 ⟨Nat.le_of_ble_eq_true rfl, Nat.le_of_ble_eq_true rfl⟩) hW0 hK hP rfl rfl rfl hl.1 rfl (Nat.le_of_ble_eq_true rfl) dX3_apart_27 ⟨Nat.zero_le _, Nat.zero_le _⟩ ?_
        refine lv_aload_n hx hb dX3_apart_30 rfl (lv_at hl 0 rfl) ?_
        refine lv_iload_n hx hb dX3_apart_31 rfl (lv_at hl 3 rfl) ?_
        obtain ⟨y7, e7, h⟩ := ob_s h
        refine MR.callV (q0 := 0) (M_X3_lineAt hG e7) S (cw_X3_lineAt hts q1925 ⟨Nat.le_of_ble_eq_true rfl, Nat.le_of_ble_eq_true rfl⟩) hW0 hK hP rfl rfl rfl hl.1 rfl (Nat.le_of_ble_eq_true rfl) dX3_apart_32 ⟨Nat.zero_le _, Nat.zero_le _⟩ ?_
        refine lv_iand hx hb dX3_apart_35 ?_
        refine lv_if_ne (tgt := 43) hx hb dX3_apart_36 (by decide) (fun c8 => ?_) (fun c8 => ?_)
        · rw [if_neg c8] at h
          refine lv_iconst (v := 0) hx hb dX3_apart_43 (by decide) ?_
          refine lv_iadd hx hb dX3_apart_44 ?_
          refine lv_istore_n (lv' := [(1, .int (v1 + (0 : Int32))), (0, .ref h0), (2, .int v2), (3, .int v3)]) hx hb dX3_apart_45 rfl hl (by decide) rfl (fun ls hl => ?_)
          refine lv_iinc (v := (v3 + 1)) (lv' := [(3, .int (v3 + 1)), (1, .int (v1 + (0 : Int32))), (0, .ref h0), (2, .int v2)]) hx hb dX3_apart_46 hl (k := 3) rfl rfl (by decide) rfl (fun ls hl => ?_)
          refine lv_goto (tgt := 16) hx hb dX3_apart_49 (by decide) ?_
          exact ih (v1 + (0 : Int32)) v2 (v3 + 1) _ h hk52 _ (lv_sub hl [2, 1, 3, 0] rfl)
        · rw [if_pos c8] at h
          refine lv_iconst (v := 1) hx hb dX3_apart_39 (by decide) ?_
          refine lv_goto (tgt := 44) hx hb dX3_apart_40 (by decide) ?_
          refine lv_iadd hx hb dX3_apart_44 ?_
          refine lv_istore_n (lv' := [(1, .int (v1 + (1 : Int32))), (0, .ref h0), (2, .int v2), (3, .int v3)]) hx hb dX3_apart_45 rfl hl (by decide) rfl (fun ls hl => ?_)
          refine lv_iinc (v := (v3 + 1)) (lv' := [(3, .int (v3 + 1)), (1, .int (v1 + (1 : Int32))), (0, .ref h0), (2, .int v2)]) hx hb dX3_apart_46 hl (k := 3) rfl rfl (by decide) rfl (fun ls hl => ?_)
          refine lv_goto (tgt := 16) hx hb dX3_apart_49 (by decide) ?_
          exact ih (v1 + (1 : Int32)) v2 (v3 + 1) _ h hk52 _ (lv_sub hl [2, 1, 3, 0] rfl)
  have S_X3_apart_4 : ∀ (n : Nat) (v1 : Int32) (v2 : Int32), F_X3_apart_4 N c_now n v1 v2 = some ρ → ∀ (ls : Array Slot), lv_has ls 4 [(0, .ref h0), (1, .int v1), (2, .int v2)] → W p l e (rmL 2 0 0) s m args below meth c s.heap [] 0 0 Q (F0 m 4 ls []) := by
    intro n
    induction n with
    | zero =>
      intro v1 v2 h
      exact absurd h (by simp [F_X3_apart_4])
    | succ n ih =>
      intro v1 v2 h ls hl
      rw [F_X3_apart_4] at h
      refine lv_iload_n hx hb dX3_apart_4 rfl (lv_at hl 2 rfl) ?_
      refine lv_aload_n hx hb dX3_apart_5 rfl (lv_at hl 0 rfl) ?_
      obtain ⟨y1, e1, h⟩ := ob_s h
      refine MR.callV (q0 := 0) (M_X3_lines hG e1) S (cw_X3_lines hts q1917 ⟨Nat.le_of_ble_eq_true rfl, Nat.le_of_ble_eq_true rfl⟩) hW0 hK hP rfl rfl rfl hl.1 rfl (Nat.le_of_ble_eq_true rfl) dX3_apart_6 ⟨Nat.zero_le _, Nat.zero_le _⟩ ?_
      refine lv_icmp_ge (tgt := 58) hx hb dX3_apart_9 (by decide) (fun c2 => ?_) (fun c2 => ?_)
      · rw [if_pos c2] at h
        refine lv_iload_n hx hb dX3_apart_58 rfl (lv_at hl 1 rfl) ?_
        obtain rfl := Option.some.inj h
        exact hret dX3_apart_59 rfl
      · rw [if_neg c2] at h
        refine lv_iload_n hx hb dX3_apart_12 rfl (lv_at hl 2 rfl) ?_
        refine lv_iconst (v := 1) hx hb dX3_apart_13 (by decide) ?_
        refine lv_iadd hx hb dX3_apart_14 ?_
        refine lv_istore_n (lv' := [(3, .int (v2 + (1 : Int32))), (0, .ref h0), (1, .int v1), (2, .int v2)]) hx hb dX3_apart_15 rfl hl (by decide) rfl (fun ls hl => ?_)
        refine S_X3_apart_16 N v1 v2 (v2 + (1 : Int32)) _ h ?_ _ (lv_sub hl [1, 2, 3, 0] rfl)
        · intro u1_9 ls h hl
          refine lv_iinc (v := (v2 + 1)) (lv' := [(2, .int (v2 + 1)), (0, .ref h0), (1, .int u1_9)]) hx hb dX3_apart_52 hl (k := 2) rfl rfl (by decide) rfl (fun ls hl => ?_)
          refine lv_goto (tgt := 4) hx hb dX3_apart_55 (by decide) ?_
          exact ih u1_9 (v2 + 1) h _ (lv_sub hl [1, 2, 0] rfl)
  refine lv_iconst (v := 0) hx hb dX3_apart_0 (by decide) ?_
  refine lv_istore_n (lv' := [(1, .int 0), (0, .ref h0)]) hx hb dX3_apart_1 rfl hl (by decide) rfl (fun ls hl => ?_)
  refine lv_iconst (v := 0) hx hb dX3_apart_2 (by decide) ?_
  refine lv_istore_n (lv' := [(2, .int 0), (1, .int 0), (0, .ref h0)]) hx hb dX3_apart_3 rfl hl (by decide) rfl (fun ls hl => ?_)
  refine S_X3_apart_4 N 0 0 h  _ (lv_sub hl [2, 1, 0] rfl)
def F_X3_count (N : Nat) (v1 : Int32) (c_now : (Nat → Int32)) (c_status : (Nat → Int32)) (c_naming : (Nat → Int32)) (c_lineBy : (Nat → Int32)) (c_becomes : (Nat → Int32)) (c_on : (Nat → Int32)) (c_code : Int32) (c_taped : Int32) (c_acts : Int32) : Option (Int32 × (Nat → Int32) × (Nat → Int32) × (Nat → Int32) × (Nat → Int32) × Int32) := (if v1 = 0 then ((F_X3_points N c_now).bind fun y2 => (some (y2, c_naming, c_lineBy, c_becomes, c_on, 0))) else (if v1 = 1 then ((F_X3_lines N c_now).bind fun y5 => (some (y5, c_naming, c_lineBy, c_becomes, c_on, 0))) else (if v1 = 2 then ((F_X3_flags N c_now).bind fun y8 => (some (y8, c_naming, c_lineBy, c_becomes, c_on, 0))) else (if v1 = 3 then ((F_X3_isRegular N c_now).bind fun y11 => (if y11 = 0 then (some (0, c_naming, c_lineBy, c_becomes, c_on, 0)) else (some (1, c_naming, c_lineBy, c_becomes, c_on, 0)))) else (if v1 = 4 then ((F_X3_isRegular N c_now).bind fun y16 => (if y16 = 0 then (some ((-1), c_naming, c_lineBy, c_becomes, c_on, 0)) else ((F_X3_regularR N c_now).bind fun y19 => (some (y19, c_naming, c_lineBy, c_becomes, c_on, 0))))) else (if v1 = 5 then ((F_X3_isRegular N c_now).bind fun y22 => (if y22 = 0 then (some ((-1), c_naming, c_lineBy, c_becomes, c_on, 0)) else ((F_X3_regularK N c_now).bind fun y25 => (some (y25, c_naming, c_lineBy, c_becomes, c_on, 0))))) else (if v1 = 6 then ((F_X3_pairs N c_now).bind fun y28 => (some (y28, c_naming, c_lineBy, c_becomes, c_on, 0))) else (if v1 = 7 then ((F_X3_triangles N c_now).bind fun y31 => (some (y31, c_naming, c_lineBy, c_becomes, c_on, 0))) else (if v1 = 8 then ((F_X3_pieces N c_now).bind fun y34 => (some (y34, c_naming, c_lineBy, c_becomes, c_on, 0))) else (if v1 = 9 then ((F_X3_symmetries N c_now c_naming c_lineBy c_becomes).bind fun y37 => (some (y37.1, y37.2.1, y37.2.2.1, y37.2.2.2, c_on, 0))) else (if v1 = 10 then ((F_X3_orbits N c_now c_naming c_lineBy c_becomes).bind fun y40 => (some (y40.1, y40.2.1, y40.2.2.1, y40.2.2.2, c_on, 0))) else (if v1 = 11 then ((F_X3_dualities N 0 c_now c_naming c_on).bind fun y43 => (some (y43.1, y43.2.1, c_lineBy, c_becomes, y43.2.2, 0))) else (if v1 = 12 then ((F_X3_dualities N 1 c_now c_naming c_on).bind fun y46 => (some (y46.1, y46.2.1, c_lineBy, c_becomes, y46.2.2, 0))) else (if v1 = 13 then ((F_X3_slips N c_now).bind fun y49 => (some (y49, c_naming, c_lineBy, c_becomes, c_on, 0))) else (if v1 = 14 then ((F_X3_strays N c_now).bind fun y52 => (some (y52, c_naming, c_lineBy, c_becomes, c_on, 0))) else (if v1 = 15 then ((F_X3_girth N c_now).bind fun y55 => (some (y55, c_naming, c_lineBy, c_becomes, c_on, 0))) else (if v1 = 16 then (some (c_acts, c_naming, c_lineBy, c_becomes, c_on, 0)) else (if v1 = 17 then (some (c_taped, c_naming, c_lineBy, c_becomes, c_on, 0)) else (if v1 = 18 then (ckI (v1 - (18 : Int32)) 2 (some ((c_status (Int32.toNatClampNeg (v1 - (18 : Int32)))), c_naming, c_lineBy, c_becomes, c_on, 0))) else (if v1 = 19 then (ckI (v1 - (18 : Int32)) 2 (some ((c_status (Int32.toNatClampNeg (v1 - (18 : Int32)))), c_naming, c_lineBy, c_becomes, c_on, 0))) else (if v1 = 20 then ((F_X3_fours N c_now).bind fun y68 => (some (y68, c_naming, c_lineBy, c_becomes, c_on, 0))) else (if v1 = 21 then ((F_X3_apart N c_now).bind fun y71 => (some (y71, c_naming, c_lineBy, c_becomes, c_on, 0))) else ((F_X3_fail N 1 0).bind fun y73 => (some (y73.1, c_naming, c_lineBy, c_becomes, c_on, y73.2)))))))))))))))))))))))))
theorem cw_X3_count {R : Room} {s : State} {args : Array Value} {own : String} {index lev mc ms : Nat} (hts : ∀ w ∈ lw_all, w.before args s = true) (hl : Cond.methodLink own index yX3_count ∈ lw_all) (hR : (rmL lev mc ms).frames + 1 ≤ R.frames ∧ 8 + (2 + 11) + (rmL lev mc ms).locals ≤ R.locals) : CallW R s args own RX3 index yX3_count cX3_count 2 (some .int) (ws_ yX3_count cX3_count 2 (some .int)) (rmL lev mc ms) mc ms 1 := cwV 1 hts (lw_V hl q1910 q1911 q172 q1912) rfl rfl rfl (by decide +kernel) hR
set_option maxHeartbeats 4000000 in
theorem M_X3_count {l : Launch} {G : GE} (hG : GC G) {N : Nat} {h0 : Nat} {ad : Nat → Nat} {c_read : (Nat → Int32)} {c_tape : (Nat → Int32)} {c_at : Int32} {c_textSize : Int32} {c_token : Int32} {c_number : Int32} {c_begins : Int32} {c_stops : Int32} {c_bad : Int32} {c_badPlace : Int32} {c_faultPlace : Int32} {c_clauses : Int32} {c_dualLines : (Nat → Int32)} {c_rowNow : (Nat → Int32)} {c_least : (Nat → Int32)} {c_wayFirst : (Nat → Int32)} {c_ways : Int32} {c_past : (Nat → Int32)} {c_listPoints : Int32} {c_listLines : Int32} {c_listed : Int32} {c_list : (Nat → Int32)} {c_path : (Nat → Int32)} {c_places : (Nat → Int32)} {c_firstPlaces : (Nat → Int32)} {c_px : (Nat → Int32)} {c_py : (Nat → Int32)} {c_pz : (Nat → Int32)} {c_placeMany : Int32} {c_modulus : Int32} {c_drawn : Int32} {c_halvesMany : Int32} {c_halvesFirst : Int32} {c_spreadsMany : Int32} {c_spreadsFirst : Int32} {c_comesTo : (Nat → Int32)} {c_seedNow : Int32} {c_rowThen : (Nat → Int32)} {c_hasImage : Int32} {c_actsThen : Int32} {c_imageRow : (Nat → Int32)} {c_pastThen : (Nat → Int32)} {c_statusThen : (Nat → Int32)} {v1 : Int32} {c_now : (Nat → Int32)} {c_status : (Nat → Int32)} {c_naming : (Nat → Int32)} {c_lineBy : (Nat → Int32)} {c_becomes : (Nat → Int32)} {c_on : (Nat → Int32)} {c_code : Int32} {c_taped : Int32} {c_acts : Int32} {ρ : (Int32 × (Nat → Int32) × (Nat → Int32) × (Nat → Int32) × (Nat → Int32) × Int32)} (h : F_X3_count N v1 c_now c_status c_naming c_lineBy c_becomes c_on c_code c_taped c_acts = some ρ) : MW l G yX3_count cX3_count 2 (some .int) 20 (mW h0 ad G.2.2 c_code c_now c_read c_status c_tape c_taped c_at c_textSize c_token c_number c_begins c_stops c_bad c_badPlace c_faultPlace c_clauses c_naming c_lineBy c_becomes c_dualLines c_on c_rowNow c_least c_wayFirst c_ways c_acts c_past c_listPoints c_listLines c_listed c_list c_path c_places c_firstPlaces c_px c_py c_pz c_placeMany c_modulus c_drawn c_halvesMany c_halvesFirst c_spreadsMany c_spreadsFirst c_comesTo c_seedNow c_rowThen c_hasImage c_actsThen c_imageRow c_pastThen c_statusThen) [.ref h0, .int v1] (some (.int ρ.1)) (mW h0 ad G.2.2 ρ.2.2.2.2.2 c_now c_read c_status c_tape c_taped c_at c_textSize c_token c_number c_begins c_stops c_bad c_badPlace c_faultPlace c_clauses ρ.2.1 ρ.2.2.1 ρ.2.2.2.1 c_dualLines ρ.2.2.2.2.1 c_rowNow c_least c_wayFirst c_ways c_acts c_past c_listPoints c_listLines c_listed c_list c_path c_places c_firstPlaces c_px c_py c_pz c_placeMany c_modulus c_drawn c_halvesMany c_halvesFirst c_spreadsMany c_spreadsFirst c_comesTo c_seedNow c_rowThen c_hasImage c_actsThen c_imageRow c_pastThen c_statusThen) := by
  rw [F_X3_count] at h
  refine MW.start hG (by decide) (Nat.le_of_ble_eq_true rfl) ?_
  intro p e s m args below meth c Q A S hW0 hK hP hD hA hreti hretv ls hl
  have hS : va_S A s.heap s.heap [] := va_S.rf
  obtain ⟨hx, hb, hml, hown, hts⟩ := id S
  have hl : lv_has ls 2 [(0, .ref h0), (1, .int v1)] := hl
  refine lv_aload_n hx hb dX3_count_0 rfl (lv_at hl 0 rfl) ?_
  refine lv_iconst (v := 0) hx hb dX3_count_1 (by decide) ?_
  refine va_put (ci := 2) (v := .int 0) (ty := .int) (C := RX3) (T := TX3) (N := 52) hx hb hts in_X3 tyX3 tyX3_ok nmX3 hown hK hP hD hS 0 rfl rfl 0 (by decide) (hts _ q1658) (fun _ h9 => h9) rfl (by decide +kernel) rfl rfl (Nat.le_of_ble_eq_true rfl) dX3_count_2 (fun H locs hP hD hS => ?_)
  have hP : va_P G.2.1 vwCl (mW h0 ad G.2.2 0 c_now c_read c_status c_tape c_taped c_at c_textSize c_token c_number c_begins c_stops c_bad c_badPlace c_faultPlace c_clauses c_naming c_lineBy c_becomes c_dualLines c_on c_rowNow c_least c_wayFirst c_ways c_acts c_past c_listPoints c_listLines c_listed c_list c_path c_places c_firstPlaces c_px c_py c_pz c_placeMany c_modulus c_drawn c_halvesMany c_halvesFirst c_spreadsMany c_spreadsFirst c_comesTo c_seedNow c_rowThen c_hasImage c_actsThen c_imageRow c_pastThen c_statusThen) H := hP
  have hD : va_D A (mW h0 ad G.2.2 0 c_now c_read c_status c_tape c_taped c_at c_textSize c_token c_number c_begins c_stops c_bad c_badPlace c_faultPlace c_clauses c_naming c_lineBy c_becomes c_dualLines c_on c_rowNow c_least c_wayFirst c_ways c_acts c_past c_listPoints c_listLines c_listed c_list c_path c_places c_firstPlaces c_px c_py c_pz c_placeMany c_modulus c_drawn c_halvesMany c_halvesFirst c_spreadsMany c_spreadsFirst c_comesTo c_seedNow c_rowThen c_hasImage c_actsThen c_imageRow c_pastThen c_statusThen) := hD
  refine lv_iload_n hx hb dX3_count_5 rfl (lv_at hl 1 rfl) ?_
  by_cases c1 : v1 = 0
  · rw [if_pos c1] at h
    refine lv_tableIn (off := 102) (tgt := 108) hx hb dX3_count_6 (by rw [c1]; decide) (by rw [c1]; decide) (by rw [c1]; rfl) (by decide) ?_
    refine lv_aload_n hx hb dX3_count_108 rfl (lv_at hl 0 rfl) ?_
    obtain ⟨y2, e2, h⟩ := ob_s h
    refine MR.callV (q0 := 0) (M_X3_points hG e2) S (cw_X3_points hts q1913 ⟨Nat.le_of_ble_eq_true rfl, Nat.le_of_ble_eq_true rfl⟩) hW0 hK hP rfl rfl rfl hl.1 rfl (Nat.le_of_ble_eq_true rfl) dX3_count_109 ⟨Nat.zero_le _, Nat.zero_le _⟩ ?_
    obtain rfl := Option.some.inj h
    exact hreti rfl dX3_count_112 rfl rfl hP hD hS
  rw [if_neg c1] at h
  by_cases c4 : v1 = 1
  · rw [if_pos c4] at h
    refine lv_tableIn (off := 107) (tgt := 113) hx hb dX3_count_6 (by rw [c4]; decide) (by rw [c4]; decide) (by rw [c4]; rfl) (by decide) ?_
    refine lv_aload_n hx hb dX3_count_113 rfl (lv_at hl 0 rfl) ?_
    obtain ⟨y5, e5, h⟩ := ob_s h
    refine MR.callV (q0 := 0) (M_X3_lines hG e5) S (cw_X3_lines hts q1917 ⟨Nat.le_of_ble_eq_true rfl, Nat.le_of_ble_eq_true rfl⟩) hW0 hK hP rfl rfl rfl hl.1 rfl (Nat.le_of_ble_eq_true rfl) dX3_count_114 ⟨Nat.zero_le _, Nat.zero_le _⟩ ?_
    obtain rfl := Option.some.inj h
    exact hreti rfl dX3_count_117 rfl rfl hP hD hS
  rw [if_neg c4] at h
  by_cases c7 : v1 = 2
  · rw [if_pos c7] at h
    refine lv_tableIn (off := 112) (tgt := 118) hx hb dX3_count_6 (by rw [c7]; decide) (by rw [c7]; decide) (by rw [c7]; rfl) (by decide) ?_
    refine lv_aload_n hx hb dX3_count_118 rfl (lv_at hl 0 rfl) ?_
    obtain ⟨y8, e8, h⟩ := ob_s h
    refine MR.callV (q0 := 0) (M_X3_flags hG e8) S (cw_X3_flags hts q1921 ⟨Nat.le_of_ble_eq_true rfl, Nat.le_of_ble_eq_true rfl⟩) hW0 hK hP rfl rfl rfl hl.1 rfl (Nat.le_of_ble_eq_true rfl) dX3_count_119 ⟨Nat.zero_le _, Nat.zero_le _⟩ ?_
    obtain rfl := Option.some.inj h
    exact hreti rfl dX3_count_122 rfl rfl hP hD hS
  rw [if_neg c7] at h
  by_cases c10 : v1 = 3
  · rw [if_pos c10] at h
    refine lv_tableIn (off := 117) (tgt := 123) hx hb dX3_count_6 (by rw [c10]; decide) (by rw [c10]; decide) (by rw [c10]; rfl) (by decide) ?_
    refine lv_aload_n hx hb dX3_count_123 rfl (lv_at hl 0 rfl) ?_
    obtain ⟨y11, e11, h⟩ := ob_s h
    refine MR.callV (q0 := 0) (M_X3_isRegular hG e11) S (cw_X3_isRegular hts q1929 ⟨Nat.le_of_ble_eq_true rfl, Nat.le_of_ble_eq_true rfl⟩) hW0 hK hP rfl rfl rfl hl.1 rfl (Nat.le_of_ble_eq_true rfl) dX3_count_124 ⟨Nat.zero_le _, Nat.zero_le _⟩ ?_
    refine lv_if_eq (tgt := 134) hx hb dX3_count_127 (by decide) (fun c12 => ?_) (fun c12 => ?_)
    · rw [if_pos c12] at h
      refine lv_iconst (v := 0) hx hb dX3_count_134 (by decide) ?_
      obtain rfl := Option.some.inj h
      exact hreti rfl dX3_count_135 rfl rfl hP hD hS
    · rw [if_neg c12] at h
      refine lv_iconst (v := 1) hx hb dX3_count_130 (by decide) ?_
      refine lv_goto (tgt := 135) hx hb dX3_count_131 (by decide) ?_
      obtain rfl := Option.some.inj h
      exact hreti rfl dX3_count_135 rfl rfl hP hD hS
  rw [if_neg c10] at h
  by_cases c15 : v1 = 4
  · rw [if_pos c15] at h
    refine lv_tableIn (off := 130) (tgt := 136) hx hb dX3_count_6 (by rw [c15]; decide) (by rw [c15]; decide) (by rw [c15]; rfl) (by decide) ?_
    refine lv_aload_n hx hb dX3_count_136 rfl (lv_at hl 0 rfl) ?_
    obtain ⟨y16, e16, h⟩ := ob_s h
    refine MR.callV (q0 := 0) (M_X3_isRegular hG e16) S (cw_X3_isRegular hts q1929 ⟨Nat.le_of_ble_eq_true rfl, Nat.le_of_ble_eq_true rfl⟩) hW0 hK hP rfl rfl rfl hl.1 rfl (Nat.le_of_ble_eq_true rfl) dX3_count_137 ⟨Nat.zero_le _, Nat.zero_le _⟩ ?_
    refine lv_if_eq (tgt := 150) hx hb dX3_count_140 (by decide) (fun c17 => ?_) (fun c17 => ?_)
    · rw [if_pos c17] at h
      refine lv_iconst (v := (-1)) hx hb dX3_count_150 (by decide) ?_
      obtain rfl := Option.some.inj h
      exact hreti rfl dX3_count_151 rfl rfl hP hD hS
    · rw [if_neg c17] at h
      refine lv_aload_n hx hb dX3_count_143 rfl (lv_at hl 0 rfl) ?_
      obtain ⟨y19, e19, h⟩ := ob_s h
      refine MR.callV (q0 := 0) (M_X3_regularR hG e19) S (cw_X3_regularR hts q1933 ⟨Nat.le_of_ble_eq_true rfl, Nat.le_of_ble_eq_true rfl⟩) hW0 hK hP rfl rfl rfl hl.1 rfl (Nat.le_of_ble_eq_true rfl) dX3_count_144 ⟨Nat.zero_le _, Nat.zero_le _⟩ ?_
      refine lv_goto (tgt := 151) hx hb dX3_count_147 (by decide) ?_
      obtain rfl := Option.some.inj h
      exact hreti rfl dX3_count_151 rfl rfl hP hD hS
  rw [if_neg c15] at h
  by_cases c21 : v1 = 5
  · rw [if_pos c21] at h
    refine lv_tableIn (off := 146) (tgt := 152) hx hb dX3_count_6 (by rw [c21]; decide) (by rw [c21]; decide) (by rw [c21]; rfl) (by decide) ?_
    refine lv_aload_n hx hb dX3_count_152 rfl (lv_at hl 0 rfl) ?_
    obtain ⟨y22, e22, h⟩ := ob_s h
    refine MR.callV (q0 := 0) (M_X3_isRegular hG e22) S (cw_X3_isRegular hts q1929 ⟨Nat.le_of_ble_eq_true rfl, Nat.le_of_ble_eq_true rfl⟩) hW0 hK hP rfl rfl rfl hl.1 rfl (Nat.le_of_ble_eq_true rfl) dX3_count_153 ⟨Nat.zero_le _, Nat.zero_le _⟩ ?_
    refine lv_if_eq (tgt := 166) hx hb dX3_count_156 (by decide) (fun c23 => ?_) (fun c23 => ?_)
    · rw [if_pos c23] at h
      refine lv_iconst (v := (-1)) hx hb dX3_count_166 (by decide) ?_
      obtain rfl := Option.some.inj h
      exact hreti rfl dX3_count_167 rfl rfl hP hD hS
    · rw [if_neg c23] at h
      refine lv_aload_n hx hb dX3_count_159 rfl (lv_at hl 0 rfl) ?_
      obtain ⟨y25, e25, h⟩ := ob_s h
      refine MR.callV (q0 := 0) (M_X3_regularK hG e25) S (cw_X3_regularK hts q1941 ⟨Nat.le_of_ble_eq_true rfl, Nat.le_of_ble_eq_true rfl⟩) hW0 hK hP rfl rfl rfl hl.1 rfl (Nat.le_of_ble_eq_true rfl) dX3_count_160 ⟨Nat.zero_le _, Nat.zero_le _⟩ ?_
      refine lv_goto (tgt := 167) hx hb dX3_count_163 (by decide) ?_
      obtain rfl := Option.some.inj h
      exact hreti rfl dX3_count_167 rfl rfl hP hD hS
  rw [if_neg c21] at h
  by_cases c27 : v1 = 6
  · rw [if_pos c27] at h
    refine lv_tableIn (off := 162) (tgt := 168) hx hb dX3_count_6 (by rw [c27]; decide) (by rw [c27]; decide) (by rw [c27]; rfl) (by decide) ?_
    refine lv_aload_n hx hb dX3_count_168 rfl (lv_at hl 0 rfl) ?_
    obtain ⟨y28, e28, h⟩ := ob_s h
    refine MR.callV (q0 := 0) (M_X3_pairs hG e28) S (cw_X3_pairs hts q1945 ⟨Nat.le_of_ble_eq_true rfl, Nat.le_of_ble_eq_true rfl⟩) hW0 hK hP rfl rfl rfl hl.1 rfl (Nat.le_of_ble_eq_true rfl) dX3_count_169 ⟨Nat.zero_le _, Nat.zero_le _⟩ ?_
    obtain rfl := Option.some.inj h
    exact hreti rfl dX3_count_172 rfl rfl hP hD hS
  rw [if_neg c27] at h
  by_cases c30 : v1 = 7
  · rw [if_pos c30] at h
    refine lv_tableIn (off := 167) (tgt := 173) hx hb dX3_count_6 (by rw [c30]; decide) (by rw [c30]; decide) (by rw [c30]; rfl) (by decide) ?_
    refine lv_aload_n hx hb dX3_count_173 rfl (lv_at hl 0 rfl) ?_
    obtain ⟨y31, e31, h⟩ := ob_s h
    refine MR.callV (q0 := 0) (M_X3_triangles hG e31) S (cw_X3_triangles hts q1957 ⟨Nat.le_of_ble_eq_true rfl, Nat.le_of_ble_eq_true rfl⟩) hW0 hK hP rfl rfl rfl hl.1 rfl (Nat.le_of_ble_eq_true rfl) dX3_count_174 ⟨Nat.zero_le _, Nat.zero_le _⟩ ?_
    obtain rfl := Option.some.inj h
    exact hreti rfl dX3_count_177 rfl rfl hP hD hS
  rw [if_neg c30] at h
  by_cases c33 : v1 = 8
  · rw [if_pos c33] at h
    refine lv_tableIn (off := 172) (tgt := 178) hx hb dX3_count_6 (by rw [c33]; decide) (by rw [c33]; decide) (by rw [c33]; rfl) (by decide) ?_
    refine lv_aload_n hx hb dX3_count_178 rfl (lv_at hl 0 rfl) ?_
    obtain ⟨y34, e34, h⟩ := ob_s h
    refine MR.callV (q0 := 0) (M_X3_pieces hG e34) S (cw_X3_pieces hts q1961 ⟨Nat.le_of_ble_eq_true rfl, Nat.le_of_ble_eq_true rfl⟩) hW0 hK hP rfl rfl rfl hl.1 rfl (Nat.le_of_ble_eq_true rfl) dX3_count_179 ⟨Nat.zero_le _, Nat.zero_le _⟩ ?_
    obtain rfl := Option.some.inj h
    exact hreti rfl dX3_count_182 rfl rfl hP hD hS
  rw [if_neg c33] at h
  by_cases c36 : v1 = 9
  · rw [if_pos c36] at h
    refine lv_tableIn (off := 177) (tgt := 183) hx hb dX3_count_6 (by rw [c36]; decide) (by rw [c36]; decide) (by rw [c36]; rfl) (by decide) ?_
    refine lv_aload_n hx hb dX3_count_183 rfl (lv_at hl 0 rfl) ?_
    obtain ⟨y37, e37, h⟩ := ob_s h
    refine MW.callV (q0 := 0) (M_X3_symmetries hG e37) S (cw_X3_symmetries hts q1970 ⟨Nat.le_of_ble_eq_true rfl, Nat.le_of_ble_eq_true rfl⟩) hW0 hK hP hD hS hA rfl rfl rfl hl.1 rfl (Nat.le_of_ble_eq_true rfl) dX3_count_184 ⟨Nat.zero_le _, Nat.zero_le _⟩ (fun H locs hP hD hS => ?_)
    have hP : va_P G.2.1 vwCl (mW h0 ad G.2.2 0 c_now c_read c_status c_tape c_taped c_at c_textSize c_token c_number c_begins c_stops c_bad c_badPlace c_faultPlace c_clauses y37.2.1 y37.2.2.1 y37.2.2.2 c_dualLines c_on c_rowNow c_least c_wayFirst c_ways c_acts c_past c_listPoints c_listLines c_listed c_list c_path c_places c_firstPlaces c_px c_py c_pz c_placeMany c_modulus c_drawn c_halvesMany c_halvesFirst c_spreadsMany c_spreadsFirst c_comesTo c_seedNow c_rowThen c_hasImage c_actsThen c_imageRow c_pastThen c_statusThen) H := hP
    have hD : va_D A (mW h0 ad G.2.2 0 c_now c_read c_status c_tape c_taped c_at c_textSize c_token c_number c_begins c_stops c_bad c_badPlace c_faultPlace c_clauses y37.2.1 y37.2.2.1 y37.2.2.2 c_dualLines c_on c_rowNow c_least c_wayFirst c_ways c_acts c_past c_listPoints c_listLines c_listed c_list c_path c_places c_firstPlaces c_px c_py c_pz c_placeMany c_modulus c_drawn c_halvesMany c_halvesFirst c_spreadsMany c_spreadsFirst c_comesTo c_seedNow c_rowThen c_hasImage c_actsThen c_imageRow c_pastThen c_statusThen) := hD
    refine W.eq (g2 := F0 m 187 ls [.int y37.1]) rfl ?_
    obtain rfl := Option.some.inj h
    exact hreti rfl dX3_count_187 rfl rfl hP hD hS
  rw [if_neg c36] at h
  by_cases c39 : v1 = 10
  · rw [if_pos c39] at h
    refine lv_tableIn (off := 182) (tgt := 188) hx hb dX3_count_6 (by rw [c39]; decide) (by rw [c39]; decide) (by rw [c39]; rfl) (by decide) ?_
    refine lv_aload_n hx hb dX3_count_188 rfl (lv_at hl 0 rfl) ?_
    obtain ⟨y40, e40, h⟩ := ob_s h
    refine MW.callV (q0 := 0) (M_X3_orbits hG e40) S (cw_X3_orbits hts q1998 ⟨Nat.le_of_ble_eq_true rfl, Nat.le_of_ble_eq_true rfl⟩) hW0 hK hP hD hS hA rfl rfl rfl hl.1 rfl (Nat.le_of_ble_eq_true rfl) dX3_count_189 ⟨Nat.zero_le _, Nat.zero_le _⟩ (fun H locs hP hD hS => ?_)
    have hP : va_P G.2.1 vwCl (mW h0 ad G.2.2 0 c_now c_read c_status c_tape c_taped c_at c_textSize c_token c_number c_begins c_stops c_bad c_badPlace c_faultPlace c_clauses y40.2.1 y40.2.2.1 y40.2.2.2 c_dualLines c_on c_rowNow c_least c_wayFirst c_ways c_acts c_past c_listPoints c_listLines c_listed c_list c_path c_places c_firstPlaces c_px c_py c_pz c_placeMany c_modulus c_drawn c_halvesMany c_halvesFirst c_spreadsMany c_spreadsFirst c_comesTo c_seedNow c_rowThen c_hasImage c_actsThen c_imageRow c_pastThen c_statusThen) H := hP
    have hD : va_D A (mW h0 ad G.2.2 0 c_now c_read c_status c_tape c_taped c_at c_textSize c_token c_number c_begins c_stops c_bad c_badPlace c_faultPlace c_clauses y40.2.1 y40.2.2.1 y40.2.2.2 c_dualLines c_on c_rowNow c_least c_wayFirst c_ways c_acts c_past c_listPoints c_listLines c_listed c_list c_path c_places c_firstPlaces c_px c_py c_pz c_placeMany c_modulus c_drawn c_halvesMany c_halvesFirst c_spreadsMany c_spreadsFirst c_comesTo c_seedNow c_rowThen c_hasImage c_actsThen c_imageRow c_pastThen c_statusThen) := hD
    refine W.eq (g2 := F0 m 192 ls [.int y40.1]) rfl ?_
    obtain rfl := Option.some.inj h
    exact hreti rfl dX3_count_192 rfl rfl hP hD hS
  rw [if_neg c39] at h
  by_cases c42 : v1 = 11
  · rw [if_pos c42] at h
    refine lv_tableIn (off := 187) (tgt := 193) hx hb dX3_count_6 (by rw [c42]; decide) (by rw [c42]; decide) (by rw [c42]; rfl) (by decide) ?_
    refine lv_aload_n hx hb dX3_count_193 rfl (lv_at hl 0 rfl) ?_
    refine lv_iconst (v := 0) hx hb dX3_count_194 (by decide) ?_
    obtain ⟨y43, e43, h⟩ := ob_s h
    refine MW.callV (q0 := 0) (M_X3_dualities hG e43) S (cw_X3_dualities hts q2002 ⟨Nat.le_of_ble_eq_true rfl, Nat.le_of_ble_eq_true rfl⟩) hW0 hK hP hD hS hA rfl rfl rfl hl.1 rfl (Nat.le_of_ble_eq_true rfl) dX3_count_195 ⟨Nat.zero_le _, Nat.zero_le _⟩ (fun H locs hP hD hS => ?_)
    have hP : va_P G.2.1 vwCl (mW h0 ad G.2.2 0 c_now c_read c_status c_tape c_taped c_at c_textSize c_token c_number c_begins c_stops c_bad c_badPlace c_faultPlace c_clauses y43.2.1 c_lineBy c_becomes c_dualLines y43.2.2 c_rowNow c_least c_wayFirst c_ways c_acts c_past c_listPoints c_listLines c_listed c_list c_path c_places c_firstPlaces c_px c_py c_pz c_placeMany c_modulus c_drawn c_halvesMany c_halvesFirst c_spreadsMany c_spreadsFirst c_comesTo c_seedNow c_rowThen c_hasImage c_actsThen c_imageRow c_pastThen c_statusThen) H := hP
    have hD : va_D A (mW h0 ad G.2.2 0 c_now c_read c_status c_tape c_taped c_at c_textSize c_token c_number c_begins c_stops c_bad c_badPlace c_faultPlace c_clauses y43.2.1 c_lineBy c_becomes c_dualLines y43.2.2 c_rowNow c_least c_wayFirst c_ways c_acts c_past c_listPoints c_listLines c_listed c_list c_path c_places c_firstPlaces c_px c_py c_pz c_placeMany c_modulus c_drawn c_halvesMany c_halvesFirst c_spreadsMany c_spreadsFirst c_comesTo c_seedNow c_rowThen c_hasImage c_actsThen c_imageRow c_pastThen c_statusThen) := hD
    refine W.eq (g2 := F0 m 198 ls [.int y43.1]) rfl ?_
    obtain rfl := Option.some.inj h
    exact hreti rfl dX3_count_198 rfl rfl hP hD hS
  rw [if_neg c42] at h
  by_cases c45 : v1 = 12
  · rw [if_pos c45] at h
    refine lv_tableIn (off := 193) (tgt := 199) hx hb dX3_count_6 (by rw [c45]; decide) (by rw [c45]; decide) (by rw [c45]; rfl) (by decide) ?_
    refine lv_aload_n hx hb dX3_count_199 rfl (lv_at hl 0 rfl) ?_
    refine lv_iconst (v := 1) hx hb dX3_count_200 (by decide) ?_
    obtain ⟨y46, e46, h⟩ := ob_s h
    refine MW.callV (q0 := 0) (M_X3_dualities hG e46) S (cw_X3_dualities hts q2002 ⟨Nat.le_of_ble_eq_true rfl, Nat.le_of_ble_eq_true rfl⟩) hW0 hK hP hD hS hA rfl rfl rfl hl.1 rfl (Nat.le_of_ble_eq_true rfl) dX3_count_201 ⟨Nat.zero_le _, Nat.zero_le _⟩ (fun H locs hP hD hS => ?_)
    have hP : va_P G.2.1 vwCl (mW h0 ad G.2.2 0 c_now c_read c_status c_tape c_taped c_at c_textSize c_token c_number c_begins c_stops c_bad c_badPlace c_faultPlace c_clauses y46.2.1 c_lineBy c_becomes c_dualLines y46.2.2 c_rowNow c_least c_wayFirst c_ways c_acts c_past c_listPoints c_listLines c_listed c_list c_path c_places c_firstPlaces c_px c_py c_pz c_placeMany c_modulus c_drawn c_halvesMany c_halvesFirst c_spreadsMany c_spreadsFirst c_comesTo c_seedNow c_rowThen c_hasImage c_actsThen c_imageRow c_pastThen c_statusThen) H := hP
    have hD : va_D A (mW h0 ad G.2.2 0 c_now c_read c_status c_tape c_taped c_at c_textSize c_token c_number c_begins c_stops c_bad c_badPlace c_faultPlace c_clauses y46.2.1 c_lineBy c_becomes c_dualLines y46.2.2 c_rowNow c_least c_wayFirst c_ways c_acts c_past c_listPoints c_listLines c_listed c_list c_path c_places c_firstPlaces c_px c_py c_pz c_placeMany c_modulus c_drawn c_halvesMany c_halvesFirst c_spreadsMany c_spreadsFirst c_comesTo c_seedNow c_rowThen c_hasImage c_actsThen c_imageRow c_pastThen c_statusThen) := hD
    refine W.eq (g2 := F0 m 204 ls [.int y46.1]) rfl ?_
    obtain rfl := Option.some.inj h
    exact hreti rfl dX3_count_204 rfl rfl hP hD hS
  rw [if_neg c45] at h
  by_cases c48 : v1 = 13
  · rw [if_pos c48] at h
    refine lv_tableIn (off := 199) (tgt := 205) hx hb dX3_count_6 (by rw [c48]; decide) (by rw [c48]; decide) (by rw [c48]; rfl) (by decide) ?_
    refine lv_aload_n hx hb dX3_count_205 rfl (lv_at hl 0 rfl) ?_
    obtain ⟨y49, e49, h⟩ := ob_s h
    refine MR.callV (q0 := 0) (M_X3_slips hG e49) S (cw_X3_slips hts q2014 ⟨Nat.le_of_ble_eq_true rfl, Nat.le_of_ble_eq_true rfl⟩) hW0 hK hP rfl rfl rfl hl.1 rfl (Nat.le_of_ble_eq_true rfl) dX3_count_206 ⟨Nat.zero_le _, Nat.zero_le _⟩ ?_
    obtain rfl := Option.some.inj h
    exact hreti rfl dX3_count_209 rfl rfl hP hD hS
  rw [if_neg c48] at h
  by_cases c51 : v1 = 14
  · rw [if_pos c51] at h
    refine lv_tableIn (off := 204) (tgt := 210) hx hb dX3_count_6 (by rw [c51]; decide) (by rw [c51]; decide) (by rw [c51]; rfl) (by decide) ?_
    refine lv_aload_n hx hb dX3_count_210 rfl (lv_at hl 0 rfl) ?_
    obtain ⟨y52, e52, h⟩ := ob_s h
    refine MR.callV (q0 := 0) (M_X3_strays hG e52) S (cw_X3_strays hts q2033 ⟨Nat.le_of_ble_eq_true rfl, Nat.le_of_ble_eq_true rfl⟩) hW0 hK hP rfl rfl rfl hl.1 rfl (Nat.le_of_ble_eq_true rfl) dX3_count_211 ⟨Nat.zero_le _, Nat.zero_le _⟩ ?_
    obtain rfl := Option.some.inj h
    exact hreti rfl dX3_count_214 rfl rfl hP hD hS
  rw [if_neg c51] at h
  by_cases c54 : v1 = 15
  · rw [if_pos c54] at h
    refine lv_tableIn (off := 209) (tgt := 215) hx hb dX3_count_6 (by rw [c54]; decide) (by rw [c54]; decide) (by rw [c54]; rfl) (by decide) ?_
    refine lv_aload_n hx hb dX3_count_215 rfl (lv_at hl 0 rfl) ?_
    obtain ⟨y55, e55, h⟩ := ob_s h
    refine MR.callV (q0 := 0) (M_X3_girth hG e55) S (cw_X3_girth hts q2037 ⟨Nat.le_of_ble_eq_true rfl, Nat.le_of_ble_eq_true rfl⟩) hW0 hK hP rfl rfl rfl hl.1 rfl (Nat.le_of_ble_eq_true rfl) dX3_count_216 ⟨Nat.zero_le _, Nat.zero_le _⟩ ?_
    obtain rfl := Option.some.inj h
    exact hreti rfl dX3_count_219 rfl rfl hP hD hS
  rw [if_neg c54] at h
  by_cases c57 : v1 = 16
  · rw [if_pos c57] at h
    refine lv_tableIn (off := 214) (tgt := 220) hx hb dX3_count_6 (by rw [c57]; decide) (by rw [c57]; decide) (by rw [c57]; rfl) (by decide) ?_
    refine lv_aload_n hx hb dX3_count_220 rfl (lv_at hl 0 rfl) ?_
    refine va_get (ci := 2) (v := .int c_acts) (C := RX3) (T := TX3) (N := 52) hx hb hts in_X3 hown hK hP 0 rfl rfl 25 (by decide) (hts _ q1683) (fun _ h9 => h9) rfl dX3_count_221 ?_
    obtain rfl := Option.some.inj h
    exact hreti rfl dX3_count_224 rfl rfl hP hD hS
  rw [if_neg c57] at h
  by_cases c59 : v1 = 17
  · rw [if_pos c59] at h
    refine lv_tableIn (off := 219) (tgt := 225) hx hb dX3_count_6 (by rw [c59]; decide) (by rw [c59]; decide) (by rw [c59]; rfl) (by decide) ?_
    refine lv_aload_n hx hb dX3_count_225 rfl (lv_at hl 0 rfl) ?_
    refine va_get (ci := 2) (v := .int c_taped) (C := RX3) (T := TX3) (N := 52) hx hb hts in_X3 hown hK hP 0 rfl rfl 5 (by decide) (hts _ q1663) (fun _ h9 => h9) rfl dX3_count_226 ?_
    obtain rfl := Option.some.inj h
    exact hreti rfl dX3_count_229 rfl rfl hP hD hS
  rw [if_neg c59] at h
  by_cases c61 : v1 = 18
  · rw [if_pos c61] at h
    refine lv_tableIn (off := 224) (tgt := 230) hx hb dX3_count_6 (by rw [c61]; decide) (by rw [c61]; decide) (by rw [c61]; rfl) (by decide) ?_
    refine lv_aload_n hx hb dX3_count_230 rfl (lv_at hl 0 rfl) ?_
    refine va_get (ci := 2) (v := .ref (ad 3)) (C := RX3) (T := TX3) (N := 52) hx hb hts in_X3 hown hK hP 0 rfl rfl 3 (by decide) (hts _ q1661) (fun _ h9 => h9) rfl dX3_count_231 ?_
    refine lv_iload_n hx hb dX3_count_234 rfl (lv_at hl 1 rfl) ?_
    refine lv_bipush (v := 18) hx hb dX3_count_235 (by decide) ?_
    refine lv_isub hx hb dX3_count_237 ?_
    obtain ⟨i62, h⟩ := ckI_s h
    refine va_iald (f := c_status) hx hb hK hP 3 0 rfl rfl i62 dX3_count_238 ?_
    obtain rfl := Option.some.inj h
    exact hreti rfl dX3_count_239 rfl rfl hP hD hS
  rw [if_neg c61] at h
  by_cases c64 : v1 = 19
  · rw [if_pos c64] at h
    refine lv_tableIn (off := 224) (tgt := 230) hx hb dX3_count_6 (by rw [c64]; decide) (by rw [c64]; decide) (by rw [c64]; rfl) (by decide) ?_
    refine lv_aload_n hx hb dX3_count_230 rfl (lv_at hl 0 rfl) ?_
    refine va_get (ci := 2) (v := .ref (ad 3)) (C := RX3) (T := TX3) (N := 52) hx hb hts in_X3 hown hK hP 0 rfl rfl 3 (by decide) (hts _ q1661) (fun _ h9 => h9) rfl dX3_count_231 ?_
    refine lv_iload_n hx hb dX3_count_234 rfl (lv_at hl 1 rfl) ?_
    refine lv_bipush (v := 18) hx hb dX3_count_235 (by decide) ?_
    refine lv_isub hx hb dX3_count_237 ?_
    obtain ⟨i65, h⟩ := ckI_s h
    refine va_iald (f := c_status) hx hb hK hP 3 0 rfl rfl i65 dX3_count_238 ?_
    obtain rfl := Option.some.inj h
    exact hreti rfl dX3_count_239 rfl rfl hP hD hS
  rw [if_neg c64] at h
  by_cases c67 : v1 = 20
  · rw [if_pos c67] at h
    refine lv_tableIn (off := 234) (tgt := 240) hx hb dX3_count_6 (by rw [c67]; decide) (by rw [c67]; decide) (by rw [c67]; rfl) (by decide) ?_
    refine lv_aload_n hx hb dX3_count_240 rfl (lv_at hl 0 rfl) ?_
    obtain ⟨y68, e68, h⟩ := ob_s h
    refine MR.callV (q0 := 0) (M_X3_fours hG e68) S (cw_X3_fours hts q2045 ⟨Nat.le_of_ble_eq_true rfl, Nat.le_of_ble_eq_true rfl⟩) hW0 hK hP rfl rfl rfl hl.1 rfl (Nat.le_of_ble_eq_true rfl) dX3_count_241 ⟨Nat.zero_le _, Nat.zero_le _⟩ ?_
    obtain rfl := Option.some.inj h
    exact hreti rfl dX3_count_244 rfl rfl hP hD hS
  rw [if_neg c67] at h
  by_cases c70 : v1 = 21
  · rw [if_pos c70] at h
    refine lv_tableIn (off := 239) (tgt := 245) hx hb dX3_count_6 (by rw [c70]; decide) (by rw [c70]; decide) (by rw [c70]; rfl) (by decide) ?_
    refine lv_aload_n hx hb dX3_count_245 rfl (lv_at hl 0 rfl) ?_
    obtain ⟨y71, e71, h⟩ := ob_s h
    refine MR.callV (q0 := 0) (M_X3_apart hG e71) S (cw_X3_apart hts q2049 ⟨Nat.le_of_ble_eq_true rfl, Nat.le_of_ble_eq_true rfl⟩) hW0 hK hP rfl rfl rfl hl.1 rfl (Nat.le_of_ble_eq_true rfl) dX3_count_246 ⟨Nat.zero_le _, Nat.zero_le _⟩ ?_
    obtain rfl := Option.some.inj h
    exact hreti rfl dX3_count_249 rfl rfl hP hD hS
  rw [if_neg c70] at h
  refine lv_tableOut (tgt := 250) hx hb dX3_count_6 (sw_out v1 [0, 1, 2, 3, 4, 5, 6, 7, 8, 9, 10, 11, 12, 13, 14, 15, 16, 17, 18, 19, 20, 21] rfl (by simp [c1, c4, c7, c10, c15, c21, c27, c30, c33, c36, c39, c42, c45, c48, c51, c54, c57, c59, c61, c64, c67, c70])) (by decide) ?_
  refine lv_aload_n hx hb dX3_count_250 rfl (lv_at hl 0 rfl) ?_
  refine lv_iconst (v := 1) hx hb dX3_count_251 (by decide) ?_
  obtain ⟨y73, e73, h⟩ := ob_s h
  refine MW.callV (q0 := 0) (M_X3_fail hG e73) S (cw_X3_fail hts q1827 ⟨Nat.le_of_ble_eq_true rfl, Nat.le_of_ble_eq_true rfl⟩) hW0 hK hP hD hS hA rfl rfl rfl hl.1 rfl (Nat.le_of_ble_eq_true rfl) dX3_count_252 ⟨Nat.zero_le _, Nat.zero_le _⟩ (fun H locs hP hD hS => ?_)
  have hP : va_P G.2.1 vwCl (mW h0 ad G.2.2 y73.2 c_now c_read c_status c_tape c_taped c_at c_textSize c_token c_number c_begins c_stops c_bad c_badPlace c_faultPlace c_clauses c_naming c_lineBy c_becomes c_dualLines c_on c_rowNow c_least c_wayFirst c_ways c_acts c_past c_listPoints c_listLines c_listed c_list c_path c_places c_firstPlaces c_px c_py c_pz c_placeMany c_modulus c_drawn c_halvesMany c_halvesFirst c_spreadsMany c_spreadsFirst c_comesTo c_seedNow c_rowThen c_hasImage c_actsThen c_imageRow c_pastThen c_statusThen) H := hP
  have hD : va_D A (mW h0 ad G.2.2 y73.2 c_now c_read c_status c_tape c_taped c_at c_textSize c_token c_number c_begins c_stops c_bad c_badPlace c_faultPlace c_clauses c_naming c_lineBy c_becomes c_dualLines c_on c_rowNow c_least c_wayFirst c_ways c_acts c_past c_listPoints c_listLines c_listed c_list c_path c_places c_firstPlaces c_px c_py c_pz c_placeMany c_modulus c_drawn c_halvesMany c_halvesFirst c_spreadsMany c_spreadsFirst c_comesTo c_seedNow c_rowThen c_hasImage c_actsThen c_imageRow c_pastThen c_statusThen) := hD
  refine W.eq (g2 := F0 m 255 ls [.int y73.1]) rfl ?_
  obtain rfl := Option.some.inj h
  exact hreti rfl dX3_count_255 rfl rfl hP hD hS
def F_X3_isIn (N : Nat) (v0 : Int32) (v1 : Int32) (v2 : Int32) : Option (Int32) := (if v0 < v1 then (some (0)) else (if v2 < v0 then (some (0)) else (some (1))))
theorem cw_X3_isIn {R : Room} {s : State} {args : Array Value} {own : String} {index lev mc ms : Nat} (hts : ∀ w ∈ lw_all, w.before args s = true) (hl : Cond.methodLink own index yX3_isIn ∈ lw_all) (hR : (rmL lev mc ms).frames + 1 ≤ R.frames ∧ 8 + (3 + 11) + (rmL lev mc ms).locals ≤ R.locals) : CallB R s args own index yX3_isIn cX3_isIn 3 (some .boolean) (ws_ yX3_isIn cX3_isIn 3 (some .boolean)) (rmL lev mc ms) mc ms 3 ∧ (Cond.static yX3_isIn).before args s = true := va_cwS 3 hts (lw_S hl q2062 q172 q2063) rfl rfl rfl (by decide +kernel) hR
set_option maxHeartbeats 4000000 in
theorem M_X3_isIn {l : Launch} {G : GE} (hG : GC G) {N : Nat} {v0 : Int32} {v1 : Int32} {v2 : Int32} {ρ : (Int32)} (h : F_X3_isIn N v0 v1 v2 = some ρ) : MR l G yX3_isIn cX3_isIn 3 (some .boolean) 1 [] [.int v0, .int v1, .int v2] ρ := by
  rw [F_X3_isIn] at h
  refine MR.start (rt := .boolean) hG (by decide) (Nat.le_of_ble_eq_true rfl) ?_
  intro p e s m args below meth c Q S hW0 hK hP hret ls hl
  obtain ⟨hx, hb, hml, hown, hts⟩ := id S
  have hl : lv_has ls 3 [(0, .int v0), (1, .int v1), (2, .int v2)] := hl
  refine lv_iload_n hx hb dX3_isIn_0 rfl (lv_at hl 0 rfl) ?_
  refine lv_iload_n hx hb dX3_isIn_1 rfl (lv_at hl 1 rfl) ?_
  refine lv_icmp_lt (tgt := 14) hx hb dX3_isIn_2 (by decide) (fun c1 => ?_) (fun c1 => ?_)
  · rw [if_pos c1] at h
    refine lv_iconst (v := 0) hx hb dX3_isIn_14 (by decide) ?_
    obtain rfl := Option.some.inj h
    exact hret dX3_isIn_15 rfl
  · rw [if_neg c1] at h
    refine lv_iload_n hx hb dX3_isIn_5 rfl (lv_at hl 0 rfl) ?_
    refine lv_iload_n hx hb dX3_isIn_6 rfl (lv_at hl 2 rfl) ?_
    refine lv_icmp_gt (tgt := 14) hx hb dX3_isIn_7 (by decide) (fun c3 => ?_) (fun c3 => ?_)
    · rw [if_pos c3] at h
      refine lv_iconst (v := 0) hx hb dX3_isIn_14 (by decide) ?_
      obtain rfl := Option.some.inj h
      exact hret dX3_isIn_15 rfl
    · rw [if_neg c3] at h
      refine lv_iconst (v := 1) hx hb dX3_isIn_10 (by decide) ?_
      refine lv_goto (tgt := 15) hx hb dX3_isIn_11 (by decide) ?_
      obtain rfl := Option.some.inj h
      exact hret dX3_isIn_15 rfl
def F_X3_isLine (N : Nat) (v1 : Int32) (c_now : (Nat → Int32)) : Option (Int32) := ((F_X3_lines N c_now).bind fun y1 => ((F_X3_isIn N v1 0 (y1 - (1 : Int32))).bind fun y2 => (ckP (y2 &&& 1 = y2) ((some (y2))))))
theorem cw_X3_isLine {R : Room} {s : State} {args : Array Value} {own : String} {index lev mc ms : Nat} (hts : ∀ w ∈ lw_all, w.before args s = true) (hl : Cond.methodLink own index yX3_isLine ∈ lw_all) (hR : (rmL lev mc ms).frames + 1 ≤ R.frames ∧ 8 + (2 + 11) + (rmL lev mc ms).locals ≤ R.locals) : CallW R s args own RX3 index yX3_isLine cX3_isLine 2 (some .boolean) (ws_ yX3_isLine cX3_isLine 2 (some .boolean)) (rmL lev mc ms) mc ms 1 := cwV 1 hts (lw_V hl q2059 qs117 q172 q2060) rfl rfl rfl (by decide +kernel) hR
set_option maxHeartbeats 4000000 in
theorem M_X3_isLine {l : Launch} {G : GE} (hG : GC G) {N : Nat} {h0 : Nat} {ad : Nat → Nat} {c_code : Int32} {c_read : (Nat → Int32)} {c_status : (Nat → Int32)} {c_tape : (Nat → Int32)} {c_taped : Int32} {c_at : Int32} {c_textSize : Int32} {c_token : Int32} {c_number : Int32} {c_begins : Int32} {c_stops : Int32} {c_bad : Int32} {c_badPlace : Int32} {c_faultPlace : Int32} {c_clauses : Int32} {c_naming : (Nat → Int32)} {c_lineBy : (Nat → Int32)} {c_becomes : (Nat → Int32)} {c_dualLines : (Nat → Int32)} {c_on : (Nat → Int32)} {c_rowNow : (Nat → Int32)} {c_least : (Nat → Int32)} {c_wayFirst : (Nat → Int32)} {c_ways : Int32} {c_acts : Int32} {c_past : (Nat → Int32)} {c_listPoints : Int32} {c_listLines : Int32} {c_listed : Int32} {c_list : (Nat → Int32)} {c_path : (Nat → Int32)} {c_places : (Nat → Int32)} {c_firstPlaces : (Nat → Int32)} {c_px : (Nat → Int32)} {c_py : (Nat → Int32)} {c_pz : (Nat → Int32)} {c_placeMany : Int32} {c_modulus : Int32} {c_drawn : Int32} {c_halvesMany : Int32} {c_halvesFirst : Int32} {c_spreadsMany : Int32} {c_spreadsFirst : Int32} {c_comesTo : (Nat → Int32)} {c_seedNow : Int32} {c_rowThen : (Nat → Int32)} {c_hasImage : Int32} {c_actsThen : Int32} {c_imageRow : (Nat → Int32)} {c_pastThen : (Nat → Int32)} {c_statusThen : (Nat → Int32)} {v1 : Int32} {c_now : (Nat → Int32)} {ρ : (Int32)} (h : F_X3_isLine N v1 c_now = some ρ) : MR l G yX3_isLine cX3_isLine 2 (some .boolean) 2 (mW h0 ad G.2.2 c_code c_now c_read c_status c_tape c_taped c_at c_textSize c_token c_number c_begins c_stops c_bad c_badPlace c_faultPlace c_clauses c_naming c_lineBy c_becomes c_dualLines c_on c_rowNow c_least c_wayFirst c_ways c_acts c_past c_listPoints c_listLines c_listed c_list c_path c_places c_firstPlaces c_px c_py c_pz c_placeMany c_modulus c_drawn c_halvesMany c_halvesFirst c_spreadsMany c_spreadsFirst c_comesTo c_seedNow c_rowThen c_hasImage c_actsThen c_imageRow c_pastThen c_statusThen) [.ref h0, .int v1] ρ := by
  rw [F_X3_isLine] at h
  refine MR.start (rt := .boolean) hG (by decide) (Nat.le_of_ble_eq_true rfl) ?_
  intro p e s m args below meth c Q S hW0 hK hP hret ls hl
  obtain ⟨hx, hb, hml, hown, hts⟩ := id S
  have hl : lv_has ls 2 [(0, .ref h0), (1, .int v1)] := hl
  refine lv_iload_n hx hb dX3_isLine_0 rfl (lv_at hl 1 rfl) ?_
  refine lv_iconst (v := 0) hx hb dX3_isLine_1 (by decide) ?_
  refine lv_aload_n hx hb dX3_isLine_2 rfl (lv_at hl 0 rfl) ?_
  obtain ⟨y1, e1, h⟩ := ob_s h
  refine MR.callV (q0 := 0) (M_X3_lines hG e1) S (cw_X3_lines hts q1917 ⟨Nat.le_of_ble_eq_true rfl, Nat.le_of_ble_eq_true rfl⟩) hW0 hK hP rfl rfl rfl hl.1 rfl (Nat.le_of_ble_eq_true rfl) dX3_isLine_3 ⟨Nat.zero_le _, Nat.zero_le _⟩ ?_
  refine lv_iconst (v := 1) hx hb dX3_isLine_6 (by decide) ?_
  refine lv_isub hx hb dX3_isLine_7 ?_
  obtain ⟨y2, e2, h⟩ := ob_s h
  refine MR.callS (M_X3_isIn hG e2) S (cw_X3_isIn hts q2061 ⟨Nat.le_of_ble_eq_true rfl, Nat.le_of_ble_eq_true rfl⟩) hW0 vaP0 rfl hl.1 rfl (Nat.le_of_ble_eq_true rfl) dX3_isLine_8 ⟨Nat.zero_le _, Nat.zero_le _⟩ ?_
  obtain ⟨i4, h⟩ := ckP_s h
  obtain rfl := Option.some.inj h
  exact hret dX3_isLine_11 (nz_of i4)
def F_X3_line (N : Nat) (v1 : Int32) (c_now : (Nat → Int32)) (c_code : Int32) : Option (Int32 × Int32) := ((F_X3_isLine N v1 c_now).bind fun y1 => (if y1 = 0 then ((F_X3_fail N 1 0).bind fun y3 => (some (y3.1, y3.2))) else ((F_X3_lineAt N v1 c_now).bind fun y5 => (some (y5, 0)))))
theorem cw_X3_line {R : Room} {s : State} {args : Array Value} {own : String} {index lev mc ms : Nat} (hts : ∀ w ∈ lw_all, w.before args s = true) (hl : Cond.methodLink own index yX3_line ∈ lw_all) (hR : (rmL lev mc ms).frames + 1 ≤ R.frames ∧ 8 + (2 + 11) + (rmL lev mc ms).locals ≤ R.locals) : CallW R s args own RX3 index yX3_line cX3_line 2 (some .int) (ws_ yX3_line cX3_line 2 (some .int)) (rmL lev mc ms) mc ms 1 := cwV 1 hts (lw_V hl q2054 q2055 q172 q2056) rfl rfl rfl (by decide +kernel) hR
set_option maxHeartbeats 4000000 in
theorem M_X3_line {l : Launch} {G : GE} (hG : GC G) {N : Nat} {h0 : Nat} {ad : Nat → Nat} {c_read : (Nat → Int32)} {c_status : (Nat → Int32)} {c_tape : (Nat → Int32)} {c_taped : Int32} {c_at : Int32} {c_textSize : Int32} {c_token : Int32} {c_number : Int32} {c_begins : Int32} {c_stops : Int32} {c_bad : Int32} {c_badPlace : Int32} {c_faultPlace : Int32} {c_clauses : Int32} {c_naming : (Nat → Int32)} {c_lineBy : (Nat → Int32)} {c_becomes : (Nat → Int32)} {c_dualLines : (Nat → Int32)} {c_on : (Nat → Int32)} {c_rowNow : (Nat → Int32)} {c_least : (Nat → Int32)} {c_wayFirst : (Nat → Int32)} {c_ways : Int32} {c_acts : Int32} {c_past : (Nat → Int32)} {c_listPoints : Int32} {c_listLines : Int32} {c_listed : Int32} {c_list : (Nat → Int32)} {c_path : (Nat → Int32)} {c_places : (Nat → Int32)} {c_firstPlaces : (Nat → Int32)} {c_px : (Nat → Int32)} {c_py : (Nat → Int32)} {c_pz : (Nat → Int32)} {c_placeMany : Int32} {c_modulus : Int32} {c_drawn : Int32} {c_halvesMany : Int32} {c_halvesFirst : Int32} {c_spreadsMany : Int32} {c_spreadsFirst : Int32} {c_comesTo : (Nat → Int32)} {c_seedNow : Int32} {c_rowThen : (Nat → Int32)} {c_hasImage : Int32} {c_actsThen : Int32} {c_imageRow : (Nat → Int32)} {c_pastThen : (Nat → Int32)} {c_statusThen : (Nat → Int32)} {v1 : Int32} {c_now : (Nat → Int32)} {c_code : Int32} {ρ : (Int32 × Int32)} (h : F_X3_line N v1 c_now c_code = some ρ) : MW l G yX3_line cX3_line 2 (some .int) 3 (mW h0 ad G.2.2 c_code c_now c_read c_status c_tape c_taped c_at c_textSize c_token c_number c_begins c_stops c_bad c_badPlace c_faultPlace c_clauses c_naming c_lineBy c_becomes c_dualLines c_on c_rowNow c_least c_wayFirst c_ways c_acts c_past c_listPoints c_listLines c_listed c_list c_path c_places c_firstPlaces c_px c_py c_pz c_placeMany c_modulus c_drawn c_halvesMany c_halvesFirst c_spreadsMany c_spreadsFirst c_comesTo c_seedNow c_rowThen c_hasImage c_actsThen c_imageRow c_pastThen c_statusThen) [.ref h0, .int v1] (some (.int ρ.1)) (mW h0 ad G.2.2 ρ.2 c_now c_read c_status c_tape c_taped c_at c_textSize c_token c_number c_begins c_stops c_bad c_badPlace c_faultPlace c_clauses c_naming c_lineBy c_becomes c_dualLines c_on c_rowNow c_least c_wayFirst c_ways c_acts c_past c_listPoints c_listLines c_listed c_list c_path c_places c_firstPlaces c_px c_py c_pz c_placeMany c_modulus c_drawn c_halvesMany c_halvesFirst c_spreadsMany c_spreadsFirst c_comesTo c_seedNow c_rowThen c_hasImage c_actsThen c_imageRow c_pastThen c_statusThen) := by
  rw [F_X3_line] at h
  refine MW.start hG (by decide) (Nat.le_of_ble_eq_true rfl) ?_
  intro p e s m args below meth c Q A S hW0 hK hP hD hA hreti hretv ls hl
  have hS : va_S A s.heap s.heap [] := va_S.rf
  obtain ⟨hx, hb, hml, hown, hts⟩ := id S
  have hl : lv_has ls 2 [(0, .ref h0), (1, .int v1)] := hl
  refine lv_aload_n hx hb dX3_line_0 rfl (lv_at hl 0 rfl) ?_
  refine lv_iconst (v := 0) hx hb dX3_line_1 (by decide) ?_
  refine va_put (ci := 2) (v := .int 0) (ty := .int) (C := RX3) (T := TX3) (N := 52) hx hb hts in_X3 tyX3 tyX3_ok nmX3 hown hK hP hD hS 0 rfl rfl 0 (by decide) (hts _ q1658) (fun _ h9 => h9) rfl (by decide +kernel) rfl rfl (Nat.le_of_ble_eq_true rfl) dX3_line_2 (fun H locs hP hD hS => ?_)
  have hP : va_P G.2.1 vwCl (mW h0 ad G.2.2 0 c_now c_read c_status c_tape c_taped c_at c_textSize c_token c_number c_begins c_stops c_bad c_badPlace c_faultPlace c_clauses c_naming c_lineBy c_becomes c_dualLines c_on c_rowNow c_least c_wayFirst c_ways c_acts c_past c_listPoints c_listLines c_listed c_list c_path c_places c_firstPlaces c_px c_py c_pz c_placeMany c_modulus c_drawn c_halvesMany c_halvesFirst c_spreadsMany c_spreadsFirst c_comesTo c_seedNow c_rowThen c_hasImage c_actsThen c_imageRow c_pastThen c_statusThen) H := hP
  have hD : va_D A (mW h0 ad G.2.2 0 c_now c_read c_status c_tape c_taped c_at c_textSize c_token c_number c_begins c_stops c_bad c_badPlace c_faultPlace c_clauses c_naming c_lineBy c_becomes c_dualLines c_on c_rowNow c_least c_wayFirst c_ways c_acts c_past c_listPoints c_listLines c_listed c_list c_path c_places c_firstPlaces c_px c_py c_pz c_placeMany c_modulus c_drawn c_halvesMany c_halvesFirst c_spreadsMany c_spreadsFirst c_comesTo c_seedNow c_rowThen c_hasImage c_actsThen c_imageRow c_pastThen c_statusThen) := hD
  refine lv_aload_n hx hb dX3_line_5 rfl (lv_at hl 0 rfl) ?_
  refine lv_iload_n hx hb dX3_line_6 rfl (lv_at hl 1 rfl) ?_
  obtain ⟨y1, e1, h⟩ := ob_s h
  refine MR.callV (q0 := 0) (M_X3_isLine hG e1) S (cw_X3_isLine hts q2057 ⟨Nat.le_of_ble_eq_true rfl, Nat.le_of_ble_eq_true rfl⟩) hW0 hK hP rfl rfl rfl hl.1 rfl (Nat.le_of_ble_eq_true rfl) dX3_line_7 ⟨Nat.zero_le _, Nat.zero_le _⟩ ?_
  refine lv_if_eq (tgt := 21) hx hb dX3_line_10 (by decide) (fun c2 => ?_) (fun c2 => ?_)
  · rw [if_pos c2] at h
    refine lv_aload_n hx hb dX3_line_21 rfl (lv_at hl 0 rfl) ?_
    refine lv_iconst (v := 1) hx hb dX3_line_22 (by decide) ?_
    obtain ⟨y3, e3, h⟩ := ob_s h
    refine MW.callV (q0 := 0) (M_X3_fail hG e3) S (cw_X3_fail hts q1827 ⟨Nat.le_of_ble_eq_true rfl, Nat.le_of_ble_eq_true rfl⟩) hW0 hK hP hD hS hA rfl rfl rfl hl.1 rfl (Nat.le_of_ble_eq_true rfl) dX3_line_23 ⟨Nat.zero_le _, Nat.zero_le _⟩ (fun H locs hP hD hS => ?_)
    have hP : va_P G.2.1 vwCl (mW h0 ad G.2.2 y3.2 c_now c_read c_status c_tape c_taped c_at c_textSize c_token c_number c_begins c_stops c_bad c_badPlace c_faultPlace c_clauses c_naming c_lineBy c_becomes c_dualLines c_on c_rowNow c_least c_wayFirst c_ways c_acts c_past c_listPoints c_listLines c_listed c_list c_path c_places c_firstPlaces c_px c_py c_pz c_placeMany c_modulus c_drawn c_halvesMany c_halvesFirst c_spreadsMany c_spreadsFirst c_comesTo c_seedNow c_rowThen c_hasImage c_actsThen c_imageRow c_pastThen c_statusThen) H := hP
    have hD : va_D A (mW h0 ad G.2.2 y3.2 c_now c_read c_status c_tape c_taped c_at c_textSize c_token c_number c_begins c_stops c_bad c_badPlace c_faultPlace c_clauses c_naming c_lineBy c_becomes c_dualLines c_on c_rowNow c_least c_wayFirst c_ways c_acts c_past c_listPoints c_listLines c_listed c_list c_path c_places c_firstPlaces c_px c_py c_pz c_placeMany c_modulus c_drawn c_halvesMany c_halvesFirst c_spreadsMany c_spreadsFirst c_comesTo c_seedNow c_rowThen c_hasImage c_actsThen c_imageRow c_pastThen c_statusThen) := hD
    refine W.eq (g2 := F0 m 26 ls [.int y3.1]) rfl ?_
    obtain rfl := Option.some.inj h
    exact hreti rfl dX3_line_26 rfl rfl hP hD hS
  · rw [if_neg c2] at h
    refine lv_aload_n hx hb dX3_line_13 rfl (lv_at hl 0 rfl) ?_
    refine lv_iload_n hx hb dX3_line_14 rfl (lv_at hl 1 rfl) ?_
    obtain ⟨y5, e5, h⟩ := ob_s h
    refine MR.callV (q0 := 0) (M_X3_lineAt hG e5) S (cw_X3_lineAt hts q1925 ⟨Nat.le_of_ble_eq_true rfl, Nat.le_of_ble_eq_true rfl⟩) hW0 hK hP rfl rfl rfl hl.1 rfl (Nat.le_of_ble_eq_true rfl) dX3_line_15 ⟨Nat.zero_le _, Nat.zero_le _⟩ ?_
    refine lv_goto (tgt := 26) hx hb dX3_line_18 (by decide) ?_
    obtain rfl := Option.some.inj h
    exact hreti rfl dX3_line_26 rfl rfl hP hD hS
def F_X3_isPoint (N : Nat) (v1 : Int32) (c_now : (Nat → Int32)) : Option (Int32) := ((F_X3_points N c_now).bind fun y1 => ((F_X3_isIn N v1 0 (y1 - (1 : Int32))).bind fun y2 => (ckP (y2 &&& 1 = y2) ((some (y2))))))
theorem cw_X3_isPoint {R : Room} {s : State} {args : Array Value} {own : String} {index lev mc ms : Nat} (hts : ∀ w ∈ lw_all, w.before args s = true) (hl : Cond.methodLink own index yX3_isPoint ∈ lw_all) (hR : (rmL lev mc ms).frames + 1 ≤ R.frames ∧ 8 + (2 + 11) + (rmL lev mc ms).locals ≤ R.locals) : CallW R s args own RX3 index yX3_isPoint cX3_isPoint 2 (some .boolean) (ws_ yX3_isPoint cX3_isPoint 2 (some .boolean)) (rmL lev mc ms) mc ms 1 := cwV 1 hts (lw_V hl q2070 qs118 q172 q2071) rfl rfl rfl (by decide +kernel) hR
set_option maxHeartbeats 4000000 in
theorem M_X3_isPoint {l : Launch} {G : GE} (hG : GC G) {N : Nat} {h0 : Nat} {ad : Nat → Nat} {c_code : Int32} {c_read : (Nat → Int32)} {c_status : (Nat → Int32)} {c_tape : (Nat → Int32)} {c_taped : Int32} {c_at : Int32} {c_textSize : Int32} {c_token : Int32} {c_number : Int32} {c_begins : Int32} {c_stops : Int32} {c_bad : Int32} {c_badPlace : Int32} {c_faultPlace : Int32} {c_clauses : Int32} {c_naming : (Nat → Int32)} {c_lineBy : (Nat → Int32)} {c_becomes : (Nat → Int32)} {c_dualLines : (Nat → Int32)} {c_on : (Nat → Int32)} {c_rowNow : (Nat → Int32)} {c_least : (Nat → Int32)} {c_wayFirst : (Nat → Int32)} {c_ways : Int32} {c_acts : Int32} {c_past : (Nat → Int32)} {c_listPoints : Int32} {c_listLines : Int32} {c_listed : Int32} {c_list : (Nat → Int32)} {c_path : (Nat → Int32)} {c_places : (Nat → Int32)} {c_firstPlaces : (Nat → Int32)} {c_px : (Nat → Int32)} {c_py : (Nat → Int32)} {c_pz : (Nat → Int32)} {c_placeMany : Int32} {c_modulus : Int32} {c_drawn : Int32} {c_halvesMany : Int32} {c_halvesFirst : Int32} {c_spreadsMany : Int32} {c_spreadsFirst : Int32} {c_comesTo : (Nat → Int32)} {c_seedNow : Int32} {c_rowThen : (Nat → Int32)} {c_hasImage : Int32} {c_actsThen : Int32} {c_imageRow : (Nat → Int32)} {c_pastThen : (Nat → Int32)} {c_statusThen : (Nat → Int32)} {v1 : Int32} {c_now : (Nat → Int32)} {ρ : (Int32)} (h : F_X3_isPoint N v1 c_now = some ρ) : MR l G yX3_isPoint cX3_isPoint 2 (some .boolean) 2 (mW h0 ad G.2.2 c_code c_now c_read c_status c_tape c_taped c_at c_textSize c_token c_number c_begins c_stops c_bad c_badPlace c_faultPlace c_clauses c_naming c_lineBy c_becomes c_dualLines c_on c_rowNow c_least c_wayFirst c_ways c_acts c_past c_listPoints c_listLines c_listed c_list c_path c_places c_firstPlaces c_px c_py c_pz c_placeMany c_modulus c_drawn c_halvesMany c_halvesFirst c_spreadsMany c_spreadsFirst c_comesTo c_seedNow c_rowThen c_hasImage c_actsThen c_imageRow c_pastThen c_statusThen) [.ref h0, .int v1] ρ := by
  rw [F_X3_isPoint] at h
  refine MR.start (rt := .boolean) hG (by decide) (Nat.le_of_ble_eq_true rfl) ?_
  intro p e s m args below meth c Q S hW0 hK hP hret ls hl
  obtain ⟨hx, hb, hml, hown, hts⟩ := id S
  have hl : lv_has ls 2 [(0, .ref h0), (1, .int v1)] := hl
  refine lv_iload_n hx hb dX3_isPoint_0 rfl (lv_at hl 1 rfl) ?_
  refine lv_iconst (v := 0) hx hb dX3_isPoint_1 (by decide) ?_
  refine lv_aload_n hx hb dX3_isPoint_2 rfl (lv_at hl 0 rfl) ?_
  obtain ⟨y1, e1, h⟩ := ob_s h
  refine MR.callV (q0 := 0) (M_X3_points hG e1) S (cw_X3_points hts q1913 ⟨Nat.le_of_ble_eq_true rfl, Nat.le_of_ble_eq_true rfl⟩) hW0 hK hP rfl rfl rfl hl.1 rfl (Nat.le_of_ble_eq_true rfl) dX3_isPoint_3 ⟨Nat.zero_le _, Nat.zero_le _⟩ ?_
  refine lv_iconst (v := 1) hx hb dX3_isPoint_6 (by decide) ?_
  refine lv_isub hx hb dX3_isPoint_7 ?_
  obtain ⟨y2, e2, h⟩ := ob_s h
  refine MR.callS (M_X3_isIn hG e2) S (cw_X3_isIn hts q2061 ⟨Nat.le_of_ble_eq_true rfl, Nat.le_of_ble_eq_true rfl⟩) hW0 vaP0 rfl hl.1 rfl (Nat.le_of_ble_eq_true rfl) dX3_isPoint_8 ⟨Nat.zero_le _, Nat.zero_le _⟩ ?_
  obtain ⟨i4, h⟩ := ckP_s h
  obtain rfl := Option.some.inj h
  exact hret dX3_isPoint_11 (nz_of i4)
def F_X3_point (N : Nat) (v1 : Int32) (v2 : Int32) (c_now : (Nat → Int32)) (c_naming : (Nat → Int32)) (c_lineBy : (Nat → Int32)) (c_becomes : (Nat → Int32)) (c_code : Int32) : Option (Int32 × (Nat → Int32) × (Nat → Int32) × (Nat → Int32) × Int32) := ((F_X3_isPoint N v1 c_now).bind fun y1 => (if y1 = 0 then ((F_X3_fail N 1 0).bind fun y25 => (some (y25.1, c_naming, c_lineBy, c_becomes, y25.2))) else (if v2 = 0 then ((F_X3_linesOn N v1 c_now).bind fun y4 => (some (y4, c_naming, c_lineBy, c_becomes, 0))) else (if v2 = 1 then (ckI ((14 : Int32) + v1) 154 (some ((c_now (Int32.toNatClampNeg ((14 : Int32) + v1))), c_naming, c_lineBy, c_becomes, 0))) else (if v2 = 2 then (ckI ((22 : Int32) + v1) 154 (some ((c_now (Int32.toNatClampNeg ((22 : Int32) + v1))), c_naming, c_lineBy, c_becomes, 0))) else (if v2 = 3 then ((F_X3_symmetries N c_now c_naming c_lineBy c_becomes).bind fun y13 => (if y13.1 ≤ 0 then (some (v1, y13.2.1, y13.2.2.1, y13.2.2.2, 0)) else (ckI v1 8 ((F_J16_numberOfTrailingZeros N (y13.2.2.2 (Int32.toNatClampNeg v1))).bind fun y17 => (some (y17, y13.2.1, y13.2.2.1, y13.2.2.2, 0)))))) else (if v2 = 4 then ((F_X3_pieceOf N v1 c_now).bind fun y20 => ((F_J16_numberOfTrailingZeros N y20).bind fun y21 => (some (y21, c_naming, c_lineBy, c_becomes, 0)))) else ((F_X3_fail N 1 0).bind fun y23 => (some (y23.1, c_naming, c_lineBy, c_becomes, y23.2))))))))))
theorem cw_X3_point {R : Room} {s : State} {args : Array Value} {own : String} {index lev mc ms : Nat} (hts : ∀ w ∈ lw_all, w.before args s = true) (hl : Cond.methodLink own index yX3_point ∈ lw_all) (hR : (rmL lev mc ms).frames + 1 ≤ R.frames ∧ 8 + (3 + 11) + (rmL lev mc ms).locals ≤ R.locals) : CallW R s args own RX3 index yX3_point cX3_point 3 (some .int) (ws_ yX3_point cX3_point 3 (some .int)) (rmL lev mc ms) mc ms 2 := cwV 2 hts (lw_V hl q2065 q2066 q172 q2067) rfl rfl rfl (by decide +kernel) hR
set_option maxHeartbeats 4000000 in
theorem M_X3_point {l : Launch} {G : GE} (hG : GC G) {N : Nat} {h0 : Nat} {ad : Nat → Nat} {c_read : (Nat → Int32)} {c_status : (Nat → Int32)} {c_tape : (Nat → Int32)} {c_taped : Int32} {c_at : Int32} {c_textSize : Int32} {c_token : Int32} {c_number : Int32} {c_begins : Int32} {c_stops : Int32} {c_bad : Int32} {c_badPlace : Int32} {c_faultPlace : Int32} {c_clauses : Int32} {c_dualLines : (Nat → Int32)} {c_on : (Nat → Int32)} {c_rowNow : (Nat → Int32)} {c_least : (Nat → Int32)} {c_wayFirst : (Nat → Int32)} {c_ways : Int32} {c_acts : Int32} {c_past : (Nat → Int32)} {c_listPoints : Int32} {c_listLines : Int32} {c_listed : Int32} {c_list : (Nat → Int32)} {c_path : (Nat → Int32)} {c_places : (Nat → Int32)} {c_firstPlaces : (Nat → Int32)} {c_px : (Nat → Int32)} {c_py : (Nat → Int32)} {c_pz : (Nat → Int32)} {c_placeMany : Int32} {c_modulus : Int32} {c_drawn : Int32} {c_halvesMany : Int32} {c_halvesFirst : Int32} {c_spreadsMany : Int32} {c_spreadsFirst : Int32} {c_comesTo : (Nat → Int32)} {c_seedNow : Int32} {c_rowThen : (Nat → Int32)} {c_hasImage : Int32} {c_actsThen : Int32} {c_imageRow : (Nat → Int32)} {c_pastThen : (Nat → Int32)} {c_statusThen : (Nat → Int32)} {v1 : Int32} {v2 : Int32} {c_now : (Nat → Int32)} {c_naming : (Nat → Int32)} {c_lineBy : (Nat → Int32)} {c_becomes : (Nat → Int32)} {c_code : Int32} {ρ : (Int32 × (Nat → Int32) × (Nat → Int32) × (Nat → Int32) × Int32)} (h : F_X3_point N v1 v2 c_now c_naming c_lineBy c_becomes c_code = some ρ) : MW l G yX3_point cX3_point 3 (some .int) 5 (mW h0 ad G.2.2 c_code c_now c_read c_status c_tape c_taped c_at c_textSize c_token c_number c_begins c_stops c_bad c_badPlace c_faultPlace c_clauses c_naming c_lineBy c_becomes c_dualLines c_on c_rowNow c_least c_wayFirst c_ways c_acts c_past c_listPoints c_listLines c_listed c_list c_path c_places c_firstPlaces c_px c_py c_pz c_placeMany c_modulus c_drawn c_halvesMany c_halvesFirst c_spreadsMany c_spreadsFirst c_comesTo c_seedNow c_rowThen c_hasImage c_actsThen c_imageRow c_pastThen c_statusThen) [.ref h0, .int v1, .int v2] (some (.int ρ.1)) (mW h0 ad G.2.2 ρ.2.2.2.2 c_now c_read c_status c_tape c_taped c_at c_textSize c_token c_number c_begins c_stops c_bad c_badPlace c_faultPlace c_clauses ρ.2.1 ρ.2.2.1 ρ.2.2.2.1 c_dualLines c_on c_rowNow c_least c_wayFirst c_ways c_acts c_past c_listPoints c_listLines c_listed c_list c_path c_places c_firstPlaces c_px c_py c_pz c_placeMany c_modulus c_drawn c_halvesMany c_halvesFirst c_spreadsMany c_spreadsFirst c_comesTo c_seedNow c_rowThen c_hasImage c_actsThen c_imageRow c_pastThen c_statusThen) := by
  rw [F_X3_point] at h
  refine MW.start hG (by decide) (Nat.le_of_ble_eq_true rfl) ?_
  intro p e s m args below meth c Q A S hW0 hK hP hD hA hreti hretv ls hl
  have hS : va_S A s.heap s.heap [] := va_S.rf
  obtain ⟨hx, hb, hml, hown, hts⟩ := id S
  have hl : lv_has ls 3 [(0, .ref h0), (1, .int v1), (2, .int v2)] := hl
  refine lv_aload_n hx hb dX3_point_0 rfl (lv_at hl 0 rfl) ?_
  refine lv_iconst (v := 0) hx hb dX3_point_1 (by decide) ?_
  refine va_put (ci := 2) (v := .int 0) (ty := .int) (C := RX3) (T := TX3) (N := 52) hx hb hts in_X3 tyX3 tyX3_ok nmX3 hown hK hP hD hS 0 rfl rfl 0 (by decide) (hts _ q1658) (fun _ h9 => h9) rfl (by decide +kernel) rfl rfl (Nat.le_of_ble_eq_true rfl) dX3_point_2 (fun H locs hP hD hS => ?_)
  have hP : va_P G.2.1 vwCl (mW h0 ad G.2.2 0 c_now c_read c_status c_tape c_taped c_at c_textSize c_token c_number c_begins c_stops c_bad c_badPlace c_faultPlace c_clauses c_naming c_lineBy c_becomes c_dualLines c_on c_rowNow c_least c_wayFirst c_ways c_acts c_past c_listPoints c_listLines c_listed c_list c_path c_places c_firstPlaces c_px c_py c_pz c_placeMany c_modulus c_drawn c_halvesMany c_halvesFirst c_spreadsMany c_spreadsFirst c_comesTo c_seedNow c_rowThen c_hasImage c_actsThen c_imageRow c_pastThen c_statusThen) H := hP
  have hD : va_D A (mW h0 ad G.2.2 0 c_now c_read c_status c_tape c_taped c_at c_textSize c_token c_number c_begins c_stops c_bad c_badPlace c_faultPlace c_clauses c_naming c_lineBy c_becomes c_dualLines c_on c_rowNow c_least c_wayFirst c_ways c_acts c_past c_listPoints c_listLines c_listed c_list c_path c_places c_firstPlaces c_px c_py c_pz c_placeMany c_modulus c_drawn c_halvesMany c_halvesFirst c_spreadsMany c_spreadsFirst c_comesTo c_seedNow c_rowThen c_hasImage c_actsThen c_imageRow c_pastThen c_statusThen) := hD
  refine lv_aload_n hx hb dX3_point_5 rfl (lv_at hl 0 rfl) ?_
  refine lv_iload_n hx hb dX3_point_6 rfl (lv_at hl 1 rfl) ?_
  obtain ⟨y1, e1, h⟩ := ob_s h
  refine MR.callV (q0 := 0) (M_X3_isPoint hG e1) S (cw_X3_isPoint hts q2068 ⟨Nat.le_of_ble_eq_true rfl, Nat.le_of_ble_eq_true rfl⟩) hW0 hK hP rfl rfl rfl hl.1 rfl (Nat.le_of_ble_eq_true rfl) dX3_point_7 ⟨Nat.zero_le _, Nat.zero_le _⟩ ?_
  refine lv_if_ne (tgt := 19) hx hb dX3_point_10 (by decide) (fun c2 => ?_) (fun c2 => ?_)
  · rw [if_neg c2] at h
    refine lv_iload_n hx hb dX3_point_19 rfl (lv_at hl 2 rfl) ?_
    by_cases c3 : v2 = 0
    · rw [if_pos c3] at h
      refine lv_tableIn (off := 36) (tgt := 56) hx hb dX3_point_20 (by rw [c3]; decide) (by rw [c3]; decide) (by rw [c3]; rfl) (by decide) ?_
      refine lv_aload_n hx hb dX3_point_56 rfl (lv_at hl 0 rfl) ?_
      refine lv_iload_n hx hb dX3_point_57 rfl (lv_at hl 1 rfl) ?_
      obtain ⟨y4, e4, h⟩ := ob_s h
      refine MR.callV (q0 := 0) (M_X3_linesOn hG e4) S (cw_X3_linesOn hts q1937 ⟨Nat.le_of_ble_eq_true rfl, Nat.le_of_ble_eq_true rfl⟩) hW0 hK hP rfl rfl rfl hl.1 rfl (Nat.le_of_ble_eq_true rfl) dX3_point_58 ⟨Nat.zero_le _, Nat.zero_le _⟩ ?_
      obtain rfl := Option.some.inj h
      exact hreti rfl dX3_point_61 rfl rfl hP hD hS
    rw [if_neg c3] at h
    by_cases c6 : v2 = 1
    · rw [if_pos c6] at h
      refine lv_tableIn (off := 42) (tgt := 62) hx hb dX3_point_20 (by rw [c6]; decide) (by rw [c6]; decide) (by rw [c6]; rfl) (by decide) ?_
      refine lv_aload_n hx hb dX3_point_62 rfl (lv_at hl 0 rfl) ?_
      refine va_get (ci := 2) (v := .ref (ad 1)) (C := RX3) (T := TX3) (N := 52) hx hb hts in_X3 hown hK hP 0 rfl rfl 1 (by decide) (hts _ q1659) (fun _ h9 => h9) rfl dX3_point_63 ?_
      refine lv_bipush (v := 14) hx hb dX3_point_66 (by decide) ?_
      refine lv_iload_n hx hb dX3_point_68 rfl (lv_at hl 1 rfl) ?_
      refine lv_iadd hx hb dX3_point_69 ?_
      obtain ⟨i7, h⟩ := ckI_s h
      refine va_iald (f := c_now) hx hb hK hP 1 0 rfl rfl i7 dX3_point_70 ?_
      obtain rfl := Option.some.inj h
      exact hreti rfl dX3_point_71 rfl rfl hP hD hS
    rw [if_neg c6] at h
    by_cases c9 : v2 = 2
    · rw [if_pos c9] at h
      refine lv_tableIn (off := 52) (tgt := 72) hx hb dX3_point_20 (by rw [c9]; decide) (by rw [c9]; decide) (by rw [c9]; rfl) (by decide) ?_
      refine lv_aload_n hx hb dX3_point_72 rfl (lv_at hl 0 rfl) ?_
      refine va_get (ci := 2) (v := .ref (ad 1)) (C := RX3) (T := TX3) (N := 52) hx hb hts in_X3 hown hK hP 0 rfl rfl 1 (by decide) (hts _ q1659) (fun _ h9 => h9) rfl dX3_point_73 ?_
      refine lv_bipush (v := 22) hx hb dX3_point_76 (by decide) ?_
      refine lv_iload_n hx hb dX3_point_78 rfl (lv_at hl 1 rfl) ?_
      refine lv_iadd hx hb dX3_point_79 ?_
      obtain ⟨i10, h⟩ := ckI_s h
      refine va_iald (f := c_now) hx hb hK hP 1 0 rfl rfl i10 dX3_point_80 ?_
      obtain rfl := Option.some.inj h
      exact hreti rfl dX3_point_81 rfl rfl hP hD hS
    rw [if_neg c9] at h
    by_cases c12 : v2 = 3
    · rw [if_pos c12] at h
      refine lv_tableIn (off := 62) (tgt := 82) hx hb dX3_point_20 (by rw [c12]; decide) (by rw [c12]; decide) (by rw [c12]; rfl) (by decide) ?_
      refine lv_aload_n hx hb dX3_point_82 rfl (lv_at hl 0 rfl) ?_
      obtain ⟨y13, e13, h⟩ := ob_s h
      refine MW.callV (q0 := 0) (M_X3_symmetries hG e13) S (cw_X3_symmetries hts q1970 ⟨Nat.le_of_ble_eq_true rfl, Nat.le_of_ble_eq_true rfl⟩) hW0 hK hP hD hS hA rfl rfl rfl hl.1 rfl (Nat.le_of_ble_eq_true rfl) dX3_point_83 ⟨Nat.zero_le _, Nat.zero_le _⟩ (fun H locs hP hD hS => ?_)
      have hP : va_P G.2.1 vwCl (mW h0 ad G.2.2 0 c_now c_read c_status c_tape c_taped c_at c_textSize c_token c_number c_begins c_stops c_bad c_badPlace c_faultPlace c_clauses y13.2.1 y13.2.2.1 y13.2.2.2 c_dualLines c_on c_rowNow c_least c_wayFirst c_ways c_acts c_past c_listPoints c_listLines c_listed c_list c_path c_places c_firstPlaces c_px c_py c_pz c_placeMany c_modulus c_drawn c_halvesMany c_halvesFirst c_spreadsMany c_spreadsFirst c_comesTo c_seedNow c_rowThen c_hasImage c_actsThen c_imageRow c_pastThen c_statusThen) H := hP
      have hD : va_D A (mW h0 ad G.2.2 0 c_now c_read c_status c_tape c_taped c_at c_textSize c_token c_number c_begins c_stops c_bad c_badPlace c_faultPlace c_clauses y13.2.1 y13.2.2.1 y13.2.2.2 c_dualLines c_on c_rowNow c_least c_wayFirst c_ways c_acts c_past c_listPoints c_listLines c_listed c_list c_path c_places c_firstPlaces c_px c_py c_pz c_placeMany c_modulus c_drawn c_halvesMany c_halvesFirst c_spreadsMany c_spreadsFirst c_comesTo c_seedNow c_rowThen c_hasImage c_actsThen c_imageRow c_pastThen c_statusThen) := hD
      refine W.eq (g2 := F0 m 86 ls [.int y13.1]) rfl ?_
      refine lv_if_le (tgt := 101) hx hb dX3_point_86 (by decide) (fun c14 => ?_) (fun c14 => ?_)
      · rw [if_pos c14] at h
        refine lv_iload_n hx hb dX3_point_101 rfl (lv_at hl 1 rfl) ?_
        obtain rfl := Option.some.inj h
        exact hreti rfl dX3_point_102 rfl rfl hP hD hS
      · rw [if_neg c14] at h
        refine lv_aload_n hx hb dX3_point_89 rfl (lv_at hl 0 rfl) ?_
        refine va_get (ci := 2) (v := .ref (ad 18)) (C := RX3) (T := TX3) (N := 52) hx hb hts in_X3 hown hK hP 0 rfl rfl 18 (by decide) (hts _ q1676) (fun _ h9 => h9) rfl dX3_point_90 ?_
        refine lv_iload_n hx hb dX3_point_93 rfl (lv_at hl 1 rfl) ?_
        obtain ⟨i16, h⟩ := ckI_s h
        refine va_iald (f := y13.2.2.2) hx hb hK hP 7 0 rfl rfl i16 dX3_point_94 ?_
        obtain ⟨y17, e17, h⟩ := ob_s h
        refine MR.callS (M_J16_numberOfTrailingZeros hG e17) S (cw_J16_numberOfTrailingZeros hts q1969 ⟨Nat.le_of_ble_eq_true rfl, Nat.le_of_ble_eq_true rfl⟩) hW0 vaP0 rfl hl.1 rfl (Nat.le_of_ble_eq_true rfl) dX3_point_95 ⟨Nat.zero_le _, Nat.zero_le _⟩ ?_
        refine lv_goto (tgt := 102) hx hb dX3_point_98 (by decide) ?_
        obtain rfl := Option.some.inj h
        exact hreti rfl dX3_point_102 rfl rfl hP hD hS
    rw [if_neg c12] at h
    by_cases c19 : v2 = 4
    · rw [if_pos c19] at h
      refine lv_tableIn (off := 83) (tgt := 103) hx hb dX3_point_20 (by rw [c19]; decide) (by rw [c19]; decide) (by rw [c19]; rfl) (by decide) ?_
      refine lv_aload_n hx hb dX3_point_103 rfl (lv_at hl 0 rfl) ?_
      refine lv_iload_n hx hb dX3_point_104 rfl (lv_at hl 1 rfl) ?_
      obtain ⟨y20, e20, h⟩ := ob_s h
      refine MR.callV (q0 := 0) (M_X3_pieceOf hG e20) S (cw_X3_pieceOf hts q1965 ⟨Nat.le_of_ble_eq_true rfl, Nat.le_of_ble_eq_true rfl⟩) hW0 hK hP rfl rfl rfl hl.1 rfl (Nat.le_of_ble_eq_true rfl) dX3_point_105 ⟨Nat.zero_le _, Nat.zero_le _⟩ ?_
      obtain ⟨y21, e21, h⟩ := ob_s h
      refine MR.callS (M_J16_numberOfTrailingZeros hG e21) S (cw_J16_numberOfTrailingZeros hts q1969 ⟨Nat.le_of_ble_eq_true rfl, Nat.le_of_ble_eq_true rfl⟩) hW0 vaP0 rfl hl.1 rfl (Nat.le_of_ble_eq_true rfl) dX3_point_108 ⟨Nat.zero_le _, Nat.zero_le _⟩ ?_
      obtain rfl := Option.some.inj h
      exact hreti rfl dX3_point_111 rfl rfl hP hD hS
    rw [if_neg c19] at h
    refine lv_tableOut (tgt := 112) hx hb dX3_point_20 (sw_out v2 [0, 1, 2, 3, 4] rfl (by simp [c3, c6, c9, c12, c19])) (by decide) ?_
    refine lv_aload_n hx hb dX3_point_112 rfl (lv_at hl 0 rfl) ?_
    refine lv_iconst (v := 1) hx hb dX3_point_113 (by decide) ?_
    obtain ⟨y23, e23, h⟩ := ob_s h
    refine MW.callV (q0 := 0) (M_X3_fail hG e23) S (cw_X3_fail hts q1827 ⟨Nat.le_of_ble_eq_true rfl, Nat.le_of_ble_eq_true rfl⟩) hW0 hK hP hD hS hA rfl rfl rfl hl.1 rfl (Nat.le_of_ble_eq_true rfl) dX3_point_114 ⟨Nat.zero_le _, Nat.zero_le _⟩ (fun H locs hP hD hS => ?_)
    have hP : va_P G.2.1 vwCl (mW h0 ad G.2.2 y23.2 c_now c_read c_status c_tape c_taped c_at c_textSize c_token c_number c_begins c_stops c_bad c_badPlace c_faultPlace c_clauses c_naming c_lineBy c_becomes c_dualLines c_on c_rowNow c_least c_wayFirst c_ways c_acts c_past c_listPoints c_listLines c_listed c_list c_path c_places c_firstPlaces c_px c_py c_pz c_placeMany c_modulus c_drawn c_halvesMany c_halvesFirst c_spreadsMany c_spreadsFirst c_comesTo c_seedNow c_rowThen c_hasImage c_actsThen c_imageRow c_pastThen c_statusThen) H := hP
    have hD : va_D A (mW h0 ad G.2.2 y23.2 c_now c_read c_status c_tape c_taped c_at c_textSize c_token c_number c_begins c_stops c_bad c_badPlace c_faultPlace c_clauses c_naming c_lineBy c_becomes c_dualLines c_on c_rowNow c_least c_wayFirst c_ways c_acts c_past c_listPoints c_listLines c_listed c_list c_path c_places c_firstPlaces c_px c_py c_pz c_placeMany c_modulus c_drawn c_halvesMany c_halvesFirst c_spreadsMany c_spreadsFirst c_comesTo c_seedNow c_rowThen c_hasImage c_actsThen c_imageRow c_pastThen c_statusThen) := hD
    refine W.eq (g2 := F0 m 117 ls [.int y23.1]) rfl ?_
    obtain rfl := Option.some.inj h
    exact hreti rfl dX3_point_117 rfl rfl hP hD hS
  · rw [if_pos c2] at h
    refine lv_aload_n hx hb dX3_point_13 rfl (lv_at hl 0 rfl) ?_
    refine lv_iconst (v := 1) hx hb dX3_point_14 (by decide) ?_
    obtain ⟨y25, e25, h⟩ := ob_s h
    refine MW.callV (q0 := 0) (M_X3_fail hG e25) S (cw_X3_fail hts q1827 ⟨Nat.le_of_ble_eq_true rfl, Nat.le_of_ble_eq_true rfl⟩) hW0 hK hP hD hS hA rfl rfl rfl hl.1 rfl (Nat.le_of_ble_eq_true rfl) dX3_point_15 ⟨Nat.zero_le _, Nat.zero_le _⟩ (fun H locs hP hD hS => ?_)
    have hP : va_P G.2.1 vwCl (mW h0 ad G.2.2 y25.2 c_now c_read c_status c_tape c_taped c_at c_textSize c_token c_number c_begins c_stops c_bad c_badPlace c_faultPlace c_clauses c_naming c_lineBy c_becomes c_dualLines c_on c_rowNow c_least c_wayFirst c_ways c_acts c_past c_listPoints c_listLines c_listed c_list c_path c_places c_firstPlaces c_px c_py c_pz c_placeMany c_modulus c_drawn c_halvesMany c_halvesFirst c_spreadsMany c_spreadsFirst c_comesTo c_seedNow c_rowThen c_hasImage c_actsThen c_imageRow c_pastThen c_statusThen) H := hP
    have hD : va_D A (mW h0 ad G.2.2 y25.2 c_now c_read c_status c_tape c_taped c_at c_textSize c_token c_number c_begins c_stops c_bad c_badPlace c_faultPlace c_clauses c_naming c_lineBy c_becomes c_dualLines c_on c_rowNow c_least c_wayFirst c_ways c_acts c_past c_listPoints c_listLines c_listed c_list c_path c_places c_firstPlaces c_px c_py c_pz c_placeMany c_modulus c_drawn c_halvesMany c_halvesFirst c_spreadsMany c_spreadsFirst c_comesTo c_seedNow c_rowThen c_hasImage c_actsThen c_imageRow c_pastThen c_statusThen) := hD
    refine W.eq (g2 := F0 m 18 ls [.int y25.1]) rfl ?_
    obtain rfl := Option.some.inj h
    exact hreti rfl dX3_point_18 rfl rfl hP hD hS
def F_X3_joined (N : Nat) (v1 : Int32) (v2 : Int32) (c_now : (Nat → Int32)) (c_code : Int32) : Option (Int32 × Int32) := ((F_X3_isPoint N v1 c_now).bind fun y1 => (if y1 = 0 then ((F_X3_fail N 1 0).bind fun y3 => (some (y3.1, y3.2))) else ((F_X3_isPoint N v2 c_now).bind fun y5 => (if y5 = 0 then ((F_X3_fail N 1 0).bind fun y12 => (some (y12.1, y12.2))) else (if v1 = v2 then ((F_X3_fail N 2 0).bind fun y10 => (some (y10.1, y10.2))) else ((F_X3_lineOf N (((1 : Int32) <<< (v1 &&& 31)) ||| ((1 : Int32) <<< (v2 &&& 31))) c_now).bind fun y8 => (some (y8, 0))))))))
theorem cw_X3_joined {R : Room} {s : State} {args : Array Value} {own : String} {index lev mc ms : Nat} (hts : ∀ w ∈ lw_all, w.before args s = true) (hl : Cond.methodLink own index yX3_joined ∈ lw_all) (hR : (rmL lev mc ms).frames + 1 ≤ R.frames ∧ 8 + (3 + 11) + (rmL lev mc ms).locals ≤ R.locals) : CallW R s args own RX3 index yX3_joined cX3_joined 3 (some .int) (ws_ yX3_joined cX3_joined 3 (some .int)) (rmL lev mc ms) mc ms 2 := cwV 2 hts (lw_V hl q2073 q2074 q172 q2075) rfl rfl rfl (by decide +kernel) hR
set_option maxHeartbeats 4000000 in
theorem M_X3_joined {l : Launch} {G : GE} (hG : GC G) {N : Nat} {h0 : Nat} {ad : Nat → Nat} {c_read : (Nat → Int32)} {c_status : (Nat → Int32)} {c_tape : (Nat → Int32)} {c_taped : Int32} {c_at : Int32} {c_textSize : Int32} {c_token : Int32} {c_number : Int32} {c_begins : Int32} {c_stops : Int32} {c_bad : Int32} {c_badPlace : Int32} {c_faultPlace : Int32} {c_clauses : Int32} {c_naming : (Nat → Int32)} {c_lineBy : (Nat → Int32)} {c_becomes : (Nat → Int32)} {c_dualLines : (Nat → Int32)} {c_on : (Nat → Int32)} {c_rowNow : (Nat → Int32)} {c_least : (Nat → Int32)} {c_wayFirst : (Nat → Int32)} {c_ways : Int32} {c_acts : Int32} {c_past : (Nat → Int32)} {c_listPoints : Int32} {c_listLines : Int32} {c_listed : Int32} {c_list : (Nat → Int32)} {c_path : (Nat → Int32)} {c_places : (Nat → Int32)} {c_firstPlaces : (Nat → Int32)} {c_px : (Nat → Int32)} {c_py : (Nat → Int32)} {c_pz : (Nat → Int32)} {c_placeMany : Int32} {c_modulus : Int32} {c_drawn : Int32} {c_halvesMany : Int32} {c_halvesFirst : Int32} {c_spreadsMany : Int32} {c_spreadsFirst : Int32} {c_comesTo : (Nat → Int32)} {c_seedNow : Int32} {c_rowThen : (Nat → Int32)} {c_hasImage : Int32} {c_actsThen : Int32} {c_imageRow : (Nat → Int32)} {c_pastThen : (Nat → Int32)} {c_statusThen : (Nat → Int32)} {v1 : Int32} {v2 : Int32} {c_now : (Nat → Int32)} {c_code : Int32} {ρ : (Int32 × Int32)} (h : F_X3_joined N v1 v2 c_now c_code = some ρ) : MW l G yX3_joined cX3_joined 3 (some .int) 3 (mW h0 ad G.2.2 c_code c_now c_read c_status c_tape c_taped c_at c_textSize c_token c_number c_begins c_stops c_bad c_badPlace c_faultPlace c_clauses c_naming c_lineBy c_becomes c_dualLines c_on c_rowNow c_least c_wayFirst c_ways c_acts c_past c_listPoints c_listLines c_listed c_list c_path c_places c_firstPlaces c_px c_py c_pz c_placeMany c_modulus c_drawn c_halvesMany c_halvesFirst c_spreadsMany c_spreadsFirst c_comesTo c_seedNow c_rowThen c_hasImage c_actsThen c_imageRow c_pastThen c_statusThen) [.ref h0, .int v1, .int v2] (some (.int ρ.1)) (mW h0 ad G.2.2 ρ.2 c_now c_read c_status c_tape c_taped c_at c_textSize c_token c_number c_begins c_stops c_bad c_badPlace c_faultPlace c_clauses c_naming c_lineBy c_becomes c_dualLines c_on c_rowNow c_least c_wayFirst c_ways c_acts c_past c_listPoints c_listLines c_listed c_list c_path c_places c_firstPlaces c_px c_py c_pz c_placeMany c_modulus c_drawn c_halvesMany c_halvesFirst c_spreadsMany c_spreadsFirst c_comesTo c_seedNow c_rowThen c_hasImage c_actsThen c_imageRow c_pastThen c_statusThen) := by
  rw [F_X3_joined] at h
  refine MW.start hG (by decide) (Nat.le_of_ble_eq_true rfl) ?_
  intro p e s m args below meth c Q A S hW0 hK hP hD hA hreti hretv ls hl
  have hS : va_S A s.heap s.heap [] := va_S.rf
  obtain ⟨hx, hb, hml, hown, hts⟩ := id S
  have hl : lv_has ls 3 [(0, .ref h0), (1, .int v1), (2, .int v2)] := hl
  refine lv_aload_n hx hb dX3_joined_0 rfl (lv_at hl 0 rfl) ?_
  refine lv_iconst (v := 0) hx hb dX3_joined_1 (by decide) ?_
  refine va_put (ci := 2) (v := .int 0) (ty := .int) (C := RX3) (T := TX3) (N := 52) hx hb hts in_X3 tyX3 tyX3_ok nmX3 hown hK hP hD hS 0 rfl rfl 0 (by decide) (hts _ q1658) (fun _ h9 => h9) rfl (by decide +kernel) rfl rfl (Nat.le_of_ble_eq_true rfl) dX3_joined_2 (fun H locs hP hD hS => ?_)
  have hP : va_P G.2.1 vwCl (mW h0 ad G.2.2 0 c_now c_read c_status c_tape c_taped c_at c_textSize c_token c_number c_begins c_stops c_bad c_badPlace c_faultPlace c_clauses c_naming c_lineBy c_becomes c_dualLines c_on c_rowNow c_least c_wayFirst c_ways c_acts c_past c_listPoints c_listLines c_listed c_list c_path c_places c_firstPlaces c_px c_py c_pz c_placeMany c_modulus c_drawn c_halvesMany c_halvesFirst c_spreadsMany c_spreadsFirst c_comesTo c_seedNow c_rowThen c_hasImage c_actsThen c_imageRow c_pastThen c_statusThen) H := hP
  have hD : va_D A (mW h0 ad G.2.2 0 c_now c_read c_status c_tape c_taped c_at c_textSize c_token c_number c_begins c_stops c_bad c_badPlace c_faultPlace c_clauses c_naming c_lineBy c_becomes c_dualLines c_on c_rowNow c_least c_wayFirst c_ways c_acts c_past c_listPoints c_listLines c_listed c_list c_path c_places c_firstPlaces c_px c_py c_pz c_placeMany c_modulus c_drawn c_halvesMany c_halvesFirst c_spreadsMany c_spreadsFirst c_comesTo c_seedNow c_rowThen c_hasImage c_actsThen c_imageRow c_pastThen c_statusThen) := hD
  refine lv_aload_n hx hb dX3_joined_5 rfl (lv_at hl 0 rfl) ?_
  refine lv_iload_n hx hb dX3_joined_6 rfl (lv_at hl 1 rfl) ?_
  obtain ⟨y1, e1, h⟩ := ob_s h
  refine MR.callV (q0 := 0) (M_X3_isPoint hG e1) S (cw_X3_isPoint hts q2068 ⟨Nat.le_of_ble_eq_true rfl, Nat.le_of_ble_eq_true rfl⟩) hW0 hK hP rfl rfl rfl hl.1 rfl (Nat.le_of_ble_eq_true rfl) dX3_joined_7 ⟨Nat.zero_le _, Nat.zero_le _⟩ ?_
  refine lv_if_eq (tgt := 21) hx hb dX3_joined_10 (by decide) (fun c2 => ?_) (fun c2 => ?_)
  · rw [if_pos c2] at h
    refine lv_aload_n hx hb dX3_joined_21 rfl (lv_at hl 0 rfl) ?_
    refine lv_iconst (v := 1) hx hb dX3_joined_22 (by decide) ?_
    obtain ⟨y3, e3, h⟩ := ob_s h
    refine MW.callV (q0 := 0) (M_X3_fail hG e3) S (cw_X3_fail hts q1827 ⟨Nat.le_of_ble_eq_true rfl, Nat.le_of_ble_eq_true rfl⟩) hW0 hK hP hD hS hA rfl rfl rfl hl.1 rfl (Nat.le_of_ble_eq_true rfl) dX3_joined_23 ⟨Nat.zero_le _, Nat.zero_le _⟩ (fun H locs hP hD hS => ?_)
    have hP : va_P G.2.1 vwCl (mW h0 ad G.2.2 y3.2 c_now c_read c_status c_tape c_taped c_at c_textSize c_token c_number c_begins c_stops c_bad c_badPlace c_faultPlace c_clauses c_naming c_lineBy c_becomes c_dualLines c_on c_rowNow c_least c_wayFirst c_ways c_acts c_past c_listPoints c_listLines c_listed c_list c_path c_places c_firstPlaces c_px c_py c_pz c_placeMany c_modulus c_drawn c_halvesMany c_halvesFirst c_spreadsMany c_spreadsFirst c_comesTo c_seedNow c_rowThen c_hasImage c_actsThen c_imageRow c_pastThen c_statusThen) H := hP
    have hD : va_D A (mW h0 ad G.2.2 y3.2 c_now c_read c_status c_tape c_taped c_at c_textSize c_token c_number c_begins c_stops c_bad c_badPlace c_faultPlace c_clauses c_naming c_lineBy c_becomes c_dualLines c_on c_rowNow c_least c_wayFirst c_ways c_acts c_past c_listPoints c_listLines c_listed c_list c_path c_places c_firstPlaces c_px c_py c_pz c_placeMany c_modulus c_drawn c_halvesMany c_halvesFirst c_spreadsMany c_spreadsFirst c_comesTo c_seedNow c_rowThen c_hasImage c_actsThen c_imageRow c_pastThen c_statusThen) := hD
    refine W.eq (g2 := F0 m 26 ls [.int y3.1]) rfl ?_
    obtain rfl := Option.some.inj h
    exact hreti rfl dX3_joined_26 rfl rfl hP hD hS
  · rw [if_neg c2] at h
    refine lv_aload_n hx hb dX3_joined_13 rfl (lv_at hl 0 rfl) ?_
    refine lv_iload_n hx hb dX3_joined_14 rfl (lv_at hl 2 rfl) ?_
    obtain ⟨y5, e5, h⟩ := ob_s h
    refine MR.callV (q0 := 0) (M_X3_isPoint hG e5) S (cw_X3_isPoint hts q2068 ⟨Nat.le_of_ble_eq_true rfl, Nat.le_of_ble_eq_true rfl⟩) hW0 hK hP rfl rfl rfl hl.1 rfl (Nat.le_of_ble_eq_true rfl) dX3_joined_15 ⟨Nat.zero_le _, Nat.zero_le _⟩ ?_
    refine lv_if_ne (tgt := 27) hx hb dX3_joined_18 (by decide) (fun c6 => ?_) (fun c6 => ?_)
    · rw [if_neg c6] at h
      refine lv_iload_n hx hb dX3_joined_27 rfl (lv_at hl 1 rfl) ?_
      refine lv_iload_n hx hb dX3_joined_28 rfl (lv_at hl 2 rfl) ?_
      refine lv_icmp_ne (tgt := 40) hx hb dX3_joined_29 (by decide) (fun c7 => ?_) (fun c7 => ?_)
      · rw [if_neg c7] at h
        refine lv_aload_n hx hb dX3_joined_40 rfl (lv_at hl 0 rfl) ?_
        refine lv_iconst (v := 1) hx hb dX3_joined_41 (by decide) ?_
        refine lv_iload_n hx hb dX3_joined_42 rfl (lv_at hl 1 rfl) ?_
        refine lv_ishl hx hb dX3_joined_43 ?_
        refine lv_iconst (v := 1) hx hb dX3_joined_44 (by decide) ?_
        refine lv_iload_n hx hb dX3_joined_45 rfl (lv_at hl 2 rfl) ?_
        refine lv_ishl hx hb dX3_joined_46 ?_
        refine lv_ior hx hb dX3_joined_47 ?_
        obtain ⟨y8, e8, h⟩ := ob_s h
        refine MR.callV (q0 := 0) (M_X3_lineOf hG e8) S (cw_X3_lineOf hts q1953 ⟨Nat.le_of_ble_eq_true rfl, Nat.le_of_ble_eq_true rfl⟩) hW0 hK hP rfl rfl rfl hl.1 rfl (Nat.le_of_ble_eq_true rfl) dX3_joined_48 ⟨Nat.zero_le _, Nat.zero_le _⟩ ?_
        obtain rfl := Option.some.inj h
        exact hreti rfl dX3_joined_51 rfl rfl hP hD hS
      · rw [if_pos c7] at h
        refine lv_aload_n hx hb dX3_joined_32 rfl (lv_at hl 0 rfl) ?_
        refine lv_iconst (v := 2) hx hb dX3_joined_33 (by decide) ?_
        obtain ⟨y10, e10, h⟩ := ob_s h
        refine MW.callV (q0 := 0) (M_X3_fail hG e10) S (cw_X3_fail hts q1827 ⟨Nat.le_of_ble_eq_true rfl, Nat.le_of_ble_eq_true rfl⟩) hW0 hK hP hD hS hA rfl rfl rfl hl.1 rfl (Nat.le_of_ble_eq_true rfl) dX3_joined_34 ⟨Nat.zero_le _, Nat.zero_le _⟩ (fun H locs hP hD hS => ?_)
        have hP : va_P G.2.1 vwCl (mW h0 ad G.2.2 y10.2 c_now c_read c_status c_tape c_taped c_at c_textSize c_token c_number c_begins c_stops c_bad c_badPlace c_faultPlace c_clauses c_naming c_lineBy c_becomes c_dualLines c_on c_rowNow c_least c_wayFirst c_ways c_acts c_past c_listPoints c_listLines c_listed c_list c_path c_places c_firstPlaces c_px c_py c_pz c_placeMany c_modulus c_drawn c_halvesMany c_halvesFirst c_spreadsMany c_spreadsFirst c_comesTo c_seedNow c_rowThen c_hasImage c_actsThen c_imageRow c_pastThen c_statusThen) H := hP
        have hD : va_D A (mW h0 ad G.2.2 y10.2 c_now c_read c_status c_tape c_taped c_at c_textSize c_token c_number c_begins c_stops c_bad c_badPlace c_faultPlace c_clauses c_naming c_lineBy c_becomes c_dualLines c_on c_rowNow c_least c_wayFirst c_ways c_acts c_past c_listPoints c_listLines c_listed c_list c_path c_places c_firstPlaces c_px c_py c_pz c_placeMany c_modulus c_drawn c_halvesMany c_halvesFirst c_spreadsMany c_spreadsFirst c_comesTo c_seedNow c_rowThen c_hasImage c_actsThen c_imageRow c_pastThen c_statusThen) := hD
        refine W.eq (g2 := F0 m 37 ls [.int y10.1]) rfl ?_
        refine lv_goto (tgt := 51) hx hb dX3_joined_37 (by decide) ?_
        obtain rfl := Option.some.inj h
        exact hreti rfl dX3_joined_51 rfl rfl hP hD hS
    · rw [if_pos c6] at h
      refine lv_aload_n hx hb dX3_joined_21 rfl (lv_at hl 0 rfl) ?_
      refine lv_iconst (v := 1) hx hb dX3_joined_22 (by decide) ?_
      obtain ⟨y12, e12, h⟩ := ob_s h
      refine MW.callV (q0 := 0) (M_X3_fail hG e12) S (cw_X3_fail hts q1827 ⟨Nat.le_of_ble_eq_true rfl, Nat.le_of_ble_eq_true rfl⟩) hW0 hK hP hD hS hA rfl rfl rfl hl.1 rfl (Nat.le_of_ble_eq_true rfl) dX3_joined_23 ⟨Nat.zero_le _, Nat.zero_le _⟩ (fun H locs hP hD hS => ?_)
      have hP : va_P G.2.1 vwCl (mW h0 ad G.2.2 y12.2 c_now c_read c_status c_tape c_taped c_at c_textSize c_token c_number c_begins c_stops c_bad c_badPlace c_faultPlace c_clauses c_naming c_lineBy c_becomes c_dualLines c_on c_rowNow c_least c_wayFirst c_ways c_acts c_past c_listPoints c_listLines c_listed c_list c_path c_places c_firstPlaces c_px c_py c_pz c_placeMany c_modulus c_drawn c_halvesMany c_halvesFirst c_spreadsMany c_spreadsFirst c_comesTo c_seedNow c_rowThen c_hasImage c_actsThen c_imageRow c_pastThen c_statusThen) H := hP
      have hD : va_D A (mW h0 ad G.2.2 y12.2 c_now c_read c_status c_tape c_taped c_at c_textSize c_token c_number c_begins c_stops c_bad c_badPlace c_faultPlace c_clauses c_naming c_lineBy c_becomes c_dualLines c_on c_rowNow c_least c_wayFirst c_ways c_acts c_past c_listPoints c_listLines c_listed c_list c_path c_places c_firstPlaces c_px c_py c_pz c_placeMany c_modulus c_drawn c_halvesMany c_halvesFirst c_spreadsMany c_spreadsFirst c_comesTo c_seedNow c_rowThen c_hasImage c_actsThen c_imageRow c_pastThen c_statusThen) := hD
      refine W.eq (g2 := F0 m 26 ls [.int y12.1]) rfl ?_
      obtain rfl := Option.some.inj h
      exact hreti rfl dX3_joined_26 rfl rfl hP hD hS
def F_X3_meet (N : Nat) (v1 : Int32) (v2 : Int32) (c_now : (Nat → Int32)) (c_code : Int32) : Option (Int32 × Int32) := ((F_X3_isLine N v1 c_now).bind fun y1 => (if y1 = 0 then ((F_X3_fail N 1 0).bind fun y3 => (some (y3.1, y3.2))) else ((F_X3_isLine N v2 c_now).bind fun y5 => (if y5 = 0 then ((F_X3_fail N 1 0).bind fun y16 => (some (y16.1, y16.2))) else ((F_X3_lineAt N v1 c_now).bind fun y7 => ((F_X3_lineAt N v2 c_now).bind fun y8 => (if v1 = v2 then ((F_X3_fail N 2 0).bind fun y14 => (some (y14.1, y14.2))) else (if (y7 &&& y8) = 0 then (some ((-1), 0)) else ((F_J16_numberOfTrailingZeros N (y7 &&& y8)).bind fun y11 => (some (y11, 0)))))))))))
theorem cw_X3_meet {R : Room} {s : State} {args : Array Value} {own : String} {index lev mc ms : Nat} (hts : ∀ w ∈ lw_all, w.before args s = true) (hl : Cond.methodLink own index yX3_meet ∈ lw_all) (hR : (rmL lev mc ms).frames + 1 ≤ R.frames ∧ 8 + (4 + 11) + (rmL lev mc ms).locals ≤ R.locals) : CallW R s args own RX3 index yX3_meet cX3_meet 4 (some .int) (ws_ yX3_meet cX3_meet 4 (some .int)) (rmL lev mc ms) mc ms 2 := cwV 2 hts (lw_V hl q2077 q2078 q172 q2079) rfl rfl rfl (by decide +kernel) hR
set_option maxHeartbeats 4000000 in
theorem M_X3_meet {l : Launch} {G : GE} (hG : GC G) {N : Nat} {h0 : Nat} {ad : Nat → Nat} {c_read : (Nat → Int32)} {c_status : (Nat → Int32)} {c_tape : (Nat → Int32)} {c_taped : Int32} {c_at : Int32} {c_textSize : Int32} {c_token : Int32} {c_number : Int32} {c_begins : Int32} {c_stops : Int32} {c_bad : Int32} {c_badPlace : Int32} {c_faultPlace : Int32} {c_clauses : Int32} {c_naming : (Nat → Int32)} {c_lineBy : (Nat → Int32)} {c_becomes : (Nat → Int32)} {c_dualLines : (Nat → Int32)} {c_on : (Nat → Int32)} {c_rowNow : (Nat → Int32)} {c_least : (Nat → Int32)} {c_wayFirst : (Nat → Int32)} {c_ways : Int32} {c_acts : Int32} {c_past : (Nat → Int32)} {c_listPoints : Int32} {c_listLines : Int32} {c_listed : Int32} {c_list : (Nat → Int32)} {c_path : (Nat → Int32)} {c_places : (Nat → Int32)} {c_firstPlaces : (Nat → Int32)} {c_px : (Nat → Int32)} {c_py : (Nat → Int32)} {c_pz : (Nat → Int32)} {c_placeMany : Int32} {c_modulus : Int32} {c_drawn : Int32} {c_halvesMany : Int32} {c_halvesFirst : Int32} {c_spreadsMany : Int32} {c_spreadsFirst : Int32} {c_comesTo : (Nat → Int32)} {c_seedNow : Int32} {c_rowThen : (Nat → Int32)} {c_hasImage : Int32} {c_actsThen : Int32} {c_imageRow : (Nat → Int32)} {c_pastThen : (Nat → Int32)} {c_statusThen : (Nat → Int32)} {v1 : Int32} {v2 : Int32} {c_now : (Nat → Int32)} {c_code : Int32} {ρ : (Int32 × Int32)} (h : F_X3_meet N v1 v2 c_now c_code = some ρ) : MW l G yX3_meet cX3_meet 4 (some .int) 3 (mW h0 ad G.2.2 c_code c_now c_read c_status c_tape c_taped c_at c_textSize c_token c_number c_begins c_stops c_bad c_badPlace c_faultPlace c_clauses c_naming c_lineBy c_becomes c_dualLines c_on c_rowNow c_least c_wayFirst c_ways c_acts c_past c_listPoints c_listLines c_listed c_list c_path c_places c_firstPlaces c_px c_py c_pz c_placeMany c_modulus c_drawn c_halvesMany c_halvesFirst c_spreadsMany c_spreadsFirst c_comesTo c_seedNow c_rowThen c_hasImage c_actsThen c_imageRow c_pastThen c_statusThen) [.ref h0, .int v1, .int v2] (some (.int ρ.1)) (mW h0 ad G.2.2 ρ.2 c_now c_read c_status c_tape c_taped c_at c_textSize c_token c_number c_begins c_stops c_bad c_badPlace c_faultPlace c_clauses c_naming c_lineBy c_becomes c_dualLines c_on c_rowNow c_least c_wayFirst c_ways c_acts c_past c_listPoints c_listLines c_listed c_list c_path c_places c_firstPlaces c_px c_py c_pz c_placeMany c_modulus c_drawn c_halvesMany c_halvesFirst c_spreadsMany c_spreadsFirst c_comesTo c_seedNow c_rowThen c_hasImage c_actsThen c_imageRow c_pastThen c_statusThen) := by
  rw [F_X3_meet] at h
  refine MW.start hG (by decide) (Nat.le_of_ble_eq_true rfl) ?_
  intro p e s m args below meth c Q A S hW0 hK hP hD hA hreti hretv ls hl
  have hS : va_S A s.heap s.heap [] := va_S.rf
  obtain ⟨hx, hb, hml, hown, hts⟩ := id S
  have hl : lv_has ls 4 [(0, .ref h0), (1, .int v1), (2, .int v2)] := hl
  refine lv_aload_n hx hb dX3_meet_0 rfl (lv_at hl 0 rfl) ?_
  refine lv_iconst (v := 0) hx hb dX3_meet_1 (by decide) ?_
  refine va_put (ci := 2) (v := .int 0) (ty := .int) (C := RX3) (T := TX3) (N := 52) hx hb hts in_X3 tyX3 tyX3_ok nmX3 hown hK hP hD hS 0 rfl rfl 0 (by decide) (hts _ q1658) (fun _ h9 => h9) rfl (by decide +kernel) rfl rfl (Nat.le_of_ble_eq_true rfl) dX3_meet_2 (fun H locs hP hD hS => ?_)
  have hP : va_P G.2.1 vwCl (mW h0 ad G.2.2 0 c_now c_read c_status c_tape c_taped c_at c_textSize c_token c_number c_begins c_stops c_bad c_badPlace c_faultPlace c_clauses c_naming c_lineBy c_becomes c_dualLines c_on c_rowNow c_least c_wayFirst c_ways c_acts c_past c_listPoints c_listLines c_listed c_list c_path c_places c_firstPlaces c_px c_py c_pz c_placeMany c_modulus c_drawn c_halvesMany c_halvesFirst c_spreadsMany c_spreadsFirst c_comesTo c_seedNow c_rowThen c_hasImage c_actsThen c_imageRow c_pastThen c_statusThen) H := hP
  have hD : va_D A (mW h0 ad G.2.2 0 c_now c_read c_status c_tape c_taped c_at c_textSize c_token c_number c_begins c_stops c_bad c_badPlace c_faultPlace c_clauses c_naming c_lineBy c_becomes c_dualLines c_on c_rowNow c_least c_wayFirst c_ways c_acts c_past c_listPoints c_listLines c_listed c_list c_path c_places c_firstPlaces c_px c_py c_pz c_placeMany c_modulus c_drawn c_halvesMany c_halvesFirst c_spreadsMany c_spreadsFirst c_comesTo c_seedNow c_rowThen c_hasImage c_actsThen c_imageRow c_pastThen c_statusThen) := hD
  refine lv_aload_n hx hb dX3_meet_5 rfl (lv_at hl 0 rfl) ?_
  refine lv_iload_n hx hb dX3_meet_6 rfl (lv_at hl 1 rfl) ?_
  obtain ⟨y1, e1, h⟩ := ob_s h
  refine MR.callV (q0 := 0) (M_X3_isLine hG e1) S (cw_X3_isLine hts q2057 ⟨Nat.le_of_ble_eq_true rfl, Nat.le_of_ble_eq_true rfl⟩) hW0 hK hP rfl rfl rfl hl.1 rfl (Nat.le_of_ble_eq_true rfl) dX3_meet_7 ⟨Nat.zero_le _, Nat.zero_le _⟩ ?_
  refine lv_if_eq (tgt := 21) hx hb dX3_meet_10 (by decide) (fun c2 => ?_) (fun c2 => ?_)
  · rw [if_pos c2] at h
    refine lv_aload_n hx hb dX3_meet_21 rfl (lv_at hl 0 rfl) ?_
    refine lv_iconst (v := 1) hx hb dX3_meet_22 (by decide) ?_
    obtain ⟨y3, e3, h⟩ := ob_s h
    refine MW.callV (q0 := 0) (M_X3_fail hG e3) S (cw_X3_fail hts q1827 ⟨Nat.le_of_ble_eq_true rfl, Nat.le_of_ble_eq_true rfl⟩) hW0 hK hP hD hS hA rfl rfl rfl hl.1 rfl (Nat.le_of_ble_eq_true rfl) dX3_meet_23 ⟨Nat.zero_le _, Nat.zero_le _⟩ (fun H locs hP hD hS => ?_)
    have hP : va_P G.2.1 vwCl (mW h0 ad G.2.2 y3.2 c_now c_read c_status c_tape c_taped c_at c_textSize c_token c_number c_begins c_stops c_bad c_badPlace c_faultPlace c_clauses c_naming c_lineBy c_becomes c_dualLines c_on c_rowNow c_least c_wayFirst c_ways c_acts c_past c_listPoints c_listLines c_listed c_list c_path c_places c_firstPlaces c_px c_py c_pz c_placeMany c_modulus c_drawn c_halvesMany c_halvesFirst c_spreadsMany c_spreadsFirst c_comesTo c_seedNow c_rowThen c_hasImage c_actsThen c_imageRow c_pastThen c_statusThen) H := hP
    have hD : va_D A (mW h0 ad G.2.2 y3.2 c_now c_read c_status c_tape c_taped c_at c_textSize c_token c_number c_begins c_stops c_bad c_badPlace c_faultPlace c_clauses c_naming c_lineBy c_becomes c_dualLines c_on c_rowNow c_least c_wayFirst c_ways c_acts c_past c_listPoints c_listLines c_listed c_list c_path c_places c_firstPlaces c_px c_py c_pz c_placeMany c_modulus c_drawn c_halvesMany c_halvesFirst c_spreadsMany c_spreadsFirst c_comesTo c_seedNow c_rowThen c_hasImage c_actsThen c_imageRow c_pastThen c_statusThen) := hD
    refine W.eq (g2 := F0 m 26 ls [.int y3.1]) rfl ?_
    obtain rfl := Option.some.inj h
    exact hreti rfl dX3_meet_26 rfl rfl hP hD hS
  · rw [if_neg c2] at h
    refine lv_aload_n hx hb dX3_meet_13 rfl (lv_at hl 0 rfl) ?_
    refine lv_iload_n hx hb dX3_meet_14 rfl (lv_at hl 2 rfl) ?_
    obtain ⟨y5, e5, h⟩ := ob_s h
    refine MR.callV (q0 := 0) (M_X3_isLine hG e5) S (cw_X3_isLine hts q2057 ⟨Nat.le_of_ble_eq_true rfl, Nat.le_of_ble_eq_true rfl⟩) hW0 hK hP rfl rfl rfl hl.1 rfl (Nat.le_of_ble_eq_true rfl) dX3_meet_15 ⟨Nat.zero_le _, Nat.zero_le _⟩ ?_
    refine lv_if_ne (tgt := 27) hx hb dX3_meet_18 (by decide) (fun c6 => ?_) (fun c6 => ?_)
    · rw [if_neg c6] at h
      refine lv_aload_n hx hb dX3_meet_27 rfl (lv_at hl 0 rfl) ?_
      refine lv_iload_n hx hb dX3_meet_28 rfl (lv_at hl 1 rfl) ?_
      obtain ⟨y7, e7, h⟩ := ob_s h
      refine MR.callV (q0 := 0) (M_X3_lineAt hG e7) S (cw_X3_lineAt hts q1925 ⟨Nat.le_of_ble_eq_true rfl, Nat.le_of_ble_eq_true rfl⟩) hW0 hK hP rfl rfl rfl hl.1 rfl (Nat.le_of_ble_eq_true rfl) dX3_meet_29 ⟨Nat.zero_le _, Nat.zero_le _⟩ ?_
      refine lv_aload_n hx hb dX3_meet_32 rfl (lv_at hl 0 rfl) ?_
      refine lv_iload_n hx hb dX3_meet_33 rfl (lv_at hl 2 rfl) ?_
      obtain ⟨y8, e8, h⟩ := ob_s h
      refine MR.callV (q0 := 0) (M_X3_lineAt hG e8) S (cw_X3_lineAt hts q1925 ⟨Nat.le_of_ble_eq_true rfl, Nat.le_of_ble_eq_true rfl⟩) hW0 hK hP rfl rfl rfl hl.1 rfl (Nat.le_of_ble_eq_true rfl) dX3_meet_34 ⟨Nat.zero_le _, Nat.zero_le _⟩ ?_
      refine lv_iand hx hb dX3_meet_37 ?_
      refine lv_istore_n (lv' := [(3, .int (y7 &&& y8)), (0, .ref h0), (1, .int v1), (2, .int v2)]) hx hb dX3_meet_38 rfl hl (by decide) rfl (fun ls hl => ?_)
      refine lv_iload_n hx hb dX3_meet_39 rfl (lv_at hl 2 rfl) ?_
      refine lv_iload_n hx hb dX3_meet_40 rfl (lv_at hl 3 rfl) ?_
      refine lv_icmp_ne (tgt := 52) hx hb dX3_meet_41 (by decide) (fun c9 => ?_) (fun c9 => ?_)
      · rw [if_neg c9] at h
        refine lv_iload_n hx hb dX3_meet_52 rfl (lv_at hl 0 rfl) ?_
        refine lv_if_ne (tgt := 60) hx hb dX3_meet_53 (by decide) (fun c10 => ?_) (fun c10 => ?_)
        · rw [if_neg c10] at h
          refine lv_iload_n hx hb dX3_meet_60 rfl (lv_at hl 0 rfl) ?_
          obtain ⟨y11, e11, h⟩ := ob_s h
          refine MR.callS (M_J16_numberOfTrailingZeros hG e11) S (cw_J16_numberOfTrailingZeros hts q1969 ⟨Nat.le_of_ble_eq_true rfl, Nat.le_of_ble_eq_true rfl⟩) hW0 vaP0 rfl hl.1 rfl (Nat.le_of_ble_eq_true rfl) dX3_meet_61 ⟨Nat.zero_le _, Nat.zero_le _⟩ ?_
          obtain rfl := Option.some.inj h
          exact hreti rfl dX3_meet_64 rfl rfl hP hD hS
        · rw [if_pos c10] at h
          refine lv_iconst (v := (-1)) hx hb dX3_meet_56 (by decide) ?_
          refine lv_goto (tgt := 64) hx hb dX3_meet_57 (by decide) ?_
          obtain rfl := Option.some.inj h
          exact hreti rfl dX3_meet_64 rfl rfl hP hD hS
      · rw [if_pos c9] at h
        refine lv_aload_n hx hb dX3_meet_44 rfl (lv_at hl 1 rfl) ?_
        refine lv_iconst (v := 2) hx hb dX3_meet_45 (by decide) ?_
        obtain ⟨y14, e14, h⟩ := ob_s h
        refine MW.callV (q0 := 0) (M_X3_fail hG e14) S (cw_X3_fail hts q1827 ⟨Nat.le_of_ble_eq_true rfl, Nat.le_of_ble_eq_true rfl⟩) hW0 hK hP hD hS hA rfl rfl rfl hl.1 rfl (Nat.le_of_ble_eq_true rfl) dX3_meet_46 ⟨Nat.zero_le _, Nat.zero_le _⟩ (fun H locs hP hD hS => ?_)
        have hP : va_P G.2.1 vwCl (mW h0 ad G.2.2 y14.2 c_now c_read c_status c_tape c_taped c_at c_textSize c_token c_number c_begins c_stops c_bad c_badPlace c_faultPlace c_clauses c_naming c_lineBy c_becomes c_dualLines c_on c_rowNow c_least c_wayFirst c_ways c_acts c_past c_listPoints c_listLines c_listed c_list c_path c_places c_firstPlaces c_px c_py c_pz c_placeMany c_modulus c_drawn c_halvesMany c_halvesFirst c_spreadsMany c_spreadsFirst c_comesTo c_seedNow c_rowThen c_hasImage c_actsThen c_imageRow c_pastThen c_statusThen) H := hP
        have hD : va_D A (mW h0 ad G.2.2 y14.2 c_now c_read c_status c_tape c_taped c_at c_textSize c_token c_number c_begins c_stops c_bad c_badPlace c_faultPlace c_clauses c_naming c_lineBy c_becomes c_dualLines c_on c_rowNow c_least c_wayFirst c_ways c_acts c_past c_listPoints c_listLines c_listed c_list c_path c_places c_firstPlaces c_px c_py c_pz c_placeMany c_modulus c_drawn c_halvesMany c_halvesFirst c_spreadsMany c_spreadsFirst c_comesTo c_seedNow c_rowThen c_hasImage c_actsThen c_imageRow c_pastThen c_statusThen) := hD
        refine W.eq (g2 := F0 m 49 ls [.int y14.1]) rfl ?_
        refine lv_goto (tgt := 64) hx hb dX3_meet_49 (by decide) ?_
        obtain rfl := Option.some.inj h
        exact hreti rfl dX3_meet_64 rfl rfl hP hD hS
    · rw [if_pos c6] at h
      refine lv_aload_n hx hb dX3_meet_21 rfl (lv_at hl 0 rfl) ?_
      refine lv_iconst (v := 1) hx hb dX3_meet_22 (by decide) ?_
      obtain ⟨y16, e16, h⟩ := ob_s h
      refine MW.callV (q0 := 0) (M_X3_fail hG e16) S (cw_X3_fail hts q1827 ⟨Nat.le_of_ble_eq_true rfl, Nat.le_of_ble_eq_true rfl⟩) hW0 hK hP hD hS hA rfl rfl rfl hl.1 rfl (Nat.le_of_ble_eq_true rfl) dX3_meet_23 ⟨Nat.zero_le _, Nat.zero_le _⟩ (fun H locs hP hD hS => ?_)
      have hP : va_P G.2.1 vwCl (mW h0 ad G.2.2 y16.2 c_now c_read c_status c_tape c_taped c_at c_textSize c_token c_number c_begins c_stops c_bad c_badPlace c_faultPlace c_clauses c_naming c_lineBy c_becomes c_dualLines c_on c_rowNow c_least c_wayFirst c_ways c_acts c_past c_listPoints c_listLines c_listed c_list c_path c_places c_firstPlaces c_px c_py c_pz c_placeMany c_modulus c_drawn c_halvesMany c_halvesFirst c_spreadsMany c_spreadsFirst c_comesTo c_seedNow c_rowThen c_hasImage c_actsThen c_imageRow c_pastThen c_statusThen) H := hP
      have hD : va_D A (mW h0 ad G.2.2 y16.2 c_now c_read c_status c_tape c_taped c_at c_textSize c_token c_number c_begins c_stops c_bad c_badPlace c_faultPlace c_clauses c_naming c_lineBy c_becomes c_dualLines c_on c_rowNow c_least c_wayFirst c_ways c_acts c_past c_listPoints c_listLines c_listed c_list c_path c_places c_firstPlaces c_px c_py c_pz c_placeMany c_modulus c_drawn c_halvesMany c_halvesFirst c_spreadsMany c_spreadsFirst c_comesTo c_seedNow c_rowThen c_hasImage c_actsThen c_imageRow c_pastThen c_statusThen) := hD
      refine W.eq (g2 := F0 m 26 ls [.int y16.1]) rfl ?_
      obtain rfl := Option.some.inj h
      exact hreti rfl dX3_meet_26 rfl rfl hP hD hS
def F_X3_symmetry_40 (N : Nat) (v1 : Int32) (v2 : Int32) (c_now : (Nat → Int32)) (c_lineBy : (Nat → Int32)) : Nat → Int32 → Int32 → (Nat → Int32) → Int32 → Option (Int32 × (Nat → Int32) × (Nat → Int32) × Int32)
  | 0, _, _, _, _ => none
  | n + 1, v3, v4, c_naming, c_code => (if v4 = 0 then ((F_X3_fail N 1 c_code).bind fun y10 => (some (y10.1, c_naming, c_lineBy, y10.2))) else ((F_X3_isSymmetry N c_now c_naming c_lineBy).bind fun y12 => (if y12 = 0 then ((F_X3_points N c_now).bind fun y14 => ((F_X3_nextNaming N y14 c_naming).bind fun y15 => (F_X3_symmetry_40 N v1 v2 c_now c_lineBy n v3 y15.1 y15.2 c_code))) else (if v3 = v1 then (ckI v2 8 (some ((c_naming (Int32.toNatClampNeg v2)), c_naming, c_lineBy, c_code))) else ((F_X3_points N c_now).bind fun y17 => ((F_X3_nextNaming N y17 c_naming).bind fun y18 => (F_X3_symmetry_40 N v1 v2 c_now c_lineBy n (v3 + 1) y18.1 y18.2 c_code)))))))
def F_X3_symmetry (N : Nat) (v1 : Int32) (v2 : Int32) (c_now : (Nat → Int32)) (c_naming : (Nat → Int32)) (c_lineBy : (Nat → Int32)) (c_code : Int32) : Option (Int32 × (Nat → Int32) × (Nat → Int32) × Int32) := ((F_X3_isPoint N v2 c_now).bind fun y1 => (if y1 = 0 then ((F_X3_fail N 1 0).bind fun y3 => (some (y3.1, c_naming, c_lineBy, y3.2))) else (if 0 ≤ v1 then ((F_X3_tellLines N c_now c_lineBy).bind fun y6 => ((F_X3_points N c_now).bind fun y7 => ((F_X3_beginNaming N y7 c_naming).bind fun y8 => (F_X3_symmetry_40 N v1 v2 c_now y6 N 0 1 y8 0)))) else ((F_X3_fail N 1 0).bind fun y21 => (some (y21.1, c_naming, c_lineBy, y21.2))))))
theorem cw_X3_symmetry {R : Room} {s : State} {args : Array Value} {own : String} {index lev mc ms : Nat} (hts : ∀ w ∈ lw_all, w.before args s = true) (hl : Cond.methodLink own index yX3_symmetry ∈ lw_all) (hR : (rmL lev mc ms).frames + 1 ≤ R.frames ∧ 8 + (5 + 11) + (rmL lev mc ms).locals ≤ R.locals) : CallW R s args own RX3 index yX3_symmetry cX3_symmetry 5 (some .int) (ws_ yX3_symmetry cX3_symmetry 5 (some .int)) (rmL lev mc ms) mc ms 2 := cwV 2 hts (lw_V hl q2081 q2082 q172 q2083) rfl rfl rfl (by decide +kernel) hR
set_option maxHeartbeats 4000000 in
theorem M_X3_symmetry {l : Launch} {G : GE} (hG : GC G) {N : Nat} {h0 : Nat} {ad : Nat → Nat} {c_read : (Nat → Int32)} {c_status : (Nat → Int32)} {c_tape : (Nat → Int32)} {c_taped : Int32} {c_at : Int32} {c_textSize : Int32} {c_token : Int32} {c_number : Int32} {c_begins : Int32} {c_stops : Int32} {c_bad : Int32} {c_badPlace : Int32} {c_faultPlace : Int32} {c_clauses : Int32} {c_becomes : (Nat → Int32)} {c_dualLines : (Nat → Int32)} {c_on : (Nat → Int32)} {c_rowNow : (Nat → Int32)} {c_least : (Nat → Int32)} {c_wayFirst : (Nat → Int32)} {c_ways : Int32} {c_acts : Int32} {c_past : (Nat → Int32)} {c_listPoints : Int32} {c_listLines : Int32} {c_listed : Int32} {c_list : (Nat → Int32)} {c_path : (Nat → Int32)} {c_places : (Nat → Int32)} {c_firstPlaces : (Nat → Int32)} {c_px : (Nat → Int32)} {c_py : (Nat → Int32)} {c_pz : (Nat → Int32)} {c_placeMany : Int32} {c_modulus : Int32} {c_drawn : Int32} {c_halvesMany : Int32} {c_halvesFirst : Int32} {c_spreadsMany : Int32} {c_spreadsFirst : Int32} {c_comesTo : (Nat → Int32)} {c_seedNow : Int32} {c_rowThen : (Nat → Int32)} {c_hasImage : Int32} {c_actsThen : Int32} {c_imageRow : (Nat → Int32)} {c_pastThen : (Nat → Int32)} {c_statusThen : (Nat → Int32)} {v1 : Int32} {v2 : Int32} {c_now : (Nat → Int32)} {c_naming : (Nat → Int32)} {c_lineBy : (Nat → Int32)} {c_code : Int32} {ρ : (Int32 × (Nat → Int32) × (Nat → Int32) × Int32)} (h : F_X3_symmetry N v1 v2 c_now c_naming c_lineBy c_code = some ρ) : MW l G yX3_symmetry cX3_symmetry 5 (some .int) 4 (mW h0 ad G.2.2 c_code c_now c_read c_status c_tape c_taped c_at c_textSize c_token c_number c_begins c_stops c_bad c_badPlace c_faultPlace c_clauses c_naming c_lineBy c_becomes c_dualLines c_on c_rowNow c_least c_wayFirst c_ways c_acts c_past c_listPoints c_listLines c_listed c_list c_path c_places c_firstPlaces c_px c_py c_pz c_placeMany c_modulus c_drawn c_halvesMany c_halvesFirst c_spreadsMany c_spreadsFirst c_comesTo c_seedNow c_rowThen c_hasImage c_actsThen c_imageRow c_pastThen c_statusThen) [.ref h0, .int v1, .int v2] (some (.int ρ.1)) (mW h0 ad G.2.2 ρ.2.2.2 c_now c_read c_status c_tape c_taped c_at c_textSize c_token c_number c_begins c_stops c_bad c_badPlace c_faultPlace c_clauses ρ.2.1 ρ.2.2.1 c_becomes c_dualLines c_on c_rowNow c_least c_wayFirst c_ways c_acts c_past c_listPoints c_listLines c_listed c_list c_path c_places c_firstPlaces c_px c_py c_pz c_placeMany c_modulus c_drawn c_halvesMany c_halvesFirst c_spreadsMany c_spreadsFirst c_comesTo c_seedNow c_rowThen c_hasImage c_actsThen c_imageRow c_pastThen c_statusThen) := by
  rw [F_X3_symmetry] at h
  refine MW.start hG (by decide) (Nat.le_of_ble_eq_true rfl) ?_
  intro p e s m args below meth c Q A S hW0 hK hP hD hA hreti hretv ls hl
  have hS : va_S A s.heap s.heap [] := va_S.rf
  obtain ⟨hx, hb, hml, hown, hts⟩ := id S
  have hl : lv_has ls 5 [(0, .ref h0), (1, .int v1), (2, .int v2)] := hl
  have S_X3_symmetry_40 : ∀ (n : Nat) (v1 : Int32) (v2 : Int32) (v3 : Int32) (v4 : Int32) (c_naming : (Nat → Int32)) (c_lineBy : (Nat → Int32)) (c_code : Int32), F_X3_symmetry_40 N v1 v2 c_now c_lineBy n v3 v4 c_naming c_code = some ρ → ∀ (H : Heap) (locs : List Loc), va_P G.2.1 vwCl (mW h0 ad G.2.2 c_code c_now c_read c_status c_tape c_taped c_at c_textSize c_token c_number c_begins c_stops c_bad c_badPlace c_faultPlace c_clauses c_naming c_lineBy c_becomes c_dualLines c_on c_rowNow c_least c_wayFirst c_ways c_acts c_past c_listPoints c_listLines c_listed c_list c_path c_places c_firstPlaces c_px c_py c_pz c_placeMany c_modulus c_drawn c_halvesMany c_halvesFirst c_spreadsMany c_spreadsFirst c_comesTo c_seedNow c_rowThen c_hasImage c_actsThen c_imageRow c_pastThen c_statusThen) H → va_D A (mW h0 ad G.2.2 c_code c_now c_read c_status c_tape c_taped c_at c_textSize c_token c_number c_begins c_stops c_bad c_badPlace c_faultPlace c_clauses c_naming c_lineBy c_becomes c_dualLines c_on c_rowNow c_least c_wayFirst c_ways c_acts c_past c_listPoints c_listLines c_listed c_list c_path c_places c_firstPlaces c_px c_py c_pz c_placeMany c_modulus c_drawn c_halvesMany c_halvesFirst c_spreadsMany c_spreadsFirst c_comesTo c_seedNow c_rowThen c_hasImage c_actsThen c_imageRow c_pastThen c_statusThen) → va_S A s.heap H locs → ∀ (ls : Array Slot), lv_has ls 5 [(0, .ref h0), (1, .int v1), (2, .int v2), (3, .int v3), (4, .int v4)] → W p l e (rmL 4 0 0) s m args below meth c H locs 0 0 Q (F0 m 40 ls []) := by
    intro n
    induction n with
    | zero =>
      intro v1 v2 v3 v4 c_naming c_lineBy c_code h
      exact absurd h (by simp [F_X3_symmetry_40])
    | succ n ih =>
      intro v1 v2 v3 v4 c_naming c_lineBy c_code h H locs hP hD hS ls hl
      rw [F_X3_symmetry_40] at h
      refine lv_iload hx hb dX3_symmetry_40 (lv_at hl 4 rfl) ?_
      refine lv_if_eq (tgt := 80) hx hb dX3_symmetry_42 (by decide) (fun c9 => ?_) (fun c9 => ?_)
      · rw [if_pos c9] at h
        refine lv_aload_n hx hb dX3_symmetry_80 rfl (lv_at hl 0 rfl) ?_
        refine lv_iconst (v := 1) hx hb dX3_symmetry_81 (by decide) ?_
        obtain ⟨y10, e10, h⟩ := ob_s h
        refine MW.callV (q0 := 0) (M_X3_fail hG e10) S (cw_X3_fail hts q1827 ⟨Nat.le_of_ble_eq_true rfl, Nat.le_of_ble_eq_true rfl⟩) hW0 hK hP hD hS hA rfl rfl rfl hl.1 rfl (Nat.le_of_ble_eq_true rfl) dX3_symmetry_82 ⟨Nat.zero_le _, Nat.zero_le _⟩ (fun H locs hP hD hS => ?_)
        have hP : va_P G.2.1 vwCl (mW h0 ad G.2.2 y10.2 c_now c_read c_status c_tape c_taped c_at c_textSize c_token c_number c_begins c_stops c_bad c_badPlace c_faultPlace c_clauses c_naming c_lineBy c_becomes c_dualLines c_on c_rowNow c_least c_wayFirst c_ways c_acts c_past c_listPoints c_listLines c_listed c_list c_path c_places c_firstPlaces c_px c_py c_pz c_placeMany c_modulus c_drawn c_halvesMany c_halvesFirst c_spreadsMany c_spreadsFirst c_comesTo c_seedNow c_rowThen c_hasImage c_actsThen c_imageRow c_pastThen c_statusThen) H := hP
        have hD : va_D A (mW h0 ad G.2.2 y10.2 c_now c_read c_status c_tape c_taped c_at c_textSize c_token c_number c_begins c_stops c_bad c_badPlace c_faultPlace c_clauses c_naming c_lineBy c_becomes c_dualLines c_on c_rowNow c_least c_wayFirst c_ways c_acts c_past c_listPoints c_listLines c_listed c_list c_path c_places c_firstPlaces c_px c_py c_pz c_placeMany c_modulus c_drawn c_halvesMany c_halvesFirst c_spreadsMany c_spreadsFirst c_comesTo c_seedNow c_rowThen c_hasImage c_actsThen c_imageRow c_pastThen c_statusThen) := hD
        refine W.eq (g2 := F0 m 85 ls [.int y10.1]) rfl ?_
        obtain rfl := Option.some.inj h
        exact hreti rfl dX3_symmetry_85 rfl rfl hP hD hS
      · rw [if_neg c9] at h
        refine lv_aload_n hx hb dX3_symmetry_45 rfl (lv_at hl 0 rfl) ?_
        obtain ⟨y12, e12, h⟩ := ob_s h
        refine MR.callV (q0 := 0) (M_X3_isSymmetry hG e12) S (cw_X3_isSymmetry hts q1982 ⟨Nat.le_of_ble_eq_true rfl, Nat.le_of_ble_eq_true rfl⟩) hW0 hK hP rfl rfl rfl hl.1 rfl (Nat.le_of_ble_eq_true rfl) dX3_symmetry_46 ⟨Nat.zero_le _, Nat.zero_le _⟩ ?_
        refine lv_if_eq (tgt := 67) hx hb dX3_symmetry_49 (by decide) (fun c13 => ?_) (fun c13 => ?_)
        · rw [if_pos c13] at h
          refine lv_aload_n hx hb dX3_symmetry_67 rfl (lv_at hl 0 rfl) ?_
          refine lv_aload_n hx hb dX3_symmetry_68 rfl (lv_at hl 0 rfl) ?_
          obtain ⟨y14, e14, h⟩ := ob_s h
          refine MR.callV (q0 := 0) (M_X3_points hG e14) S (cw_X3_points hts q1913 ⟨Nat.le_of_ble_eq_true rfl, Nat.le_of_ble_eq_true rfl⟩) hW0 hK hP rfl rfl rfl hl.1 rfl (Nat.le_of_ble_eq_true rfl) dX3_symmetry_69 ⟨Nat.zero_le _, Nat.zero_le _⟩ ?_
          obtain ⟨y15, e15, h⟩ := ob_s h
          refine MW.callV (q0 := 0) (M_X3_nextNaming hG e15) S (cw_X3_nextNaming hts q1990 ⟨Nat.le_of_ble_eq_true rfl, Nat.le_of_ble_eq_true rfl⟩) hW0 hK hP hD hS hA rfl rfl rfl hl.1 rfl (Nat.le_of_ble_eq_true rfl) dX3_symmetry_72 ⟨Nat.zero_le _, Nat.zero_le _⟩ (fun H locs hP hD hS => ?_)
          have hP : va_P G.2.1 vwCl (mW h0 ad G.2.2 c_code c_now c_read c_status c_tape c_taped c_at c_textSize c_token c_number c_begins c_stops c_bad c_badPlace c_faultPlace c_clauses y15.2 c_lineBy c_becomes c_dualLines c_on c_rowNow c_least c_wayFirst c_ways c_acts c_past c_listPoints c_listLines c_listed c_list c_path c_places c_firstPlaces c_px c_py c_pz c_placeMany c_modulus c_drawn c_halvesMany c_halvesFirst c_spreadsMany c_spreadsFirst c_comesTo c_seedNow c_rowThen c_hasImage c_actsThen c_imageRow c_pastThen c_statusThen) H := hP
          have hD : va_D A (mW h0 ad G.2.2 c_code c_now c_read c_status c_tape c_taped c_at c_textSize c_token c_number c_begins c_stops c_bad c_badPlace c_faultPlace c_clauses y15.2 c_lineBy c_becomes c_dualLines c_on c_rowNow c_least c_wayFirst c_ways c_acts c_past c_listPoints c_listLines c_listed c_list c_path c_places c_firstPlaces c_px c_py c_pz c_placeMany c_modulus c_drawn c_halvesMany c_halvesFirst c_spreadsMany c_spreadsFirst c_comesTo c_seedNow c_rowThen c_hasImage c_actsThen c_imageRow c_pastThen c_statusThen) := hD
          refine W.eq (g2 := F0 m 75 ls [.int y15.1]) rfl ?_
          refine lv_istore (lv' := [(4, .int y15.1), (0, .ref h0), (1, .int v1), (2, .int v2), (3, .int v3)]) hx hb dX3_symmetry_75 hl (by decide) rfl (fun ls hl => ?_)
          refine lv_goto (tgt := 40) hx hb dX3_symmetry_77 (by decide) ?_
          exact ih v1 v2 v3 y15.1 y15.2 c_lineBy c_code h _ _ hP hD hS _ (lv_sub hl [1, 2, 3, 4, 0] rfl)
        · rw [if_neg c13] at h
          refine lv_iload_n hx hb dX3_symmetry_52 rfl (lv_at hl 3 rfl) ?_
          refine lv_iload_n hx hb dX3_symmetry_53 rfl (lv_at hl 1 rfl) ?_
          refine lv_icmp_ne (tgt := 64) hx hb dX3_symmetry_54 (by decide) (fun c16 => ?_) (fun c16 => ?_)
          · rw [if_neg c16] at h
            refine lv_iinc (v := (v3 + 1)) (lv' := [(3, .int (v3 + 1)), (0, .ref h0), (1, .int v1), (2, .int v2), (4, .int v4)]) hx hb dX3_symmetry_64 hl (k := 3) rfl rfl (by decide) rfl (fun ls hl => ?_)
            refine lv_aload_n hx hb dX3_symmetry_67 rfl (lv_at hl 1 rfl) ?_
            refine lv_aload_n hx hb dX3_symmetry_68 rfl (lv_at hl 1 rfl) ?_
            obtain ⟨y17, e17, h⟩ := ob_s h
            refine MR.callV (q0 := 0) (M_X3_points hG e17) S (cw_X3_points hts q1913 ⟨Nat.le_of_ble_eq_true rfl, Nat.le_of_ble_eq_true rfl⟩) hW0 hK hP rfl rfl rfl hl.1 rfl (Nat.le_of_ble_eq_true rfl) dX3_symmetry_69 ⟨Nat.zero_le _, Nat.zero_le _⟩ ?_
            obtain ⟨y18, e18, h⟩ := ob_s h
            refine MW.callV (q0 := 0) (M_X3_nextNaming hG e18) S (cw_X3_nextNaming hts q1990 ⟨Nat.le_of_ble_eq_true rfl, Nat.le_of_ble_eq_true rfl⟩) hW0 hK hP hD hS hA rfl rfl rfl hl.1 rfl (Nat.le_of_ble_eq_true rfl) dX3_symmetry_72 ⟨Nat.zero_le _, Nat.zero_le _⟩ (fun H locs hP hD hS => ?_)
            have hP : va_P G.2.1 vwCl (mW h0 ad G.2.2 c_code c_now c_read c_status c_tape c_taped c_at c_textSize c_token c_number c_begins c_stops c_bad c_badPlace c_faultPlace c_clauses y18.2 c_lineBy c_becomes c_dualLines c_on c_rowNow c_least c_wayFirst c_ways c_acts c_past c_listPoints c_listLines c_listed c_list c_path c_places c_firstPlaces c_px c_py c_pz c_placeMany c_modulus c_drawn c_halvesMany c_halvesFirst c_spreadsMany c_spreadsFirst c_comesTo c_seedNow c_rowThen c_hasImage c_actsThen c_imageRow c_pastThen c_statusThen) H := hP
            have hD : va_D A (mW h0 ad G.2.2 c_code c_now c_read c_status c_tape c_taped c_at c_textSize c_token c_number c_begins c_stops c_bad c_badPlace c_faultPlace c_clauses y18.2 c_lineBy c_becomes c_dualLines c_on c_rowNow c_least c_wayFirst c_ways c_acts c_past c_listPoints c_listLines c_listed c_list c_path c_places c_firstPlaces c_px c_py c_pz c_placeMany c_modulus c_drawn c_halvesMany c_halvesFirst c_spreadsMany c_spreadsFirst c_comesTo c_seedNow c_rowThen c_hasImage c_actsThen c_imageRow c_pastThen c_statusThen) := hD
            refine W.eq (g2 := F0 m 75 ls [.int y18.1]) rfl ?_
            refine lv_istore (lv' := [(4, .int y18.1), (3, .int (v3 + 1)), (0, .ref h0), (1, .int v1), (2, .int v2)]) hx hb dX3_symmetry_75 hl (by decide) rfl (fun ls hl => ?_)
            refine lv_goto (tgt := 40) hx hb dX3_symmetry_77 (by decide) ?_
            exact ih v1 v2 (v3 + 1) y18.1 y18.2 c_lineBy c_code h _ _ hP hD hS _ (lv_sub hl [2, 3, 4, 1, 0] rfl)
          · rw [if_pos c16] at h
            refine lv_aload_n hx hb dX3_symmetry_57 rfl (lv_at hl 0 rfl) ?_
            refine va_get (ci := 2) (v := .ref (ad 16)) (C := RX3) (T := TX3) (N := 52) hx hb hts in_X3 hown hK hP 0 rfl rfl 16 (by decide) (hts _ q1674) (fun _ h9 => h9) rfl dX3_symmetry_58 ?_
            refine lv_iload_n hx hb dX3_symmetry_61 rfl (lv_at hl 2 rfl) ?_
            obtain ⟨i19, h⟩ := ckI_s h
            refine va_iald (f := c_naming) hx hb hK hP 5 0 rfl rfl i19 dX3_symmetry_62 ?_
            obtain rfl := Option.some.inj h
            exact hreti rfl dX3_symmetry_63 rfl rfl hP hD hS
  refine lv_aload_n hx hb dX3_symmetry_0 rfl (lv_at hl 0 rfl) ?_
  refine lv_iconst (v := 0) hx hb dX3_symmetry_1 (by decide) ?_
  refine va_put (ci := 2) (v := .int 0) (ty := .int) (C := RX3) (T := TX3) (N := 52) hx hb hts in_X3 tyX3 tyX3_ok nmX3 hown hK hP hD hS 0 rfl rfl 0 (by decide) (hts _ q1658) (fun _ h9 => h9) rfl (by decide +kernel) rfl rfl (Nat.le_of_ble_eq_true rfl) dX3_symmetry_2 (fun H locs hP hD hS => ?_)
  have hP : va_P G.2.1 vwCl (mW h0 ad G.2.2 0 c_now c_read c_status c_tape c_taped c_at c_textSize c_token c_number c_begins c_stops c_bad c_badPlace c_faultPlace c_clauses c_naming c_lineBy c_becomes c_dualLines c_on c_rowNow c_least c_wayFirst c_ways c_acts c_past c_listPoints c_listLines c_listed c_list c_path c_places c_firstPlaces c_px c_py c_pz c_placeMany c_modulus c_drawn c_halvesMany c_halvesFirst c_spreadsMany c_spreadsFirst c_comesTo c_seedNow c_rowThen c_hasImage c_actsThen c_imageRow c_pastThen c_statusThen) H := hP
  have hD : va_D A (mW h0 ad G.2.2 0 c_now c_read c_status c_tape c_taped c_at c_textSize c_token c_number c_begins c_stops c_bad c_badPlace c_faultPlace c_clauses c_naming c_lineBy c_becomes c_dualLines c_on c_rowNow c_least c_wayFirst c_ways c_acts c_past c_listPoints c_listLines c_listed c_list c_path c_places c_firstPlaces c_px c_py c_pz c_placeMany c_modulus c_drawn c_halvesMany c_halvesFirst c_spreadsMany c_spreadsFirst c_comesTo c_seedNow c_rowThen c_hasImage c_actsThen c_imageRow c_pastThen c_statusThen) := hD
  refine lv_aload_n hx hb dX3_symmetry_5 rfl (lv_at hl 0 rfl) ?_
  refine lv_iload_n hx hb dX3_symmetry_6 rfl (lv_at hl 2 rfl) ?_
  obtain ⟨y1, e1, h⟩ := ob_s h
  refine MR.callV (q0 := 0) (M_X3_isPoint hG e1) S (cw_X3_isPoint hts q2068 ⟨Nat.le_of_ble_eq_true rfl, Nat.le_of_ble_eq_true rfl⟩) hW0 hK hP rfl rfl rfl hl.1 rfl (Nat.le_of_ble_eq_true rfl) dX3_symmetry_7 ⟨Nat.zero_le _, Nat.zero_le _⟩ ?_
  refine lv_if_eq (tgt := 17) hx hb dX3_symmetry_10 (by decide) (fun c2 => ?_) (fun c2 => ?_)
  · rw [if_pos c2] at h
    refine lv_aload_n hx hb dX3_symmetry_17 rfl (lv_at hl 0 rfl) ?_
    refine lv_iconst (v := 1) hx hb dX3_symmetry_18 (by decide) ?_
    obtain ⟨y3, e3, h⟩ := ob_s h
    refine MW.callV (q0 := 0) (M_X3_fail hG e3) S (cw_X3_fail hts q1827 ⟨Nat.le_of_ble_eq_true rfl, Nat.le_of_ble_eq_true rfl⟩) hW0 hK hP hD hS hA rfl rfl rfl hl.1 rfl (Nat.le_of_ble_eq_true rfl) dX3_symmetry_19 ⟨Nat.zero_le _, Nat.zero_le _⟩ (fun H locs hP hD hS => ?_)
    have hP : va_P G.2.1 vwCl (mW h0 ad G.2.2 y3.2 c_now c_read c_status c_tape c_taped c_at c_textSize c_token c_number c_begins c_stops c_bad c_badPlace c_faultPlace c_clauses c_naming c_lineBy c_becomes c_dualLines c_on c_rowNow c_least c_wayFirst c_ways c_acts c_past c_listPoints c_listLines c_listed c_list c_path c_places c_firstPlaces c_px c_py c_pz c_placeMany c_modulus c_drawn c_halvesMany c_halvesFirst c_spreadsMany c_spreadsFirst c_comesTo c_seedNow c_rowThen c_hasImage c_actsThen c_imageRow c_pastThen c_statusThen) H := hP
    have hD : va_D A (mW h0 ad G.2.2 y3.2 c_now c_read c_status c_tape c_taped c_at c_textSize c_token c_number c_begins c_stops c_bad c_badPlace c_faultPlace c_clauses c_naming c_lineBy c_becomes c_dualLines c_on c_rowNow c_least c_wayFirst c_ways c_acts c_past c_listPoints c_listLines c_listed c_list c_path c_places c_firstPlaces c_px c_py c_pz c_placeMany c_modulus c_drawn c_halvesMany c_halvesFirst c_spreadsMany c_spreadsFirst c_comesTo c_seedNow c_rowThen c_hasImage c_actsThen c_imageRow c_pastThen c_statusThen) := hD
    refine W.eq (g2 := F0 m 22 ls [.int y3.1]) rfl ?_
    obtain rfl := Option.some.inj h
    exact hreti rfl dX3_symmetry_22 rfl rfl hP hD hS
  · rw [if_neg c2] at h
    refine lv_iload_n hx hb dX3_symmetry_13 rfl (lv_at hl 1 rfl) ?_
    refine lv_if_ge (tgt := 23) hx hb dX3_symmetry_14 (by decide) (fun c5 => ?_) (fun c5 => ?_)
    · rw [if_pos c5] at h
      refine lv_iconst (v := 0) hx hb dX3_symmetry_23 (by decide) ?_
      refine lv_istore_n (lv' := [(3, .int 0), (0, .ref h0), (1, .int v1), (2, .int v2)]) hx hb dX3_symmetry_24 rfl hl (by decide) rfl (fun ls hl => ?_)
      refine lv_aload_n hx hb dX3_symmetry_25 rfl (lv_at hl 1 rfl) ?_
      obtain ⟨y6, e6, h⟩ := ob_s h
      refine MW.callV (q0 := 0) (M_X3_tellLines hG e6) S (cw_X3_tellLines hts q1974 ⟨Nat.le_of_ble_eq_true rfl, Nat.le_of_ble_eq_true rfl⟩) hW0 hK hP hD hS hA rfl rfl rfl hl.1 rfl (Nat.le_of_ble_eq_true rfl) dX3_symmetry_26 ⟨Nat.zero_le _, Nat.zero_le _⟩ (fun H locs hP hD hS => ?_)
      have hP : va_P G.2.1 vwCl (mW h0 ad G.2.2 0 c_now c_read c_status c_tape c_taped c_at c_textSize c_token c_number c_begins c_stops c_bad c_badPlace c_faultPlace c_clauses c_naming y6 c_becomes c_dualLines c_on c_rowNow c_least c_wayFirst c_ways c_acts c_past c_listPoints c_listLines c_listed c_list c_path c_places c_firstPlaces c_px c_py c_pz c_placeMany c_modulus c_drawn c_halvesMany c_halvesFirst c_spreadsMany c_spreadsFirst c_comesTo c_seedNow c_rowThen c_hasImage c_actsThen c_imageRow c_pastThen c_statusThen) H := hP
      have hD : va_D A (mW h0 ad G.2.2 0 c_now c_read c_status c_tape c_taped c_at c_textSize c_token c_number c_begins c_stops c_bad c_badPlace c_faultPlace c_clauses c_naming y6 c_becomes c_dualLines c_on c_rowNow c_least c_wayFirst c_ways c_acts c_past c_listPoints c_listLines c_listed c_list c_path c_places c_firstPlaces c_px c_py c_pz c_placeMany c_modulus c_drawn c_halvesMany c_halvesFirst c_spreadsMany c_spreadsFirst c_comesTo c_seedNow c_rowThen c_hasImage c_actsThen c_imageRow c_pastThen c_statusThen) := hD
      refine W.eq (g2 := F0 m 29 ls []) rfl ?_
      refine lv_aload_n hx hb dX3_symmetry_29 rfl (lv_at hl 1 rfl) ?_
      refine lv_aload_n hx hb dX3_symmetry_30 rfl (lv_at hl 1 rfl) ?_
      obtain ⟨y7, e7, h⟩ := ob_s h
      refine MR.callV (q0 := 0) (M_X3_points hG e7) S (cw_X3_points hts q1913 ⟨Nat.le_of_ble_eq_true rfl, Nat.le_of_ble_eq_true rfl⟩) hW0 hK hP rfl rfl rfl hl.1 rfl (Nat.le_of_ble_eq_true rfl) dX3_symmetry_31 ⟨Nat.zero_le _, Nat.zero_le _⟩ ?_
      obtain ⟨y8, e8, h⟩ := ob_s h
      refine MW.callV (q0 := 0) (M_X3_beginNaming hG e8) S (cw_X3_beginNaming hts q1978 ⟨Nat.le_of_ble_eq_true rfl, Nat.le_of_ble_eq_true rfl⟩) hW0 hK hP hD hS hA rfl rfl rfl hl.1 rfl (Nat.le_of_ble_eq_true rfl) dX3_symmetry_34 ⟨Nat.zero_le _, Nat.zero_le _⟩ (fun H locs hP hD hS => ?_)
      have hP : va_P G.2.1 vwCl (mW h0 ad G.2.2 0 c_now c_read c_status c_tape c_taped c_at c_textSize c_token c_number c_begins c_stops c_bad c_badPlace c_faultPlace c_clauses y8 y6 c_becomes c_dualLines c_on c_rowNow c_least c_wayFirst c_ways c_acts c_past c_listPoints c_listLines c_listed c_list c_path c_places c_firstPlaces c_px c_py c_pz c_placeMany c_modulus c_drawn c_halvesMany c_halvesFirst c_spreadsMany c_spreadsFirst c_comesTo c_seedNow c_rowThen c_hasImage c_actsThen c_imageRow c_pastThen c_statusThen) H := hP
      have hD : va_D A (mW h0 ad G.2.2 0 c_now c_read c_status c_tape c_taped c_at c_textSize c_token c_number c_begins c_stops c_bad c_badPlace c_faultPlace c_clauses y8 y6 c_becomes c_dualLines c_on c_rowNow c_least c_wayFirst c_ways c_acts c_past c_listPoints c_listLines c_listed c_list c_path c_places c_firstPlaces c_px c_py c_pz c_placeMany c_modulus c_drawn c_halvesMany c_halvesFirst c_spreadsMany c_spreadsFirst c_comesTo c_seedNow c_rowThen c_hasImage c_actsThen c_imageRow c_pastThen c_statusThen) := hD
      refine W.eq (g2 := F0 m 37 ls []) rfl ?_
      refine lv_iconst (v := 1) hx hb dX3_symmetry_37 (by decide) ?_
      refine lv_istore (lv' := [(4, .int 1), (3, .int 0), (0, .ref h0), (1, .int v1), (2, .int v2)]) hx hb dX3_symmetry_38 hl (by decide) rfl (fun ls hl => ?_)
      refine S_X3_symmetry_40 N v1 v2 0 1 y8 y6 0 h  _ _ hP hD hS _ (lv_sub hl [2, 3, 4, 1, 0] rfl)
    · rw [if_neg c5] at h
      refine lv_aload_n hx hb dX3_symmetry_17 rfl (lv_at hl 0 rfl) ?_
      refine lv_iconst (v := 1) hx hb dX3_symmetry_18 (by decide) ?_
      obtain ⟨y21, e21, h⟩ := ob_s h
      refine MW.callV (q0 := 0) (M_X3_fail hG e21) S (cw_X3_fail hts q1827 ⟨Nat.le_of_ble_eq_true rfl, Nat.le_of_ble_eq_true rfl⟩) hW0 hK hP hD hS hA rfl rfl rfl hl.1 rfl (Nat.le_of_ble_eq_true rfl) dX3_symmetry_19 ⟨Nat.zero_le _, Nat.zero_le _⟩ (fun H locs hP hD hS => ?_)
      have hP : va_P G.2.1 vwCl (mW h0 ad G.2.2 y21.2 c_now c_read c_status c_tape c_taped c_at c_textSize c_token c_number c_begins c_stops c_bad c_badPlace c_faultPlace c_clauses c_naming c_lineBy c_becomes c_dualLines c_on c_rowNow c_least c_wayFirst c_ways c_acts c_past c_listPoints c_listLines c_listed c_list c_path c_places c_firstPlaces c_px c_py c_pz c_placeMany c_modulus c_drawn c_halvesMany c_halvesFirst c_spreadsMany c_spreadsFirst c_comesTo c_seedNow c_rowThen c_hasImage c_actsThen c_imageRow c_pastThen c_statusThen) H := hP
      have hD : va_D A (mW h0 ad G.2.2 y21.2 c_now c_read c_status c_tape c_taped c_at c_textSize c_token c_number c_begins c_stops c_bad c_badPlace c_faultPlace c_clauses c_naming c_lineBy c_becomes c_dualLines c_on c_rowNow c_least c_wayFirst c_ways c_acts c_past c_listPoints c_listLines c_listed c_list c_path c_places c_firstPlaces c_px c_py c_pz c_placeMany c_modulus c_drawn c_halvesMany c_halvesFirst c_spreadsMany c_spreadsFirst c_comesTo c_seedNow c_rowThen c_hasImage c_actsThen c_imageRow c_pastThen c_statusThen) := hD
      refine W.eq (g2 := F0 m 22 ls [.int y21.1]) rfl ?_
      obtain rfl := Option.some.inj h
      exact hreti rfl dX3_symmetry_22 rfl rfl hP hD hS
