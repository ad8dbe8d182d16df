set_option maxRecDepth 100000
set_option linter.unusedVariables false
def F_X3_thrown (N : Nat) (c_code : Int32) : Option (Int32) := (some (c_code))
theorem cw_X3_thrown {R : Room} {s : State} {args : Array Value} {own : String} {index lev mc ms : Nat} (hts : ∀ w ∈ lw_all, w.before args s = true) (hl : Cond.methodLink own index yX3_thrown ∈ lw_all) (hR : (rmL lev mc ms).frames + 1 ≤ R.frames ∧ 8 + (1 + 11) + (rmL lev mc ms).locals ≤ R.locals) : CallW R s args own RX3 index yX3_thrown cX3_thrown 1 (some .int) (ws_ yX3_thrown cX3_thrown 1 (some .int)) (rmL lev mc ms) mc ms 0 := cwV 0 hts (lw_V hl q1816 q1817 q172 q1818) rfl rfl rfl (by decide +kernel) hR
set_option maxHeartbeats 4000000 in
theorem M_X3_thrown {l : Launch} {G : GE} (hG : GC G) {N : Nat} {h0 : Nat} {ad : Nat → Nat} {c_now : (Nat → Int32)} {c_read : (Nat → Int32)} {c_status : (Nat → Int32)} {c_tape : (Nat → Int32)} {c_taped : Int32} {c_at : Int32} {c_textSize : Int32} {c_token : Int32} {c_number : Int32} {c_begins : Int32} {c_stops : Int32} {c_bad : Int32} {c_badPlace : Int32} {c_faultPlace : Int32} {c_clauses : Int32} {c_naming : (Nat → Int32)} {c_lineBy : (Nat → Int32)} {c_becomes : (Nat → Int32)} {c_dualLines : (Nat → Int32)} {c_on : (Nat → Int32)} {c_rowNow : (Nat → Int32)} {c_least : (Nat → Int32)} {c_wayFirst : (Nat → Int32)} {c_ways : Int32} {c_acts : Int32} {c_past : (Nat → Int32)} {c_listPoints : Int32} {c_listLines : Int32} {c_listed : Int32} {c_list : (Nat → Int32)} {c_path : (Nat → Int32)} {c_places : (Nat → Int32)} {c_firstPlaces : (Nat → Int32)} {c_px : (Nat → Int32)} {c_py : (Nat → Int32)} {c_pz : (Nat → Int32)} {c_placeMany : Int32} {c_modulus : Int32} {c_drawn : Int32} {c_halvesMany : Int32} {c_halvesFirst : Int32} {c_spreadsMany : Int32} {c_spreadsFirst : Int32} {c_comesTo : (Nat → Int32)} {c_seedNow : Int32} {c_rowThen : (Nat → Int32)} {c_hasImage : Int32} {c_actsThen : Int32} {c_imageRow : (Nat → Int32)} {c_pastThen : (Nat → Int32)} {c_statusThen : (Nat → Int32)} {c_code : Int32} {ρ : (Int32)} (h : F_X3_thrown N c_code = some ρ) : MR l G yX3_thrown cX3_thrown 1 (some .int) 1 (mW h0 ad G.2.2 c_code c_now c_read c_status c_tape c_taped c_at c_textSize c_token c_number c_begins c_stops c_bad c_badPlace c_faultPlace c_clauses c_naming c_lineBy c_becomes c_dualLines c_on c_rowNow c_least c_wayFirst c_ways c_acts c_past c_listPoints c_listLines c_listed c_list c_path c_places c_firstPlaces c_px c_py c_pz c_placeMany c_modulus c_drawn c_halvesMany c_halvesFirst c_spreadsMany c_spreadsFirst c_comesTo c_seedNow c_rowThen c_hasImage c_actsThen c_imageRow c_pastThen c_statusThen) [.ref h0] ρ := by
  rw [F_X3_thrown] at h
  refine MR.start (rt := .int) hG (by decide) (Nat.le_of_ble_eq_true rfl) ?_
  intro p e s m args below meth c Q S hW0 hK hP hret ls hl
  obtain ⟨hx, hb, hml, hown, hts⟩ := id S
  have hl : lv_has ls 1 [(0, .ref h0)] := hl
  refine lv_aload_n hx hb dX3_thrown_0 rfl (lv_at hl 0 rfl) ?_
  refine va_get (ci := 2) (v := .int c_code) (C := RX3) (T := TX3) (N := 52) hx hb hts in_X3 hown hK hP 0 rfl rfl 0 (by decide) (hts _ q1658) (fun _ h9 => h9) rfl dX3_thrown_1 ?_
  obtain rfl := Option.some.inj h
  exact hret dX3_thrown_4 rfl
def F_X3_feed_76 (N : Nat) (s0 : Int32) (v6 : Int32) (c_tape : (Nat → Int32)) (c_taped : Int32) (k23 : Int32 → (Nat → Int32) → Int32 → Option (Int32 × (Nat → Int32) × Int32 × Int32)) : Option (Int32 × (Nat → Int32) × Int32 × Int32) := (ckI c_taped 400 (k23 (v6 + 1) (upd c_tape (Int32.toNatClampNeg c_taped) ((s0 >>> (((24 : Int32) - ((8 : Int32) * (v6 - v6 / 4 * 4))) &&& 31)) &&& (255 : Int32))) (c_taped + (1 : Int32))))
def F_X3_feed_23 (N : Nat) (v1 : Int32) (v2 : Int32) (v3 : Int32) (v4 : Int32) (v5 : Int32) (c_code : Int32) : Nat → Int32 → (Nat → Int32) → Int32 → Option (Int32 × (Nat → Int32) × Int32 × Int32)
  | 0, _, _, _ => none
  | n + 1, v6, c_tape, c_taped => (if 20 ≤ v6 then (some (c_taped, c_tape, c_code, c_taped)) else (if 4 ≤ v6 then (if 8 ≤ v6 then (if 12 ≤ v6 then (if 16 ≤ v6 then (F_X3_feed_76 N v5 v6 c_tape c_taped (fun u6 z_c_tape z_c_taped => (F_X3_feed_23 N v1 v2 v3 v4 v5 c_code n u6 z_c_tape z_c_taped))) else (F_X3_feed_76 N v4 v6 c_tape c_taped (fun u6 z_c_tape z_c_taped => (F_X3_feed_23 N v1 v2 v3 v4 v5 c_code n u6 z_c_tape z_c_taped)))) else (F_X3_feed_76 N v3 v6 c_tape c_taped (fun u6 z_c_tape z_c_taped => (F_X3_feed_23 N v1 v2 v3 v4 v5 c_code n u6 z_c_tape z_c_taped)))) else (F_X3_feed_76 N v2 v6 c_tape c_taped (fun u6 z_c_tape z_c_taped => (F_X3_feed_23 N v1 v2 v3 v4 v5 c_code n u6 z_c_tape z_c_taped)))) else (F_X3_feed_76 N v1 v6 c_tape c_taped (fun u6 z_c_tape z_c_taped => (F_X3_feed_23 N v1 v2 v3 v4 v5 c_code n u6 z_c_tape z_c_taped)))))
def F_X3_feed (N : Nat) (v1 : Int32) (v2 : Int32) (v3 : Int32) (v4 : Int32) (v5 : Int32) (c_tape : (Nat → Int32)) (c_code : Int32) (c_taped : Int32) : Option (Int32 × (Nat → Int32) × Int32 × Int32) := (if (c_taped + (20 : Int32)) ≤ 400 then (F_X3_feed_23 N v1 v2 v3 v4 v5 0 N 0 c_tape c_taped) else (some ((-1), c_tape, 0, c_taped)))
theorem cw_X3_feed {R : Room} {s : State} {args : Array Value} {own : String} {index lev mc ms : Nat} (hts : ∀ w ∈ lw_all, w.before args s = true) (hl : Cond.methodLink own index yX3_feed ∈ lw_all) (hR : (rmL lev mc ms).frames + 1 ≤ R.frames ∧ 8 + (8 + 11) + (rmL lev mc ms).locals ≤ R.locals) : CallW R s args own RX3 index yX3_feed cX3_feed 8 (some .int) (ws_ yX3_feed cX3_feed 8 (some .int)) (rmL lev mc ms) mc ms 5 := cwV 5 hts (lw_V hl q1820 q1821 q172 q1822) rfl rfl rfl (by decide +kernel) hR
set_option maxHeartbeats 4000000 in
theorem M_X3_feed {l : Launch} {G : GE} (hG : GC G) {N : Nat} {h0 : Nat} {ad : Nat → Nat} {c_now : (Nat → Int32)} {c_read : (Nat → Int32)} {c_status : (Nat → Int32)} {c_at : Int32} {c_textSize : Int32} {c_token : Int32} {c_number : Int32} {c_begins : Int32} {c_stops : Int32} {c_bad : Int32} {c_badPlace : Int32} {c_faultPlace : Int32} {c_clauses : Int32} {c_naming : (Nat → Int32)} {c_lineBy : (Nat → Int32)} {c_becomes : (Nat → Int32)} {c_dualLines : (Nat → Int32)} {c_on : (Nat → Int32)} {c_rowNow : (Nat → Int32)} {c_least : (Nat → Int32)} {c_wayFirst : (Nat → Int32)} {c_ways : Int32} {c_acts : Int32} {c_past : (Nat → Int32)} {c_listPoints : Int32} {c_listLines : Int32} {c_listed : Int32} {c_list : (Nat → Int32)} {c_path : (Nat → Int32)} {c_places : (Nat → Int32)} {c_firstPlaces : (Nat → Int32)} {c_px : (Nat → Int32)} {c_py : (Nat → Int32)} {c_pz : (Nat → Int32)} {c_placeMany : Int32} {c_modulus : Int32} {c_drawn : Int32} {c_halvesMany : Int32} {c_halvesFirst : Int32} {c_spreadsMany : Int32} {c_spreadsFirst : Int32} {c_comesTo : (Nat → Int32)} {c_seedNow : Int32} {c_rowThen : (Nat → Int32)} {c_hasImage : Int32} {c_actsThen : Int32} {c_imageRow : (Nat → Int32)} {c_pastThen : (Nat → Int32)} {c_statusThen : (Nat → Int32)} {v1 : Int32} {v2 : Int32} {v3 : Int32} {v4 : Int32} {v5 : Int32} {c_tape : (Nat → Int32)} {c_code : Int32} {c_taped : Int32} {ρ : (Int32 × (Nat → Int32) × Int32 × Int32)} (h : F_X3_feed N v1 v2 v3 v4 v5 c_tape c_code c_taped = some ρ) : MW l G yX3_feed cX3_feed 8 (some .int) 1 (mW h0 ad G.2.2 c_code c_now c_read c_status c_tape c_taped c_at c_textSize c_token c_number c_begins c_stops c_bad c_badPlace c_faultPlace c_clauses c_naming c_lineBy c_becomes c_dualLines c_on c_rowNow c_least c_wayFirst c_ways c_acts c_past c_listPoints c_listLines c_listed c_list c_path c_places c_firstPlaces c_px c_py c_pz c_placeMany c_modulus c_drawn c_halvesMany c_halvesFirst c_spreadsMany c_spreadsFirst c_comesTo c_seedNow c_rowThen c_hasImage c_actsThen c_imageRow c_pastThen c_statusThen) [.ref h0, .int v1, .int v2, .int v3, .int v4, .int v5] (some (.int ρ.1)) (mW h0 ad G.2.2 ρ.2.2.1 c_now c_read c_status ρ.2.1 ρ.2.2.2 c_at c_textSize c_token c_number c_begins c_stops c_bad c_badPlace c_faultPlace c_clauses c_naming c_lineBy c_becomes c_dualLines c_on c_rowNow c_least c_wayFirst c_ways c_acts c_past c_listPoints c_listLines c_listed c_list c_path c_places c_firstPlaces c_px c_py c_pz c_placeMany c_modulus c_drawn c_halvesMany c_halvesFirst c_spreadsMany c_spreadsFirst c_comesTo c_seedNow c_rowThen c_hasImage c_actsThen c_imageRow c_pastThen c_statusThen) := by
  rw [F_X3_feed] at h
  refine MW.start hG (by decide) (Nat.le_of_ble_eq_true rfl) ?_
  intro p e s m args below meth c Q A S hW0 hK hP hD hA hreti hretv ls hl
  have hS : va_S A s.heap s.heap [] := va_S.rf
  obtain ⟨hx, hb, hml, hown, hts⟩ := id S
  have hl : lv_has ls 8 [(0, .ref h0), (1, .int v1), (2, .int v2), (3, .int v3), (4, .int v4), (5, .int v5)] := hl
  have S_X3_feed_76 : ∀ (s0 : Int32) (v1 : Int32) (v2 : Int32) (v3 : Int32) (v4 : Int32) (v5 : Int32) (v6 : Int32) (c_tape : (Nat → Int32)) (c_code : Int32) (c_taped : Int32) (k23 : Int32 → (Nat → Int32) → Int32 → Option (Int32 × (Nat → Int32) × Int32 × Int32)), F_X3_feed_76 N s0 v6 c_tape c_taped k23 = some ρ → (∀ (u6 : Int32) (z_c_tape : (Nat → Int32)) (z_c_taped : Int32) (H : Heap) (locs : List Loc) (ls : Array Slot), k23 u6 z_c_tape z_c_taped = some ρ → va_P G.2.1 vwCl (mW h0 ad G.2.2 c_code c_now c_read c_status z_c_tape z_c_taped c_at c_textSize c_token c_number c_begins c_stops c_bad c_badPlace c_faultPlace c_clauses c_naming c_lineBy c_becomes c_dualLines c_on c_rowNow c_least c_wayFirst c_ways c_acts c_past c_listPoints c_listLines c_listed c_list c_path c_places c_firstPlaces c_px c_py c_pz c_placeMany c_modulus c_drawn c_halvesMany c_halvesFirst c_spreadsMany c_spreadsFirst c_comesTo c_seedNow c_rowThen c_hasImage c_actsThen c_imageRow c_pastThen c_statusThen) H → va_D A (mW h0 ad G.2.2 c_code c_now c_read c_status z_c_tape z_c_taped c_at c_textSize c_token c_number c_begins c_stops c_bad c_badPlace c_faultPlace c_clauses c_naming c_lineBy c_becomes c_dualLines c_on c_rowNow c_least c_wayFirst c_ways c_acts c_past c_listPoints c_listLines c_listed c_list c_path c_places c_firstPlaces c_px c_py c_pz c_placeMany c_modulus c_drawn c_halvesMany c_halvesFirst c_spreadsMany c_spreadsFirst c_comesTo c_seedNow c_rowThen c_hasImage c_actsThen c_imageRow c_pastThen c_statusThen) → va_S A s.heap H locs → lv_has ls 8 [(0, .ref h0), (1, .int v1), (2, .int v2), (3, .int v3), (4, .int v4), (5, .int v5), (6, .int u6)] → W p l e (rmL 1 0 0) s m args below meth c H locs 0 0 Q (F0 m 23 ls [])) → ∀ (H : Heap) (locs : List Loc), va_P G.2.1 vwCl (mW h0 ad G.2.2 c_code c_now c_read c_status c_tape c_taped c_at c_textSize c_token c_number c_begins c_stops c_bad c_badPlace c_faultPlace c_clauses c_naming c_lineBy c_becomes c_dualLines c_on c_rowNow c_least c_wayFirst c_ways c_acts c_past c_listPoints c_listLines c_listed c_list c_path c_places c_firstPlaces c_px c_py c_pz c_placeMany c_modulus c_drawn c_halvesMany c_halvesFirst c_spreadsMany c_spreadsFirst c_comesTo c_seedNow c_rowThen c_hasImage c_actsThen c_imageRow c_pastThen c_statusThen) H → va_D A (mW h0 ad G.2.2 c_code c_now c_read c_status c_tape c_taped c_at c_textSize c_token c_number c_begins c_stops c_bad c_badPlace c_faultPlace c_clauses c_naming c_lineBy c_becomes c_dualLines c_on c_rowNow c_least c_wayFirst c_ways c_acts c_past c_listPoints c_listLines c_listed c_list c_path c_places c_firstPlaces c_px c_py c_pz c_placeMany c_modulus c_drawn c_halvesMany c_halvesFirst c_spreadsMany c_spreadsFirst c_comesTo c_seedNow c_rowThen c_hasImage c_actsThen c_imageRow c_pastThen c_statusThen) → va_S A s.heap H locs → ∀ (ls : Array Slot), lv_has ls 8 [(0, .ref h0), (1, .int v1), (2, .int v2), (3, .int v3), (4, .int v4), (5, .int v5), (6, .int v6)] → W p l e (rmL 1 0 0) s m args below meth c H locs 0 0 Q (F0 m 76 ls [.int s0]) := by
    intro s0 v1 v2 v3 v4 v5 v6 c_tape c_code c_taped k23 h hk23 H locs hP hD hS ls hl
    rw [F_X3_feed_76] at h
    refine lv_istore (lv' := [(7, .int s0), (0, .ref h0), (1, .int v1), (2, .int v2), (3, .int v3), (4, .int v4), (5, .int v5), (6, .int v6)]) hx hb dX3_feed_76 hl (by decide) rfl (fun ls hl => ?_)
    refine lv_aload_n hx hb dX3_feed_78 rfl (lv_at hl 1 rfl) ?_
    refine va_get (ci := 2) (v := .ref (ad 4)) (C := RX3) (T := TX3) (N := 52) hx hb hts in_X3 hown hK hP 0 rfl rfl 4 (by decide) (hts _ q1662) (fun _ h9 => h9) rfl dX3_feed_79 ?_
    refine lv_aload_n hx hb dX3_feed_82 rfl (lv_at hl 1 rfl) ?_
    refine va_get (ci := 2) (v := .int c_taped) (C := RX3) (T := TX3) (N := 52) hx hb hts in_X3 hown hK hP 0 rfl rfl 5 (by decide) (hts _ q1663) (fun _ h9 => h9) rfl dX3_feed_83 ?_
    refine lv_iload hx hb dX3_feed_86 (lv_at hl 0 rfl) ?_
    refine lv_bipush (v := 24) hx hb dX3_feed_88 (by decide) ?_
    refine lv_bipush (v := 8) hx hb dX3_feed_90 (by decide) ?_
    refine lv_iload hx hb dX3_feed_92 (lv_at hl 7 rfl) ?_
    refine lv_iconst (v := 4) hx hb dX3_feed_94 (by decide) ?_
    refine lv_irem hx hb dX3_feed_95 (by decide) ?_
    refine lv_imul hx hb dX3_feed_96 ?_
    refine lv_isub hx hb dX3_feed_97 ?_
    refine lv_ishr hx hb dX3_feed_98 ?_
    refine lv_sipush (v := 255) hx hb dX3_feed_99 (by decide) ?_
    refine lv_iand hx hb dX3_feed_102 ?_
    obtain ⟨i8, h⟩ := ckI_s h
    refine va_iast (f := c_tape) hx hb hK hP hD hS 4 0 rfl rfl i8 dX3_feed_103 (fun H locs hP hD hS => ?_)
    have hP : va_P G.2.1 vwCl (mW h0 ad G.2.2 c_code c_now c_read c_status (upd c_tape (Int32.toNatClampNeg c_taped) ((s0 >>> (((24 : Int32) - ((8 : Int32) * (v6 - v6 / 4 * 4))) &&& 31)) &&& (255 : Int32))) c_taped c_at c_textSize c_token c_number c_begins c_stops c_bad c_badPlace c_faultPlace c_clauses c_naming c_lineBy c_becomes c_dualLines c_on c_rowNow c_least c_wayFirst c_ways c_acts c_past c_listPoints c_listLines c_listed c_list c_path c_places c_firstPlaces c_px c_py c_pz c_placeMany c_modulus c_drawn c_halvesMany c_halvesFirst c_spreadsMany c_spreadsFirst c_comesTo c_seedNow c_rowThen c_hasImage c_actsThen c_imageRow c_pastThen c_statusThen) H := hP
    have hD : va_D A (mW h0 ad G.2.2 c_code c_now c_read c_status (upd c_tape (Int32.toNatClampNeg c_taped) ((s0 >>> (((24 : Int32) - ((8 : Int32) * (v6 - v6 / 4 * 4))) &&& 31)) &&& (255 : Int32))) c_taped c_at c_textSize c_token c_number c_begins c_stops c_bad c_badPlace c_faultPlace c_clauses c_naming c_lineBy c_becomes c_dualLines c_on c_rowNow c_least c_wayFirst c_ways c_acts c_past c_listPoints c_listLines c_listed c_list c_path c_places c_firstPlaces c_px c_py c_pz c_placeMany c_modulus c_drawn c_halvesMany c_halvesFirst c_spreadsMany c_spreadsFirst c_comesTo c_seedNow c_rowThen c_hasImage c_actsThen c_imageRow c_pastThen c_statusThen) := hD
    refine lv_aload_n hx hb dX3_feed_104 rfl (lv_at hl 1 rfl) ?_
    refine lv_dup hx hb dX3_feed_105 rfl ?_
    refine va_get (ci := 2) (v := .int c_taped) (C := RX3) (T := TX3) (N := 52) hx hb hts in_X3 hown hK hP 0 rfl rfl 5 (by decide) (hts _ q1663) (fun _ h9 => h9) rfl dX3_feed_106 ?_
    refine lv_iconst (v := 1) hx hb dX3_feed_109 (by decide) ?_
    refine lv_iadd hx hb dX3_feed_110 ?_
    refine va_put (ci := 2) (v := .int (c_taped + (1 : Int32))) (ty := .int) (C := RX3) (T := TX3) (N := 52) hx hb hts in_X3 tyX3 tyX3_ok nmX3 hown hK hP hD hS 0 rfl rfl 5 (by decide) (hts _ q1663) (fun _ h9 => h9) rfl (by decide +kernel) rfl rfl (Nat.le_of_ble_eq_true rfl) dX3_feed_111 (fun H locs hP hD hS => ?_)
    have hP : va_P G.2.1 vwCl (mW h0 ad G.2.2 c_code c_now c_read c_status (upd c_tape (Int32.toNatClampNeg c_taped) ((s0 >>> (((24 : Int32) - ((8 : Int32) * (v6 - v6 / 4 * 4))) &&& 31)) &&& (255 : Int32))) (c_taped + (1 : Int32)) c_at c_textSize c_token c_number c_begins c_stops c_bad c_badPlace c_faultPlace c_clauses c_naming c_lineBy c_becomes c_dualLines c_on c_rowNow c_least c_wayFirst c_ways c_acts c_past c_listPoints c_listLines c_listed c_list c_path c_places c_firstPlaces c_px c_py c_pz c_placeMany c_modulus c_drawn c_halvesMany c_halvesFirst c_spreadsMany c_spreadsFirst c_comesTo c_seedNow c_rowThen c_hasImage c_actsThen c_imageRow c_pastThen c_statusThen) H := hP
    have hD : va_D A (mW h0 ad G.2.2 c_code c_now c_read c_status (upd c_tape (Int32.toNatClampNeg c_taped) ((s0 >>> (((24 : Int32) - ((8 : Int32) * (v6 - v6 / 4 * 4))) &&& 31)) &&& (255 : Int32))) (c_taped + (1 : Int32)) c_at c_textSize c_token c_number c_begins c_stops c_bad c_badPlace c_faultPlace c_clauses c_naming c_lineBy c_becomes c_dualLines c_on c_rowNow c_least c_wayFirst c_ways c_acts c_past c_listPoints c_listLines c_listed c_list c_path c_places c_firstPlaces c_px c_py c_pz c_placeMany c_modulus c_drawn c_halvesMany c_halvesFirst c_spreadsMany c_spreadsFirst c_comesTo c_seedNow c_rowThen c_hasImage c_actsThen c_imageRow c_pastThen c_statusThen) := hD
    refine lv_iinc (v := (v6 + 1)) (lv' := [(6, .int (v6 + 1)), (7, .int s0), (0, .ref h0), (1, .int v1), (2, .int v2), (3, .int v3), (4, .int v4), (5, .int v5)]) hx hb dX3_feed_114 hl (k := 7) rfl rfl (by decide) rfl (fun ls hl => ?_)
    refine lv_goto (tgt := 23) hx hb dX3_feed_117 (by decide) ?_
    exact hk23 (v6 + 1) (upd c_tape (Int32.toNatClampNeg c_taped) ((s0 >>> (((24 : Int32) - ((8 : Int32) * (v6 - v6 / 4 * 4))) &&& 31)) &&& (255 : Int32))) (c_taped + (1 : Int32)) _ _ _ h hP hD hS (lv_sub hl [2, 3, 4, 5, 6, 7, 0] rfl)
  have S_X3_feed_23 : ∀ (n : Nat) (v1 : Int32) (v2 : Int32) (v3 : Int32) (v4 : Int32) (v5 : Int32) (v6 : Int32) (c_tape : (Nat → Int32)) (c_code : Int32) (c_taped : Int32), F_X3_feed_23 N v1 v2 v3 v4 v5 c_code n v6 c_tape c_taped = some ρ → ∀ (H : Heap) (locs : List Loc), va_P G.2.1 vwCl (mW h0 ad G.2.2 c_code c_now c_read c_status c_tape c_taped c_at c_textSize c_token c_number c_begins c_stops c_bad c_badPlace c_faultPlace c_clauses c_naming c_lineBy c_becomes c_dualLines c_on c_rowNow c_least c_wayFirst c_ways c_acts c_past c_listPoints c_listLines c_listed c_list c_path c_places c_firstPlaces c_px c_py c_pz c_placeMany c_modulus c_drawn c_halvesMany c_halvesFirst c_spreadsMany c_spreadsFirst c_comesTo c_seedNow c_rowThen c_hasImage c_actsThen c_imageRow c_pastThen c_statusThen) H → va_D A (mW h0 ad G.2.2 c_code c_now c_read c_status c_tape c_taped c_at c_textSize c_token c_number c_begins c_stops c_bad c_badPlace c_faultPlace c_clauses c_naming c_lineBy c_becomes c_dualLines c_on c_rowNow c_least c_wayFirst c_ways c_acts c_past c_listPoints c_listLines c_listed c_list c_path c_places c_firstPlaces c_px c_py c_pz c_placeMany c_modulus c_drawn c_halvesMany c_halvesFirst c_spreadsMany c_spreadsFirst c_comesTo c_seedNow c_rowThen c_hasImage c_actsThen c_imageRow c_pastThen c_statusThen) → va_S A s.heap H locs → ∀ (ls : Array Slot), lv_has ls 8 [(0, .ref h0), (1, .int v1), (2, .int v2), (3, .int v3), (4, .int v4), (5, .int v5), (6, .int v6)] → W p l e (rmL 1 0 0) s m args below meth c H locs 0 0 Q (F0 m 23 ls []) := by
    intro n
    induction n with
    | zero =>
      intro v1 v2 v3 v4 v5 v6 c_tape c_code c_taped h
      exact absurd h (by simp [F_X3_feed_23])
    | succ n ih =>
      intro v1 v2 v3 v4 v5 v6 c_tape c_code c_taped h H locs hP hD hS ls hl
      rw [F_X3_feed_23] at h
      refine lv_iload hx hb dX3_feed_23 (lv_at hl 6 rfl) ?_
      refine lv_bipush (v := 20) hx hb dX3_feed_25 (by decide) ?_
      refine lv_icmp_ge (tgt := 120) hx hb dX3_feed_27 (by decide) (fun c2 => ?_) (fun c2 => ?_)
      · rw [if_pos c2] at h
        refine lv_aload_n hx hb dX3_feed_120 rfl (lv_at hl 0 rfl) ?_
        refine va_get (ci := 2) (v := .int c_taped) (C := RX3) (T := TX3) (N := 52) hx hb hts in_X3 hown hK hP 0 rfl rfl 5 (by decide) (hts _ q1663) (fun _ h9 => h9) rfl dX3_feed_121 ?_
        obtain rfl := Option.some.inj h
        exact hreti rfl dX3_feed_124 rfl rfl hP hD hS
      · rw [if_neg c2] at h
        refine lv_iload hx hb dX3_feed_30 (lv_at hl 6 rfl) ?_
        refine lv_iconst (v := 4) hx hb dX3_feed_32 (by decide) ?_
        refine lv_icmp_ge (tgt := 40) hx hb dX3_feed_33 (by decide) (fun c4 => ?_) (fun c4 => ?_)
        · rw [if_pos c4] at h
          refine lv_iload hx hb dX3_feed_40 (lv_at hl 6 rfl) ?_
          refine lv_bipush (v := 8) hx hb dX3_feed_42 (by decide) ?_
          refine lv_icmp_ge (tgt := 51) hx hb dX3_feed_44 (by decide) (fun c5 => ?_) (fun c5 => ?_)
          · rw [if_pos c5] at h
            refine lv_iload hx hb dX3_feed_51 (lv_at hl 6 rfl) ?_
            refine lv_bipush (v := 12) hx hb dX3_feed_53 (by decide) ?_
            refine lv_icmp_ge (tgt := 62) hx hb dX3_feed_55 (by decide) (fun c6 => ?_) (fun c6 => ?_)
            · rw [if_pos c6] at h
              refine lv_iload hx hb dX3_feed_62 (lv_at hl 6 rfl) ?_
              refine lv_bipush (v := 16) hx hb dX3_feed_64 (by decide) ?_
              refine lv_icmp_ge (tgt := 74) hx hb dX3_feed_66 (by decide) (fun c7 => ?_) (fun c7 => ?_)
              · rw [if_pos c7] at h
                refine lv_iload hx hb dX3_feed_74 (lv_at hl 5 rfl) ?_
                refine S_X3_feed_76 v5 v1 v2 v3 v4 v5 v6 c_tape c_code c_taped _ h (fun u6 z_c_tape z_c_taped H locs ls h hP hD hS hl => ih v1 v2 v3 v4 v5 u6 z_c_tape c_code z_c_taped h H locs hP hD hS ls hl) _ _ hP hD hS _ (lv_sub hl [0, 1, 2, 3, 4, 5, 6] rfl)
              · rw [if_neg c7] at h
                refine lv_iload hx hb dX3_feed_69 (lv_at hl 4 rfl) ?_
                refine lv_goto (tgt := 76) hx hb dX3_feed_71 (by decide) ?_
                refine S_X3_feed_76 v4 v1 v2 v3 v4 v5 v6 c_tape c_code c_taped _ h (fun u6 z_c_tape z_c_taped H locs ls h hP hD hS hl => ih v1 v2 v3 v4 v5 u6 z_c_tape c_code z_c_taped h H locs hP hD hS ls hl) _ _ hP hD hS _ (lv_sub hl [0, 1, 2, 3, 4, 5, 6] rfl)
            · rw [if_neg c6] at h
              refine lv_iload_n hx hb dX3_feed_58 rfl (lv_at hl 3 rfl) ?_
              refine lv_goto (tgt := 76) hx hb dX3_feed_59 (by decide) ?_
              refine S_X3_feed_76 v3 v1 v2 v3 v4 v5 v6 c_tape c_code c_taped _ h (fun u6 z_c_tape z_c_taped H locs ls h hP hD hS hl => ih v1 v2 v3 v4 v5 u6 z_c_tape c_code z_c_taped h H locs hP hD hS ls hl) _ _ hP hD hS _ (lv_sub hl [0, 1, 2, 3, 4, 5, 6] rfl)
          · rw [if_neg c5] at h
            refine lv_iload_n hx hb dX3_feed_47 rfl (lv_at hl 2 rfl) ?_
            refine lv_goto (tgt := 76) hx hb dX3_feed_48 (by decide) ?_
            refine S_X3_feed_76 v2 v1 v2 v3 v4 v5 v6 c_tape c_code c_taped _ h (fun u6 z_c_tape z_c_taped H locs ls h hP hD hS hl => ih v1 v2 v3 v4 v5 u6 z_c_tape c_code z_c_taped h H locs hP hD hS ls hl) _ _ hP hD hS _ (lv_sub hl [0, 1, 2, 3, 4, 5, 6] rfl)
        · rw [if_neg c4] at h
          refine lv_iload_n hx hb dX3_feed_36 rfl (lv_at hl 1 rfl) ?_
          refine lv_goto (tgt := 76) hx hb dX3_feed_37 (by decide) ?_
          refine S_X3_feed_76 v1 v1 v2 v3 v4 v5 v6 c_tape c_code c_taped _ h (fun u6 z_c_tape z_c_taped H locs ls h hP hD hS hl => ih v1 v2 v3 v4 v5 u6 z_c_tape c_code z_c_taped h H locs hP hD hS ls hl) _ _ hP hD hS _ (lv_sub hl [0, 1, 2, 3, 4, 5, 6] rfl)
  refine lv_aload_n hx hb dX3_feed_0 rfl (lv_at hl 0 rfl) ?_
  refine lv_iconst (v := 0) hx hb dX3_feed_1 (by decide) ?_
  refine va_put (ci := 2) (v := .int 0) (ty := .int) (C := RX3) (T := TX3) (N := 52) hx hb hts in_X3 tyX3 tyX3_ok nmX3 hown hK hP hD hS 0 rfl rfl 0 (by decide) (hts _ q1658) (fun _ h9 => h9) rfl (by decide +kernel) rfl rfl (Nat.le_of_ble_eq_true rfl) dX3_feed_2 (fun H locs hP hD hS => ?_)
  have hP : va_P G.2.1 vwCl (mW h0 ad G.2.2 0 c_now c_read c_status c_tape c_taped c_at c_textSize c_token c_number c_begins c_stops c_bad c_badPlace c_faultPlace c_clauses c_naming c_lineBy c_becomes c_dualLines c_on c_rowNow c_least c_wayFirst c_ways c_acts c_past c_listPoints c_listLines c_listed c_list c_path c_places c_firstPlaces c_px c_py c_pz c_placeMany c_modulus c_drawn c_halvesMany c_halvesFirst c_spreadsMany c_spreadsFirst c_comesTo c_seedNow c_rowThen c_hasImage c_actsThen c_imageRow c_pastThen c_statusThen) H := hP
  have hD : va_D A (mW h0 ad G.2.2 0 c_now c_read c_status c_tape c_taped c_at c_textSize c_token c_number c_begins c_stops c_bad c_badPlace c_faultPlace c_clauses c_naming c_lineBy c_becomes c_dualLines c_on c_rowNow c_least c_wayFirst c_ways c_acts c_past c_listPoints c_listLines c_listed c_list c_path c_places c_firstPlaces c_px c_py c_pz c_placeMany c_modulus c_drawn c_halvesMany c_halvesFirst c_spreadsMany c_spreadsFirst c_comesTo c_seedNow c_rowThen c_hasImage c_actsThen c_imageRow c_pastThen c_statusThen) := hD
  refine lv_aload_n hx hb dX3_feed_5 rfl (lv_at hl 0 rfl) ?_
  refine va_get (ci := 2) (v := .int c_taped) (C := RX3) (T := TX3) (N := 52) hx hb hts in_X3 hown hK hP 0 rfl rfl 5 (by decide) (hts _ q1663) (fun _ h9 => h9) rfl dX3_feed_6 ?_
  refine lv_bipush (v := 20) hx hb dX3_feed_9 (by decide) ?_
  refine lv_iadd hx hb dX3_feed_11 ?_
  refine lv_sipush (v := 400) hx hb dX3_feed_12 (by decide) ?_
  refine lv_icmp_le (tgt := 20) hx hb dX3_feed_15 (by decide) (fun c1 => ?_) (fun c1 => ?_)
  · rw [if_pos c1] at h
    refine lv_iconst (v := 0) hx hb dX3_feed_20 (by decide) ?_
    refine lv_istore (lv' := [(6, .int 0), (0, .ref h0), (1, .int v1), (2, .int v2), (3, .int v3), (4, .int v4), (5, .int v5)]) hx hb dX3_feed_21 hl (by decide) rfl (fun ls hl => ?_)
    refine S_X3_feed_23 N v1 v2 v3 v4 v5 0 c_tape 0 c_taped h  _ _ hP hD hS _ (lv_sub hl [1, 2, 3, 4, 5, 6, 0] rfl)
  · rw [if_neg c1] at h
    refine lv_iconst (v := (-1)) hx hb dX3_feed_18 (by decide) ?_
    obtain rfl := Option.some.inj h
    exact hreti rfl dX3_feed_19 rfl rfl hP hD hS
def F_X3_fail (N : Nat) (v1 : Int32) (c_code : Int32) : Option (Int32 × Int32) := (some (0, v1))
theorem cw_X3_fail {R : Room} {s : State} {args : Array Value} {own : String} {index lev mc ms : Nat} (hts : ∀ w ∈ lw_all, w.before args s = true) (hl : Cond.methodLink own index yX3_fail ∈ lw_all) (hR : (rmL lev mc ms).frames + 1 ≤ R.frames ∧ 8 + (2 + 11) + (rmL lev mc ms).locals ≤ R.locals) : CallW R s args own RX3 index yX3_fail cX3_fail 2 (some .int) (ws_ yX3_fail cX3_fail 2 (some .int)) (rmL lev mc ms) mc ms 1 := cwV 1 hts (lw_V hl q1829 qs71 q172 q1830) rfl rfl rfl (by decide +kernel) hR
set_option maxHeartbeats 4000000 in
theorem M_X3_fail {l : Launch} {G : GE} (hG : GC G) {N : Nat} {h0 : Nat} {ad : Nat → Nat} {c_now : (Nat → Int32)} {c_read : (Nat → Int32)} {c_status : (Nat → Int32)} {c_tape : (Nat → Int32)} {c_taped : Int32} {c_at : Int32} {c_textSize : Int32} {c_token : Int32} {c_number : Int32} {c_begins : Int32} {c_stops : Int32} {c_bad : Int32} {c_badPlace : Int32} {c_faultPlace : Int32} {c_clauses : Int32} {c_naming : (Nat → Int32)} {c_lineBy : (Nat → Int32)} {c_becomes : (Nat → Int32)} {c_dualLines : (Nat → Int32)} {c_on : (Nat → Int32)} {c_rowNow : (Nat → Int32)} {c_least : (Nat → Int32)} {c_wayFirst : (Nat → Int32)} {c_ways : Int32} {c_acts : Int32} {c_past : (Nat → Int32)} {c_listPoints : Int32} {c_listLines : Int32} {c_listed : Int32} {c_list : (Nat → Int32)} {c_path : (Nat → Int32)} {c_places : (Nat → Int32)} {c_firstPlaces : (Nat → Int32)} {c_px : (Nat → Int32)} {c_py : (Nat → Int32)} {c_pz : (Nat → Int32)} {c_placeMany : Int32} {c_modulus : Int32} {c_drawn : Int32} {c_halvesMany : Int32} {c_halvesFirst : Int32} {c_spreadsMany : Int32} {c_spreadsFirst : Int32} {c_comesTo : (Nat → Int32)} {c_seedNow : Int32} {c_rowThen : (Nat → Int32)} {c_hasImage : Int32} {c_actsThen : Int32} {c_imageRow : (Nat → Int32)} {c_pastThen : (Nat → Int32)} {c_statusThen : (Nat → Int32)} {v1 : Int32} {c_code : Int32} {ρ : (Int32 × Int32)} (h : F_X3_fail N v1 c_code = some ρ) : MW l G yX3_fail cX3_fail 2 (some .int) 1 (mW h0 ad G.2.2 c_code c_now c_read c_status c_tape c_taped c_at c_textSize c_token c_number c_begins c_stops c_bad c_badPlace c_faultPlace c_clauses c_naming c_lineBy c_becomes c_dualLines c_on c_rowNow c_least c_wayFirst c_ways c_acts c_past c_listPoints c_listLines c_listed c_list c_path c_places c_firstPlaces c_px c_py c_pz c_placeMany c_modulus c_drawn c_halvesMany c_halvesFirst c_spreadsMany c_spreadsFirst c_comesTo c_seedNow c_rowThen c_hasImage c_actsThen c_imageRow c_pastThen c_statusThen) [.ref h0, .int v1] (some (.int ρ.1)) (mW h0 ad G.2.2 ρ.2 c_now c_read c_status c_tape c_taped c_at c_textSize c_token c_number c_begins c_stops c_bad c_badPlace c_faultPlace c_clauses c_naming c_lineBy c_becomes c_dualLines c_on c_rowNow c_least c_wayFirst c_ways c_acts c_past c_listPoints c_listLines c_listed c_list c_path c_places c_firstPlaces c_px c_py c_pz c_placeMany c_modulus c_drawn c_halvesMany c_halvesFirst c_spreadsMany c_spreadsFirst c_comesTo c_seedNow c_rowThen c_hasImage c_actsThen c_imageRow c_pastThen c_statusThen) := by
  rw [F_X3_fail] at h
  refine MW.start hG (by decide) (Nat.le_of_ble_eq_true rfl) ?_
  intro p e s m args below meth c Q A S hW0 hK hP hD hA hreti hretv ls hl
  have hS : va_S A s.heap s.heap [] := va_S.rf
  obtain ⟨hx, hb, hml, hown, hts⟩ := id S
  have hl : lv_has ls 2 [(0, .ref h0), (1, .int v1)] := hl
  refine lv_aload_n hx hb dX3_fail_0 rfl (lv_at hl 0 rfl) ?_
  refine lv_iload_n hx hb dX3_fail_1 rfl (lv_at hl 1 rfl) ?_
  refine va_put (ci := 2) (v := .int v1) (ty := .int) (C := RX3) (T := TX3) (N := 52) hx hb hts in_X3 tyX3 tyX3_ok nmX3 hown hK hP hD hS 0 rfl rfl 0 (by decide) (hts _ q1658) (fun _ h9 => h9) rfl (by decide +kernel) rfl rfl (Nat.le_of_ble_eq_true rfl) dX3_fail_2 (fun H locs hP hD hS => ?_)
  have hP : va_P G.2.1 vwCl (mW h0 ad G.2.2 v1 c_now c_read c_status c_tape c_taped c_at c_textSize c_token c_number c_begins c_stops c_bad c_badPlace c_faultPlace c_clauses c_naming c_lineBy c_becomes c_dualLines c_on c_rowNow c_least c_wayFirst c_ways c_acts c_past c_listPoints c_listLines c_listed c_list c_path c_places c_firstPlaces c_px c_py c_pz c_placeMany c_modulus c_drawn c_halvesMany c_halvesFirst c_spreadsMany c_spreadsFirst c_comesTo c_seedNow c_rowThen c_hasImage c_actsThen c_imageRow c_pastThen c_statusThen) H := hP
  have hD : va_D A (mW h0 ad G.2.2 v1 c_now c_read c_status c_tape c_taped c_at c_textSize c_token c_number c_begins c_stops c_bad c_badPlace c_faultPlace c_clauses c_naming c_lineBy c_becomes c_dualLines c_on c_rowNow c_least c_wayFirst c_ways c_acts c_past c_listPoints c_listLines c_listed c_list c_path c_places c_firstPlaces c_px c_py c_pz c_placeMany c_modulus c_drawn c_halvesMany c_halvesFirst c_spreadsMany c_spreadsFirst c_comesTo c_seedNow c_rowThen c_hasImage c_actsThen c_imageRow c_pastThen c_statusThen) := hD
  refine lv_iconst (v := 0) hx hb dX3_fail_5 (by decide) ?_
  obtain rfl := Option.some.inj h
  exact hreti rfl dX3_fail_6 rfl rfl hP hD hS
def F_X3_byteAt (N : Nat) (v1 : Int32) (c_tape : (Nat → Int32)) (c_textSize : Int32) : Option (Int32) := (if c_textSize ≤ v1 then (some ((-1))) else (ckI v1 400 (some ((c_tape (Int32.toNatClampNeg v1))))))
theorem cw_X3_byteAt {R : Room} {s : State} {args : Array Value} {own : String} {index lev mc ms : Nat} (hts : ∀ w ∈ lw_all, w.before args s = true) (hl : Cond.methodLink own index yX3_byteAt ∈ lw_all) (hR : (rmL lev mc ms).frames + 1 ≤ R.frames ∧ 8 + (2 + 11) + (rmL lev mc ms).locals ≤ R.locals) : CallW R s args own RX3 index yX3_byteAt cX3_byteAt 2 (some .int) (ws_ yX3_byteAt cX3_byteAt 2 (some .int)) (rmL lev mc ms) mc ms 1 := cwV 1 hts (lw_V hl q1837 qs73 q172 q1838) rfl rfl rfl (by decide +kernel) hR
set_option maxHeartbeats 4000000 in
theorem M_X3_byteAt {l : Launch} {G : GE} (hG : GC G) {N : Nat} {h0 : Nat} {ad : Nat → Nat} {c_code : Int32} {c_now : (Nat → Int32)} {c_read : (Nat → Int32)} {c_status : (Nat → Int32)} {c_taped : Int32} {c_at : Int32} {c_token : Int32} {c_number : Int32} {c_begins : Int32} {c_stops : Int32} {c_bad : Int32} {c_badPlace : Int32} {c_faultPlace : Int32} {c_clauses : Int32} {c_naming : (Nat → Int32)} {c_lineBy : (Nat → Int32)} {c_becomes : (Nat → Int32)} {c_dualLines : (Nat → Int32)} {c_on : (Nat → Int32)} {c_rowNow : (Nat → Int32)} {c_least : (Nat → Int32)} {c_wayFirst : (Nat → Int32)} {c_ways : Int32} {c_acts : Int32} {c_past : (Nat → Int32)} {c_listPoints : Int32} {c_listLines : Int32} {c_listed : Int32} {c_list : (Nat → Int32)} {c_path : (Nat → Int32)} {c_places : (Nat → Int32)} {c_firstPlaces : (Nat → Int32)} {c_px : (Nat → Int32)} {c_py : (Nat → Int32)} {c_pz : (Nat → Int32)} {c_placeMany : Int32} {c_modulus : Int32} {c_drawn : Int32} {c_halvesMany : Int32} {c_halvesFirst : Int32} {c_spreadsMany : Int32} {c_spreadsFirst : Int32} {c_comesTo : (Nat → Int32)} {c_seedNow : Int32} {c_rowThen : (Nat → Int32)} {c_hasImage : Int32} {c_actsThen : Int32} {c_imageRow : (Nat → Int32)} {c_pastThen : (Nat → Int32)} {c_statusThen : (Nat → Int32)} {v1 : Int32} {c_tape : (Nat → Int32)} {c_textSize : Int32} {ρ : (Int32)} (h : F_X3_byteAt N v1 c_tape c_textSize = some ρ) : MR l G yX3_byteAt cX3_byteAt 2 (some .int) 1 (mW h0 ad G.2.2 c_code c_now c_read c_status c_tape c_taped c_at c_textSize c_token c_number c_begins c_stops c_bad c_badPlace c_faultPlace c_clauses c_naming c_lineBy c_becomes c_dualLines c_on c_rowNow c_least c_wayFirst c_ways c_acts c_past c_listPoints c_listLines c_listed c_list c_path c_places c_firstPlaces c_px c_py c_pz c_placeMany c_modulus c_drawn c_halvesMany c_halvesFirst c_spreadsMany c_spreadsFirst c_comesTo c_seedNow c_rowThen c_hasImage c_actsThen c_imageRow c_pastThen c_statusThen) [.ref h0, .int v1] ρ := by
  rw [F_X3_byteAt] at h
  refine MR.start (rt := .int) hG (by decide) (Nat.le_of_ble_eq_true rfl) ?_
  intro p e s m args below meth c Q S hW0 hK hP hret ls hl
  obtain ⟨hx, hb, hml, hown, hts⟩ := id S
  have hl : lv_has ls 2 [(0, .ref h0), (1, .int v1)] := hl
  refine lv_iload_n hx hb dX3_byteAt_0 rfl (lv_at hl 1 rfl) ?_
  refine lv_aload_n hx hb dX3_byteAt_1 rfl (lv_at hl 0 rfl) ?_
  refine va_get (ci := 2) (v := .int c_textSize) (C := RX3) (T := TX3) (N := 52) hx hb hts in_X3 hown hK hP 0 rfl rfl 7 (by decide) (hts _ q1665) (fun _ h9 => h9) rfl dX3_byteAt_2 ?_
  refine lv_icmp_ge (tgt := 17) hx hb dX3_byteAt_5 (by decide) (fun c1 => ?_) (fun c1 => ?_)
  · rw [if_pos c1] at h
    refine lv_iconst (v := (-1)) hx hb dX3_byteAt_17 (by decide) ?_
    obtain rfl := Option.some.inj h
    exact hret dX3_byteAt_18 rfl
  · rw [if_neg c1] at h
    refine lv_aload_n hx hb dX3_byteAt_8 rfl (lv_at hl 0 rfl) ?_
    refine va_get (ci := 2) (v := .ref (ad 4)) (C := RX3) (T := TX3) (N := 52) hx hb hts in_X3 hown hK hP 0 rfl rfl 4 (by decide) (hts _ q1662) (fun _ h9 => h9) rfl dX3_byteAt_9 ?_
    refine lv_iload_n hx hb dX3_byteAt_12 rfl (lv_at hl 1 rfl) ?_
    obtain ⟨i3, h⟩ := ckI_s h
    refine va_iald (f := c_tape) hx hb hK hP 4 0 rfl rfl i3 dX3_byteAt_13 ?_
    refine lv_goto (tgt := 18) hx hb dX3_byteAt_14 (by decide) ?_
    obtain rfl := Option.some.inj h
    exact hret dX3_byteAt_18 rfl
def F_X3_isLetter (N : Nat) (v0 : Int32) : Option (Int32) := (if v0 < 97 then (some (0)) else (if 122 < v0 then (some (0)) else (some (1))))
theorem cw_X3_isLetter {R : Room} {s : State} {args : Array Value} {own : String} {index lev mc ms : Nat} (hts : ∀ w ∈ lw_all, w.before args s = true) (hl : Cond.methodLink own index yX3_isLetter ∈ lw_all) (hR : (rmL lev mc ms).frames + 1 ≤ R.frames ∧ 8 + (1 + 11) + (rmL lev mc ms).locals ≤ R.locals) : CallB R s args own index yX3_isLetter cX3_isLetter 1 (some .boolean) (ws_ yX3_isLetter cX3_isLetter 1 (some .boolean)) (rmL lev mc ms) mc ms 1 ∧ (Cond.static yX3_isLetter).before args s = true := va_cwS 1 hts (lw_S hl q1840 q172 q1841) rfl rfl rfl (by decide +kernel) hR
set_option maxHeartbeats 4000000 in
theorem M_X3_isLetter {l : Launch} {G : GE} (hG : GC G) {N : Nat} {v0 : Int32} {ρ : (Int32)} (h : F_X3_isLetter N v0 = some ρ) : MR l G yX3_isLetter cX3_isLetter 1 (some .boolean) 1 [] [.int v0] ρ := by
  rw [F_X3_isLetter] at h
  refine MR.start (rt := .boolean) hG (by decide) (Nat.le_of_ble_eq_true rfl) ?_
  intro p e s m args below meth c Q S hW0 hK hP hret ls hl
  obtain ⟨hx, hb, hml, hown, hts⟩ := id S
  have hl : lv_has ls 1 [(0, .int v0)] := hl
  refine lv_iload_n hx hb dX3_isLetter_0 rfl (lv_at hl 0 rfl) ?_
  refine lv_bipush (v := 97) hx hb dX3_isLetter_1 (by decide) ?_
  refine lv_icmp_lt (tgt := 16) hx hb dX3_isLetter_3 (by decide) (fun c1 => ?_) (fun c1 => ?_)
  · rw [if_pos c1] at h
    refine lv_iconst (v := 0) hx hb dX3_isLetter_16 (by decide) ?_
    obtain rfl := Option.some.inj h
    exact hret dX3_isLetter_17 rfl
  · rw [if_neg c1] at h
    refine lv_iload_n hx hb dX3_isLetter_6 rfl (lv_at hl 0 rfl) ?_
    refine lv_bipush (v := 122) hx hb dX3_isLetter_7 (by decide) ?_
    refine lv_icmp_gt (tgt := 16) hx hb dX3_isLetter_9 (by decide) (fun c3 => ?_) (fun c3 => ?_)
    · rw [if_pos c3] at h
      refine lv_iconst (v := 0) hx hb dX3_isLetter_16 (by decide) ?_
      obtain rfl := Option.some.inj h
      exact hret dX3_isLetter_17 rfl
    · rw [if_neg c3] at h
      refine lv_iconst (v := 1) hx hb dX3_isLetter_12 (by decide) ?_
      refine lv_goto (tgt := 17) hx hb dX3_isLetter_13 (by decide) ?_
      obtain rfl := Option.some.inj h
      exact hret dX3_isLetter_17 rfl
def F_X3_isDigit (N : Nat) (v0 : Int32) : Option (Int32) := (if v0 < 48 then (some (0)) else (if 57 < v0 then (some (0)) else (some (1))))
theorem cw_X3_isDigit {R : Room} {s : State} {args : Array Value} {own : String} {index lev mc ms : Nat} (hts : ∀ w ∈ lw_all, w.before args s = true) (hl : Cond.methodLink own index yX3_isDigit ∈ lw_all) (hR : (rmL lev mc ms).frames + 1 ≤ R.frames ∧ 8 + (1 + 11) + (rmL lev mc ms).locals ≤ R.locals) : CallB R s args own index yX3_isDigit cX3_isDigit 1 (some .boolean) (ws_ yX3_isDigit cX3_isDigit 1 (some .boolean)) (rmL lev mc ms) mc ms 1 ∧ (Cond.static yX3_isDigit).before args s = true := va_cwS 1 hts (lw_S hl q1843 q172 q1844) rfl rfl rfl (by decide +kernel) hR
set_option maxHeartbeats 4000000 in
theorem M_X3_isDigit {l : Launch} {G : GE} (hG : GC G) {N : Nat} {v0 : Int32} {ρ : (Int32)} (h : F_X3_isDigit N v0 = some ρ) : MR l G yX3_isDigit cX3_isDigit 1 (some .boolean) 1 [] [.int v0] ρ := by
  rw [F_X3_isDigit] at h
  refine MR.start (rt := .boolean) hG (by decide) (Nat.le_of_ble_eq_true rfl) ?_
  intro p e s m args below meth c Q S hW0 hK hP hret ls hl
  obtain ⟨hx, hb, hml, hown, hts⟩ := id S
  have hl : lv_has ls 1 [(0, .int v0)] := hl
  refine lv_iload_n hx hb dX3_isDigit_0 rfl (lv_at hl 0 rfl) ?_
  refine lv_bipush (v := 48) hx hb dX3_isDigit_1 (by decide) ?_
  refine lv_icmp_lt (tgt := 16) hx hb dX3_isDigit_3 (by decide) (fun c1 => ?_) (fun c1 => ?_)
  · rw [if_pos c1] at h
    refine lv_iconst (v := 0) hx hb dX3_isDigit_16 (by decide) ?_
    obtain rfl := Option.some.inj h
    exact hret dX3_isDigit_17 rfl
  · rw [if_neg c1] at h
    refine lv_iload_n hx hb dX3_isDigit_6 rfl (lv_at hl 0 rfl) ?_
    refine lv_bipush (v := 57) hx hb dX3_isDigit_7 (by decide) ?_
    refine lv_icmp_gt (tgt := 16) hx hb dX3_isDigit_9 (by decide) (fun c3 => ?_) (fun c3 => ?_)
    · rw [if_pos c3] at h
      refine lv_iconst (v := 0) hx hb dX3_isDigit_16 (by decide) ?_
      obtain rfl := Option.some.inj h
      exact hret dX3_isDigit_17 rfl
    · rw [if_neg c3] at h
      refine lv_iconst (v := 1) hx hb dX3_isDigit_12 (by decide) ?_
      refine lv_goto (tgt := 17) hx hb dX3_isDigit_13 (by decide) ?_
      obtain rfl := Option.some.inj h
      exact hret dX3_isDigit_17 rfl
def F_X3_stepOn_0 (N : Nat) (c_tape : (Nat → Int32)) (c_textSize : Int32) : Nat → Int32 → (Int32 → Option (Int32 × Int32 × Int32 × Int32 × Int32)) → Option (Int32 × Int32 × Int32 × Int32 × Int32)
  | 0, _, _ => none
  | n + 1, c_at, k39 => ((F_X3_byteAt N c_at c_tape c_textSize).bind fun y1 => (if y1 = 32 then (F_X3_stepOn_0 N c_tape c_textSize n (c_at + (1 : Int32)) k39) else ((F_X3_byteAt N c_at c_tape c_textSize).bind fun y3 => (if y3 = 10 then (F_X3_stepOn_0 N c_tape c_textSize n (c_at + (1 : Int32)) k39) else (k39 c_at)))))
def F_X3_stepOn_123 (N : Nat) (c_tape : (Nat → Int32)) (c_textSize : Int32) : Nat → Int32 → Int32 → (Int32 → Int32 → Option (Int32 × Int32 × Int32 × Int32 × Int32)) → Option (Int32 × Int32 × Int32 × Int32 × Int32)
  | 0, _, _, _ => none
  | n + 1, c_at, c_number, k178 => ((F_X3_byteAt N c_at c_tape c_textSize).bind fun y17 => ((F_X3_isDigit N y17).bind fun y18 => (if y18 = 0 then (k178 c_at c_number) else ((F_X3_byteAt N c_at c_tape c_textSize).bind fun y20 => (F_X3_stepOn_123 N c_tape c_textSize n (c_at + (1 : Int32)) (if ((((10 : Int32) * c_number) + y20) - (48 : Int32)) < 100000 then ((((10 : Int32) * c_number) + y20) - (48 : Int32)) else 100000) k178)))))
def F_X3_stepOn_76 (N : Nat) (c_tape : (Nat → Int32)) (c_textSize : Int32) : Nat → Int32 → (Int32 → Option (Int32 × Int32 × Int32 × Int32 × Int32)) → Option (Int32 × Int32 × Int32 × Int32 × Int32)
  | 0, _, _ => none
  | n + 1, c_at, k103 => ((F_X3_byteAt N c_at c_tape c_textSize).bind fun y23 => ((F_X3_isLetter N y23).bind fun y24 => (if y24 = 0 then (k103 c_at) else (F_X3_stepOn_76 N c_tape c_textSize n (c_at + (1 : Int32)) k103))))
def F_X3_stepOn (N : Nat) (c_tape : (Nat → Int32)) (c_at : Int32) (c_textSize : Int32) (c_token : Int32) (c_number : Int32) (c_begins : Int32) (c_stops : Int32) : Option (Int32 × Int32 × Int32 × Int32 × Int32) := (F_X3_stepOn_0 N c_tape c_textSize N c_at (fun c_at_5 => ((F_X3_byteAt N c_at_5 c_tape c_textSize).bind fun y6 => (if y6 = (-1) then (some (c_at_5, 0, c_number, c_at_5, c_at_5)) else ((F_X3_isLetter N y6).bind fun y8 => (if y8 = 0 then ((F_X3_isDigit N y6).bind fun y10 => (if y10 = 0 then (if y6 = 59 then (some ((c_at_5 + (1 : Int32)), 3, c_number, c_at_5, (c_at_5 + (1 : Int32)))) else (if y6 = 45 then (some ((c_at_5 + (1 : Int32)), 3, c_number, c_at_5, (c_at_5 + (1 : Int32)))) else (some ((c_at_5 + (1 : Int32)), 4, c_number, c_at_5, (c_at_5 + (1 : Int32)))))) else (F_X3_stepOn_123 N c_tape c_textSize N c_at_5 0 (fun c_at_21 c_number_21 => (some (c_at_21, 2, c_number_21, c_at_5, c_at_21)))))) else (F_X3_stepOn_76 N c_tape c_textSize N c_at_5 (fun c_at_26 => (some (c_at_26, 1, c_number, c_at_5, c_at_26))))))))))
theorem cw_X3_stepOn {R : Room} {s : State} {args : Array Value} {own : String} {index lev mc ms : Nat} (hts : ∀ w ∈ lw_all, w.before args s = true) (hl : Cond.methodLink own index yX3_stepOn ∈ lw_all) (hR : (rmL lev mc ms).frames + 1 ≤ R.frames ∧ 8 + (2 + 11) + (rmL lev mc ms).locals ≤ R.locals) : CallW R s args own RX3 index yX3_stepOn cX3_stepOn 2 none (ws_ yX3_stepOn cX3_stepOn 2 none) (rmL lev mc ms) mc ms 0 := cwV 0 hts (lw_V hl q1833 qs72 q172 q1834) rfl rfl rfl (by decide +kernel) hR
set_option maxHeartbeats 4000000 in
theorem M_X3_stepOn {l : Launch} {G : GE} (hG : GC G) {N : Nat} {h0 : Nat} {ad : Nat → Nat} {c_code : Int32} {c_now : (Nat → Int32)} {c_read : (Nat → Int32)} {c_status : (Nat → Int32)} {c_taped : Int32} {c_bad : Int32} {c_badPlace : Int32} {c_faultPlace : Int32} {c_clauses : Int32} {c_naming : (Nat → Int32)} {c_lineBy : (Nat → Int32)} {c_becomes : (Nat → Int32)} {c_dualLines : (Nat → Int32)} {c_on : (Nat → Int32)} {c_rowNow : (Nat → Int32)} {c_least : (Nat → Int32)} {c_wayFirst : (Nat → Int32)} {c_ways : Int32} {c_acts : Int32} {c_past : (Nat → Int32)} {c_listPoints : Int32} {c_listLines : Int32} {c_listed : Int32} {c_list : (Nat → Int32)} {c_path : (Nat → Int32)} {c_places : (Nat → Int32)} {c_firstPlaces : (Nat → Int32)} {c_px : (Nat → Int32)} {c_py : (Nat → Int32)} {c_pz : (Nat → Int32)} {c_placeMany : Int32} {c_modulus : Int32} {c_drawn : Int32} {c_halvesMany : Int32} {c_halvesFirst : Int32} {c_spreadsMany : Int32} {c_spreadsFirst : Int32} {c_comesTo : (Nat → Int32)} {c_seedNow : Int32} {c_rowThen : (Nat → Int32)} {c_hasImage : Int32} {c_actsThen : Int32} {c_imageRow : (Nat → Int32)} {c_pastThen : (Nat → Int32)} {c_statusThen : (Nat → Int32)} {c_tape : (Nat → Int32)} {c_at : Int32} {c_textSize : Int32} {c_token : Int32} {c_number : Int32} {c_begins : Int32} {c_stops : Int32} {ρ : (Int32 × Int32 × Int32 × Int32 × Int32)} (h : F_X3_stepOn N c_tape c_at c_textSize c_token c_number c_begins c_stops = some ρ) : MW l G yX3_stepOn cX3_stepOn 2 none 2 (mW h0 ad G.2.2 c_code c_now c_read c_status c_tape c_taped c_at c_textSize c_token c_number c_begins c_stops c_bad c_badPlace c_faultPlace c_clauses c_naming c_lineBy c_becomes c_dualLines c_on c_rowNow c_least c_wayFirst c_ways c_acts c_past c_listPoints c_listLines c_listed c_list c_path c_places c_firstPlaces c_px c_py c_pz c_placeMany c_modulus c_drawn c_halvesMany c_halvesFirst c_spreadsMany c_spreadsFirst c_comesTo c_seedNow c_rowThen c_hasImage c_actsThen c_imageRow c_pastThen c_statusThen) [.ref h0] none (mW h0 ad G.2.2 c_code c_now c_read c_status c_tape c_taped ρ.1 c_textSize ρ.2.1 ρ.2.2.1 ρ.2.2.2.1 ρ.2.2.2.2 c_bad c_badPlace c_faultPlace c_clauses c_naming c_lineBy c_becomes c_dualLines c_on c_rowNow c_least c_wayFirst c_ways c_acts c_past c_listPoints c_listLines c_listed c_list c_path c_places c_firstPlaces c_px c_py c_pz c_placeMany c_modulus c_drawn c_halvesMany c_halvesFirst c_spreadsMany c_spreadsFirst c_comesTo c_seedNow c_rowThen c_hasImage c_actsThen c_imageRow c_pastThen c_statusThen) := by
  rw [F_X3_stepOn] at h
  refine MW.start hG (by decide) (Nat.le_of_ble_eq_true rfl) ?_
  intro p e s m args below meth c Q A S hW0 hK hP hD hA hreti hretv ls hl
  have hS : va_S A s.heap s.heap [] := va_S.rf
  obtain ⟨hx, hb, hml, hown, hts⟩ := id S
  have hl : lv_has ls 2 [(0, .ref h0)] := hl
  have S_X3_stepOn_0 : ∀ (n : Nat) (c_at : Int32) (c_token : Int32) (c_number : Int32) (c_begins : Int32) (c_stops : Int32) (k39 : Int32 → Option (Int32 × Int32 × Int32 × Int32 × Int32)), F_X3_stepOn_0 N c_tape c_textSize n c_at k39 = some ρ → (∀ (z_c_at : Int32) (H : Heap) (locs : List Loc) (ls : Array Slot), k39 z_c_at = some ρ → va_P G.2.1 vwCl (mW h0 ad G.2.2 c_code c_now c_read c_status c_tape c_taped z_c_at c_textSize c_token c_number c_begins c_stops c_bad c_badPlace c_faultPlace c_clauses c_naming c_lineBy c_becomes c_dualLines c_on c_rowNow c_least c_wayFirst c_ways c_acts c_past c_listPoints c_listLines c_listed c_list c_path c_places c_firstPlaces c_px c_py c_pz c_placeMany c_modulus c_drawn c_halvesMany c_halvesFirst c_spreadsMany c_spreadsFirst c_comesTo c_seedNow c_rowThen c_hasImage c_actsThen c_imageRow c_pastThen c_statusThen) H → va_D A (mW h0 ad G.2.2 c_code c_now c_read c_status c_tape c_taped z_c_at c_textSize c_token c_number c_begins c_stops c_bad c_badPlace c_faultPlace c_clauses c_naming c_lineBy c_becomes c_dualLines c_on c_rowNow c_least c_wayFirst c_ways c_acts c_past c_listPoints c_listLines c_listed c_list c_path c_places c_firstPlaces c_px c_py c_pz c_placeMany c_modulus c_drawn c_halvesMany c_halvesFirst c_spreadsMany c_spreadsFirst c_comesTo c_seedNow c_rowThen c_hasImage c_actsThen c_imageRow c_pastThen c_statusThen) → va_S A s.heap H locs → lv_has ls 2 [(0, .ref h0)] → W p l e (rmL 2 0 0) s m args below meth c H locs 0 0 Q (F0 m 39 ls [])) → ∀ (H : Heap) (locs : List Loc), va_P G.2.1 vwCl (mW h0 ad G.2.2 c_code c_now c_read c_status c_tape c_taped c_at c_textSize c_token c_number c_begins c_stops c_bad c_badPlace c_faultPlace c_clauses c_naming c_lineBy c_becomes c_dualLines c_on c_rowNow c_least c_wayFirst c_ways c_acts c_past c_listPoints c_listLines c_listed c_list c_path c_places c_firstPlaces c_px c_py c_pz c_placeMany c_modulus c_drawn c_halvesMany c_halvesFirst c_spreadsMany c_spreadsFirst c_comesTo c_seedNow c_rowThen c_hasImage c_actsThen c_imageRow c_pastThen c_statusThen) H → va_D A (mW h0 ad G.2.2 c_code c_now c_read c_status c_tape c_taped c_at c_textSize c_token c_number c_begins c_stops c_bad c_badPlace c_faultPlace c_clauses c_naming c_lineBy c_becomes c_dualLines c_on c_rowNow c_least c_wayFirst c_ways c_acts c_past c_listPoints c_listLines c_listed c_list c_path c_places c_firstPlaces c_px c_py c_pz c_placeMany c_modulus c_drawn c_halvesMany c_halvesFirst c_spreadsMany c_spreadsFirst c_comesTo c_seedNow c_rowThen c_hasImage c_actsThen c_imageRow c_pastThen c_statusThen) → va_S A s.heap H locs → ∀ (ls : Array Slot), lv_has ls 2 [(0, .ref h0)] → W p l e (rmL 2 0 0) s m args below meth c H locs 0 0 Q (F0 m 0 ls []) := by
    intro n
    induction n with
    | zero =>
      intro c_at c_token c_number c_begins c_stops k39 h
      exact absurd h (by simp [F_X3_stepOn_0])
    | succ n ih =>
      intro c_at c_token c_number c_begins c_stops k39 h hk39 H locs hP hD hS ls hl
      rw [F_X3_stepOn_0] at h
      refine lv_aload_n hx hb dX3_stepOn_0 rfl (lv_at hl 0 rfl) ?_
      refine lv_aload_n hx hb dX3_stepOn_1 rfl (lv_at hl 0 rfl) ?_
      refine va_get (ci := 2) (v := .int c_at) (C := RX3) (T := TX3) (N := 52) hx hb hts in_X3 hown hK hP 0 rfl rfl 6 (by decide) (hts _ q1664) (fun _ h9 => h9) rfl dX3_stepOn_2 ?_
      obtain ⟨y1, e1, h⟩ := ob_s h
      refine MR.callV (q0 := 0) (M_X3_byteAt hG e1) S (cw_X3_byteAt hts q1835 ⟨Nat.le_of_ble_eq_true rfl, Nat.le_of_ble_eq_true rfl⟩) hW0 hK hP rfl rfl rfl hl.1 rfl (Nat.le_of_ble_eq_true rfl) dX3_stepOn_5 ⟨Nat.zero_le _, Nat.zero_le _⟩ ?_
      refine lv_bipush (v := 32) hx hb dX3_stepOn_8 (by decide) ?_
      refine lv_icmp_eq (tgt := 26) hx hb dX3_stepOn_10 (by decide) (fun c2 => ?_) (fun c2 => ?_)
      · rw [if_pos c2] at h
        refine lv_aload_n hx hb dX3_stepOn_26 rfl (lv_at hl 0 rfl) ?_
        refine lv_dup hx hb dX3_stepOn_27 rfl ?_
        refine va_get (ci := 2) (v := .int c_at) (C := RX3) (T := TX3) (N := 52) hx hb hts in_X3 hown hK hP 0 rfl rfl 6 (by decide) (hts _ q1664) (fun _ h9 => h9) rfl dX3_stepOn_28 ?_
        refine lv_iconst (v := 1) hx hb dX3_stepOn_31 (by decide) ?_
        refine lv_iadd hx hb dX3_stepOn_32 ?_
        refine va_put (ci := 2) (v := .int (c_at + (1 : Int32))) (ty := .int) (C := RX3) (T := TX3) (N := 52) hx hb hts in_X3 tyX3 tyX3_ok nmX3 hown hK hP hD hS 0 rfl rfl 6 (by decide) (hts _ q1664) (fun _ h9 => h9) rfl (by decide +kernel) rfl rfl (Nat.le_of_ble_eq_true rfl) dX3_stepOn_33 (fun H locs hP hD hS => ?_)
        have hP : va_P G.2.1 vwCl (mW h0 ad G.2.2 c_code c_now c_read c_status c_tape c_taped (c_at + (1 : Int32)) c_textSize c_token c_number c_begins c_stops c_bad c_badPlace c_faultPlace c_clauses c_naming c_lineBy c_becomes c_dualLines c_on c_rowNow c_least c_wayFirst c_ways c_acts c_past c_listPoints c_listLines c_listed c_list c_path c_places c_firstPlaces c_px c_py c_pz c_placeMany c_modulus c_drawn c_halvesMany c_halvesFirst c_spreadsMany c_spreadsFirst c_comesTo c_seedNow c_rowThen c_hasImage c_actsThen c_imageRow c_pastThen c_statusThen) H := hP
        have hD : va_D A (mW h0 ad G.2.2 c_code c_now c_read c_status c_tape c_taped (c_at + (1 : Int32)) c_textSize c_token c_number c_begins c_stops c_bad c_badPlace c_faultPlace c_clauses c_naming c_lineBy c_becomes c_dualLines c_on c_rowNow c_least c_wayFirst c_ways c_acts c_past c_listPoints c_listLines c_listed c_list c_path c_places c_firstPlaces c_px c_py c_pz c_placeMany c_modulus c_drawn c_halvesMany c_halvesFirst c_spreadsMany c_spreadsFirst c_comesTo c_seedNow c_rowThen c_hasImage c_actsThen c_imageRow c_pastThen c_statusThen) := hD
        refine lv_goto (tgt := 0) hx hb dX3_stepOn_36 (by decide) ?_
        exact ih (c_at + (1 : Int32)) c_token c_number c_begins c_stops _ h hk39 _ _ hP hD hS _ (lv_sub hl [0] rfl)
      · rw [if_neg c2] at h
        refine lv_aload_n hx hb dX3_stepOn_13 rfl (lv_at hl 0 rfl) ?_
        refine lv_aload_n hx hb dX3_stepOn_14 rfl (lv_at hl 0 rfl) ?_
        refine va_get (ci := 2) (v := .int c_at) (C := RX3) (T := TX3) (N := 52) hx hb hts in_X3 hown hK hP 0 rfl rfl 6 (by decide) (hts _ q1664) (fun _ h9 => h9) rfl dX3_stepOn_15 ?_
        obtain ⟨y3, e3, h⟩ := ob_s h
        refine MR.callV (q0 := 0) (M_X3_byteAt hG e3) S (cw_X3_byteAt hts q1835 ⟨Nat.le_of_ble_eq_true rfl, Nat.le_of_ble_eq_true rfl⟩) hW0 hK hP rfl rfl rfl hl.1 rfl (Nat.le_of_ble_eq_true rfl) dX3_stepOn_18 ⟨Nat.zero_le _, Nat.zero_le _⟩ ?_
        refine lv_bipush (v := 10) hx hb dX3_stepOn_21 (by decide) ?_
        refine lv_icmp_ne (tgt := 39) hx hb dX3_stepOn_23 (by decide) (fun c4 => ?_) (fun c4 => ?_)
        · rw [if_neg c4] at h
          exact hk39 c_at _ _ _ h hP hD hS (lv_sub hl [0] rfl)
        · rw [if_pos c4] at h
          refine lv_aload_n hx hb dX3_stepOn_26 rfl (lv_at hl 0 rfl) ?_
          refine lv_dup hx hb dX3_stepOn_27 rfl ?_
          refine va_get (ci := 2) (v := .int c_at) (C := RX3) (T := TX3) (N := 52) hx hb hts in_X3 hown hK hP 0 rfl rfl 6 (by decide) (hts _ q1664) (fun _ h9 => h9) rfl dX3_stepOn_28 ?_
          refine lv_iconst (v := 1) hx hb dX3_stepOn_31 (by decide) ?_
          refine lv_iadd hx hb dX3_stepOn_32 ?_
          refine va_put (ci := 2) (v := .int (c_at + (1 : Int32))) (ty := .int) (C := RX3) (T := TX3) (N := 52) hx hb hts in_X3 tyX3 tyX3_ok nmX3 hown hK hP hD hS 0 rfl rfl 6 (by decide) (hts _ q1664) (fun _ h9 => h9) rfl (by decide +kernel) rfl rfl (Nat.le_of_ble_eq_true rfl) dX3_stepOn_33 (fun H locs hP hD hS => ?_)
          have hP : va_P G.2.1 vwCl (mW h0 ad G.2.2 c_code c_now c_read c_status c_tape c_taped (c_at + (1 : Int32)) c_textSize c_token c_number c_begins c_stops c_bad c_badPlace c_faultPlace c_clauses c_naming c_lineBy c_becomes c_dualLines c_on c_rowNow c_least c_wayFirst c_ways c_acts c_past c_listPoints c_listLines c_listed c_list c_path c_places c_firstPlaces c_px c_py c_pz c_placeMany c_modulus c_drawn c_halvesMany c_halvesFirst c_spreadsMany c_spreadsFirst c_comesTo c_seedNow c_rowThen c_hasImage c_actsThen c_imageRow c_pastThen c_statusThen) H := hP
          have hD : va_D A (mW h0 ad G.2.2 c_code c_now c_read c_status c_tape c_taped (c_at + (1 : Int32)) c_textSize c_token c_number c_begins c_stops c_bad c_badPlace c_faultPlace c_clauses c_naming c_lineBy c_becomes c_dualLines c_on c_rowNow c_least c_wayFirst c_ways c_acts c_past c_listPoints c_listLines c_listed c_list c_path c_places c_firstPlaces c_px c_py c_pz c_placeMany c_modulus c_drawn c_halvesMany c_halvesFirst c_spreadsMany c_spreadsFirst c_comesTo c_seedNow c_rowThen c_hasImage c_actsThen c_imageRow c_pastThen c_statusThen) := hD
          refine lv_goto (tgt := 0) hx hb dX3_stepOn_36 (by decide) ?_
          exact ih (c_at + (1 : Int32)) c_token c_number c_begins c_stops _ h hk39 _ _ hP hD hS _ (lv_sub hl [0] rfl)
  have S_X3_stepOn_123 : ∀ (n : Nat) (c_at : Int32) (c_token : Int32) (c_number : Int32) (c_begins : Int32) (c_stops : Int32) (k178 : Int32 → Int32 → Option (Int32 × Int32 × Int32 × Int32 × Int32)), F_X3_stepOn_123 N c_tape c_textSize n c_at c_number k178 = some ρ → (∀ (z_c_at : Int32) (z_c_number : Int32) (H : Heap) (locs : List Loc) (ls : Array Slot), k178 z_c_at z_c_number = some ρ → va_P G.2.1 vwCl (mW h0 ad G.2.2 c_code c_now c_read c_status c_tape c_taped z_c_at c_textSize c_token z_c_number c_begins c_stops c_bad c_badPlace c_faultPlace c_clauses c_naming c_lineBy c_becomes c_dualLines c_on c_rowNow c_least c_wayFirst c_ways c_acts c_past c_listPoints c_listLines c_listed c_list c_path c_places c_firstPlaces c_px c_py c_pz c_placeMany c_modulus c_drawn c_halvesMany c_halvesFirst c_spreadsMany c_spreadsFirst c_comesTo c_seedNow c_rowThen c_hasImage c_actsThen c_imageRow c_pastThen c_statusThen) H → va_D A (mW h0 ad G.2.2 c_code c_now c_read c_status c_tape c_taped z_c_at c_textSize c_token z_c_number c_begins c_stops c_bad c_badPlace c_faultPlace c_clauses c_naming c_lineBy c_becomes c_dualLines c_on c_rowNow c_least c_wayFirst c_ways c_acts c_past c_listPoints c_listLines c_listed c_list c_path c_places c_firstPlaces c_px c_py c_pz c_placeMany c_modulus c_drawn c_halvesMany c_halvesFirst c_spreadsMany c_spreadsFirst c_comesTo c_seedNow c_rowThen c_hasImage c_actsThen c_imageRow c_pastThen c_statusThen) → va_S A s.heap H locs → lv_has ls 2 [(0, .ref h0)] → W p l e (rmL 2 0 0) s m args below meth c H locs 0 0 Q (F0 m 178 ls [])) → ∀ (H : Heap) (locs : List Loc), va_P G.2.1 vwCl (mW h0 ad G.2.2 c_code c_now c_read c_status c_tape c_taped c_at c_textSize c_token c_number c_begins c_stops c_bad c_badPlace c_faultPlace c_clauses c_naming c_lineBy c_becomes c_dualLines c_on c_rowNow c_least c_wayFirst c_ways c_acts c_past c_listPoints c_listLines c_listed c_list c_path c_places c_firstPlaces c_px c_py c_pz c_placeMany c_modulus c_drawn c_halvesMany c_halvesFirst c_spreadsMany c_spreadsFirst c_comesTo c_seedNow c_rowThen c_hasImage c_actsThen c_imageRow c_pastThen c_statusThen) H → va_D A (mW h0 ad G.2.2 c_code c_now c_read c_status c_tape c_taped c_at c_textSize c_token c_number c_begins c_stops c_bad c_badPlace c_faultPlace c_clauses c_naming c_lineBy c_becomes c_dualLines c_on c_rowNow c_least c_wayFirst c_ways c_acts c_past c_listPoints c_listLines c_listed c_list c_path c_places c_firstPlaces c_px c_py c_pz c_placeMany c_modulus c_drawn c_halvesMany c_halvesFirst c_spreadsMany c_spreadsFirst c_comesTo c_seedNow c_rowThen c_hasImage c_actsThen c_imageRow c_pastThen c_statusThen) → va_S A s.heap H locs → ∀ (ls : Array Slot), lv_has ls 2 [(0, .ref h0)] → W p l e (rmL 2 0 0) s m args below meth c H locs 0 0 Q (F0 m 123 ls []) := by
    intro n
    induction n with
    | zero =>
      intro c_at c_token c_number c_begins c_stops k178 h
      exact absurd h (by simp [F_X3_stepOn_123])
    | succ n ih =>
      intro c_at c_token c_number c_begins c_stops k178 h hk178 H locs hP hD hS ls hl
      rw [F_X3_stepOn_123] at h
      refine lv_aload_n hx hb dX3_stepOn_123 rfl (lv_at hl 0 rfl) ?_
      refine lv_aload_n hx hb dX3_stepOn_124 rfl (lv_at hl 0 rfl) ?_
      refine va_get (ci := 2) (v := .int c_at) (C := RX3) (T := TX3) (N := 52) hx hb hts in_X3 hown hK hP 0 rfl rfl 6 (by decide) (hts _ q1664) (fun _ h9 => h9) rfl dX3_stepOn_125 ?_
      obtain ⟨y17, e17, h⟩ := ob_s h
      refine MR.callV (q0 := 0) (M_X3_byteAt hG e17) S (cw_X3_byteAt hts q1835 ⟨Nat.le_of_ble_eq_true rfl, Nat.le_of_ble_eq_true rfl⟩) hW0 hK hP rfl rfl rfl hl.1 rfl (Nat.le_of_ble_eq_true rfl) dX3_stepOn_128 ⟨Nat.zero_le _, Nat.zero_le _⟩ ?_
      obtain ⟨y18, e18, h⟩ := ob_s h
      refine MR.callS (M_X3_isDigit hG e18) S (cw_X3_isDigit hts q1842 ⟨Nat.le_of_ble_eq_true rfl, Nat.le_of_ble_eq_true rfl⟩) hW0 vaP0 rfl hl.1 rfl (Nat.le_of_ble_eq_true rfl) dX3_stepOn_131 ⟨Nat.zero_le _, Nat.zero_le _⟩ ?_
      refine lv_if_eq (tgt := 178) hx hb dX3_stepOn_134 (by decide) (fun c19 => ?_) (fun c19 => ?_)
      · rw [if_pos c19] at h
        exact hk178 c_at c_number _ _ _ h hP hD hS (lv_sub hl [0] rfl)
      · rw [if_neg c19] at h
        refine lv_aload_n hx hb dX3_stepOn_137 rfl (lv_at hl 0 rfl) ?_
        refine lv_ldc hx hb hown (hts _ q1845) dX3_stepOn_138 ?_
        refine lv_bipush (v := 10) hx hb dX3_stepOn_140 (by decide) ?_
        refine lv_aload_n hx hb dX3_stepOn_142 rfl (lv_at hl 0 rfl) ?_
        refine va_get (ci := 2) (v := .int c_number) (C := RX3) (T := TX3) (N := 52) hx hb hts in_X3 hown hK hP 0 rfl rfl 9 (by decide) (hts _ q1667) (fun _ h9 => h9) rfl dX3_stepOn_143 ?_
        refine lv_imul hx hb dX3_stepOn_146 ?_
        refine lv_aload_n hx hb dX3_stepOn_147 rfl (lv_at hl 0 rfl) ?_
        refine lv_aload_n hx hb dX3_stepOn_148 rfl (lv_at hl 0 rfl) ?_
        refine va_get (ci := 2) (v := .int c_at) (C := RX3) (T := TX3) (N := 52) hx hb hts in_X3 hown hK hP 0 rfl rfl 6 (by decide) (hts _ q1664) (fun _ h9 => h9) rfl dX3_stepOn_149 ?_
        obtain ⟨y20, e20, h⟩ := ob_s h
        refine MR.callV (q0 := 0) (M_X3_byteAt hG e20) S (cw_X3_byteAt hts q1835 ⟨Nat.le_of_ble_eq_true rfl, Nat.le_of_ble_eq_true rfl⟩) hW0 hK hP rfl rfl rfl hl.1 rfl (Nat.le_of_ble_eq_true rfl) dX3_stepOn_152 ⟨Nat.zero_le _, Nat.zero_le _⟩ ?_
        refine lv_iadd hx hb dX3_stepOn_155 ?_
        refine lv_bipush (v := 48) hx hb dX3_stepOn_156 (by decide) ?_
        refine lv_isub hx hb dX3_stepOn_158 ?_
        refine va_mmin hx hb (hml.trans hl.1.symm) hown (hts _ q1846) (hts _ q377) (hts _ q165) (hts _ q378) (Nat.le_of_ble_eq_true rfl) (Nat.le_of_ble_eq_true rfl) (Nat.zero_le _) (Nat.zero_le _) dX3_stepOn_159 ?_
        refine va_put (ci := 2) (v := .int (if ((((10 : Int32) * c_number) + y20) - (48 : Int32)) < 100000 then ((((10 : Int32) * c_number) + y20) - (48 : Int32)) else 100000)) (ty := .int) (C := RX3) (T := TX3) (N := 52) hx hb hts in_X3 tyX3 tyX3_ok nmX3 hown hK hP hD hS 0 rfl rfl 9 (by decide) (hts _ q1667) (fun _ h9 => h9) rfl (by decide +kernel) rfl rfl (Nat.le_of_ble_eq_true rfl) dX3_stepOn_162 (fun H locs hP hD hS => ?_)
        have hP : va_P G.2.1 vwCl (mW h0 ad G.2.2 c_code c_now c_read c_status c_tape c_taped c_at c_textSize c_token (if ((((10 : Int32) * c_number) + y20) - (48 : Int32)) < 100000 then ((((10 : Int32) * c_number) + y20) - (48 : Int32)) else 100000) c_begins c_stops c_bad c_badPlace c_faultPlace c_clauses c_naming c_lineBy c_becomes c_dualLines c_on c_rowNow c_least c_wayFirst c_ways c_acts c_past c_listPoints c_listLines c_listed c_list c_path c_places c_firstPlaces c_px c_py c_pz c_placeMany c_modulus c_drawn c_halvesMany c_halvesFirst c_spreadsMany c_spreadsFirst c_comesTo c_seedNow c_rowThen c_hasImage c_actsThen c_imageRow c_pastThen c_statusThen) H := hP
        have hD : va_D A (mW h0 ad G.2.2 c_code c_now c_read c_status c_tape c_taped c_at c_textSize c_token (if ((((10 : Int32) * c_number) + y20) - (48 : Int32)) < 100000 then ((((10 : Int32) * c_number) + y20) - (48 : Int32)) else 100000) c_begins c_stops c_bad c_badPlace c_faultPlace c_clauses c_naming c_lineBy c_becomes c_dualLines c_on c_rowNow c_least c_wayFirst c_ways c_acts c_past c_listPoints c_listLines c_listed c_list c_path c_places c_firstPlaces c_px c_py c_pz c_placeMany c_modulus c_drawn c_halvesMany c_halvesFirst c_spreadsMany c_spreadsFirst c_comesTo c_seedNow c_rowThen c_hasImage c_actsThen c_imageRow c_pastThen c_statusThen) := hD
        refine lv_aload_n hx hb dX3_stepOn_165 rfl (lv_at hl 0 rfl) ?_
        refine lv_dup hx hb dX3_stepOn_166 rfl ?_
        refine va_get (ci := 2) (v := .int c_at) (C := RX3) (T := TX3) (N := 52) hx hb hts in_X3 hown hK hP 0 rfl rfl 6 (by decide) (hts _ q1664) (fun _ h9 => h9) rfl dX3_stepOn_167 ?_
        refine lv_iconst (v := 1) hx hb dX3_stepOn_170 (by decide) ?_
        refine lv_iadd hx hb dX3_stepOn_171 ?_
        refine va_put (ci := 2) (v := .int (c_at + (1 : Int32))) (ty := .int) (C := RX3) (T := TX3) (N := 52) hx hb hts in_X3 tyX3 tyX3_ok nmX3 hown hK hP hD hS 0 rfl rfl 6 (by decide) (hts _ q1664) (fun _ h9 => h9) rfl (by decide +kernel) rfl rfl (Nat.le_of_ble_eq_true rfl) dX3_stepOn_172 (fun H locs hP hD hS => ?_)
        have hP : va_P G.2.1 vwCl (mW h0 ad G.2.2 c_code c_now c_read c_status c_tape c_taped (c_at + (1 : Int32)) c_textSize c_token (if ((((10 : Int32) * c_number) + y20) - (48 : Int32)) < 100000 then ((((10 : Int32) * c_number) + y20) - (48 : Int32)) else 100000) c_begins c_stops c_bad c_badPlace c_faultPlace c_clauses c_naming c_lineBy c_becomes c_dualLines c_on c_rowNow c_least c_wayFirst c_ways c_acts c_past c_listPoints c_listLines c_listed c_list c_path c_places c_firstPlaces c_px c_py c_pz c_placeMany c_modulus c_drawn c_halvesMany c_halvesFirst c_spreadsMany c_spreadsFirst c_comesTo c_seedNow c_rowThen c_hasImage c_actsThen c_imageRow c_pastThen c_statusThen) H := hP
        have hD : va_D A (mW h0 ad G.2.2 c_code c_now c_read c_status c_tape c_taped (c_at + (1 : Int32)) c_textSize c_token (if ((((10 : Int32) * c_number) + y20) - (48 : Int32)) < 100000 then ((((10 : Int32) * c_number) + y20) - (48 : Int32)) else 100000) c_begins c_stops c_bad c_badPlace c_faultPlace c_clauses c_naming c_lineBy c_becomes c_dualLines c_on c_rowNow c_least c_wayFirst c_ways c_acts c_past c_listPoints c_listLines c_listed c_list c_path c_places c_firstPlaces c_px c_py c_pz c_placeMany c_modulus c_drawn c_halvesMany c_halvesFirst c_spreadsMany c_spreadsFirst c_comesTo c_seedNow c_rowThen c_hasImage c_actsThen c_imageRow c_pastThen c_statusThen) := hD
        refine lv_goto (tgt := 123) hx hb dX3_stepOn_175 (by decide) ?_
        exact ih (c_at + (1 : Int32)) c_token (if ((((10 : Int32) * c_number) + y20) - (48 : Int32)) < 100000 then ((((10 : Int32) * c_number) + y20) - (48 : Int32)) else 100000) c_begins c_stops _ h hk178 _ _ hP hD hS _ (lv_sub hl [0] rfl)
  have S_X3_stepOn_76 : ∀ (n : Nat) (c_at : Int32) (c_token : Int32) (c_number : Int32) (c_begins : Int32) (c_stops : Int32) (k103 : Int32 → Option (Int32 × Int32 × Int32 × Int32 × Int32)), F_X3_stepOn_76 N c_tape c_textSize n c_at k103 = some ρ → (∀ (z_c_at : Int32) (H : Heap) (locs : List Loc) (ls : Array Slot), k103 z_c_at = some ρ → va_P G.2.1 vwCl (mW h0 ad G.2.2 c_code c_now c_read c_status c_tape c_taped z_c_at c_textSize c_token c_number c_begins c_stops c_bad c_badPlace c_faultPlace c_clauses c_naming c_lineBy c_becomes c_dualLines c_on c_rowNow c_least c_wayFirst c_ways c_acts c_past c_listPoints c_listLines c_listed c_list c_path c_places c_firstPlaces c_px c_py c_pz c_placeMany c_modulus c_drawn c_halvesMany c_halvesFirst c_spreadsMany c_spreadsFirst c_comesTo c_seedNow c_rowThen c_hasImage c_actsThen c_imageRow c_pastThen c_statusThen) H → va_D A (mW h0 ad G.2.2 c_code c_now c_read c_status c_tape c_taped z_c_at c_textSize c_token c_number c_begins c_stops c_bad c_badPlace c_faultPlace c_clauses c_naming c_lineBy c_becomes c_dualLines c_on c_rowNow c_least c_wayFirst c_ways c_acts c_past c_listPoints c_listLines c_listed c_list c_path c_places c_firstPlaces c_px c_py c_pz c_placeMany c_modulus c_drawn c_halvesMany c_halvesFirst c_spreadsMany c_spreadsFirst c_comesTo c_seedNow c_rowThen c_hasImage c_actsThen c_imageRow c_pastThen c_statusThen) → va_S A s.heap H locs → lv_has ls 2 [(0, .ref h0)] → W p l e (rmL 2 0 0) s m args below meth c H locs 0 0 Q (F0 m 103 ls [])) → ∀ (H : Heap) (locs : List Loc), va_P G.2.1 vwCl (mW h0 ad G.2.2 c_code c_now c_read c_status c_tape c_taped c_at c_textSize c_token c_number c_begins c_stops c_bad c_badPlace c_faultPlace c_clauses c_naming c_lineBy c_becomes c_dualLines c_on c_rowNow c_least c_wayFirst c_ways c_acts c_past c_listPoints c_listLines c_listed c_list c_path c_places c_firstPlaces c_px c_py c_pz c_placeMany c_modulus c_drawn c_halvesMany c_halvesFirst c_spreadsMany c_spreadsFirst c_comesTo c_seedNow c_rowThen c_hasImage c_actsThen c_imageRow c_pastThen c_statusThen) H → va_D A (mW h0 ad G.2.2 c_code c_now c_read c_status c_tape c_taped c_at c_textSize c_token c_number c_begins c_stops c_bad c_badPlace c_faultPlace c_clauses c_naming c_lineBy c_becomes c_dualLines c_on c_rowNow c_least c_wayFirst c_ways c_acts c_past c_listPoints c_listLines c_listed c_list c_path c_places c_firstPlaces c_px c_py c_pz c_placeMany c_modulus c_drawn c_halvesMany c_halvesFirst c_spreadsMany c_spreadsFirst c_comesTo c_seedNow c_rowThen c_hasImage c_actsThen c_imageRow c_pastThen c_statusThen) → va_S A s.heap H locs → ∀ (ls : Array Slot), lv_has ls 2 [(0, .ref h0)] → W p l e (rmL 2 0 0) s m args below meth c H locs 0 0 Q (F0 m 76 ls []) := by
    intro n
    induction n with
    | zero =>
      intro c_at c_token c_number c_begins c_stops k103 h
      exact absurd h (by simp [F_X3_stepOn_76])
    | succ n ih =>
      intro c_at c_token c_number c_begins c_stops k103 h hk103 H locs hP hD hS ls hl
      rw [F_X3_stepOn_76] at h
      refine lv_aload_n hx hb dX3_stepOn_76 rfl (lv_at hl 0 rfl) ?_
      refine lv_aload_n hx hb dX3_stepOn_77 rfl (lv_at hl 0 rfl) ?_
      refine va_get (ci := 2) (v := .int c_at) (C := RX3) (T := TX3) (N := 52) hx hb hts in_X3 hown hK hP 0 rfl rfl 6 (by decide) (hts _ q1664) (fun _ h9 => h9) rfl dX3_stepOn_78 ?_
      obtain ⟨y23, e23, h⟩ := ob_s h
      refine MR.callV (q0 := 0) (M_X3_byteAt hG e23) S (cw_X3_byteAt hts q1835 ⟨Nat.le_of_ble_eq_true rfl, Nat.le_of_ble_eq_true rfl⟩) hW0 hK hP rfl rfl rfl hl.1 rfl (Nat.le_of_ble_eq_true rfl) dX3_stepOn_81 ⟨Nat.zero_le _, Nat.zero_le _⟩ ?_
      obtain ⟨y24, e24, h⟩ := ob_s h
      refine MR.callS (M_X3_isLetter hG e24) S (cw_X3_isLetter hts q1839 ⟨Nat.le_of_ble_eq_true rfl, Nat.le_of_ble_eq_true rfl⟩) hW0 vaP0 rfl hl.1 rfl (Nat.le_of_ble_eq_true rfl) dX3_stepOn_84 ⟨Nat.zero_le _, Nat.zero_le _⟩ ?_
      refine lv_if_eq (tgt := 103) hx hb dX3_stepOn_87 (by decide) (fun c25 => ?_) (fun c25 => ?_)
      · rw [if_pos c25] at h
        exact hk103 c_at _ _ _ h hP hD hS (lv_sub hl [0] rfl)
      · rw [if_neg c25] at h
        refine lv_aload_n hx hb dX3_stepOn_90 rfl (lv_at hl 0 rfl) ?_
        refine lv_dup hx hb dX3_stepOn_91 rfl ?_
        refine va_get (ci := 2) (v := .int c_at) (C := RX3) (T := TX3) (N := 52) hx hb hts in_X3 hown hK hP 0 rfl rfl 6 (by decide) (hts _ q1664) (fun _ h9 => h9) rfl dX3_stepOn_92 ?_
        refine lv_iconst (v := 1) hx hb dX3_stepOn_95 (by decide) ?_
        refine lv_iadd hx hb dX3_stepOn_96 ?_
        refine va_put (ci := 2) (v := .int (c_at + (1 : Int32))) (ty := .int) (C := RX3) (T := TX3) (N := 52) hx hb hts in_X3 tyX3 tyX3_ok nmX3 hown hK hP hD hS 0 rfl rfl 6 (by decide) (hts _ q1664) (fun _ h9 => h9) rfl (by decide +kernel) rfl rfl (Nat.le_of_ble_eq_true rfl) dX3_stepOn_97 (fun H locs hP hD hS => ?_)
        have hP : va_P G.2.1 vwCl (mW h0 ad G.2.2 c_code c_now c_read c_status c_tape c_taped (c_at + (1 : Int32)) c_textSize c_token c_number c_begins c_stops c_bad c_badPlace c_faultPlace c_clauses c_naming c_lineBy c_becomes c_dualLines c_on c_rowNow c_least c_wayFirst c_ways c_acts c_past c_listPoints c_listLines c_listed c_list c_path c_places c_firstPlaces c_px c_py c_pz c_placeMany c_modulus c_drawn c_halvesMany c_halvesFirst c_spreadsMany c_spreadsFirst c_comesTo c_seedNow c_rowThen c_hasImage c_actsThen c_imageRow c_pastThen c_statusThen) H := hP
        have hD : va_D A (mW h0 ad G.2.2 c_code c_now c_read c_status c_tape c_taped (c_at + (1 : Int32)) c_textSize c_token c_number c_begins c_stops c_bad c_badPlace c_faultPlace c_clauses c_naming c_lineBy c_becomes c_dualLines c_on c_rowNow c_least c_wayFirst c_ways c_acts c_past c_listPoints c_listLines c_listed c_list c_path c_places c_firstPlaces c_px c_py c_pz c_placeMany c_modulus c_drawn c_halvesMany c_halvesFirst c_spreadsMany c_spreadsFirst c_comesTo c_seedNow c_rowThen c_hasImage c_actsThen c_imageRow c_pastThen c_statusThen) := hD
        refine lv_goto (tgt := 76) hx hb dX3_stepOn_100 (by decide) ?_
        exact ih (c_at + (1 : Int32)) c_token c_number c_begins c_stops _ h hk103 _ _ hP hD hS _ (lv_sub hl [0] rfl)
  refine S_X3_stepOn_0 N c_at c_token c_number c_begins c_stops _ h ?_ _ _ hP hD hS _ (lv_sub hl [0] rfl)
  · intro c_at_5 H locs ls h hP hD hS hl
    refine lv_aload_n hx hb dX3_stepOn_39 rfl (lv_at hl 0 rfl) ?_
    refine lv_aload_n hx hb dX3_stepOn_40 rfl (lv_at hl 0 rfl) ?_
    refine va_get (ci := 2) (v := .int c_at_5) (C := RX3) (T := TX3) (N := 52) hx hb hts in_X3 hown hK hP 0 rfl rfl 6 (by decide) (hts _ q1664) (fun _ h9 => h9) rfl dX3_stepOn_41 ?_
    refine va_put (ci := 2) (v := .int c_at_5) (ty := .int) (C := RX3) (T := TX3) (N := 52) hx hb hts in_X3 tyX3 tyX3_ok nmX3 hown hK hP hD hS 0 rfl rfl 10 (by decide) (hts _ q1668) (fun _ h9 => h9) rfl (by decide +kernel) rfl rfl (Nat.le_of_ble_eq_true rfl) dX3_stepOn_44 (fun H locs hP hD hS => ?_)
    have hP : va_P G.2.1 vwCl (mW h0 ad G.2.2 c_code c_now c_read c_status c_tape c_taped c_at_5 c_textSize c_token c_number c_at_5 c_stops c_bad c_badPlace c_faultPlace c_clauses c_naming c_lineBy c_becomes c_dualLines c_on c_rowNow c_least c_wayFirst c_ways c_acts c_past c_listPoints c_listLines c_listed c_list c_path c_places c_firstPlaces c_px c_py c_pz c_placeMany c_modulus c_drawn c_halvesMany c_halvesFirst c_spreadsMany c_spreadsFirst c_comesTo c_seedNow c_rowThen c_hasImage c_actsThen c_imageRow c_pastThen c_statusThen) H := hP
    have hD : va_D A (mW h0 ad G.2.2 c_code c_now c_read c_status c_tape c_taped c_at_5 c_textSize c_token c_number c_at_5 c_stops c_bad c_badPlace c_faultPlace c_clauses c_naming c_lineBy c_becomes c_dualLines c_on c_rowNow c_least c_wayFirst c_ways c_acts c_past c_listPoints c_listLines c_listed c_list c_path c_places c_firstPlaces c_px c_py c_pz c_placeMany c_modulus c_drawn c_halvesMany c_halvesFirst c_spreadsMany c_spreadsFirst c_comesTo c_seedNow c_rowThen c_hasImage c_actsThen c_imageRow c_pastThen c_statusThen) := hD
    refine lv_aload_n hx hb dX3_stepOn_47 rfl (lv_at hl 0 rfl) ?_
    refine lv_aload_n hx hb dX3_stepOn_48 rfl (lv_at hl 0 rfl) ?_
    refine va_get (ci := 2) (v := .int c_at_5) (C := RX3) (T := TX3) (N := 52) hx hb hts in_X3 hown hK hP 0 rfl rfl 6 (by decide) (hts _ q1664) (fun _ h9 => h9) rfl dX3_stepOn_49 ?_
    obtain ⟨y6, e6, h⟩ := ob_s h
    refine MR.callV (q0 := 0) (M_X3_byteAt hG e6) S (cw_X3_byteAt hts q1835 ⟨Nat.le_of_ble_eq_true rfl, Nat.le_of_ble_eq_true rfl⟩) hW0 hK hP rfl rfl rfl hl.1 rfl (Nat.le_of_ble_eq_true rfl) dX3_stepOn_52 ⟨Nat.zero_le _, Nat.zero_le _⟩ ?_
    refine lv_istore_n (lv' := [(1, .int y6), (0, .ref h0)]) hx hb dX3_stepOn_55 rfl hl (by decide) rfl (fun ls hl => ?_)
    refine lv_iload_n hx hb dX3_stepOn_56 rfl (lv_at hl 0 rfl) ?_
    refine lv_iconst (v := (-1)) hx hb dX3_stepOn_57 (by decide) ?_
    refine lv_icmp_ne (tgt := 69) hx hb dX3_stepOn_58 (by decide) (fun c7 => ?_) (fun c7 => ?_)
    · rw [if_neg c7] at h
      refine lv_iload_n hx hb dX3_stepOn_69 rfl (lv_at hl 0 rfl) ?_
      obtain ⟨y8, e8, h⟩ := ob_s h
      refine MR.callS (M_X3_isLetter hG e8) S (cw_X3_isLetter hts q1839 ⟨Nat.le_of_ble_eq_true rfl, Nat.le_of_ble_eq_true rfl⟩) hW0 vaP0 rfl hl.1 rfl (Nat.le_of_ble_eq_true rfl) dX3_stepOn_70 ⟨Nat.zero_le _, Nat.zero_le _⟩ ?_
      refine lv_if_eq (tgt := 111) hx hb dX3_stepOn_73 (by decide) (fun c9 => ?_) (fun c9 => ?_)
      · rw [if_pos c9] at h
        refine lv_iload_n hx hb dX3_stepOn_111 rfl (lv_at hl 0 rfl) ?_
        obtain ⟨y10, e10, h⟩ := ob_s h
        refine MR.callS (M_X3_isDigit hG e10) S (cw_X3_isDigit hts q1842 ⟨Nat.le_of_ble_eq_true rfl, Nat.le_of_ble_eq_true rfl⟩) hW0 vaP0 rfl hl.1 rfl (Nat.le_of_ble_eq_true rfl) dX3_stepOn_112 ⟨Nat.zero_le _, Nat.zero_le _⟩ ?_
        refine lv_if_eq (tgt := 186) hx hb dX3_stepOn_115 (by decide) (fun c11 => ?_) (fun c11 => ?_)
        · rw [if_pos c11] at h
          refine lv_aload_n hx hb dX3_stepOn_186 rfl (lv_at hl 1 rfl) ?_
          refine lv_dup hx hb dX3_stepOn_187 rfl ?_
          refine va_get (ci := 2) (v := .int c_at_5) (C := RX3) (T := TX3) (N := 52) hx hb hts in_X3 hown hK hP 0 rfl rfl 6 (by decide) (hts _ q1664) (fun _ h9 => h9) rfl dX3_stepOn_188 ?_
          refine lv_iconst (v := 1) hx hb dX3_stepOn_191 (by decide) ?_
          refine lv_iadd hx hb dX3_stepOn_192 ?_
          refine va_put (ci := 2) (v := .int (c_at_5 + (1 : Int32))) (ty := .int) (C := RX3) (T := TX3) (N := 52) hx hb hts in_X3 tyX3 tyX3_ok nmX3 hown hK hP hD hS 0 rfl rfl 6 (by decide) (hts _ q1664) (fun _ h9 => h9) rfl (by decide +kernel) rfl rfl (Nat.le_of_ble_eq_true rfl) dX3_stepOn_193 (fun H locs hP hD hS => ?_)
          have hP : va_P G.2.1 vwCl (mW h0 ad G.2.2 c_code c_now c_read c_status c_tape c_taped (c_at_5 + (1 : Int32)) c_textSize c_token c_number c_at_5 c_stops c_bad c_badPlace c_faultPlace c_clauses c_naming c_lineBy c_becomes c_dualLines c_on c_rowNow c_least c_wayFirst c_ways c_acts c_past c_listPoints c_listLines c_listed c_list c_path c_places c_firstPlaces c_px c_py c_pz c_placeMany c_modulus c_drawn c_halvesMany c_halvesFirst c_spreadsMany c_spreadsFirst c_comesTo c_seedNow c_rowThen c_hasImage c_actsThen c_imageRow c_pastThen c_statusThen) H := hP
          have hD : va_D A (mW h0 ad G.2.2 c_code c_now c_read c_status c_tape c_taped (c_at_5 + (1 : Int32)) c_textSize c_token c_number c_at_5 c_stops c_bad c_badPlace c_faultPlace c_clauses c_naming c_lineBy c_becomes c_dualLines c_on c_rowNow c_least c_wayFirst c_ways c_acts c_past c_listPoints c_listLines c_listed c_list c_path c_places c_firstPlaces c_px c_py c_pz c_placeMany c_modulus c_drawn c_halvesMany c_halvesFirst c_spreadsMany c_spreadsFirst c_comesTo c_seedNow c_rowThen c_hasImage c_actsThen c_imageRow c_pastThen c_statusThen) := hD
          refine lv_aload_n hx hb dX3_stepOn_196 rfl (lv_at hl 1 rfl) ?_
          refine lv_iload_n hx hb dX3_stepOn_197 rfl (lv_at hl 0 rfl) ?_
          refine lv_bipush (v := 59) hx hb dX3_stepOn_198 (by decide) ?_
          refine lv_icmp_eq (tgt := 209) hx hb dX3_stepOn_200 (by decide) (fun c12 => ?_) (fun c12 => ?_)
          · rw [if_pos c12] at h
            refine lv_iconst (v := 3) hx hb dX3_stepOn_209 (by decide) ?_
            refine lv_goto (tgt := 214) hx hb dX3_stepOn_210 (by decide) ?_
            refine va_put (ci := 2) (v := .int 3) (ty := .int) (C := RX3) (T := TX3) (N := 52) hx hb hts in_X3 tyX3 tyX3_ok nmX3 hown hK hP hD hS 0 rfl rfl 8 (by decide) (hts _ q1666) (fun _ h9 => h9) rfl (by decide +kernel) rfl rfl (Nat.le_of_ble_eq_true rfl) dX3_stepOn_214 (fun H locs hP hD hS => ?_)
            have hP : va_P G.2.1 vwCl (mW h0 ad G.2.2 c_code c_now c_read c_status c_tape c_taped (c_at_5 + (1 : Int32)) c_textSize 3 c_number c_at_5 c_stops c_bad c_badPlace c_faultPlace c_clauses c_naming c_lineBy c_becomes c_dualLines c_on c_rowNow c_least c_wayFirst c_ways c_acts c_past c_listPoints c_listLines c_listed c_list c_path c_places c_firstPlaces c_px c_py c_pz c_placeMany c_modulus c_drawn c_halvesMany c_halvesFirst c_spreadsMany c_spreadsFirst c_comesTo c_seedNow c_rowThen c_hasImage c_actsThen c_imageRow c_pastThen c_statusThen) H := hP
            have hD : va_D A (mW h0 ad G.2.2 c_code c_now c_read c_status c_tape c_taped (c_at_5 + (1 : Int32)) c_textSize 3 c_number c_at_5 c_stops c_bad c_badPlace c_faultPlace c_clauses c_naming c_lineBy c_becomes c_dualLines c_on c_rowNow c_least c_wayFirst c_ways c_acts c_past c_listPoints c_listLines c_listed c_list c_path c_places c_firstPlaces c_px c_py c_pz c_placeMany c_modulus c_drawn c_halvesMany c_halvesFirst c_spreadsMany c_spreadsFirst c_comesTo c_seedNow c_rowThen c_hasImage c_actsThen c_imageRow c_pastThen c_statusThen) := hD
            refine lv_aload_n hx hb dX3_stepOn_217 rfl (lv_at hl 1 rfl) ?_
            refine lv_aload_n hx hb dX3_stepOn_218 rfl (lv_at hl 1 rfl) ?_
            refine va_get (ci := 2) (v := .int (c_at_5 + (1 : Int32))) (C := RX3) (T := TX3) (N := 52) hx hb hts in_X3 hown hK hP 0 rfl rfl 6 (by decide) (hts _ q1664) (fun _ h9 => h9) rfl dX3_stepOn_219 ?_
            refine va_put (ci := 2) (v := .int (c_at_5 + (1 : Int32))) (ty := .int) (C := RX3) (T := TX3) (N := 52) hx hb hts in_X3 tyX3 tyX3_ok nmX3 hown hK hP hD hS 0 rfl rfl 11 (by decide) (hts _ q1669) (fun _ h9 => h9) rfl (by decide +kernel) rfl rfl (Nat.le_of_ble_eq_true rfl) dX3_stepOn_222 (fun H locs hP hD hS => ?_)
            have hP : va_P G.2.1 vwCl (mW h0 ad G.2.2 c_code c_now c_read c_status c_tape c_taped (c_at_5 + (1 : Int32)) c_textSize 3 c_number c_at_5 (c_at_5 + (1 : Int32)) c_bad c_badPlace c_faultPlace c_clauses c_naming c_lineBy c_becomes c_dualLines c_on c_rowNow c_least c_wayFirst c_ways c_acts c_past c_listPoints c_listLines c_listed c_list c_path c_places c_firstPlaces c_px c_py c_pz c_placeMany c_modulus c_drawn c_halvesMany c_halvesFirst c_spreadsMany c_spreadsFirst c_comesTo c_seedNow c_rowThen c_hasImage c_actsThen c_imageRow c_pastThen c_statusThen) H := hP
            have hD : va_D A (mW h0 ad G.2.2 c_code c_now c_read c_status c_tape c_taped (c_at_5 + (1 : Int32)) c_textSize 3 c_number c_at_5 (c_at_5 + (1 : Int32)) c_bad c_badPlace c_faultPlace c_clauses c_naming c_lineBy c_becomes c_dualLines c_on c_rowNow c_least c_wayFirst c_ways c_acts c_past c_listPoints c_listLines c_listed c_list c_path c_places c_firstPlaces c_px c_py c_pz c_placeMany c_modulus c_drawn c_halvesMany c_halvesFirst c_spreadsMany c_spreadsFirst c_comesTo c_seedNow c_rowThen c_hasImage c_actsThen c_imageRow c_pastThen c_statusThen) := hD
            obtain rfl := Option.some.inj h
            exact hretv rfl dX3_stepOn_225 rfl hP hD hS
          · rw [if_neg c12] at h
            refine lv_iload_n hx hb dX3_stepOn_203 rfl (lv_at hl 0 rfl) ?_
            refine lv_bipush (v := 45) hx hb dX3_stepOn_204 (by decide) ?_
            refine lv_icmp_ne (tgt := 213) hx hb dX3_stepOn_206 (by decide) (fun c14 => ?_) (fun c14 => ?_)
            · rw [if_neg c14] at h
              refine lv_iconst (v := 4) hx hb dX3_stepOn_213 (by decide) ?_
              refine va_put (ci := 2) (v := .int 4) (ty := .int) (C := RX3) (T := TX3) (N := 52) hx hb hts in_X3 tyX3 tyX3_ok nmX3 hown hK hP hD hS 0 rfl rfl 8 (by decide) (hts _ q1666) (fun _ h9 => h9) rfl (by decide +kernel) rfl rfl (Nat.le_of_ble_eq_true rfl) dX3_stepOn_214 (fun H locs hP hD hS => ?_)
              have hP : va_P G.2.1 vwCl (mW h0 ad G.2.2 c_code c_now c_read c_status c_tape c_taped (c_at_5 + (1 : Int32)) c_textSize 4 c_number c_at_5 c_stops c_bad c_badPlace c_faultPlace c_clauses c_naming c_lineBy c_becomes c_dualLines c_on c_rowNow c_least c_wayFirst c_ways c_acts c_past c_listPoints c_listLines c_listed c_list c_path c_places c_firstPlaces c_px c_py c_pz c_placeMany c_modulus c_drawn c_halvesMany c_halvesFirst c_spreadsMany c_spreadsFirst c_comesTo c_seedNow c_rowThen c_hasImage c_actsThen c_imageRow c_pastThen c_statusThen) H := hP
              have hD : va_D A (mW h0 ad G.2.2 c_code c_now c_read c_status c_tape c_taped (c_at_5 + (1 : Int32)) c_textSize 4 c_number c_at_5 c_stops c_bad c_badPlace c_faultPlace c_clauses c_naming c_lineBy c_becomes c_dualLines c_on c_rowNow c_least c_wayFirst c_ways c_acts c_past c_listPoints c_listLines c_listed c_list c_path c_places c_firstPlaces c_px c_py c_pz c_placeMany c_modulus c_drawn c_halvesMany c_halvesFirst c_spreadsMany c_spreadsFirst c_comesTo c_seedNow c_rowThen c_hasImage c_actsThen c_imageRow c_pastThen c_statusThen) := hD
              refine lv_aload_n hx hb dX3_stepOn_217 rfl (lv_at hl 1 rfl) ?_
              refine lv_aload_n hx hb dX3_stepOn_218 rfl (lv_at hl 1 rfl) ?_
              refine va_get (ci := 2) (v := .int (c_at_5 + (1 : Int32))) (C := RX3) (T := TX3) (N := 52) hx hb hts in_X3 hown hK hP 0 rfl rfl 6 (by decide) (hts _ q1664) (fun _ h9 => h9) rfl dX3_stepOn_219 ?_
              refine va_put (ci := 2) (v := .int (c_at_5 + (1 : Int32))) (ty := .int) (C := RX3) (T := TX3) (N := 52) hx hb hts in_X3 tyX3 tyX3_ok nmX3 hown hK hP hD hS 0 rfl rfl 11 (by decide) (hts _ q1669) (fun _ h9 => h9) rfl (by decide +kernel) rfl rfl (Nat.le_of_ble_eq_true rfl) dX3_stepOn_222 (fun H locs hP hD hS => ?_)
              have hP : va_P G.2.1 vwCl (mW h0 ad G.2.2 c_code c_now c_read c_status c_tape c_taped (c_at_5 + (1 : Int32)) c_textSize 4 c_number c_at_5 (c_at_5 + (1 : Int32)) c_bad c_badPlace c_faultPlace c_clauses c_naming c_lineBy c_becomes c_dualLines c_on c_rowNow c_least c_wayFirst c_ways c_acts c_past c_listPoints c_listLines c_listed c_list c_path c_places c_firstPlaces c_px c_py c_pz c_placeMany c_modulus c_drawn c_halvesMany c_halvesFirst c_spreadsMany c_spreadsFirst c_comesTo c_seedNow c_rowThen c_hasImage c_actsThen c_imageRow c_pastThen c_statusThen) H := hP
              have hD : va_D A (mW h0 ad G.2.2 c_code c_now c_read c_status c_tape c_taped (c_at_5 + (1 : Int32)) c_textSize 4 c_number c_at_5 (c_at_5 + (1 : Int32)) c_bad c_badPlace c_faultPlace c_clauses c_naming c_lineBy c_becomes c_dualLines c_on c_rowNow c_least c_wayFirst c_ways c_acts c_past c_listPoints c_listLines c_listed c_list c_path c_places c_firstPlaces c_px c_py c_pz c_placeMany c_modulus c_drawn c_halvesMany c_halvesFirst c_spreadsMany c_spreadsFirst c_comesTo c_seedNow c_rowThen c_hasImage c_actsThen c_imageRow c_pastThen c_statusThen) := hD
              obtain rfl := Option.some.inj h
              exact hretv rfl dX3_stepOn_225 rfl hP hD hS
            · rw [if_pos c14] at h
              refine lv_iconst (v := 3) hx hb dX3_stepOn_209 (by decide) ?_
              refine lv_goto (tgt := 214) hx hb dX3_stepOn_210 (by decide) ?_
              refine va_put (ci := 2) (v := .int 3) (ty := .int) (C := RX3) (T := TX3) (N := 52) hx hb hts in_X3 tyX3 tyX3_ok nmX3 hown hK hP hD hS 0 rfl rfl 8 (by decide) (hts _ q1666) (fun _ h9 => h9) rfl (by decide +kernel) rfl rfl (Nat.le_of_ble_eq_true rfl) dX3_stepOn_214 (fun H locs hP hD hS => ?_)
              have hP : va_P G.2.1 vwCl (mW h0 ad G.2.2 c_code c_now c_read c_status c_tape c_taped (c_at_5 + (1 : Int32)) c_textSize 3 c_number c_at_5 c_stops c_bad c_badPlace c_faultPlace c_clauses c_naming c_lineBy c_becomes c_dualLines c_on c_rowNow c_least c_wayFirst c_ways c_acts c_past c_listPoints c_listLines c_listed c_list c_path c_places c_firstPlaces c_px c_py c_pz c_placeMany c_modulus c_drawn c_halvesMany c_halvesFirst c_spreadsMany c_spreadsFirst c_comesTo c_seedNow c_rowThen c_hasImage c_actsThen c_imageRow c_pastThen c_statusThen) H := hP
              have hD : va_D A (mW h0 ad G.2.2 c_code c_now c_read c_status c_tape c_taped (c_at_5 + (1 : Int32)) c_textSize 3 c_number c_at_5 c_stops c_bad c_badPlace c_faultPlace c_clauses c_naming c_lineBy c_becomes c_dualLines c_on c_rowNow c_least c_wayFirst c_ways c_acts c_past c_listPoints c_listLines c_listed c_list c_path c_places c_firstPlaces c_px c_py c_pz c_placeMany c_modulus c_drawn c_halvesMany c_halvesFirst c_spreadsMany c_spreadsFirst c_comesTo c_seedNow c_rowThen c_hasImage c_actsThen c_imageRow c_pastThen c_statusThen) := hD
              refine lv_aload_n hx hb dX3_stepOn_217 rfl (lv_at hl 1 rfl) ?_
              refine lv_aload_n hx hb dX3_stepOn_218 rfl (lv_at hl 1 rfl) ?_
              refine va_get (ci := 2) (v := .int (c_at_5 + (1 : Int32))) (C := RX3) (T := TX3) (N := 52) hx hb hts in_X3 hown hK hP 0 rfl rfl 6 (by decide) (hts _ q1664) (fun _ h9 => h9) rfl dX3_stepOn_219 ?_
              refine va_put (ci := 2) (v := .int (c_at_5 + (1 : Int32))) (ty := .int) (C := RX3) (T := TX3) (N := 52) hx hb hts in_X3 tyX3 tyX3_ok nmX3 hown hK hP hD hS 0 rfl rfl 11 (by decide) (hts _ q1669) (fun _ h9 => h9) rfl (by decide +kernel) rfl rfl (Nat.le_of_ble_eq_true rfl) dX3_stepOn_222 (fun H locs hP hD hS => ?_)
              have hP : va_P G.2.1 vwCl (mW h0 ad G.2.2 c_code c_now c_read c_status c_tape c_taped (c_at_5 + (1 : Int32)) c_textSize 3 c_number c_at_5 (c_at_5 + (1 : Int32)) c_bad c_badPlace c_faultPlace c_clauses c_naming c_lineBy c_becomes c_dualLines c_on c_rowNow c_least c_wayFirst c_ways c_acts c_past c_listPoints c_listLines c_listed c_list c_path c_places c_firstPlaces c_px c_py c_pz c_placeMany c_modulus c_drawn c_halvesMany c_halvesFirst c_spreadsMany c_spreadsFirst c_comesTo c_seedNow c_rowThen c_hasImage c_actsThen c_imageRow c_pastThen c_statusThen) H := hP
              have hD : va_D A (mW h0 ad G.2.2 c_code c_now c_read c_status c_tape c_taped (c_at_5 + (1 : Int32)) c_textSize 3 c_number c_at_5 (c_at_5 + (1 : Int32)) c_bad c_badPlace c_faultPlace c_clauses c_naming c_lineBy c_becomes c_dualLines c_on c_rowNow c_least c_wayFirst c_ways c_acts c_past c_listPoints c_listLines c_listed c_list c_path c_places c_firstPlaces c_px c_py c_pz c_placeMany c_modulus c_drawn c_halvesMany c_halvesFirst c_spreadsMany c_spreadsFirst c_comesTo c_seedNow c_rowThen c_hasImage c_actsThen c_imageRow c_pastThen c_statusThen) := hD
              obtain rfl := Option.some.inj h
              exact hretv rfl dX3_stepOn_225 rfl hP hD hS
        · rw [if_neg c11] at h
          refine lv_aload_n hx hb dX3_stepOn_118 rfl (lv_at hl 1 rfl) ?_
          refine lv_iconst (v := 0) hx hb dX3_stepOn_119 (by decide) ?_
          refine va_put (ci := 2) (v := .int 0) (ty := .int) (C := RX3) (T := TX3) (N := 52) hx hb hts in_X3 tyX3 tyX3_ok nmX3 hown hK hP hD hS 0 rfl rfl 9 (by decide) (hts _ q1667) (fun _ h9 => h9) rfl (by decide +kernel) rfl rfl (Nat.le_of_ble_eq_true rfl) dX3_stepOn_120 (fun H locs hP hD hS => ?_)
          have hP : va_P G.2.1 vwCl (mW h0 ad G.2.2 c_code c_now c_read c_status c_tape c_taped c_at_5 c_textSize c_token 0 c_at_5 c_stops c_bad c_badPlace c_faultPlace c_clauses c_naming c_lineBy c_becomes c_dualLines c_on c_rowNow c_least c_wayFirst c_ways c_acts c_past c_listPoints c_listLines c_listed c_list c_path c_places c_firstPlaces c_px c_py c_pz c_placeMany c_modulus c_drawn c_halvesMany c_halvesFirst c_spreadsMany c_spreadsFirst c_comesTo c_seedNow c_rowThen c_hasImage c_actsThen c_imageRow c_pastThen c_statusThen) H := hP
          have hD : va_D A (mW h0 ad G.2.2 c_code c_now c_read c_status c_tape c_taped c_at_5 c_textSize c_token 0 c_at_5 c_stops c_bad c_badPlace c_faultPlace c_clauses c_naming c_lineBy c_becomes c_dualLines c_on c_rowNow c_least c_wayFirst c_ways c_acts c_past c_listPoints c_listLines c_listed c_list c_path c_places c_firstPlaces c_px c_py c_pz c_placeMany c_modulus c_drawn c_halvesMany c_halvesFirst c_spreadsMany c_spreadsFirst c_comesTo c_seedNow c_rowThen c_hasImage c_actsThen c_imageRow c_pastThen c_statusThen) := hD
          refine S_X3_stepOn_123 N c_at_5 c_token 0 c_at_5 c_stops _ h ?_ _ _ hP hD hS _ (lv_sub hl [1] rfl)
          · intro c_at_21 c_number_21 H locs ls h hP hD hS hl
            refine lv_aload_n hx hb dX3_stepOn_178 rfl (lv_at hl 0 rfl) ?_
            refine lv_iconst (v := 2) hx hb dX3_stepOn_179 (by decide) ?_
            refine va_put (ci := 2) (v := .int 2) (ty := .int) (C := RX3) (T := TX3) (N := 52) hx hb hts in_X3 tyX3 tyX3_ok nmX3 hown hK hP hD hS 0 rfl rfl 8 (by decide) (hts _ q1666) (fun _ h9 => h9) rfl (by decide +kernel) rfl rfl (Nat.le_of_ble_eq_true rfl) dX3_stepOn_180 (fun H locs hP hD hS => ?_)
            have hP : va_P G.2.1 vwCl (mW h0 ad G.2.2 c_code c_now c_read c_status c_tape c_taped c_at_21 c_textSize 2 c_number_21 c_at_5 c_stops c_bad c_badPlace c_faultPlace c_clauses c_naming c_lineBy c_becomes c_dualLines c_on c_rowNow c_least c_wayFirst c_ways c_acts c_past c_listPoints c_listLines c_listed c_list c_path c_places c_firstPlaces c_px c_py c_pz c_placeMany c_modulus c_drawn c_halvesMany c_halvesFirst c_spreadsMany c_spreadsFirst c_comesTo c_seedNow c_rowThen c_hasImage c_actsThen c_imageRow c_pastThen c_statusThen) H := hP
            have hD : va_D A (mW h0 ad G.2.2 c_code c_now c_read c_status c_tape c_taped c_at_21 c_textSize 2 c_number_21 c_at_5 c_stops c_bad c_badPlace c_faultPlace c_clauses c_naming c_lineBy c_becomes c_dualLines c_on c_rowNow c_least c_wayFirst c_ways c_acts c_past c_listPoints c_listLines c_listed c_list c_path c_places c_firstPlaces c_px c_py c_pz c_placeMany c_modulus c_drawn c_halvesMany c_halvesFirst c_spreadsMany c_spreadsFirst c_comesTo c_seedNow c_rowThen c_hasImage c_actsThen c_imageRow c_pastThen c_statusThen) := hD
            refine lv_goto (tgt := 217) hx hb dX3_stepOn_183 (by decide) ?_
            refine lv_aload_n hx hb dX3_stepOn_217 rfl (lv_at hl 0 rfl) ?_
            refine lv_aload_n hx hb dX3_stepOn_218 rfl (lv_at hl 0 rfl) ?_
            refine va_get (ci := 2) (v := .int c_at_21) (C := RX3) (T := TX3) (N := 52) hx hb hts in_X3 hown hK hP 0 rfl rfl 6 (by decide) (hts _ q1664) (fun _ h9 => h9) rfl dX3_stepOn_219 ?_
            refine va_put (ci := 2) (v := .int c_at_21) (ty := .int) (C := RX3) (T := TX3) (N := 52) hx hb hts in_X3 tyX3 tyX3_ok nmX3 hown hK hP hD hS 0 rfl rfl 11 (by decide) (hts _ q1669) (fun _ h9 => h9) rfl (by decide +kernel) rfl rfl (Nat.le_of_ble_eq_true rfl) dX3_stepOn_222 (fun H locs hP hD hS => ?_)
            have hP : va_P G.2.1 vwCl (mW h0 ad G.2.2 c_code c_now c_read c_status c_tape c_taped c_at_21 c_textSize 2 c_number_21 c_at_5 c_at_21 c_bad c_badPlace c_faultPlace c_clauses c_naming c_lineBy c_becomes c_dualLines c_on c_rowNow c_least c_wayFirst c_ways c_acts c_past c_listPoints c_listLines c_listed c_list c_path c_places c_firstPlaces c_px c_py c_pz c_placeMany c_modulus c_drawn c_halvesMany c_halvesFirst c_spreadsMany c_spreadsFirst c_comesTo c_seedNow c_rowThen c_hasImage c_actsThen c_imageRow c_pastThen c_statusThen) H := hP
            have hD : va_D A (mW h0 ad G.2.2 c_code c_now c_read c_status c_tape c_taped c_at_21 c_textSize 2 c_number_21 c_at_5 c_at_21 c_bad c_badPlace c_faultPlace c_clauses c_naming c_lineBy c_becomes c_dualLines c_on c_rowNow c_least c_wayFirst c_ways c_acts c_past c_listPoints c_listLines c_listed c_list c_path c_places c_firstPlaces c_px c_py c_pz c_placeMany c_modulus c_drawn c_halvesMany c_halvesFirst c_spreadsMany c_spreadsFirst c_comesTo c_seedNow c_rowThen c_hasImage c_actsThen c_imageRow c_pastThen c_statusThen) := hD
            obtain rfl := Option.some.inj h
            exact hretv rfl dX3_stepOn_225 rfl hP hD hS
      · rw [if_neg c9] at h
        refine S_X3_stepOn_76 N c_at_5 c_token c_number c_at_5 c_stops _ h ?_ _ _ hP hD hS _ (lv_sub hl [1] rfl)
        · intro c_at_26 H locs ls h hP hD hS hl
          refine lv_aload_n hx hb dX3_stepOn_103 rfl (lv_at hl 0 rfl) ?_
          refine lv_iconst (v := 1) hx hb dX3_stepOn_104 (by decide) ?_
          refine va_put (ci := 2) (v := .int 1) (ty := .int) (C := RX3) (T := TX3) (N := 52) hx hb hts in_X3 tyX3 tyX3_ok nmX3 hown hK hP hD hS 0 rfl rfl 8 (by decide) (hts _ q1666) (fun _ h9 => h9) rfl (by decide +kernel) rfl rfl (Nat.le_of_ble_eq_true rfl) dX3_stepOn_105 (fun H locs hP hD hS => ?_)
          have hP : va_P G.2.1 vwCl (mW h0 ad G.2.2 c_code c_now c_read c_status c_tape c_taped c_at_26 c_textSize 1 c_number c_at_5 c_stops c_bad c_badPlace c_faultPlace c_clauses c_naming c_lineBy c_becomes c_dualLines c_on c_rowNow c_least c_wayFirst c_ways c_acts c_past c_listPoints c_listLines c_listed c_list c_path c_places c_firstPlaces c_px c_py c_pz c_placeMany c_modulus c_drawn c_halvesMany c_halvesFirst c_spreadsMany c_spreadsFirst c_comesTo c_seedNow c_rowThen c_hasImage c_actsThen c_imageRow c_pastThen c_statusThen) H := hP
          have hD : va_D A (mW h0 ad G.2.2 c_code c_now c_read c_status c_tape c_taped c_at_26 c_textSize 1 c_number c_at_5 c_stops c_bad c_badPlace c_faultPlace c_clauses c_naming c_lineBy c_becomes c_dualLines c_on c_rowNow c_least c_wayFirst c_ways c_acts c_past c_listPoints c_listLines c_listed c_list c_path c_places c_firstPlaces c_px c_py c_pz c_placeMany c_modulus c_drawn c_halvesMany c_halvesFirst c_spreadsMany c_spreadsFirst c_comesTo c_seedNow c_rowThen c_hasImage c_actsThen c_imageRow c_pastThen c_statusThen) := hD
          refine lv_goto (tgt := 217) hx hb dX3_stepOn_108 (by decide) ?_
          refine lv_aload_n hx hb dX3_stepOn_217 rfl (lv_at hl 0 rfl) ?_
          refine lv_aload_n hx hb dX3_stepOn_218 rfl (lv_at hl 0 rfl) ?_
          refine va_get (ci := 2) (v := .int c_at_26) (C := RX3) (T := TX3) (N := 52) hx hb hts in_X3 hown hK hP 0 rfl rfl 6 (by decide) (hts _ q1664) (fun _ h9 => h9) rfl dX3_stepOn_219 ?_
          refine va_put (ci := 2) (v := .int c_at_26) (ty := .int) (C := RX3) (T := TX3) (N := 52) hx hb hts in_X3 tyX3 tyX3_ok nmX3 hown hK hP hD hS 0 rfl rfl 11 (by decide) (hts _ q1669) (fun _ h9 => h9) rfl (by decide +kernel) rfl rfl (Nat.le_of_ble_eq_true rfl) dX3_stepOn_222 (fun H locs hP hD hS => ?_)
          have hP : va_P G.2.1 vwCl (mW h0 ad G.2.2 c_code c_now c_read c_status c_tape c_taped c_at_26 c_textSize 1 c_number c_at_5 c_at_26 c_bad c_badPlace c_faultPlace c_clauses c_naming c_lineBy c_becomes c_dualLines c_on c_rowNow c_least c_wayFirst c_ways c_acts c_past c_listPoints c_listLines c_listed c_list c_path c_places c_firstPlaces c_px c_py c_pz c_placeMany c_modulus c_drawn c_halvesMany c_halvesFirst c_spreadsMany c_spreadsFirst c_comesTo c_seedNow c_rowThen c_hasImage c_actsThen c_imageRow c_pastThen c_statusThen) H := hP
          have hD : va_D A (mW h0 ad G.2.2 c_code c_now c_read c_status c_tape c_taped c_at_26 c_textSize 1 c_number c_at_5 c_at_26 c_bad c_badPlace c_faultPlace c_clauses c_naming c_lineBy c_becomes c_dualLines c_on c_rowNow c_least c_wayFirst c_ways c_acts c_past c_listPoints c_listLines c_listed c_list c_path c_places c_firstPlaces c_px c_py c_pz c_placeMany c_modulus c_drawn c_halvesMany c_halvesFirst c_spreadsMany c_spreadsFirst c_comesTo c_seedNow c_rowThen c_hasImage c_actsThen c_imageRow c_pastThen c_statusThen) := hD
          obtain rfl := Option.some.inj h
          exact hretv rfl dX3_stepOn_225 rfl hP hD hS
    · rw [if_pos c7] at h
      refine lv_aload_n hx hb dX3_stepOn_61 rfl (lv_at hl 1 rfl) ?_
      refine lv_iconst (v := 0) hx hb dX3_stepOn_62 (by decide) ?_
      refine va_put (ci := 2) (v := .int 0) (ty := .int) (C := RX3) (T := TX3) (N := 52) hx hb hts in_X3 tyX3 tyX3_ok nmX3 hown hK hP hD hS 0 rfl rfl 8 (by decide) (hts _ q1666) (fun _ h9 => h9) rfl (by decide +kernel) rfl rfl (Nat.le_of_ble_eq_true rfl) dX3_stepOn_63 (fun H locs hP hD hS => ?_)
      have hP : va_P G.2.1 vwCl (mW h0 ad G.2.2 c_code c_now c_read c_status c_tape c_taped c_at_5 c_textSize 0 c_number c_at_5 c_stops c_bad c_badPlace c_faultPlace c_clauses c_naming c_lineBy c_becomes c_dualLines c_on c_rowNow c_least c_wayFirst c_ways c_acts c_past c_listPoints c_listLines c_listed c_list c_path c_places c_firstPlaces c_px c_py c_pz c_placeMany c_modulus c_drawn c_halvesMany c_halvesFirst c_spreadsMany c_spreadsFirst c_comesTo c_seedNow c_rowThen c_hasImage c_actsThen c_imageRow c_pastThen c_statusThen) H := hP
      have hD : va_D A (mW h0 ad G.2.2 c_code c_now c_read c_status c_tape c_taped c_at_5 c_textSize 0 c_number c_at_5 c_stops c_bad c_badPlace c_faultPlace c_clauses c_naming c_lineBy c_becomes c_dualLines c_on c_rowNow c_least c_wayFirst c_ways c_acts c_past c_listPoints c_listLines c_listed c_list c_path c_places c_firstPlaces c_px c_py c_pz c_placeMany c_modulus c_drawn c_halvesMany c_halvesFirst c_spreadsMany c_spreadsFirst c_comesTo c_seedNow c_rowThen c_hasImage c_actsThen c_imageRow c_pastThen c_statusThen) := hD
      refine lv_goto (tgt := 217) hx hb dX3_stepOn_66 (by decide) ?_
      refine lv_aload_n hx hb dX3_stepOn_217 rfl (lv_at hl 1 rfl) ?_
      refine lv_aload_n hx hb dX3_stepOn_218 rfl (lv_at hl 1 rfl) ?_
      refine va_get (ci := 2) (v := .int c_at_5) (C := RX3) (T := TX3) (N := 52) hx hb hts in_X3 hown hK hP 0 rfl rfl 6 (by decide) (hts _ q1664) (fun _ h9 => h9) rfl dX3_stepOn_219 ?_
      refine va_put (ci := 2) (v := .int c_at_5) (ty := .int) (C := RX3) (T := TX3) (N := 52) hx hb hts in_X3 tyX3 tyX3_ok nmX3 hown hK hP hD hS 0 rfl rfl 11 (by decide) (hts _ q1669) (fun _ h9 => h9) rfl (by decide +kernel) rfl rfl (Nat.le_of_ble_eq_true rfl) dX3_stepOn_222 (fun H locs hP hD hS => ?_)
      have hP : va_P G.2.1 vwCl (mW h0 ad G.2.2 c_code c_now c_read c_status c_tape c_taped c_at_5 c_textSize 0 c_number c_at_5 c_at_5 c_bad c_badPlace c_faultPlace c_clauses c_naming c_lineBy c_becomes c_dualLines c_on c_rowNow c_least c_wayFirst c_ways c_acts c_past c_listPoints c_listLines c_listed c_list c_path c_places c_firstPlaces c_px c_py c_pz c_placeMany c_modulus c_drawn c_halvesMany c_halvesFirst c_spreadsMany c_spreadsFirst c_comesTo c_seedNow c_rowThen c_hasImage c_actsThen c_imageRow c_pastThen c_statusThen) H := hP
      have hD : va_D A (mW h0 ad G.2.2 c_code c_now c_read c_status c_tape c_taped c_at_5 c_textSize 0 c_number c_at_5 c_at_5 c_bad c_badPlace c_faultPlace c_clauses c_naming c_lineBy c_becomes c_dualLines c_on c_rowNow c_least c_wayFirst c_ways c_acts c_past c_listPoints c_listLines c_listed c_list c_path c_places c_firstPlaces c_px c_py c_pz c_placeMany c_modulus c_drawn c_halvesMany c_halvesFirst c_spreadsMany c_spreadsFirst c_comesTo c_seedNow c_rowThen c_hasImage c_actsThen c_imageRow c_pastThen c_statusThen) := hD
      obtain rfl := Option.some.inj h
      exact hretv rfl dX3_stepOn_225 rfl hP hD hS
def F_X3_wrong (N : Nat) (v1 : Int32) (c_begins : Int32) (c_bad : Int32) (c_badPlace : Int32) : Option (Int32 × Int32) := (if c_bad = 0 then (some (v1, c_begins)) else (some (c_bad, c_badPlace)))
theorem cw_X3_wrong {R : Room} {s : State} {args : Array Value} {own : String} {index lev mc ms : Nat} (hts : ∀ w ∈ lw_all, w.before args s = true) (hl : Cond.methodLink own index yX3_wrong ∈ lw_all) (hR : (rmL lev mc ms).frames + 1 ≤ R.frames ∧ 8 + (2 + 11) + (rmL lev mc ms).locals ≤ R.locals) : CallW R s args own RX3 index yX3_wrong cX3_wrong 2 none (ws_ yX3_wrong cX3_wrong 2 none) (rmL lev mc ms) mc ms 1 := cwV 1 hts (lw_V hl q1870 qs76 q172 q1871) rfl rfl rfl (by decide +kernel) hR
set_option maxHeartbeats 4000000 in
theorem M_X3_wrong {l : Launch} {G : GE} (hG : GC G) {N : Nat} {h0 : Nat} {ad : Nat → Nat} {c_code : Int32} {c_now : (Nat → Int32)} {c_read : (Nat → Int32)} {c_status : (Nat → Int32)} {c_tape : (Nat → Int32)} {c_taped : Int32} {c_at : Int32} {c_textSize : Int32} {c_token : Int32} {c_number : Int32} {c_stops : Int32} {c_faultPlace : Int32} {c_clauses : Int32} {c_naming : (Nat → Int32)} {c_lineBy : (Nat → Int32)} {c_becomes : (Nat → Int32)} {c_dualLines : (Nat → Int32)} {c_on : (Nat → Int32)} {c_rowNow : (Nat → Int32)} {c_least : (Nat → Int32)} {c_wayFirst : (Nat → Int32)} {c_ways : Int32} {c_acts : Int32} {c_past : (Nat → Int32)} {c_listPoints : Int32} {c_listLines : Int32} {c_listed : Int32} {c_list : (Nat → Int32)} {c_path : (Nat → Int32)} {c_places : (Nat → Int32)} {c_firstPlaces : (Nat → Int32)} {c_px : (Nat → Int32)} {c_py : (Nat → Int32)} {c_pz : (Nat → Int32)} {c_placeMany : Int32} {c_modulus : Int32} {c_drawn : Int32} {c_halvesMany : Int32} {c_halvesFirst : Int32} {c_spreadsMany : Int32} {c_spreadsFirst : Int32} {c_comesTo : (Nat → Int32)} {c_seedNow : Int32} {c_rowThen : (Nat → Int32)} {c_hasImage : Int32} {c_actsThen : Int32} {c_imageRow : (Nat → Int32)} {c_pastThen : (Nat → Int32)} {c_statusThen : (Nat → Int32)} {v1 : Int32} {c_begins : Int32} {c_bad : Int32} {c_badPlace : Int32} {ρ : (Int32 × Int32)} (h : F_X3_wrong N v1 c_begins c_bad c_badPlace = some ρ) : MW l G yX3_wrong cX3_wrong 2 none 1 (mW h0 ad G.2.2 c_code c_now c_read c_status c_tape c_taped c_at c_textSize c_token c_number c_begins c_stops c_bad c_badPlace c_faultPlace c_clauses c_naming c_lineBy c_becomes c_dualLines c_on c_rowNow c_least c_wayFirst c_ways c_acts c_past c_listPoints c_listLines c_listed c_list c_path c_places c_firstPlaces c_px c_py c_pz c_placeMany c_modulus c_drawn c_halvesMany c_halvesFirst c_spreadsMany c_spreadsFirst c_comesTo c_seedNow c_rowThen c_hasImage c_actsThen c_imageRow c_pastThen c_statusThen) [.ref h0, .int v1] none (mW h0 ad G.2.2 c_code c_now c_read c_status c_tape c_taped c_at c_textSize c_token c_number c_begins c_stops ρ.1 ρ.2 c_faultPlace c_clauses c_naming c_lineBy c_becomes c_dualLines c_on c_rowNow c_least c_wayFirst c_ways c_acts c_past c_listPoints c_listLines c_listed c_list c_path c_places c_firstPlaces c_px c_py c_pz c_placeMany c_modulus c_drawn c_halvesMany c_halvesFirst c_spreadsMany c_spreadsFirst c_comesTo c_seedNow c_rowThen c_hasImage c_actsThen c_imageRow c_pastThen c_statusThen) := by
  rw [F_X3_wrong] at h
  refine MW.start hG (by decide) (Nat.le_of_ble_eq_true rfl) ?_
  intro p e s m args below meth c Q A S hW0 hK hP hD hA hreti hretv ls hl
  have hS : va_S A s.heap s.heap [] := va_S.rf
  obtain ⟨hx, hb, hml, hown, hts⟩ := id S
  have hl : lv_has ls 2 [(0, .ref h0), (1, .int v1)] := hl
  refine lv_aload_n hx hb dX3_wrong_0 rfl (lv_at hl 0 rfl) ?_
  refine va_get (ci := 2) (v := .int c_bad) (C := RX3) (T := TX3) (N := 52) hx hb hts in_X3 hown hK hP 0 rfl rfl 12 (by decide) (hts _ q1670) (fun _ h9 => h9) rfl dX3_wrong_1 ?_
  refine lv_if_eq (tgt := 8) hx hb dX3_wrong_4 (by decide) (fun c1 => ?_) (fun c1 => ?_)
  · rw [if_pos c1] at h
    refine lv_aload_n hx hb dX3_wrong_8 rfl (lv_at hl 0 rfl) ?_
    refine lv_iload_n hx hb dX3_wrong_9 rfl (lv_at hl 1 rfl) ?_
    refine va_put (ci := 2) (v := .int v1) (ty := .int) (C := RX3) (T := TX3) (N := 52) hx hb hts in_X3 tyX3 tyX3_ok nmX3 hown hK hP hD hS 0 rfl rfl 12 (by decide) (hts _ q1670) (fun _ h9 => h9) rfl (by decide +kernel) rfl rfl (Nat.le_of_ble_eq_true rfl) dX3_wrong_10 (fun H locs hP hD hS => ?_)
    have hP : va_P G.2.1 vwCl (mW h0 ad G.2.2 c_code c_now c_read c_status c_tape c_taped c_at c_textSize c_token c_number c_begins c_stops v1 c_badPlace c_faultPlace c_clauses c_naming c_lineBy c_becomes c_dualLines c_on c_rowNow c_least c_wayFirst c_ways c_acts c_past c_listPoints c_listLines c_listed c_list c_path c_places c_firstPlaces c_px c_py c_pz c_placeMany c_modulus c_drawn c_halvesMany c_halvesFirst c_spreadsMany c_spreadsFirst c_comesTo c_seedNow c_rowThen c_hasImage c_actsThen c_imageRow c_pastThen c_statusThen) H := hP
    have hD : va_D A (mW h0 ad G.2.2 c_code c_now c_read c_status c_tape c_taped c_at c_textSize c_token c_number c_begins c_stops v1 c_badPlace c_faultPlace c_clauses c_naming c_lineBy c_becomes c_dualLines c_on c_rowNow c_least c_wayFirst c_ways c_acts c_past c_listPoints c_listLines c_listed c_list c_path c_places c_firstPlaces c_px c_py c_pz c_placeMany c_modulus c_drawn c_halvesMany c_halvesFirst c_spreadsMany c_spreadsFirst c_comesTo c_seedNow c_rowThen c_hasImage c_actsThen c_imageRow c_pastThen c_statusThen) := hD
    refine lv_aload_n hx hb dX3_wrong_13 rfl (lv_at hl 0 rfl) ?_
    refine lv_aload_n hx hb dX3_wrong_14 rfl (lv_at hl 0 rfl) ?_
    refine va_get (ci := 2) (v := .int c_begins) (C := RX3) (T := TX3) (N := 52) hx hb hts in_X3 hown hK hP 0 rfl rfl 10 (by decide) (hts _ q1668) (fun _ h9 => h9) rfl dX3_wrong_15 ?_
    refine va_put (ci := 2) (v := .int c_begins) (ty := .int) (C := RX3) (T := TX3) (N := 52) hx hb hts in_X3 tyX3 tyX3_ok nmX3 hown hK hP hD hS 0 rfl rfl 13 (by decide) (hts _ q1671) (fun _ h9 => h9) rfl (by decide +kernel) rfl rfl (Nat.le_of_ble_eq_true rfl) dX3_wrong_18 (fun H locs hP hD hS => ?_)
    have hP : va_P G.2.1 vwCl (mW h0 ad G.2.2 c_code c_now c_read c_status c_tape c_taped c_at c_textSize c_token c_number c_begins c_stops v1 c_begins c_faultPlace c_clauses c_naming c_lineBy c_becomes c_dualLines c_on c_rowNow c_least c_wayFirst c_ways c_acts c_past c_listPoints c_listLines c_listed c_list c_path c_places c_firstPlaces c_px c_py c_pz c_placeMany c_modulus c_drawn c_halvesMany c_halvesFirst c_spreadsMany c_spreadsFirst c_comesTo c_seedNow c_rowThen c_hasImage c_actsThen c_imageRow c_pastThen c_statusThen) H := hP
    have hD : va_D A (mW h0 ad G.2.2 c_code c_now c_read c_status c_tape c_taped c_at c_textSize c_token c_number c_begins c_stops v1 c_begins c_faultPlace c_clauses c_naming c_lineBy c_becomes c_dualLines c_on c_rowNow c_least c_wayFirst c_ways c_acts c_past c_listPoints c_listLines c_listed c_list c_path c_places c_firstPlaces c_px c_py c_pz c_placeMany c_modulus c_drawn c_halvesMany c_halvesFirst c_spreadsMany c_spreadsFirst c_comesTo c_seedNow c_rowThen c_hasImage c_actsThen c_imageRow c_pastThen c_statusThen) := hD
    obtain rfl := Option.some.inj h
    exact hretv rfl dX3_wrong_21 rfl hP hD hS
  · rw [if_neg c1] at h
    obtain rfl := Option.some.inj h
    exact hretv rfl dX3_wrong_7 rfl hP hD hS
def F_X3_numberNow (N : Nat) (v1 : Int32) (v2 : Int32) (c_token : Int32) (c_number : Int32) (c_begins : Int32) (c_stops : Int32) (c_bad : Int32) (c_badPlace : Int32) : Option (Int32 × Int32 × Int32) := (if c_bad = 0 then (if c_token = 2 then (if 1 < (c_stops - c_begins) then ((F_X3_wrong N 2 c_begins c_bad c_badPlace).bind fun y4 => (if y4.1 = 0 then (some (c_number, y4.1, y4.2)) else (some (v1, y4.1, y4.2)))) else (if c_number < v1 then ((F_X3_wrong N 2 c_begins c_bad c_badPlace).bind fun y9 => (if y9.1 = 0 then (some (c_number, y9.1, y9.2)) else (some (v1, y9.1, y9.2)))) else (if c_number ≤ v2 then (if c_bad = 0 then (some (c_number, c_bad, c_badPlace)) else (some (v1, c_bad, c_badPlace))) else ((F_X3_wrong N 2 c_begins c_bad c_badPlace).bind fun y17 => (if y17.1 = 0 then (some (c_number, y17.1, y17.2)) else (some (v1, y17.1, y17.2))))))) else ((F_X3_wrong N 1 c_begins c_bad c_badPlace).bind fun y21 => (if y21.1 = 0 then (some (c_number, y21.1, y21.2)) else (some (v1, y21.1, y21.2))))) else (some (v1, c_bad, c_badPlace)))
theorem cw_X3_numberNow {R : Room} {s : State} {args : Array Value} {own : String} {index lev mc ms : Nat} (hts : ∀ w ∈ lw_all, w.before args s = true) (hl : Cond.methodLink own index yX3_numberNow ∈ lw_all) (hR : (rmL lev mc ms).frames + 1 ≤ R.frames ∧ 8 + (3 + 11) + (rmL lev mc ms).locals ≤ R.locals) : CallW R s args own RX3 index yX3_numberNow cX3_numberNow 3 (some .int) (ws_ yX3_numberNow cX3_numberNow 3 (some .int)) (rmL lev mc ms) mc ms 2 := cwV 2 hts (lw_V hl q1878 qs78 q172 q1879) rfl rfl rfl (by decide +kernel) hR
set_option maxHeartbeats 4000000 in
theorem M_X3_numberNow {l : Launch} {G : GE} (hG : GC G) {N : Nat} {h0 : Nat} {ad : Nat → Nat} {c_code : Int32} {c_now : (Nat → Int32)} {c_read : (Nat → Int32)} {c_status : (Nat → Int32)} {c_tape : (Nat → Int32)} {c_taped : Int32} {c_at : Int32} {c_textSize : Int32} {c_faultPlace : Int32} {c_clauses : Int32} {c_naming : (Nat → Int32)} {c_lineBy : (Nat → Int32)} {c_becomes : (Nat → Int32)} {c_dualLines : (Nat → Int32)} {c_on : (Nat → Int32)} {c_rowNow : (Nat → Int32)} {c_least : (Nat → Int32)} {c_wayFirst : (Nat → Int32)} {c_ways : Int32} {c_acts : Int32} {c_past : (Nat → Int32)} {c_listPoints : Int32} {c_listLines : Int32} {c_listed : Int32} {c_list : (Nat → Int32)} {c_path : (Nat → Int32)} {c_places : (Nat → Int32)} {c_firstPlaces : (Nat → Int32)} {c_px : (Nat → Int32)} {c_py : (Nat → Int32)} {c_pz : (Nat → Int32)} {c_placeMany : Int32} {c_modulus : Int32} {c_drawn : Int32} {c_halvesMany : Int32} {c_halvesFirst : Int32} {c_spreadsMany : Int32} {c_spreadsFirst : Int32} {c_comesTo : (Nat → Int32)} {c_seedNow : Int32} {c_rowThen : (Nat → Int32)} {c_hasImage : Int32} {c_actsThen : Int32} {c_imageRow : (Nat → Int32)} {c_pastThen : (Nat → Int32)} {c_statusThen : (Nat → Int32)} {v1 : Int32} {v2 : Int32} {c_token : Int32} {c_number : Int32} {c_begins : Int32} {c_stops : Int32} {c_bad : Int32} {c_badPlace : Int32} {ρ : (Int32 × Int32 × Int32)} (h : F_X3_numberNow N v1 v2 c_token c_number c_begins c_stops c_bad c_badPlace = some ρ) : MW l G yX3_numberNow cX3_numberNow 3 (some .int) 2 (mW h0 ad G.2.2 c_code c_now c_read c_status c_tape c_taped c_at c_textSize c_token c_number c_begins c_stops c_bad c_badPlace c_faultPlace c_clauses c_naming c_lineBy c_becomes c_dualLines c_on c_rowNow c_least c_wayFirst c_ways c_acts c_past c_listPoints c_listLines c_listed c_list c_path c_places c_firstPlaces c_px c_py c_pz c_placeMany c_modulus c_drawn c_halvesMany c_halvesFirst c_spreadsMany c_spreadsFirst c_comesTo c_seedNow c_rowThen c_hasImage c_actsThen c_imageRow c_pastThen c_statusThen) [.ref h0, .int v1, .int v2] (some (.int ρ.1)) (mW h0 ad G.2.2 c_code c_now c_read c_status c_tape c_taped c_at c_textSize c_token c_number c_begins c_stops ρ.2.1 ρ.2.2 c_faultPlace c_clauses c_naming c_lineBy c_becomes c_dualLines c_on c_rowNow c_least c_wayFirst c_ways c_acts c_past c_listPoints c_listLines c_listed c_list c_path c_places c_firstPlaces c_px c_py c_pz c_placeMany c_modulus c_drawn c_halvesMany c_halvesFirst c_spreadsMany c_spreadsFirst c_comesTo c_seedNow c_rowThen c_hasImage c_actsThen c_imageRow c_pastThen c_statusThen) := by
  rw [F_X3_numberNow] at h
  refine MW.start hG (by decide) (Nat.le_of_ble_eq_true rfl) ?_
  intro p e s m args below meth c Q A S hW0 hK hP hD hA hreti hretv ls hl
  have hS : va_S A s.heap s.heap [] := va_S.rf
  obtain ⟨hx, hb, hml, hown, hts⟩ := id S
  have hl : lv_has ls 3 [(0, .ref h0), (1, .int v1), (2, .int v2)] := hl
  refine lv_aload_n hx hb dX3_numberNow_0 rfl (lv_at hl 0 rfl) ?_
  refine va_get (ci := 2) (v := .int c_bad) (C := RX3) (T := TX3) (N := 52) hx hb hts in_X3 hown hK hP 0 rfl rfl 12 (by decide) (hts _ q1670) (fun _ h9 => h9) rfl dX3_numberNow_1 ?_
  refine lv_if_eq (tgt := 9) hx hb dX3_numberNow_4 (by decide) (fun c1 => ?_) (fun c1 => ?_)
  · rw [if_pos c1] at h
    refine lv_aload_n hx hb dX3_numberNow_9 rfl (lv_at hl 0 rfl) ?_
    refine va_get (ci := 2) (v := .int c_token) (C := RX3) (T := TX3) (N := 52) hx hb hts in_X3 hown hK hP 0 rfl rfl 8 (by decide) (hts _ q1666) (fun _ h9 => h9) rfl dX3_numberNow_10 ?_
    refine lv_iconst (v := 2) hx hb dX3_numberNow_13 (by decide) ?_
    refine lv_icmp_eq (tgt := 25) hx hb dX3_numberNow_14 (by decide) (fun c2 => ?_) (fun c2 => ?_)
    · rw [if_pos c2] at h
      refine lv_aload_n hx hb dX3_numberNow_25 rfl (lv_at hl 0 rfl) ?_
      refine va_get (ci := 2) (v := .int c_stops) (C := RX3) (T := TX3) (N := 52) hx hb hts in_X3 hown hK hP 0 rfl rfl 11 (by decide) (hts _ q1669) (fun _ h9 => h9) rfl dX3_numberNow_26 ?_
      refine lv_aload_n hx hb dX3_numberNow_29 rfl (lv_at hl 0 rfl) ?_
      refine va_get (ci := 2) (v := .int c_begins) (C := RX3) (T := TX3) (N := 52) hx hb hts in_X3 hown hK hP 0 rfl rfl 10 (by decide) (hts _ q1668) (fun _ h9 => h9) rfl dX3_numberNow_30 ?_
      refine lv_isub hx hb dX3_numberNow_33 ?_
      refine lv_iconst (v := 1) hx hb dX3_numberNow_34 (by decide) ?_
      refine lv_icmp_gt (tgt := 54) hx hb dX3_numberNow_35 (by decide) (fun c3 => ?_) (fun c3 => ?_)
      · rw [if_pos c3] at h
        refine lv_aload_n hx hb dX3_numberNow_54 rfl (lv_at hl 0 rfl) ?_
        refine lv_iconst (v := 2) hx hb dX3_numberNow_55 (by decide) ?_
        obtain ⟨y4, e4, h⟩ := ob_s h
        refine MW.callV (q0 := 0) (M_X3_wrong hG e4) S (cw_X3_wrong hts q1868 ⟨Nat.le_of_ble_eq_true rfl, Nat.le_of_ble_eq_true rfl⟩) hW0 hK hP hD hS hA rfl rfl rfl hl.1 rfl (Nat.le_of_ble_eq_true rfl) dX3_numberNow_56 ⟨Nat.zero_le _, Nat.zero_le _⟩ (fun H locs hP hD hS => ?_)
        have hP : va_P G.2.1 vwCl (mW h0 ad G.2.2 c_code c_now c_read c_status c_tape c_taped c_at c_textSize c_token c_number c_begins c_stops y4.1 y4.2 c_faultPlace c_clauses c_naming c_lineBy c_becomes c_dualLines c_on c_rowNow c_least c_wayFirst c_ways c_acts c_past c_listPoints c_listLines c_listed c_list c_path c_places c_firstPlaces c_px c_py c_pz c_placeMany c_modulus c_drawn c_halvesMany c_halvesFirst c_spreadsMany c_spreadsFirst c_comesTo c_seedNow c_rowThen c_hasImage c_actsThen c_imageRow c_pastThen c_statusThen) H := hP
        have hD : va_D A (mW h0 ad G.2.2 c_code c_now c_read c_status c_tape c_taped c_at c_textSize c_token c_number c_begins c_stops y4.1 y4.2 c_faultPlace c_clauses c_naming c_lineBy c_becomes c_dualLines c_on c_rowNow c_least c_wayFirst c_ways c_acts c_past c_listPoints c_listLines c_listed c_list c_path c_places c_firstPlaces c_px c_py c_pz c_placeMany c_modulus c_drawn c_halvesMany c_halvesFirst c_spreadsMany c_spreadsFirst c_comesTo c_seedNow c_rowThen c_hasImage c_actsThen c_imageRow c_pastThen c_statusThen) := hD
        refine W.eq (g2 := F0 m 59 ls []) rfl ?_
        refine lv_aload_n hx hb dX3_numberNow_59 rfl (lv_at hl 0 rfl) ?_
        refine va_get (ci := 2) (v := .int y4.1) (C := RX3) (T := TX3) (N := 52) hx hb hts in_X3 hown hK hP 0 rfl rfl 12 (by decide) (hts _ q1670) (fun _ h9 => h9) rfl dX3_numberNow_60 ?_
        refine lv_if_ne (tgt := 73) hx hb dX3_numberNow_63 (by decide) (fun c5 => ?_) (fun c5 => ?_)
        · rw [if_neg c5] at h
          refine lv_iload_n hx hb dX3_numberNow_73 rfl (lv_at hl 1 rfl) ?_
          obtain rfl := Option.some.inj h
          exact hreti rfl dX3_numberNow_74 rfl rfl hP hD hS
        · rw [if_pos c5] at h
          refine lv_aload_n hx hb dX3_numberNow_66 rfl (lv_at hl 0 rfl) ?_
          refine va_get (ci := 2) (v := .int c_number) (C := RX3) (T := TX3) (N := 52) hx hb hts in_X3 hown hK hP 0 rfl rfl 9 (by decide) (hts _ q1667) (fun _ h9 => h9) rfl dX3_numberNow_67 ?_
          refine lv_goto (tgt := 74) hx hb dX3_numberNow_70 (by decide) ?_
          obtain rfl := Option.some.inj h
          exact hreti rfl dX3_numberNow_74 rfl rfl hP hD hS
      · rw [if_neg c3] at h
        refine lv_aload_n hx hb dX3_numberNow_38 rfl (lv_at hl 0 rfl) ?_
        refine va_get (ci := 2) (v := .int c_number) (C := RX3) (T := TX3) (N := 52) hx hb hts in_X3 hown hK hP 0 rfl rfl 9 (by decide) (hts _ q1667) (fun _ h9 => h9) rfl dX3_numberNow_39 ?_
        refine lv_iload_n hx hb dX3_numberNow_42 rfl (lv_at hl 1 rfl) ?_
        refine lv_icmp_lt (tgt := 54) hx hb dX3_numberNow_43 (by decide) (fun c8 => ?_) (fun c8 => ?_)
        · rw [if_pos c8] at h
          refine lv_aload_n hx hb dX3_numberNow_54 rfl (lv_at hl 0 rfl) ?_
          refine lv_iconst (v := 2) hx hb dX3_numberNow_55 (by decide) ?_
          obtain ⟨y9, e9, h⟩ := ob_s h
          refine MW.callV (q0 := 0) (M_X3_wrong hG e9) S (cw_X3_wrong hts q1868 ⟨Nat.le_of_ble_eq_true rfl, Nat.le_of_ble_eq_true rfl⟩) hW0 hK hP hD hS hA rfl rfl rfl hl.1 rfl (Nat.le_of_ble_eq_true rfl) dX3_numberNow_56 ⟨Nat.zero_le _, Nat.zero_le _⟩ (fun H locs hP hD hS => ?_)
          have hP : va_P G.2.1 vwCl (mW h0 ad G.2.2 c_code c_now c_read c_status c_tape c_taped c_at c_textSize c_token c_number c_begins c_stops y9.1 y9.2 c_faultPlace c_clauses c_naming c_lineBy c_becomes c_dualLines c_on c_rowNow c_least c_wayFirst c_ways c_acts c_past c_listPoints c_listLines c_listed c_list c_path c_places c_firstPlaces c_px c_py c_pz c_placeMany c_modulus c_drawn c_halvesMany c_halvesFirst c_spreadsMany c_spreadsFirst c_comesTo c_seedNow c_rowThen c_hasImage c_actsThen c_imageRow c_pastThen c_statusThen) H := hP
          have hD : va_D A (mW h0 ad G.2.2 c_code c_now c_read c_status c_tape c_taped c_at c_textSize c_token c_number c_begins c_stops y9.1 y9.2 c_faultPlace c_clauses c_naming c_lineBy c_becomes c_dualLines c_on c_rowNow c_least c_wayFirst c_ways c_acts c_past c_listPoints c_listLines c_listed c_list c_path c_places c_firstPlaces c_px c_py c_pz c_placeMany c_modulus c_drawn c_halvesMany c_halvesFirst c_spreadsMany c_spreadsFirst c_comesTo c_seedNow c_rowThen c_hasImage c_actsThen c_imageRow c_pastThen c_statusThen) := hD
          refine W.eq (g2 := F0 m 59 ls []) rfl ?_
          refine lv_aload_n hx hb dX3_numberNow_59 rfl (lv_at hl 0 rfl) ?_
          refine va_get (ci := 2) (v := .int y9.1) (C := RX3) (T := TX3) (N := 52) hx hb hts in_X3 hown hK hP 0 rfl rfl 12 (by decide) (hts _ q1670) (fun _ h9 => h9) rfl dX3_numberNow_60 ?_
          refine lv_if_ne (tgt := 73) hx hb dX3_numberNow_63 (by decide) (fun c10 => ?_) (fun c10 => ?_)
          · rw [if_neg c10] at h
            refine lv_iload_n hx hb dX3_numberNow_73 rfl (lv_at hl 1 rfl) ?_
            obtain rfl := Option.some.inj h
            exact hreti rfl dX3_numberNow_74 rfl rfl hP hD hS
          · rw [if_pos c10] at h
            refine lv_aload_n hx hb dX3_numberNow_66 rfl (lv_at hl 0 rfl) ?_
            refine va_get (ci := 2) (v := .int c_number) (C := RX3) (T := TX3) (N := 52) hx hb hts in_X3 hown hK hP 0 rfl rfl 9 (by decide) (hts _ q1667) (fun _ h9 => h9) rfl dX3_numberNow_67 ?_
            refine lv_goto (tgt := 74) hx hb dX3_numberNow_70 (by decide) ?_
            obtain rfl := Option.some.inj h
            exact hreti rfl dX3_numberNow_74 rfl rfl hP hD hS
        · rw [if_neg c8] at h
          refine lv_aload_n hx hb dX3_numberNow_46 rfl (lv_at hl 0 rfl) ?_
          refine va_get (ci := 2) (v := .int c_number) (C := RX3) (T := TX3) (N := 52) hx hb hts in_X3 hown hK hP 0 rfl rfl 9 (by decide) (hts _ q1667) (fun _ h9 => h9) rfl dX3_numberNow_47 ?_
          refine lv_iload_n hx hb dX3_numberNow_50 rfl (lv_at hl 2 rfl) ?_
          refine lv_icmp_le (tgt := 59) hx hb dX3_numberNow_51 (by decide) (fun c13 => ?_) (fun c13 => ?_)
          · rw [if_pos c13] at h
            refine lv_aload_n hx hb dX3_numberNow_59 rfl (lv_at hl 0 rfl) ?_
            refine va_get (ci := 2) (v := .int c_bad) (C := RX3) (T := TX3) (N := 52) hx hb hts in_X3 hown hK hP 0 rfl rfl 12 (by decide) (hts _ q1670) (fun _ h9 => h9) rfl dX3_numberNow_60 ?_
            refine lv_if_ne (tgt := 73) hx hb dX3_numberNow_63 (by decide) (fun c14 => ?_) (fun c14 => ?_)
            · rw [if_neg c14] at h
              refine lv_iload_n hx hb dX3_numberNow_73 rfl (lv_at hl 1 rfl) ?_
              obtain rfl := Option.some.inj h
              exact hreti rfl dX3_numberNow_74 rfl rfl hP hD hS
            · rw [if_pos c14] at h
              refine lv_aload_n hx hb dX3_numberNow_66 rfl (lv_at hl 0 rfl) ?_
              refine va_get (ci := 2) (v := .int c_number) (C := RX3) (T := TX3) (N := 52) hx hb hts in_X3 hown hK hP 0 rfl rfl 9 (by decide) (hts _ q1667) (fun _ h9 => h9) rfl dX3_numberNow_67 ?_
              refine lv_goto (tgt := 74) hx hb dX3_numberNow_70 (by decide) ?_
              obtain rfl := Option.some.inj h
              exact hreti rfl dX3_numberNow_74 rfl rfl hP hD hS
          · rw [if_neg c13] at h
            refine lv_aload_n hx hb dX3_numberNow_54 rfl (lv_at hl 0 rfl) ?_
            refine lv_iconst (v := 2) hx hb dX3_numberNow_55 (by decide) ?_
            obtain ⟨y17, e17, h⟩ := ob_s h
            refine MW.callV (q0 := 0) (M_X3_wrong hG e17) S (cw_X3_wrong hts q1868 ⟨Nat.le_of_ble_eq_true rfl, Nat.le_of_ble_eq_true rfl⟩) hW0 hK hP hD hS hA rfl rfl rfl hl.1 rfl (Nat.le_of_ble_eq_true rfl) dX3_numberNow_56 ⟨Nat.zero_le _, Nat.zero_le _⟩ (fun H locs hP hD hS => ?_)
            have hP : va_P G.2.1 vwCl (mW h0 ad G.2.2 c_code c_now c_read c_status c_tape c_taped c_at c_textSize c_token c_number c_begins c_stops y17.1 y17.2 c_faultPlace c_clauses c_naming c_lineBy c_becomes c_dualLines c_on c_rowNow c_least c_wayFirst c_ways c_acts c_past c_listPoints c_listLines c_listed c_list c_path c_places c_firstPlaces c_px c_py c_pz c_placeMany c_modulus c_drawn c_halvesMany c_halvesFirst c_spreadsMany c_spreadsFirst c_comesTo c_seedNow c_rowThen c_hasImage c_actsThen c_imageRow c_pastThen c_statusThen) H := hP
            have hD : va_D A (mW h0 ad G.2.2 c_code c_now c_read c_status c_tape c_taped c_at c_textSize c_token c_number c_begins c_stops y17.1 y17.2 c_faultPlace c_clauses c_naming c_lineBy c_becomes c_dualLines c_on c_rowNow c_least c_wayFirst c_ways c_acts c_past c_listPoints c_listLines c_listed c_list c_path c_places c_firstPlaces c_px c_py c_pz c_placeMany c_modulus c_drawn c_halvesMany c_halvesFirst c_spreadsMany c_spreadsFirst c_comesTo c_seedNow c_rowThen c_hasImage c_actsThen c_imageRow c_pastThen c_statusThen) := hD
            refine W.eq (g2 := F0 m 59 ls []) rfl ?_
            refine lv_aload_n hx hb dX3_numberNow_59 rfl (lv_at hl 0 rfl) ?_
            refine va_get (ci := 2) (v := .int y17.1) (C := RX3) (T := TX3) (N := 52) hx hb hts in_X3 hown hK hP 0 rfl rfl 12 (by decide) (hts _ q1670) (fun _ h9 => h9) rfl dX3_numberNow_60 ?_
            refine lv_if_ne (tgt := 73) hx hb dX3_numberNow_63 (by decide) (fun c18 => ?_) (fun c18 => ?_)
            · rw [if_neg c18] at h
              refine lv_iload_n hx hb dX3_numberNow_73 rfl (lv_at hl 1 rfl) ?_
              obtain rfl := Option.some.inj h
              exact hreti rfl dX3_numberNow_74 rfl rfl hP hD hS
            · rw [if_pos c18] at h
              refine lv_aload_n hx hb dX3_numberNow_66 rfl (lv_at hl 0 rfl) ?_
              refine va_get (ci := 2) (v := .int c_number) (C := RX3) (T := TX3) (N := 52) hx hb hts in_X3 hown hK hP 0 rfl rfl 9 (by decide) (hts _ q1667) (fun _ h9 => h9) rfl dX3_numberNow_67 ?_
              refine lv_goto (tgt := 74) hx hb dX3_numberNow_70 (by decide) ?_
              obtain rfl := Option.some.inj h
              exact hreti rfl dX3_numberNow_74 rfl rfl hP hD hS
    · rw [if_neg c2] at h
      refine lv_aload_n hx hb dX3_numberNow_17 rfl (lv_at hl 0 rfl) ?_
      refine lv_iconst (v := 1) hx hb dX3_numberNow_18 (by decide) ?_
      obtain ⟨y21, e21, h⟩ := ob_s h
      refine MW.callV (q0 := 0) (M_X3_wrong hG e21) S (cw_X3_wrong hts q1868 ⟨Nat.le_of_ble_eq_true rfl, Nat.le_of_ble_eq_true rfl⟩) hW0 hK hP hD hS hA rfl rfl rfl hl.1 rfl (Nat.le_of_ble_eq_true rfl) dX3_numberNow_19 ⟨Nat.zero_le _, Nat.zero_le _⟩ (fun H locs hP hD hS => ?_)
      have hP : va_P G.2.1 vwCl (mW h0 ad G.2.2 c_code c_now c_read c_status c_tape c_taped c_at c_textSize c_token c_number c_begins c_stops y21.1 y21.2 c_faultPlace c_clauses c_naming c_lineBy c_becomes c_dualLines c_on c_rowNow c_least c_wayFirst c_ways c_acts c_past c_listPoints c_listLines c_listed c_list c_path c_places c_firstPlaces c_px c_py c_pz c_placeMany c_modulus c_drawn c_halvesMany c_halvesFirst c_spreadsMany c_spreadsFirst c_comesTo c_seedNow c_rowThen c_hasImage c_actsThen c_imageRow c_pastThen c_statusThen) H := hP
      have hD : va_D A (mW h0 ad G.2.2 c_code c_now c_read c_status c_tape c_taped c_at c_textSize c_token c_number c_begins c_stops y21.1 y21.2 c_faultPlace c_clauses c_naming c_lineBy c_becomes c_dualLines c_on c_rowNow c_least c_wayFirst c_ways c_acts c_past c_listPoints c_listLines c_listed c_list c_path c_places c_firstPlaces c_px c_py c_pz c_placeMany c_modulus c_drawn c_halvesMany c_halvesFirst c_spreadsMany c_spreadsFirst c_comesTo c_seedNow c_rowThen c_hasImage c_actsThen c_imageRow c_pastThen c_statusThen) := hD
      refine W.eq (g2 := F0 m 22 ls []) rfl ?_
      refine lv_goto (tgt := 59) hx hb dX3_numberNow_22 (by decide) ?_
      refine lv_aload_n hx hb dX3_numberNow_59 rfl (lv_at hl 0 rfl) ?_
      refine va_get (ci := 2) (v := .int y21.1) (C := RX3) (T := TX3) (N := 52) hx hb hts in_X3 hown hK hP 0 rfl rfl 12 (by decide) (hts _ q1670) (fun _ h9 => h9) rfl dX3_numberNow_60 ?_
      refine lv_if_ne (tgt := 73) hx hb dX3_numberNow_63 (by decide) (fun c22 => ?_) (fun c22 => ?_)
      · rw [if_neg c22] at h
        refine lv_iload_n hx hb dX3_numberNow_73 rfl (lv_at hl 1 rfl) ?_
        obtain rfl := Option.some.inj h
        exact hreti rfl dX3_numberNow_74 rfl rfl hP hD hS
      · rw [if_pos c22] at h
        refine lv_aload_n hx hb dX3_numberNow_66 rfl (lv_at hl 0 rfl) ?_
        refine va_get (ci := 2) (v := .int c_number) (C := RX3) (T := TX3) (N := 52) hx hb hts in_X3 hown hK hP 0 rfl rfl 9 (by decide) (hts _ q1667) (fun _ h9 => h9) rfl dX3_numberNow_67 ?_
        refine lv_goto (tgt := 74) hx hb dX3_numberNow_70 (by decide) ?_
        obtain rfl := Option.some.inj h
        exact hreti rfl dX3_numberNow_74 rfl rfl hP hD hS
  · rw [if_neg c1] at h
    refine lv_iload_n hx hb dX3_numberNow_7 rfl (lv_at hl 1 rfl) ?_
    obtain rfl := Option.some.inj h
    exact hreti rfl dX3_numberNow_8 rfl rfl hP hD hS
def F_X3_readNumber (N : Nat) (v1 : Int32) (v2 : Int32) (c_tape : (Nat → Int32)) (c_at : Int32) (c_textSize : Int32) (c_token : Int32) (c_number : Int32) (c_begins : Int32) (c_stops : Int32) (c_bad : Int32) (c_badPlace : Int32) : Option (Int32 × Int32 × Int32 × Int32 × Int32 × Int32 × Int32 × Int32) := ((F_X3_numberNow N v1 v2 c_token c_number c_begins c_stops c_bad c_badPlace).bind fun y1 => (if y1.2.1 = 0 then ((F_X3_stepOn N c_tape c_at c_textSize c_token c_number c_begins c_stops).bind fun y4 => (some (y1.1, y4.1, y4.2.1, y4.2.2.1, y4.2.2.2.1, y4.2.2.2.2, y1.2.1, y1.2.2))) else (some (y1.1, c_at, c_token, c_number, c_begins, c_stops, y1.2.1, y1.2.2))))
theorem cw_X3_readNumber {R : Room} {s : State} {args : Array Value} {own : String} {index lev mc ms : Nat} (hts : ∀ w ∈ lw_all, w.before args s = true) (hl : Cond.methodLink own index yX3_readNumber ∈ lw_all) (hR : (rmL lev mc ms).frames + 1 ≤ R.frames ∧ 8 + (4 + 11) + (rmL lev mc ms).locals ≤ R.locals) : CallW R s args own RX3 index yX3_readNumber cX3_readNumber 4 (some .int) (ws_ yX3_readNumber cX3_readNumber 4 (some .int)) (rmL lev mc ms) mc ms 2 := cwV 2 hts (lw_V hl q1874 qs77 q172 q1875) rfl rfl rfl (by decide +kernel) hR
set_option maxHeartbeats 4000000 in
theorem M_X3_readNumber {l : Launch} {G : GE} (hG : GC G) {N : Nat} {h0 : Nat} {ad : Nat → Nat} {c_code : Int32} {c_now : (Nat → Int32)} {c_read : (Nat → Int32)} {c_status : (Nat → Int32)} {c_taped : Int32} {c_faultPlace : Int32} {c_clauses : Int32} {c_naming : (Nat → Int32)} {c_lineBy : (Nat → Int32)} {c_becomes : (Nat → Int32)} {c_dualLines : (Nat → Int32)} {c_on : (Nat → Int32)} {c_rowNow : (Nat → Int32)} {c_least : (Nat → Int32)} {c_wayFirst : (Nat → Int32)} {c_ways : Int32} {c_acts : Int32} {c_past : (Nat → Int32)} {c_listPoints : Int32} {c_listLines : Int32} {c_listed : Int32} {c_list : (Nat → Int32)} {c_path : (Nat → Int32)} {c_places : (Nat → Int32)} {c_firstPlaces : (Nat → Int32)} {c_px : (Nat → Int32)} {c_py : (Nat → Int32)} {c_pz : (Nat → Int32)} {c_placeMany : Int32} {c_modulus : Int32} {c_drawn : Int32} {c_halvesMany : Int32} {c_halvesFirst : Int32} {c_spreadsMany : Int32} {c_spreadsFirst : Int32} {c_comesTo : (Nat → Int32)} {c_seedNow : Int32} {c_rowThen : (Nat → Int32)} {c_hasImage : Int32} {c_actsThen : Int32} {c_imageRow : (Nat → Int32)} {c_pastThen : (Nat → Int32)} {c_statusThen : (Nat → Int32)} {v1 : Int32} {v2 : Int32} {c_tape : (Nat → Int32)} {c_at : Int32} {c_textSize : Int32} {c_token : Int32} {c_number : Int32} {c_begins : Int32} {c_stops : Int32} {c_bad : Int32} {c_badPlace : Int32} {ρ : (Int32 × Int32 × Int32 × Int32 × Int32 × Int32 × Int32 × Int32)} (h : F_X3_readNumber N v1 v2 c_tape c_at c_textSize c_token c_number c_begins c_stops c_bad c_badPlace = some ρ) : MW l G yX3_readNumber cX3_readNumber 4 (some .int) 3 (mW h0 ad G.2.2 c_code c_now c_read c_status c_tape c_taped c_at c_textSize c_token c_number c_begins c_stops c_bad c_badPlace c_faultPlace c_clauses c_naming c_lineBy c_becomes c_dualLines c_on c_rowNow c_least c_wayFirst c_ways c_acts c_past c_listPoints c_listLines c_listed c_list c_path c_places c_firstPlaces c_px c_py c_pz c_placeMany c_modulus c_drawn c_halvesMany c_halvesFirst c_spreadsMany c_spreadsFirst c_comesTo c_seedNow c_rowThen c_hasImage c_actsThen c_imageRow c_pastThen c_statusThen) [.ref h0, .int v1, .int v2] (some (.int ρ.1)) (mW h0 ad G.2.2 c_code c_now c_read c_status c_tape c_taped ρ.2.1 c_textSize ρ.2.2.1 ρ.2.2.2.1 ρ.2.2.2.2.1 ρ.2.2.2.2.2.1 ρ.2.2.2.2.2.2.1 ρ.2.2.2.2.2.2.2 c_faultPlace c_clauses c_naming c_lineBy c_becomes c_dualLines c_on c_rowNow c_least c_wayFirst c_ways c_acts c_past c_listPoints c_listLines c_listed c_list c_path c_places c_firstPlaces c_px c_py c_pz c_placeMany c_modulus c_drawn c_halvesMany c_halvesFirst c_spreadsMany c_spreadsFirst c_comesTo c_seedNow c_rowThen c_hasImage c_actsThen c_imageRow c_pastThen c_statusThen) := by
  rw [F_X3_readNumber] at h
  refine MW.start hG (by decide) (Nat.le_of_ble_eq_true rfl) ?_
  intro p e s m args below meth c Q A S hW0 hK hP hD hA hreti hretv ls hl
  have hS : va_S A s.heap s.heap [] := va_S.rf
  obtain ⟨hx, hb, hml, hown, hts⟩ := id S
  have hl : lv_has ls 4 [(0, .ref h0), (1, .int v1), (2, .int v2)] := hl
  refine lv_aload_n hx hb dX3_readNumber_0 rfl (lv_at hl 0 rfl) ?_
  refine lv_iload_n hx hb dX3_readNumber_1 rfl (lv_at hl 1 rfl) ?_
  refine lv_iload_n hx hb dX3_readNumber_2 rfl (lv_at hl 2 rfl) ?_
  obtain ⟨y1, e1, h⟩ := ob_s h
  refine MW.callV (q0 := 0) (M_X3_numberNow hG e1) S (cw_X3_numberNow hts q1876 ⟨Nat.le_of_ble_eq_true rfl, Nat.le_of_ble_eq_true rfl⟩) hW0 hK hP hD hS hA rfl rfl rfl hl.1 rfl (Nat.le_of_ble_eq_true rfl) dX3_readNumber_3 ⟨Nat.zero_le _, Nat.zero_le _⟩ (fun H locs hP hD hS => ?_)
  have hP : va_P G.2.1 vwCl (mW h0 ad G.2.2 c_code c_now c_read c_status c_tape c_taped c_at c_textSize c_token c_number c_begins c_stops y1.2.1 y1.2.2 c_faultPlace c_clauses c_naming c_lineBy c_becomes c_dualLines c_on c_rowNow c_least c_wayFirst c_ways c_acts c_past c_listPoints c_listLines c_listed c_list c_path c_places c_firstPlaces c_px c_py c_pz c_placeMany c_modulus c_drawn c_halvesMany c_halvesFirst c_spreadsMany c_spreadsFirst c_comesTo c_seedNow c_rowThen c_hasImage c_actsThen c_imageRow c_pastThen c_statusThen) H := hP
  have hD : va_D A (mW h0 ad G.2.2 c_code c_now c_read c_status c_tape c_taped c_at c_textSize c_token c_number c_begins c_stops y1.2.1 y1.2.2 c_faultPlace c_clauses c_naming c_lineBy c_becomes c_dualLines c_on c_rowNow c_least c_wayFirst c_ways c_acts c_past c_listPoints c_listLines c_listed c_list c_path c_places c_firstPlaces c_px c_py c_pz c_placeMany c_modulus c_drawn c_halvesMany c_halvesFirst c_spreadsMany c_spreadsFirst c_comesTo c_seedNow c_rowThen c_hasImage c_actsThen c_imageRow c_pastThen c_statusThen) := hD
  refine W.eq (g2 := F0 m 6 ls [.int y1.1]) rfl ?_
  refine lv_istore_n (lv' := [(3, .int y1.1), (0, .ref h0), (1, .int v1), (2, .int v2)]) hx hb dX3_readNumber_6 rfl hl (by decide) rfl (fun ls hl => ?_)
  refine lv_aload_n hx hb dX3_readNumber_7 rfl (lv_at hl 1 rfl) ?_
  refine va_get (ci := 2) (v := .int y1.2.1) (C := RX3) (T := TX3) (N := 52) hx hb hts in_X3 hown hK hP 0 rfl rfl 12 (by decide) (hts _ q1670) (fun _ h9 => h9) rfl dX3_readNumber_8 ?_
  refine lv_if_ne (tgt := 18) hx hb dX3_readNumber_11 (by decide) (fun c2 => ?_) (fun c2 => ?_)
  · rw [if_neg c2] at h
    refine lv_iload_n hx hb dX3_readNumber_18 rfl (lv_at hl 0 rfl) ?_
    obtain rfl := Option.some.inj h
    exact hreti rfl dX3_readNumber_19 rfl rfl hP hD hS
  · rw [if_pos c2] at h
    refine lv_aload_n hx hb dX3_readNumber_14 rfl (lv_at hl 1 rfl) ?_
    obtain ⟨y4, e4, h⟩ := ob_s h
    refine MW.callV (q0 := 0) (M_X3_stepOn hG e4) S (cw_X3_stepOn hts q1831 ⟨Nat.le_of_ble_eq_true rfl, Nat.le_of_ble_eq_true rfl⟩) hW0 hK hP hD hS hA rfl rfl rfl hl.1 rfl (Nat.le_of_ble_eq_true rfl) dX3_readNumber_15 ⟨Nat.zero_le _, Nat.zero_le _⟩ (fun H locs hP hD hS => ?_)
    have hP : va_P G.2.1 vwCl (mW h0 ad G.2.2 c_code c_now c_read c_status c_tape c_taped y4.1 c_textSize y4.2.1 y4.2.2.1 y4.2.2.2.1 y4.2.2.2.2 y1.2.1 y1.2.2 c_faultPlace c_clauses c_naming c_lineBy c_becomes c_dualLines c_on c_rowNow c_least c_wayFirst c_ways c_acts c_past c_listPoints c_listLines c_listed c_list c_path c_places c_firstPlaces c_px c_py c_pz c_placeMany c_modulus c_drawn c_halvesMany c_halvesFirst c_spreadsMany c_spreadsFirst c_comesTo c_seedNow c_rowThen c_hasImage c_actsThen c_imageRow c_pastThen c_statusThen) H := hP
    have hD : va_D A (mW h0 ad G.2.2 c_code c_now c_read c_status c_tape c_taped y4.1 c_textSize y4.2.1 y4.2.2.1 y4.2.2.2.1 y4.2.2.2.2 y1.2.1 y1.2.2 c_faultPlace c_clauses c_naming c_lineBy c_becomes c_dualLines c_on c_rowNow c_least c_wayFirst c_ways c_acts c_past c_listPoints c_listLines c_listed c_list c_path c_places c_firstPlaces c_px c_py c_pz c_placeMany c_modulus c_drawn c_halvesMany c_halvesFirst c_spreadsMany c_spreadsFirst c_comesTo c_seedNow c_rowThen c_hasImage c_actsThen c_imageRow c_pastThen c_statusThen) := hD
    refine W.eq (g2 := F0 m 18 ls []) rfl ?_
    refine lv_iload_n hx hb dX3_readNumber_18 rfl (lv_at hl 0 rfl) ?_
    obtain rfl := Option.some.inj h
    exact hreti rfl dX3_readNumber_19 rfl rfl hP hD hS
def F_X3_pointNow (N : Nat) (c_read : (Nat → Int32)) (c_token : Int32) (c_number : Int32) (c_begins : Int32) (c_stops : Int32) (c_bad : Int32) (c_badPlace : Int32) : Option (Int32 × Int32 × Int32) := ((F_X3_numberNow N 0 9 c_token c_number c_begins c_stops c_bad c_badPlace).bind fun y1 => (if y1.2.1 = 0 then (ckI 0 30 (if y1.1 < (c_read (Int32.toNatClampNeg 0)) then (some (y1.1, y1.2.1, y1.2.2)) else ((F_X3_wrong N 3 c_begins y1.2.1 y1.2.2).bind fun y7 => (some (y1.1, y7.1, y7.2))))) else (some (y1.1, y1.2.1, y1.2.2))))
theorem cw_X3_pointNow {R : Room} {s : State} {args : Array Value} {own : String} {index lev mc ms : Nat} (hts : ∀ w ∈ lw_all, w.before args s = true) (hl : Cond.methodLink own index yX3_pointNow ∈ lw_all) (hR : (rmL lev mc ms).frames + 1 ≤ R.frames ∧ 8 + (2 + 11) + (rmL lev mc ms).locals ≤ R.locals) : CallW R s args own RX3 index yX3_pointNow cX3_pointNow 2 (some .int) (ws_ yX3_pointNow cX3_pointNow 2 (some .int)) (rmL lev mc ms) mc ms 0 := cwV 0 hts (lw_V hl q1887 qs80 q172 q1888) rfl rfl rfl (by decide +kernel) hR
set_option maxHeartbeats 4000000 in
theorem M_X3_pointNow {l : Launch} {G : GE} (hG : GC G) {N : Nat} {h0 : Nat} {ad : Nat → Nat} {c_code : Int32} {c_now : (Nat → Int32)} {c_status : (Nat → Int32)} {c_tape : (Nat → Int32)} {c_taped : Int32} {c_at : Int32} {c_textSize : Int32} {c_faultPlace : Int32} {c_clauses : Int32} {c_naming : (Nat → Int32)} {c_lineBy : (Nat → Int32)} {c_becomes : (Nat → Int32)} {c_dualLines : (Nat → Int32)} {c_on : (Nat → Int32)} {c_rowNow : (Nat → Int32)} {c_least : (Nat → Int32)} {c_wayFirst : (Nat → Int32)} {c_ways : Int32} {c_acts : Int32} {c_past : (Nat → Int32)} {c_listPoints : Int32} {c_listLines : Int32} {c_listed : Int32} {c_list : (Nat → Int32)} {c_path : (Nat → Int32)} {c_places : (Nat → Int32)} {c_firstPlaces : (Nat → Int32)} {c_px : (Nat → Int32)} {c_py : (Nat → Int32)} {c_pz : (Nat → Int32)} {c_placeMany : Int32} {c_modulus : Int32} {c_drawn : Int32} {c_halvesMany : Int32} {c_halvesFirst : Int32} {c_spreadsMany : Int32} {c_spreadsFirst : Int32} {c_comesTo : (Nat → Int32)} {c_seedNow : Int32} {c_rowThen : (Nat → Int32)} {c_hasImage : Int32} {c_actsThen : Int32} {c_imageRow : (Nat → Int32)} {c_pastThen : (Nat → Int32)} {c_statusThen : (Nat → Int32)} {c_read : (Nat → Int32)} {c_token : Int32} {c_number : Int32} {c_begins : Int32} {c_stops : Int32} {c_bad : Int32} {c_badPlace : Int32} {ρ : (Int32 × Int32 × Int32)} (h : F_X3_pointNow N c_read c_token c_number c_begins c_stops c_bad c_badPlace = some ρ) : MW l G yX3_pointNow cX3_pointNow 2 (some .int) 3 (mW h0 ad G.2.2 c_code c_now c_read c_status c_tape c_taped c_at c_textSize c_token c_number c_begins c_stops c_bad c_badPlace c_faultPlace c_clauses c_naming c_lineBy c_becomes c_dualLines c_on c_rowNow c_least c_wayFirst c_ways c_acts c_past c_listPoints c_listLines c_listed c_list c_path c_places c_firstPlaces c_px c_py c_pz c_placeMany c_modulus c_drawn c_halvesMany c_halvesFirst c_spreadsMany c_spreadsFirst c_comesTo c_seedNow c_rowThen c_hasImage c_actsThen c_imageRow c_pastThen c_statusThen) [.ref h0] (some (.int ρ.1)) (mW h0 ad G.2.2 c_code c_now c_read c_status c_tape c_taped c_at c_textSize c_token c_number c_begins c_stops ρ.2.1 ρ.2.2 c_faultPlace c_clauses c_naming c_lineBy c_becomes c_dualLines c_on c_rowNow c_least c_wayFirst c_ways c_acts c_past c_listPoints c_listLines c_listed c_list c_path c_places c_firstPlaces c_px c_py c_pz c_placeMany c_modulus c_drawn c_halvesMany c_halvesFirst c_spreadsMany c_spreadsFirst c_comesTo c_seedNow c_rowThen c_hasImage c_actsThen c_imageRow c_pastThen c_statusThen) := by
  rw [F_X3_pointNow] at h
  refine MW.start hG (by decide) (Nat.le_of_ble_eq_true rfl) ?_
  intro p e s m args below meth c Q A S hW0 hK hP hD hA hreti hretv ls hl
  have hS : va_S A s.heap s.heap [] := va_S.rf
  obtain ⟨hx, hb, hml, hown, hts⟩ := id S
  have hl : lv_has ls 2 [(0, .ref h0)] := hl
  refine lv_aload_n hx hb dX3_pointNow_0 rfl (lv_at hl 0 rfl) ?_
  refine lv_iconst (v := 0) hx hb dX3_pointNow_1 (by decide) ?_
  refine lv_bipush (v := 9) hx hb dX3_pointNow_2 (by decide) ?_
  obtain ⟨y1, e1, h⟩ := ob_s h
  refine MW.callV (q0 := 0) (M_X3_numberNow hG e1) S (cw_X3_numberNow hts q1876 ⟨Nat.le_of_ble_eq_true rfl, Nat.le_of_ble_eq_true rfl⟩) hW0 hK hP hD hS hA rfl rfl rfl hl.1 rfl (Nat.le_of_ble_eq_true rfl) dX3_pointNow_4 ⟨Nat.zero_le _, Nat.zero_le _⟩ (fun H locs hP hD hS => ?_)
  have hP : va_P G.2.1 vwCl (mW h0 ad G.2.2 c_code c_now c_read c_status c_tape c_taped c_at c_textSize c_token c_number c_begins c_stops y1.2.1 y1.2.2 c_faultPlace c_clauses c_naming c_lineBy c_becomes c_dualLines c_on c_rowNow c_least c_wayFirst c_ways c_acts c_past c_listPoints c_listLines c_listed c_list c_path c_places c_firstPlaces c_px c_py c_pz c_placeMany c_modulus c_drawn c_halvesMany c_halvesFirst c_spreadsMany c_spreadsFirst c_comesTo c_seedNow c_rowThen c_hasImage c_actsThen c_imageRow c_pastThen c_statusThen) H := hP
  have hD : va_D A (mW h0 ad G.2.2 c_code c_now c_read c_status c_tape c_taped c_at c_textSize c_token c_number c_begins c_stops y1.2.1 y1.2.2 c_faultPlace c_clauses c_naming c_lineBy c_becomes c_dualLines c_on c_rowNow c_least c_wayFirst c_ways c_acts c_past c_listPoints c_listLines c_listed c_list c_path c_places c_firstPlaces c_px c_py c_pz c_placeMany c_modulus c_drawn c_halvesMany c_halvesFirst c_spreadsMany c_spreadsFirst c_comesTo c_seedNow c_rowThen c_hasImage c_actsThen c_imageRow c_pastThen c_statusThen) := hD
  refine W.eq (g2 := F0 m 7 ls [.int y1.1]) rfl ?_
  refine lv_istore_n (lv' := [(1, .int y1.1), (0, .ref h0)]) hx hb dX3_pointNow_7 rfl hl (by decide) rfl (fun ls hl => ?_)
  refine lv_aload_n hx hb dX3_pointNow_8 rfl (lv_at hl 1 rfl) ?_
  refine va_get (ci := 2) (v := .int y1.2.1) (C := RX3) (T := TX3) (N := 52) hx hb hts in_X3 hown hK hP 0 rfl rfl 12 (by decide) (hts _ q1670) (fun _ h9 => h9) rfl dX3_pointNow_9 ?_
  refine lv_if_ne (tgt := 30) hx hb dX3_pointNow_12 (by decide) (fun c2 => ?_) (fun c2 => ?_)
  · rw [if_neg c2] at h
    refine lv_iload_n hx hb dX3_pointNow_30 rfl (lv_at hl 0 rfl) ?_
    obtain rfl := Option.some.inj h
    exact hreti rfl dX3_pointNow_31 rfl rfl hP hD hS
  · rw [if_pos c2] at h
    refine lv_iload_n hx hb dX3_pointNow_15 rfl (lv_at hl 0 rfl) ?_
    refine lv_aload_n hx hb dX3_pointNow_16 rfl (lv_at hl 1 rfl) ?_
    refine va_get (ci := 2) (v := .ref (ad 2)) (C := RX3) (T := TX3) (N := 52) hx hb hts in_X3 hown hK hP 0 rfl rfl 2 (by decide) (hts _ q1660) (fun _ h9 => h9) rfl dX3_pointNow_17 ?_
    refine lv_iconst (v := 0) hx hb dX3_pointNow_20 (by decide) ?_
    obtain ⟨i4, h⟩ := ckI_s h
    refine va_iald (f := c_read) hx hb hK hP 2 0 rfl rfl i4 dX3_pointNow_21 ?_
    refine lv_icmp_lt (tgt := 30) hx hb dX3_pointNow_22 (by decide) (fun c5 => ?_) (fun c5 => ?_)
    · rw [if_pos c5] at h
      refine lv_iload_n hx hb dX3_pointNow_30 rfl (lv_at hl 0 rfl) ?_
      obtain rfl := Option.some.inj h
      exact hreti rfl dX3_pointNow_31 rfl rfl hP hD hS
    · rw [if_neg c5] at h
      refine lv_aload_n hx hb dX3_pointNow_25 rfl (lv_at hl 1 rfl) ?_
      refine lv_iconst (v := 3) hx hb dX3_pointNow_26 (by decide) ?_
      obtain ⟨y7, e7, h⟩ := ob_s h
      refine MW.callV (q0 := 0) (M_X3_wrong hG e7) S (cw_X3_wrong hts q1868 ⟨Nat.le_of_ble_eq_true rfl, Nat.le_of_ble_eq_true rfl⟩) hW0 hK hP hD hS hA rfl rfl rfl hl.1 rfl (Nat.le_of_ble_eq_true rfl) dX3_pointNow_27 ⟨Nat.zero_le _, Nat.zero_le _⟩ (fun H locs hP hD hS => ?_)
      have hP : va_P G.2.1 vwCl (mW h0 ad G.2.2 c_code c_now c_read c_status c_tape c_taped c_at c_textSize c_token c_number c_begins c_stops y7.1 y7.2 c_faultPlace c_clauses c_naming c_lineBy c_becomes c_dualLines c_on c_rowNow c_least c_wayFirst c_ways c_acts c_past c_listPoints c_listLines c_listed c_list c_path c_places c_firstPlaces c_px c_py c_pz c_placeMany c_modulus c_drawn c_halvesMany c_halvesFirst c_spreadsMany c_spreadsFirst c_comesTo c_seedNow c_rowThen c_hasImage c_actsThen c_imageRow c_pastThen c_statusThen) H := hP
      have hD : va_D A (mW h0 ad G.2.2 c_code c_now c_read c_status c_tape c_taped c_at c_textSize c_token c_number c_begins c_stops y7.1 y7.2 c_faultPlace c_clauses c_naming c_lineBy c_becomes c_dualLines c_on c_rowNow c_least c_wayFirst c_ways c_acts c_past c_listPoints c_listLines c_listed c_list c_path c_places c_firstPlaces c_px c_py c_pz c_placeMany c_modulus c_drawn c_halvesMany c_halvesFirst c_spreadsMany c_spreadsFirst c_comesTo c_seedNow c_rowThen c_hasImage c_actsThen c_imageRow c_pastThen c_statusThen) := hD
      refine W.eq (g2 := F0 m 30 ls []) rfl ?_
      refine lv_iload_n hx hb dX3_pointNow_30 rfl (lv_at hl 0 rfl) ?_
      obtain rfl := Option.some.inj h
      exact hreti rfl dX3_pointNow_31 rfl rfl hP hD hS
def F_X3_isMarked (N : Nat) (v1 : Int32) (c_tape : (Nat → Int32)) (c_token : Int32) (c_begins : Int32) (c_bad : Int32) : Option (Int32) := (if c_bad = 0 then (if c_token = 3 then (ckI c_begins 400 (if (c_tape (Int32.toNatClampNeg c_begins)) = v1 then (some (1)) else (some (0)))) else (some (0))) else (some (0)))
theorem cw_X3_isMarked {R : Room} {s : State} {args : Array Value} {own : String} {index lev mc ms : Nat} (hts : ∀ w ∈ lw_all, w.before args s = true) (hl : Cond.methodLink own index yX3_isMarked ∈ lw_all) (hR : (rmL lev mc ms).frames + 1 ≤ R.frames ∧ 8 + (2 + 11) + (rmL lev mc ms).locals ≤ R.locals) : CallW R s args own RX3 index yX3_isMarked cX3_isMarked 2 (some .boolean) (ws_ yX3_isMarked cX3_isMarked 2 (some .boolean)) (rmL lev mc ms) mc ms 1 := cwV 1 hts (lw_V hl q1891 qs81 q172 q1892) rfl rfl rfl (by decide +kernel) hR
set_option maxHeartbeats 4000000 in
theorem M_X3_isMarked {l : Launch} {G : GE} (hG : GC G) {N : Nat} {h0 : Nat} {ad : Nat → Nat} {c_code : Int32} {c_now : (Nat → Int32)} {c_read : (Nat → Int32)} {c_status : (Nat → Int32)} {c_taped : Int32} {c_at : Int32} {c_textSize : Int32} {c_number : Int32} {c_stops : Int32} {c_badPlace : Int32} {c_faultPlace : Int32} {c_clauses : Int32} {c_naming : (Nat → Int32)} {c_lineBy : (Nat → Int32)} {c_becomes : (Nat → Int32)} {c_dualLines : (Nat → Int32)} {c_on : (Nat → Int32)} {c_rowNow : (Nat → Int32)} {c_least : (Nat → Int32)} {c_wayFirst : (Nat → Int32)} {c_ways : Int32} {c_acts : Int32} {c_past : (Nat → Int32)} {c_listPoints : Int32} {c_listLines : Int32} {c_listed : Int32} {c_list : (Nat → Int32)} {c_path : (Nat → Int32)} {c_places : (Nat → Int32)} {c_firstPlaces : (Nat → Int32)} {c_px : (Nat → Int32)} {c_py : (Nat → Int32)} {c_pz : (Nat → Int32)} {c_placeMany : Int32} {c_modulus : Int32} {c_drawn : Int32} {c_halvesMany : Int32} {c_halvesFirst : Int32} {c_spreadsMany : Int32} {c_spreadsFirst : Int32} {c_comesTo : (Nat → Int32)} {c_seedNow : Int32} {c_rowThen : (Nat → Int32)} {c_hasImage : Int32} {c_actsThen : Int32} {c_imageRow : (Nat → Int32)} {c_pastThen : (Nat → Int32)} {c_statusThen : (Nat → Int32)} {v1 : Int32} {c_tape : (Nat → Int32)} {c_token : Int32} {c_begins : Int32} {c_bad : Int32} {ρ : (Int32)} (h : F_X3_isMarked N v1 c_tape c_token c_begins c_bad = some ρ) : MR l G yX3_isMarked cX3_isMarked 2 (some .boolean) 1 (mW h0 ad G.2.2 c_code c_now c_read c_status c_tape c_taped c_at c_textSize c_token c_number c_begins c_stops c_bad c_badPlace c_faultPlace c_clauses c_naming c_lineBy c_becomes c_dualLines c_on c_rowNow c_least c_wayFirst c_ways c_acts c_past c_listPoints c_listLines c_listed c_list c_path c_places c_firstPlaces c_px c_py c_pz c_placeMany c_modulus c_drawn c_halvesMany c_halvesFirst c_spreadsMany c_spreadsFirst c_comesTo c_seedNow c_rowThen c_hasImage c_actsThen c_imageRow c_pastThen c_statusThen) [.ref h0, .int v1] ρ := by
  rw [F_X3_isMarked] at h
  refine MR.start (rt := .boolean) hG (by decide) (Nat.le_of_ble_eq_true rfl) ?_
  intro p e s m args below meth c Q S hW0 hK hP hret ls hl
  obtain ⟨hx, hb, hml, hown, hts⟩ := id S
  have hl : lv_has ls 2 [(0, .ref h0), (1, .int v1)] := hl
  refine lv_aload_n hx hb dX3_isMarked_0 rfl (lv_at hl 0 rfl) ?_
  refine va_get (ci := 2) (v := .int c_bad) (C := RX3) (T := TX3) (N := 52) hx hb hts in_X3 hown hK hP 0 rfl rfl 12 (by decide) (hts _ q1670) (fun _ h9 => h9) rfl dX3_isMarked_1 ?_
  refine lv_if_ne (tgt := 32) hx hb dX3_isMarked_4 (by decide) (fun c1 => ?_) (fun c1 => ?_)
  · rw [if_neg c1] at h
    refine lv_iconst (v := 0) hx hb dX3_isMarked_32 (by decide) ?_
    obtain rfl := Option.some.inj h
    exact hret dX3_isMarked_33 rfl
  · rw [if_pos c1] at h
    refine lv_aload_n hx hb dX3_isMarked_7 rfl (lv_at hl 0 rfl) ?_
    refine va_get (ci := 2) (v := .int c_token) (C := RX3) (T := TX3) (N := 52) hx hb hts in_X3 hown hK hP 0 rfl rfl 8 (by decide) (hts _ q1666) (fun _ h9 => h9) rfl dX3_isMarked_8 ?_
    refine lv_iconst (v := 3) hx hb dX3_isMarked_11 (by decide) ?_
    refine lv_icmp_ne (tgt := 32) hx hb dX3_isMarked_12 (by decide) (fun c3 => ?_) (fun c3 => ?_)
    · rw [if_neg c3] at h
      refine lv_iconst (v := 0) hx hb dX3_isMarked_32 (by decide) ?_
      obtain rfl := Option.some.inj h
      exact hret dX3_isMarked_33 rfl
    · rw [if_pos c3] at h
      refine lv_aload_n hx hb dX3_isMarked_15 rfl (lv_at hl 0 rfl) ?_
      refine va_get (ci := 2) (v := .ref (ad 4)) (C := RX3) (T := TX3) (N := 52) hx hb hts in_X3 hown hK hP 0 rfl rfl 4 (by decide) (hts _ q1662) (fun _ h9 => h9) rfl dX3_isMarked_16 ?_
      refine lv_aload_n hx hb dX3_isMarked_19 rfl (lv_at hl 0 rfl) ?_
      refine va_get (ci := 2) (v := .int c_begins) (C := RX3) (T := TX3) (N := 52) hx hb hts in_X3 hown hK hP 0 rfl rfl 10 (by decide) (hts _ q1668) (fun _ h9 => h9) rfl dX3_isMarked_20 ?_
      obtain ⟨i5, h⟩ := ckI_s h
      refine va_iald (f := c_tape) hx hb hK hP 4 0 rfl rfl i5 dX3_isMarked_23 ?_
      refine lv_iload_n hx hb dX3_isMarked_24 rfl (lv_at hl 1 rfl) ?_
      refine lv_icmp_ne (tgt := 32) hx hb dX3_isMarked_25 (by decide) (fun c6 => ?_) (fun c6 => ?_)
      · rw [if_neg c6] at h
        refine lv_iconst (v := 0) hx hb dX3_isMarked_32 (by decide) ?_
        obtain rfl := Option.some.inj h
        exact hret dX3_isMarked_33 rfl
      · rw [if_pos c6] at h
        refine lv_iconst (v := 1) hx hb dX3_isMarked_28 (by decide) ?_
        refine lv_goto (tgt := 33) hx hb dX3_isMarked_29 (by decide) ?_
        obtain rfl := Option.some.inj h
        exact hret dX3_isMarked_33 rfl
def F_X3_sharesTwo_4 (N : Nat) (n0 : Nat) (v1 : Int32) (c_p0 : (Nat → Int32)) : Nat → Int32 → Int32 → Option (Int32)
  | 0, _, _ => none
  | n + 1, v2, v3 => (ckI 1 n0 (if (c_p0 (Int32.toNatClampNeg 1)) ≤ v3 then (ckP (v2 &&& 1 = v2) ((some (v2)))) else (if v2 = 0 then (ckI ((2 : Int32) + v3) n0 ((F_X3_bits N ((c_p0 (Int32.toNatClampNeg ((2 : Int32) + v3))) &&& v1)).bind fun y7 => (if y7 ≤ 1 then (F_X3_sharesTwo_4 N n0 v1 c_p0 n 0 (v3 + 1)) else (F_X3_sharesTwo_4 N n0 v1 c_p0 n 1 (v3 + 1))))) else (F_X3_sharesTwo_4 N n0 v1 c_p0 n 1 (v3 + 1)))))
def F_X3_sharesTwo (N : Nat) (n0 : Nat) (v1 : Int32) (c_p0 : (Nat → Int32)) : Option (Int32) := (F_X3_sharesTwo_4 N n0 v1 c_p0 N 0 0)
theorem cw_X3_sharesTwo {R : Room} {s : State} {args : Array Value} {own : String} {index lev mc ms : Nat} (hts : ∀ w ∈ lw_all, w.before args s = true) (hl : Cond.methodLink own index yX3_sharesTwo ∈ lw_all) (hR : (rmL lev mc ms).frames + 1 ≤ R.frames ∧ 8 + (4 + 11) + (rmL lev mc ms).locals ≤ R.locals) : CallB R s args own index yX3_sharesTwo cX3_sharesTwo 4 (some .boolean) (ws_ yX3_sharesTwo cX3_sharesTwo 4 (some .boolean)) (rmL lev mc ms) mc ms 2 ∧ (Cond.static yX3_sharesTwo).before args s = true := va_cwS 2 hts (lw_S hl q1894 q172 q1895) rfl rfl rfl (by decide +kernel) hR
set_option maxHeartbeats 4000000 in
theorem M_X3_sharesTwo {l : Launch} {G : GE} (hG : GC G) {N : Nat} {b0 : Nat} {n0 : Nat} {v1 : Int32} {c_p0 : (Nat → Int32)} {ρ : (Int32)} (h : F_X3_sharesTwo N n0 v1 c_p0 = some ρ) : MR l G yX3_sharesTwo cX3_sharesTwo 4 (some .boolean) 3 [(b0, .inl (G.2.2 0, n0, .inl c_p0))] [.ref b0, .int v1] ρ := by
  rw [F_X3_sharesTwo] at h
  refine MR.start (rt := .boolean) hG (by decide) (Nat.le_of_ble_eq_true rfl) ?_
  intro p e s m args below meth c Q S hW0 hK hP hret ls hl
  obtain ⟨hx, hb, hml, hown, hts⟩ := id S
  have hl : lv_has ls 4 [(0, .ref b0), (1, .int v1)] := hl
  have S_X3_sharesTwo_4 : ∀ (n : Nat) (v1 : Int32) (v2 : Int32) (v3 : Int32), F_X3_sharesTwo_4 N n0 v1 c_p0 n v2 v3 = some ρ → ∀ (ls : Array Slot), lv_has ls 4 [(0, .ref b0), (1, .int v1), (2, .int v2), (3, .int v3)] → W p l e (rmL 3 0 0) s m args below meth c s.heap [] 0 0 Q (F0 m 4 ls []) := by
    intro n
    induction n with
    | zero =>
      intro v1 v2 v3 h
      exact absurd h (by simp [F_X3_sharesTwo_4])
    | succ n ih =>
      intro v1 v2 v3 h ls hl
      rw [F_X3_sharesTwo_4] at h
      refine lv_iload_n hx hb dX3_sharesTwo_4 rfl (lv_at hl 3 rfl) ?_
      refine lv_aload_n hx hb dX3_sharesTwo_5 rfl (lv_at hl 0 rfl) ?_
      refine lv_iconst (v := 1) hx hb dX3_sharesTwo_6 (by decide) ?_
      obtain ⟨i1, h⟩ := ckI_s h
      refine va_iald (f := c_p0) hx hb hK hP 0 0 rfl rfl i1 dX3_sharesTwo_7 ?_
      refine lv_icmp_ge (tgt := 41) hx hb dX3_sharesTwo_8 (by decide) (fun c2 => ?_) (fun c2 => ?_)
      · rw [if_pos c2] at h
        refine lv_iload_n hx hb dX3_sharesTwo_41 rfl (lv_at hl 2 rfl) ?_
        obtain ⟨i4, h⟩ := ckP_s h
        obtain rfl := Option.some.inj h
        exact hret dX3_sharesTwo_42 (nz_of i4)
      · rw [if_neg c2] at h
        refine lv_iload_n hx hb dX3_sharesTwo_11 rfl (lv_at hl 2 rfl) ?_
        refine lv_if_ne (tgt := 29) hx hb dX3_sharesTwo_12 (by decide) (fun c5 => ?_) (fun c5 => ?_)
        · rw [if_neg c5] at h
          refine lv_iconst (v := 1) hx hb dX3_sharesTwo_29 (by decide) ?_
          refine lv_goto (tgt := 34) hx hb dX3_sharesTwo_30 (by decide) ?_
          refine lv_istore_n (lv' := [(2, .int 1), (0, .ref b0), (1, .int v1), (3, .int v3)]) hx hb dX3_sharesTwo_34 rfl hl (by decide) rfl (fun ls hl => ?_)
          refine lv_iinc (v := (v3 + 1)) (lv' := [(3, .int (v3 + 1)), (2, .int 1), (0, .ref b0), (1, .int v1)]) hx hb dX3_sharesTwo_35 hl (k := 3) rfl rfl (by decide) rfl (fun ls hl => ?_)
          refine lv_goto (tgt := 4) hx hb dX3_sharesTwo_38 (by decide) ?_
          exact ih v1 1 (v3 + 1) h _ (lv_sub hl [2, 3, 1, 0] rfl)
        · rw [if_pos c5] at h
          refine lv_aload_n hx hb dX3_sharesTwo_15 rfl (lv_at hl 0 rfl) ?_
          refine lv_iconst (v := 2) hx hb dX3_sharesTwo_16 (by decide) ?_
          refine lv_iload_n hx hb dX3_sharesTwo_17 rfl (lv_at hl 3 rfl) ?_
          refine lv_iadd hx hb dX3_sharesTwo_18 ?_
          obtain ⟨i6, h⟩ := ckI_s h
          refine va_iald (f := c_p0) hx hb hK hP 0 0 rfl rfl i6 dX3_sharesTwo_19 ?_
          refine lv_iload_n hx hb dX3_sharesTwo_20 rfl (lv_at hl 1 rfl) ?_
          refine lv_iand hx hb dX3_sharesTwo_21 ?_
          obtain ⟨y7, e7, h⟩ := ob_s h
          refine MR.callS (M_X3_bits hG e7) S (cw_X3_bits hts q1896 ⟨Nat.le_of_ble_eq_true rfl, Nat.le_of_ble_eq_true rfl⟩) hW0 vaP0 rfl hl.1 rfl (Nat.le_of_ble_eq_true rfl) dX3_sharesTwo_22 ⟨Nat.zero_le _, Nat.zero_le _⟩ ?_
          refine lv_iconst (v := 1) hx hb dX3_sharesTwo_25 (by decide) ?_
          refine lv_icmp_le (tgt := 33) hx hb dX3_sharesTwo_26 (by decide) (fun c8 => ?_) (fun c8 => ?_)
          · rw [if_pos c8] at h
            refine lv_iconst (v := 0) hx hb dX3_sharesTwo_33 (by decide) ?_
            refine lv_istore_n (lv' := [(2, .int 0), (0, .ref b0), (1, .int v1), (3, .int v3)]) hx hb dX3_sharesTwo_34 rfl hl (by decide) rfl (fun ls hl => ?_)
            refine lv_iinc (v := (v3 + 1)) (lv' := [(3, .int (v3 + 1)), (2, .int 0), (0, .ref b0), (1, .int v1)]) hx hb dX3_sharesTwo_35 hl (k := 3) rfl rfl (by decide) rfl (fun ls hl => ?_)
            refine lv_goto (tgt := 4) hx hb dX3_sharesTwo_38 (by decide) ?_
            exact ih v1 0 (v3 + 1) h _ (lv_sub hl [2, 3, 1, 0] rfl)
          · rw [if_neg c8] at h
            refine lv_iconst (v := 1) hx hb dX3_sharesTwo_29 (by decide) ?_
            refine lv_goto (tgt := 34) hx hb dX3_sharesTwo_30 (by decide) ?_
            refine lv_istore_n (lv' := [(2, .int 1), (0, .ref b0), (1, .int v1), (3, .int v3)]) hx hb dX3_sharesTwo_34 rfl hl (by decide) rfl (fun ls hl => ?_)
            refine lv_iinc (v := (v3 + 1)) (lv' := [(3, .int (v3 + 1)), (2, .int 1), (0, .ref b0), (1, .int v1)]) hx hb dX3_sharesTwo_35 hl (k := 3) rfl rfl (by decide) rfl (fun ls hl => ?_)
            refine lv_goto (tgt := 4) hx hb dX3_sharesTwo_38 (by decide) ?_
            exact ih v1 1 (v3 + 1) h _ (lv_sub hl [2, 3, 1, 0] rfl)
  refine lv_iconst (v := 0) hx hb dX3_sharesTwo_0 (by decide) ?_
  refine lv_istore_n (lv' := [(2, .int 0), (0, .ref b0), (1, .int v1)]) hx hb dX3_sharesTwo_1 rfl hl (by decide) rfl (fun ls hl => ?_)
  refine lv_iconst (v := 0) hx hb dX3_sharesTwo_2 (by decide) ?_
  refine lv_istore_n (lv' := [(3, .int 0), (2, .int 0), (0, .ref b0), (1, .int v1)]) hx hb dX3_sharesTwo_3 rfl hl (by decide) rfl (fun ls hl => ?_)
  refine S_X3_sharesTwo_4 N v1 0 0 h  _ (lv_sub hl [2, 3, 1, 0] rfl)
def F_X3_readLine_57 (N : Nat) (c_tape : (Nat → Int32)) (c_textSize : Int32) (v1 : Int32) (v2 : Int32) (c_read : (Nat → Int32)) (c_at : Int32) (c_token : Int32) (c_number : Int32) (c_begins : Int32) (c_stops : Int32) (c_bad : Int32) (c_badPlace : Int32) (k32 : Int32 → Int32 → Int32 → Int32 → Int32 → Int32 → Int32 → Int32 → Int32 → Option ((Nat → Int32) × Int32 × Int32 × Int32 × Int32 × Int32 × Int32 × Int32)) : Option ((Nat → Int32) × Int32 × Int32 × Int32 × Int32 × Int32 × Int32 × Int32) := ((F_X3_pointNow N c_read c_token c_number c_begins c_stops c_bad c_badPlace).bind fun y8 => (if y8.2.1 = 0 then (if ((v1 >>> (y8.1 &&& 31)) &&& (1 : Int32)) = 1 then ((F_X3_wrong N 5 c_begins y8.2.1 y8.2.2).bind fun y15 => (if y15.1 = 0 then ((F_X3_stepOn N c_tape c_at c_textSize c_token c_number c_begins c_stops).bind fun y17 => (k32 (v1 ||| ((1 : Int32) <<< (y8.1 &&& 31))) (v2 + 1) y17.1 y17.2.1 y17.2.2.1 y17.2.2.2.1 y17.2.2.2.2 y15.1 y15.2)) else (k32 (v1 ||| ((1 : Int32) <<< (y8.1 &&& 31))) (v2 + 1) c_at c_token c_number c_begins c_stops y15.1 y15.2))) else (if y8.2.1 = 0 then ((F_X3_stepOn N c_tape c_at c_textSize c_token c_number c_begins c_stops).bind fun y14 => (k32 (v1 ||| ((1 : Int32) <<< (y8.1 &&& 31))) (v2 + 1) y14.1 y14.2.1 y14.2.2.1 y14.2.2.2.1 y14.2.2.2.2 y8.2.1 y8.2.2)) else (k32 (v1 ||| ((1 : Int32) <<< (y8.1 &&& 31))) (v2 + 1) c_at c_token c_number c_begins c_stops y8.2.1 y8.2.2))) else (if y8.2.1 = 0 then ((F_X3_stepOn N c_tape c_at c_textSize c_token c_number c_begins c_stops).bind fun y11 => (k32 (v1 ||| ((1 : Int32) <<< (y8.1 &&& 31))) (v2 + 1) y11.1 y11.2.1 y11.2.2.1 y11.2.2.2.1 y11.2.2.2.2 y8.2.1 y8.2.2)) else (k32 (v1 ||| ((1 : Int32) <<< (y8.1 &&& 31))) (v2 + 1) c_at c_token c_number c_begins c_stops y8.2.1 y8.2.2))))
def F_X3_readLine_32 (N : Nat) (c_read : (Nat → Int32)) (c_tape : (Nat → Int32)) (c_textSize : Int32) : Nat → Int32 → Int32 → Int32 → Int32 → Int32 → Int32 → Int32 → Int32 → Int32 → (Int32 → Int32 → Int32 → Int32 → Int32 → Int32 → Int32 → Int32 → Option ((Nat → Int32) × Int32 × Int32 × Int32 × Int32 × Int32 × Int32 × Int32)) → Option ((Nat → Int32) × Int32 × Int32 × Int32 × Int32 × Int32 × Int32 × Int32)
  | 0, _, _, _, _, _, _, _, _, _, _ => none
  | n + 1, v1, v2, c_at, c_token, c_number, c_begins, c_stops, c_bad, c_badPlace, k106 => (if 4 ≤ v2 then (k106 v1 c_at c_token c_number c_begins c_stops c_bad c_badPlace) else (if c_bad = 0 then (if v2 < 2 then (F_X3_readLine_57 N c_tape c_textSize v1 v2 c_read c_at c_token c_number c_begins c_stops c_bad c_badPlace (fun u1 u2 z_c_at z_c_token z_c_number z_c_begins z_c_stops z_c_bad z_c_badPlace => (F_X3_readLine_32 N c_read c_tape c_textSize n u1 u2 z_c_at z_c_token z_c_number z_c_begins z_c_stops z_c_bad z_c_badPlace k106))) else (if c_token = 2 then (F_X3_readLine_57 N c_tape c_textSize v1 v2 c_read c_at c_token c_number c_begins c_stops c_bad c_badPlace (fun u1 u2 z_c_at z_c_token z_c_number z_c_begins z_c_stops z_c_bad z_c_badPlace => (F_X3_readLine_32 N c_read c_tape c_textSize n u1 u2 z_c_at z_c_token z_c_number z_c_begins z_c_stops z_c_bad z_c_badPlace k106))) else (k106 v1 c_at c_token c_number c_begins c_stops c_bad c_badPlace))) else (k106 v1 c_at c_token c_number c_begins c_stops c_bad c_badPlace)))
def F_X3_readLine_138 (N : Nat) (c_at : Int32) (c_token : Int32) (c_number : Int32) (c_begins : Int32) (c_stops : Int32) (c_bad : Int32) (c_badPlace : Int32) (v1 : Int32) (c_read : (Nat → Int32)) : Option ((Nat → Int32) × Int32 × Int32 × Int32 × Int32 × Int32 × Int32 × Int32) := (ckI 1 30 (ckI ((2 : Int32) + (c_read (Int32.toNatClampNeg 1))) 30 (ckI 1 30 (ckI 1 30 (some ((upd (upd c_read (Int32.toNatClampNeg ((2 : Int32) + (c_read (Int32.toNatClampNeg 1)))) v1) (Int32.toNatClampNeg 1) (((upd c_read (Int32.toNatClampNeg ((2 : Int32) + (c_read (Int32.toNatClampNeg 1)))) v1) (Int32.toNatClampNeg 1)) + (1 : Int32))), c_at, c_token, c_number, c_begins, c_stops, c_bad, c_badPlace))))))
def F_X3_readLine_106 (N : Nat) (c_tape : (Nat → Int32)) (c_at : Int32) (c_number : Int32) (c_stops : Int32) (v1 : Int32) (c_read : (Nat → Int32)) (c_token : Int32) (c_begins : Int32) (c_bad : Int32) (c_badPlace : Int32) : Option ((Nat → Int32) × Int32 × Int32 × Int32 × Int32 × Int32 × Int32 × Int32) := (if c_bad = 0 then ((F_X3_isMarked N 59 c_tape c_token c_begins c_bad).bind fun y26 => (if y26 = 0 then (F_X3_readLine_138 N c_at c_token c_number c_begins c_stops c_bad c_badPlace v1 c_read) else ((F_X3_sharesTwo N 30 v1 c_read).bind fun y28 => (if y28 = 0 then (F_X3_readLine_138 N c_at c_token c_number c_begins c_stops c_bad c_badPlace v1 c_read) else ((F_X3_wrong N 5 c_begins c_bad c_badPlace).bind fun y30 => (F_X3_readLine_138 N c_at c_token c_number c_begins c_stops y30.1 y30.2 v1 c_read)))))) else (F_X3_readLine_138 N c_at c_token c_number c_begins c_stops c_bad c_badPlace v1 c_read))
def F_X3_readLine_16 (N : Nat) (c_tape : (Nat → Int32)) (c_textSize : Int32) (c_read : (Nat → Int32)) (c_at : Int32) (c_token : Int32) (c_number : Int32) (c_begins : Int32) (c_stops : Int32) (c_bad : Int32) (c_badPlace : Int32) : Option ((Nat → Int32) × Int32 × Int32 × Int32 × Int32 × Int32 × Int32 × Int32) := (if c_bad = 0 then ((F_X3_stepOn N c_tape c_at c_textSize c_token c_number c_begins c_stops).bind fun y4 => (F_X3_readLine_32 N c_read c_tape c_textSize N 0 0 y4.1 y4.2.1 y4.2.2.1 y4.2.2.2.1 y4.2.2.2.2 c_bad c_badPlace (fun u1_19 c_at_19 c_token_19 c_number_19 c_begins_19 c_stops_19 c_bad_19 c_badPlace_19 => (F_X3_readLine_106 N c_tape c_at_19 c_number_19 c_stops_19 u1_19 c_read c_token_19 c_begins_19 c_bad_19 c_badPlace_19)))) else (some (c_read, c_at, c_token, c_number, c_begins, c_stops, c_bad, c_badPlace)))
def F_X3_readLine (N : Nat) (c_read : (Nat → Int32)) (c_tape : (Nat → Int32)) (c_at : Int32) (c_textSize : Int32) (c_token : Int32) (c_number : Int32) (c_begins : Int32) (c_stops : Int32) (c_bad : Int32) (c_badPlace : Int32) : Option ((Nat → Int32) × Int32 × Int32 × Int32 × Int32 × Int32 × Int32 × Int32) := (ckI 1 30 (if (c_read (Int32.toNatClampNeg 1)) = 12 then ((F_X3_wrong N 2 c_begins c_bad c_badPlace).bind fun y32 => (F_X3_readLine_16 N c_tape c_textSize c_read c_at c_token c_number c_begins c_stops y32.1 y32.2)) else (F_X3_readLine_16 N c_tape c_textSize c_read c_at c_token c_number c_begins c_stops c_bad c_badPlace)))
theorem cw_X3_readLine {R : Room} {s : State} {args : Array Value} {own : String} {index lev mc ms : Nat} (hts : ∀ w ∈ lw_all, w.before args s = true) (hl : Cond.methodLink own index yX3_readLine ∈ lw_all) (hR : (rmL lev mc ms).frames + 1 ≤ R.frames ∧ 8 + (4 + 11) + (rmL lev mc ms).locals ≤ R.locals) : CallW R s args own RX3 index yX3_readLine cX3_readLine 4 none (ws_ yX3_readLine cX3_readLine 4 none) (rmL lev mc ms) mc ms 0 := cwV 0 hts (lw_V hl q1883 qs79 q172 q1884) rfl rfl rfl (by decide +kernel) hR
set_option maxHeartbeats 4000000 in
theorem M_X3_readLine {l : Launch} {G : GE} (hG : GC G) {N : Nat} {h0 : Nat} {ad : Nat → Nat} {c_code : Int32} {c_now : (Nat → Int32)} {c_status : (Nat → Int32)} {c_taped : Int32} {c_faultPlace : Int32} {c_clauses : Int32} {c_naming : (Nat → Int32)} {c_lineBy : (Nat → Int32)} {c_becomes : (Nat → Int32)} {c_dualLines : (Nat → Int32)} {c_on : (Nat → Int32)} {c_rowNow : (Nat → Int32)} {c_least : (Nat → Int32)} {c_wayFirst : (Nat → Int32)} {c_ways : Int32} {c_acts : Int32} {c_past : (Nat → Int32)} {c_listPoints : Int32} {c_listLines : Int32} {c_listed : Int32} {c_list : (Nat → Int32)} {c_path : (Nat → Int32)} {c_places : (Nat → Int32)} {c_firstPlaces : (Nat → Int32)} {c_px : (Nat → Int32)} {c_py : (Nat → Int32)} {c_pz : (Nat → Int32)} {c_placeMany : Int32} {c_modulus : Int32} {c_drawn : Int32} {c_halvesMany : Int32} {c_halvesFirst : Int32} {c_spreadsMany : Int32} {c_spreadsFirst : Int32} {c_comesTo : (Nat → Int32)} {c_seedNow : Int32} {c_rowThen : (Nat → Int32)} {c_hasImage : Int32} {c_actsThen : Int32} {c_imageRow : (Nat → Int32)} {c_pastThen : (Nat → Int32)} {c_statusThen : (Nat → Int32)} {c_read : (Nat → Int32)} {c_tape : (Nat → Int32)} {c_at : Int32} {c_textSize : Int32} {c_token : Int32} {c_number : Int32} {c_begins : Int32} {c_stops : Int32} {c_bad : Int32} {c_badPlace : Int32} {ρ : ((Nat → Int32) × Int32 × Int32 × Int32 × Int32 × Int32 × Int32 × Int32)} (h : F_X3_readLine N c_read c_tape c_at c_textSize c_token c_number c_begins c_stops c_bad c_badPlace = some ρ) : MW l G yX3_readLine cX3_readLine 4 none 4 (mW h0 ad G.2.2 c_code c_now c_read c_status c_tape c_taped c_at c_textSize c_token c_number c_begins c_stops c_bad c_badPlace c_faultPlace c_clauses c_naming c_lineBy c_becomes c_dualLines c_on c_rowNow c_least c_wayFirst c_ways c_acts c_past c_listPoints c_listLines c_listed c_list c_path c_places c_firstPlaces c_px c_py c_pz c_placeMany c_modulus c_drawn c_halvesMany c_halvesFirst c_spreadsMany c_spreadsFirst c_comesTo c_seedNow c_rowThen c_hasImage c_actsThen c_imageRow c_pastThen c_statusThen) [.ref h0] none (mW h0 ad G.2.2 c_code c_now ρ.1 c_status c_tape c_taped ρ.2.1 c_textSize ρ.2.2.1 ρ.2.2.2.1 ρ.2.2.2.2.1 ρ.2.2.2.2.2.1 ρ.2.2.2.2.2.2.1 ρ.2.2.2.2.2.2.2 c_faultPlace c_clauses c_naming c_lineBy c_becomes c_dualLines c_on c_rowNow c_least c_wayFirst c_ways c_acts c_past c_listPoints c_listLines c_listed c_list c_path c_places c_firstPlaces c_px c_py c_pz c_placeMany c_modulus c_drawn c_halvesMany c_halvesFirst c_spreadsMany c_spreadsFirst c_comesTo c_seedNow c_rowThen c_hasImage c_actsThen c_imageRow c_pastThen c_statusThen) := by
  rw [F_X3_readLine] at h
  refine MW.start hG (by decide) (Nat.le_of_ble_eq_true rfl) ?_
  intro p e s m args below meth c Q A S hW0 hK hP hD hA hreti hretv ls hl
  have hS : va_S A s.heap s.heap [] := va_S.rf
  obtain ⟨hx, hb, hml, hown, hts⟩ := id S
  have hl : lv_has ls 4 [(0, .ref h0)] := hl
  have S_X3_readLine_57 : ∀ (v1 : Int32) (v2 : Int32) (c_read : (Nat → Int32)) (c_at : Int32) (c_token : Int32) (c_number : Int32) (c_begins : Int32) (c_stops : Int32) (c_bad : Int32) (c_badPlace : Int32) (k32 : Int32 → Int32 → Int32 → Int32 → Int32 → Int32 → Int32 → Int32 → Int32 → Option ((Nat → Int32) × Int32 × Int32 × Int32 × Int32 × Int32 × Int32 × Int32)), F_X3_readLine_57 N c_tape c_textSize v1 v2 c_read c_at c_token c_number c_begins c_stops c_bad c_badPlace k32 = some ρ → (∀ (u1 : Int32) (u2 : Int32) (z_c_at : Int32) (z_c_token : Int32) (z_c_number : Int32) (z_c_begins : Int32) (z_c_stops : Int32) (z_c_bad : Int32) (z_c_badPlace : Int32) (H : Heap) (locs : List Loc) (ls : Array Slot), k32 u1 u2 z_c_at z_c_token z_c_number z_c_begins z_c_stops z_c_bad z_c_badPlace = some ρ → va_P G.2.1 vwCl (mW h0 ad G.2.2 c_code c_now c_read c_status c_tape c_taped z_c_at c_textSize z_c_token z_c_number z_c_begins z_c_stops z_c_bad z_c_badPlace c_faultPlace c_clauses c_naming c_lineBy c_becomes c_dualLines c_on c_rowNow c_least c_wayFirst c_ways c_acts c_past c_listPoints c_listLines c_listed c_list c_path c_places c_firstPlaces c_px c_py c_pz c_placeMany c_modulus c_drawn c_halvesMany c_halvesFirst c_spreadsMany c_spreadsFirst c_comesTo c_seedNow c_rowThen c_hasImage c_actsThen c_imageRow c_pastThen c_statusThen) H → va_D A (mW h0 ad G.2.2 c_code c_now c_read c_status c_tape c_taped z_c_at c_textSize z_c_token z_c_number z_c_begins z_c_stops z_c_bad z_c_badPlace c_faultPlace c_clauses c_naming c_lineBy c_becomes c_dualLines c_on c_rowNow c_least c_wayFirst c_ways c_acts c_past c_listPoints c_listLines c_listed c_list c_path c_places c_firstPlaces c_px c_py c_pz c_placeMany c_modulus c_drawn c_halvesMany c_halvesFirst c_spreadsMany c_spreadsFirst c_comesTo c_seedNow c_rowThen c_hasImage c_actsThen c_imageRow c_pastThen c_statusThen) → va_S A s.heap H locs → lv_has ls 4 [(0, .ref h0), (1, .int u1), (2, .int u2)] → W p l e (rmL 4 0 0) s m args below meth c H locs 0 0 Q (F0 m 32 ls [])) → ∀ (H : Heap) (locs : List Loc), va_P G.2.1 vwCl (mW h0 ad G.2.2 c_code c_now c_read c_status c_tape c_taped c_at c_textSize c_token c_number c_begins c_stops c_bad c_badPlace c_faultPlace c_clauses c_naming c_lineBy c_becomes c_dualLines c_on c_rowNow c_least c_wayFirst c_ways c_acts c_past c_listPoints c_listLines c_listed c_list c_path c_places c_firstPlaces c_px c_py c_pz c_placeMany c_modulus c_drawn c_halvesMany c_halvesFirst c_spreadsMany c_spreadsFirst c_comesTo c_seedNow c_rowThen c_hasImage c_actsThen c_imageRow c_pastThen c_statusThen) H → va_D A (mW h0 ad G.2.2 c_code c_now c_read c_status c_tape c_taped c_at c_textSize c_token c_number c_begins c_stops c_bad c_badPlace c_faultPlace c_clauses c_naming c_lineBy c_becomes c_dualLines c_on c_rowNow c_least c_wayFirst c_ways c_acts c_past c_listPoints c_listLines c_listed c_list c_path c_places c_firstPlaces c_px c_py c_pz c_placeMany c_modulus c_drawn c_halvesMany c_halvesFirst c_spreadsMany c_spreadsFirst c_comesTo c_seedNow c_rowThen c_hasImage c_actsThen c_imageRow c_pastThen c_statusThen) → va_S A s.heap H locs → ∀ (ls : Array Slot), lv_has ls 4 [(0, .ref h0), (1, .int v1), (2, .int v2)] → W p l e (rmL 4 0 0) s m args below meth c H locs 0 0 Q (F0 m 57 ls []) := by
    intro v1 v2 c_read c_at c_token c_number c_begins c_stops c_bad c_badPlace k32 h hk32 H locs hP hD hS ls hl
    rw [F_X3_readLine_57] at h
    refine lv_aload_n hx hb dX3_readLine_57 rfl (lv_at hl 0 rfl) ?_
    obtain ⟨y8, e8, h⟩ := ob_s h
    refine MW.callV (q0 := 0) (M_X3_pointNow hG e8) S (cw_X3_pointNow hts q1885 ⟨Nat.le_of_ble_eq_true rfl, Nat.le_of_ble_eq_true rfl⟩) hW0 hK hP hD hS hA rfl rfl rfl hl.1 rfl (Nat.le_of_ble_eq_true rfl) dX3_readLine_58 ⟨Nat.zero_le _, Nat.zero_le _⟩ (fun H locs hP hD hS => ?_)
    have hP : va_P G.2.1 vwCl (mW h0 ad G.2.2 c_code c_now c_read c_status c_tape c_taped c_at c_textSize c_token c_number c_begins c_stops y8.2.1 y8.2.2 c_faultPlace c_clauses c_naming c_lineBy c_becomes c_dualLines c_on c_rowNow c_least c_wayFirst c_ways c_acts c_past c_listPoints c_listLines c_listed c_list c_path c_places c_firstPlaces c_px c_py c_pz c_placeMany c_modulus c_drawn c_halvesMany c_halvesFirst c_spreadsMany c_spreadsFirst c_comesTo c_seedNow c_rowThen c_hasImage c_actsThen c_imageRow c_pastThen c_statusThen) H := hP
    have hD : va_D A (mW h0 ad G.2.2 c_code c_now c_read c_status c_tape c_taped c_at c_textSize c_token c_number c_begins c_stops y8.2.1 y8.2.2 c_faultPlace c_clauses c_naming c_lineBy c_becomes c_dualLines c_on c_rowNow c_least c_wayFirst c_ways c_acts c_past c_listPoints c_listLines c_listed c_list c_path c_places c_firstPlaces c_px c_py c_pz c_placeMany c_modulus c_drawn c_halvesMany c_halvesFirst c_spreadsMany c_spreadsFirst c_comesTo c_seedNow c_rowThen c_hasImage c_actsThen c_imageRow c_pastThen c_statusThen) := hD
    refine W.eq (g2 := F0 m 61 ls [.int y8.1]) rfl ?_
    refine lv_istore_n (lv' := [(3, .int y8.1), (0, .ref h0), (1, .int v1), (2, .int v2)]) hx hb dX3_readLine_61 rfl hl (by decide) rfl (fun ls hl => ?_)
    refine lv_aload_n hx hb dX3_readLine_62 rfl (lv_at hl 1 rfl) ?_
    refine va_get (ci := 2) (v := .int y8.2.1) (C := RX3) (T := TX3) (N := 52) hx hb hts in_X3 hown hK hP 0 rfl rfl 12 (by decide) (hts _ q1670) (fun _ h9 => h9) rfl dX3_readLine_63 ?_
    refine lv_if_ne (tgt := 83) hx hb dX3_readLine_66 (by decide) (fun c9 => ?_) (fun c9 => ?_)
    · rw [if_neg c9] at h
      refine lv_iload_n hx hb dX3_readLine_83 rfl (lv_at hl 2 rfl) ?_
      refine lv_iconst (v := 1) hx hb dX3_readLine_84 (by decide) ?_
      refine lv_iload_n hx hb dX3_readLine_85 rfl (lv_at hl 0 rfl) ?_
      refine lv_ishl hx hb dX3_readLine_86 ?_
      refine lv_ior hx hb dX3_readLine_87 ?_
      refine lv_istore_n (lv' := [(1, .int (v1 ||| ((1 : Int32) <<< (y8.1 &&& 31)))), (3, .int y8.1), (0, .ref h0), (2, .int v2)]) hx hb dX3_readLine_88 rfl hl (by decide) rfl (fun ls hl => ?_)
      refine lv_aload_n hx hb dX3_readLine_89 rfl (lv_at hl 2 rfl) ?_
      refine va_get (ci := 2) (v := .int y8.2.1) (C := RX3) (T := TX3) (N := 52) hx hb hts in_X3 hown hK hP 0 rfl rfl 12 (by decide) (hts _ q1670) (fun _ h9 => h9) rfl dX3_readLine_90 ?_
      refine lv_if_ne (tgt := 100) hx hb dX3_readLine_93 (by decide) (fun c10 => ?_) (fun c10 => ?_)
      · rw [if_neg c10] at h
        refine lv_iinc (v := (v2 + 1)) (lv' := [(2, .int (v2 + 1)), (1, .int (v1 ||| ((1 : Int32) <<< (y8.1 &&& 31)))), (3, .int y8.1), (0, .ref h0)]) hx hb dX3_readLine_100 hl (k := 3) rfl rfl (by decide) rfl (fun ls hl => ?_)
        refine lv_goto (tgt := 32) hx hb dX3_readLine_103 (by decide) ?_
        exact hk32 (v1 ||| ((1 : Int32) <<< (y8.1 &&& 31))) (v2 + 1) c_at c_token c_number c_begins c_stops y8.2.1 y8.2.2 _ _ _ h hP hD hS (lv_sub hl [3, 1, 0] rfl)
      · rw [if_pos c10] at h
        refine lv_aload_n hx hb dX3_readLine_96 rfl (lv_at hl 2 rfl) ?_
        obtain ⟨y11, e11, h⟩ := ob_s h
        refine MW.callV (q0 := 0) (M_X3_stepOn hG e11) S (cw_X3_stepOn hts q1831 ⟨Nat.le_of_ble_eq_true rfl, Nat.le_of_ble_eq_true rfl⟩) hW0 hK hP hD hS hA rfl rfl rfl hl.1 rfl (Nat.le_of_ble_eq_true rfl) dX3_readLine_97 ⟨Nat.zero_le _, Nat.zero_le _⟩ (fun H locs hP hD hS => ?_)
        have hP : va_P G.2.1 vwCl (mW h0 ad G.2.2 c_code c_now c_read c_status c_tape c_taped y11.1 c_textSize y11.2.1 y11.2.2.1 y11.2.2.2.1 y11.2.2.2.2 y8.2.1 y8.2.2 c_faultPlace c_clauses c_naming c_lineBy c_becomes c_dualLines c_on c_rowNow c_least c_wayFirst c_ways c_acts c_past c_listPoints c_listLines c_listed c_list c_path c_places c_firstPlaces c_px c_py c_pz c_placeMany c_modulus c_drawn c_halvesMany c_halvesFirst c_spreadsMany c_spreadsFirst c_comesTo c_seedNow c_rowThen c_hasImage c_actsThen c_imageRow c_pastThen c_statusThen) H := hP
        have hD : va_D A (mW h0 ad G.2.2 c_code c_now c_read c_status c_tape c_taped y11.1 c_textSize y11.2.1 y11.2.2.1 y11.2.2.2.1 y11.2.2.2.2 y8.2.1 y8.2.2 c_faultPlace c_clauses c_naming c_lineBy c_becomes c_dualLines c_on c_rowNow c_least c_wayFirst c_ways c_acts c_past c_listPoints c_listLines c_listed c_list c_path c_places c_firstPlaces c_px c_py c_pz c_placeMany c_modulus c_drawn c_halvesMany c_halvesFirst c_spreadsMany c_spreadsFirst c_comesTo c_seedNow c_rowThen c_hasImage c_actsThen c_imageRow c_pastThen c_statusThen) := hD
        refine W.eq (g2 := F0 m 100 ls []) rfl ?_
        refine lv_iinc (v := (v2 + 1)) (lv' := [(2, .int (v2 + 1)), (1, .int (v1 ||| ((1 : Int32) <<< (y8.1 &&& 31)))), (3, .int y8.1), (0, .ref h0)]) hx hb dX3_readLine_100 hl (k := 3) rfl rfl (by decide) rfl (fun ls hl => ?_)
        refine lv_goto (tgt := 32) hx hb dX3_readLine_103 (by decide) ?_
        exact hk32 (v1 ||| ((1 : Int32) <<< (y8.1 &&& 31))) (v2 + 1) y11.1 y11.2.1 y11.2.2.1 y11.2.2.2.1 y11.2.2.2.2 y8.2.1 y8.2.2 _ _ _ h hP hD hS (lv_sub hl [3, 1, 0] rfl)
    · rw [if_pos c9] at h
      refine lv_iload_n hx hb dX3_readLine_69 rfl (lv_at hl 2 rfl) ?_
      refine lv_iload_n hx hb dX3_readLine_70 rfl (lv_at hl 0 rfl) ?_
      refine lv_ishr hx hb dX3_readLine_71 ?_
      refine lv_iconst (v := 1) hx hb dX3_readLine_72 (by decide) ?_
      refine lv_iand hx hb dX3_readLine_73 ?_
      refine lv_iconst (v := 1) hx hb dX3_readLine_74 (by decide) ?_
      refine lv_icmp_ne (tgt := 83) hx hb dX3_readLine_75 (by decide) (fun c12 => ?_) (fun c12 => ?_)
      · rw [if_neg c12] at h
        refine lv_iload_n hx hb dX3_readLine_83 rfl (lv_at hl 2 rfl) ?_
        refine lv_iconst (v := 1) hx hb dX3_readLine_84 (by decide) ?_
        refine lv_iload_n hx hb dX3_readLine_85 rfl (lv_at hl 0 rfl) ?_
        refine lv_ishl hx hb dX3_readLine_86 ?_
        refine lv_ior hx hb dX3_readLine_87 ?_
        refine lv_istore_n (lv' := [(1, .int (v1 ||| ((1 : Int32) <<< (y8.1 &&& 31)))), (3, .int y8.1), (0, .ref h0), (2, .int v2)]) hx hb dX3_readLine_88 rfl hl (by decide) rfl (fun ls hl => ?_)
        refine lv_aload_n hx hb dX3_readLine_89 rfl (lv_at hl 2 rfl) ?_
        refine va_get (ci := 2) (v := .int y8.2.1) (C := RX3) (T := TX3) (N := 52) hx hb hts in_X3 hown hK hP 0 rfl rfl 12 (by decide) (hts _ q1670) (fun _ h9 => h9) rfl dX3_readLine_90 ?_
        refine lv_if_ne (tgt := 100) hx hb dX3_readLine_93 (by decide) (fun c13 => ?_) (fun c13 => ?_)
        · rw [if_neg c13] at h
          refine lv_iinc (v := (v2 + 1)) (lv' := [(2, .int (v2 + 1)), (1, .int (v1 ||| ((1 : Int32) <<< (y8.1 &&& 31)))), (3, .int y8.1), (0, .ref h0)]) hx hb dX3_readLine_100 hl (k := 3) rfl rfl (by decide) rfl (fun ls hl => ?_)
          refine lv_goto (tgt := 32) hx hb dX3_readLine_103 (by decide) ?_
          exact hk32 (v1 ||| ((1 : Int32) <<< (y8.1 &&& 31))) (v2 + 1) c_at c_token c_number c_begins c_stops y8.2.1 y8.2.2 _ _ _ h hP hD hS (lv_sub hl [3, 1, 0] rfl)
        · rw [if_pos c13] at h
          refine lv_aload_n hx hb dX3_readLine_96 rfl (lv_at hl 2 rfl) ?_
          obtain ⟨y14, e14, h⟩ := ob_s h
          refine MW.callV (q0 := 0) (M_X3_stepOn hG e14) S (cw_X3_stepOn hts q1831 ⟨Nat.le_of_ble_eq_true rfl, Nat.le_of_ble_eq_true rfl⟩) hW0 hK hP hD hS hA rfl rfl rfl hl.1 rfl (Nat.le_of_ble_eq_true rfl) dX3_readLine_97 ⟨Nat.zero_le _, Nat.zero_le _⟩ (fun H locs hP hD hS => ?_)
          have hP : va_P G.2.1 vwCl (mW h0 ad G.2.2 c_code c_now c_read c_status c_tape c_taped y14.1 c_textSize y14.2.1 y14.2.2.1 y14.2.2.2.1 y14.2.2.2.2 y8.2.1 y8.2.2 c_faultPlace c_clauses c_naming c_lineBy c_becomes c_dualLines c_on c_rowNow c_least c_wayFirst c_ways c_acts c_past c_listPoints c_listLines c_listed c_list c_path c_places c_firstPlaces c_px c_py c_pz c_placeMany c_modulus c_drawn c_halvesMany c_halvesFirst c_spreadsMany c_spreadsFirst c_comesTo c_seedNow c_rowThen c_hasImage c_actsThen c_imageRow c_pastThen c_statusThen) H := hP
          have hD : va_D A (mW h0 ad G.2.2 c_code c_now c_read c_status c_tape c_taped y14.1 c_textSize y14.2.1 y14.2.2.1 y14.2.2.2.1 y14.2.2.2.2 y8.2.1 y8.2.2 c_faultPlace c_clauses c_naming c_lineBy c_becomes c_dualLines c_on c_rowNow c_least c_wayFirst c_ways c_acts c_past c_listPoints c_listLines c_listed c_list c_path c_places c_firstPlaces c_px c_py c_pz c_placeMany c_modulus c_drawn c_halvesMany c_halvesFirst c_spreadsMany c_spreadsFirst c_comesTo c_seedNow c_rowThen c_hasImage c_actsThen c_imageRow c_pastThen c_statusThen) := hD
          refine W.eq (g2 := F0 m 100 ls []) rfl ?_
          refine lv_iinc (v := (v2 + 1)) (lv' := [(2, .int (v2 + 1)), (1, .int (v1 ||| ((1 : Int32) <<< (y8.1 &&& 31)))), (3, .int y8.1), (0, .ref h0)]) hx hb dX3_readLine_100 hl (k := 3) rfl rfl (by decide) rfl (fun ls hl => ?_)
          refine lv_goto (tgt := 32) hx hb dX3_readLine_103 (by decide) ?_
          exact hk32 (v1 ||| ((1 : Int32) <<< (y8.1 &&& 31))) (v2 + 1) y14.1 y14.2.1 y14.2.2.1 y14.2.2.2.1 y14.2.2.2.2 y8.2.1 y8.2.2 _ _ _ h hP hD hS (lv_sub hl [3, 1, 0] rfl)
      · rw [if_pos c12] at h
        refine lv_aload_n hx hb dX3_readLine_78 rfl (lv_at hl 1 rfl) ?_
        refine lv_iconst (v := 5) hx hb dX3_readLine_79 (by decide) ?_
        obtain ⟨y15, e15, h⟩ := ob_s h
        refine MW.callV (q0 := 0) (M_X3_wrong hG e15) S (cw_X3_wrong hts q1868 ⟨Nat.le_of_ble_eq_true rfl, Nat.le_of_ble_eq_true rfl⟩) hW0 hK hP hD hS hA rfl rfl rfl hl.1 rfl (Nat.le_of_ble_eq_true rfl) dX3_readLine_80 ⟨Nat.zero_le _, Nat.zero_le _⟩ (fun H locs hP hD hS => ?_)
        have hP : va_P G.2.1 vwCl (mW h0 ad G.2.2 c_code c_now c_read c_status c_tape c_taped c_at c_textSize c_token c_number c_begins c_stops y15.1 y15.2 c_faultPlace c_clauses c_naming c_lineBy c_becomes c_dualLines c_on c_rowNow c_least c_wayFirst c_ways c_acts c_past c_listPoints c_listLines c_listed c_list c_path c_places c_firstPlaces c_px c_py c_pz c_placeMany c_modulus c_drawn c_halvesMany c_halvesFirst c_spreadsMany c_spreadsFirst c_comesTo c_seedNow c_rowThen c_hasImage c_actsThen c_imageRow c_pastThen c_statusThen) H := hP
        have hD : va_D A (mW h0 ad G.2.2 c_code c_now c_read c_status c_tape c_taped c_at c_textSize c_token c_number c_begins c_stops y15.1 y15.2 c_faultPlace c_clauses c_naming c_lineBy c_becomes c_dualLines c_on c_rowNow c_least c_wayFirst c_ways c_acts c_past c_listPoints c_listLines c_listed c_list c_path c_places c_firstPlaces c_px c_py c_pz c_placeMany c_modulus c_drawn c_halvesMany c_halvesFirst c_spreadsMany c_spreadsFirst c_comesTo c_seedNow c_rowThen c_hasImage c_actsThen c_imageRow c_pastThen c_statusThen) := hD
        refine W.eq (g2 := F0 m 83 ls []) rfl ?_
        refine lv_iload_n hx hb dX3_readLine_83 rfl (lv_at hl 2 rfl) ?_
        refine lv_iconst (v := 1) hx hb dX3_readLine_84 (by decide) ?_
        refine lv_iload_n hx hb dX3_readLine_85 rfl (lv_at hl 0 rfl) ?_
        refine lv_ishl hx hb dX3_readLine_86 ?_
        refine lv_ior hx hb dX3_readLine_87 ?_
        refine lv_istore_n (lv' := [(1, .int (v1 ||| ((1 : Int32) <<< (y8.1 &&& 31)))), (3, .int y8.1), (0, .ref h0), (2, .int v2)]) hx hb dX3_readLine_88 rfl hl (by decide) rfl (fun ls hl => ?_)
        refine lv_aload_n hx hb dX3_readLine_89 rfl (lv_at hl 2 rfl) ?_
        refine va_get (ci := 2) (v := .int y15.1) (C := RX3) (T := TX3) (N := 52) hx hb hts in_X3 hown hK hP 0 rfl rfl 12 (by decide) (hts _ q1670) (fun _ h9 => h9) rfl dX3_readLine_90 ?_
        refine lv_if_ne (tgt := 100) hx hb dX3_readLine_93 (by decide) (fun c16 => ?_) (fun c16 => ?_)
        · rw [if_neg c16] at h
          refine lv_iinc (v := (v2 + 1)) (lv' := [(2, .int (v2 + 1)), (1, .int (v1 ||| ((1 : Int32) <<< (y8.1 &&& 31)))), (3, .int y8.1), (0, .ref h0)]) hx hb dX3_readLine_100 hl (k := 3) rfl rfl (by decide) rfl (fun ls hl => ?_)
          refine lv_goto (tgt := 32) hx hb dX3_readLine_103 (by decide) ?_
          exact hk32 (v1 ||| ((1 : Int32) <<< (y8.1 &&& 31))) (v2 + 1) c_at c_token c_number c_begins c_stops y15.1 y15.2 _ _ _ h hP hD hS (lv_sub hl [3, 1, 0] rfl)
        · rw [if_pos c16] at h
          refine lv_aload_n hx hb dX3_readLine_96 rfl (lv_at hl 2 rfl) ?_
          obtain ⟨y17, e17, h⟩ := ob_s h
          refine MW.callV (q0 := 0) (M_X3_stepOn hG e17) S (cw_X3_stepOn hts q1831 ⟨Nat.le_of_ble_eq_true rfl, Nat.le_of_ble_eq_true rfl⟩) hW0 hK hP hD hS hA rfl rfl rfl hl.1 rfl (Nat.le_of_ble_eq_true rfl) dX3_readLine_97 ⟨Nat.zero_le _, Nat.zero_le _⟩ (fun H locs hP hD hS => ?_)
          have hP : va_P G.2.1 vwCl (mW h0 ad G.2.2 c_code c_now c_read c_status c_tape c_taped y17.1 c_textSize y17.2.1 y17.2.2.1 y17.2.2.2.1 y17.2.2.2.2 y15.1 y15.2 c_faultPlace c_clauses c_naming c_lineBy c_becomes c_dualLines c_on c_rowNow c_least c_wayFirst c_ways c_acts c_past c_listPoints c_listLines c_listed c_list c_path c_places c_firstPlaces c_px c_py c_pz c_placeMany c_modulus c_drawn c_halvesMany c_halvesFirst c_spreadsMany c_spreadsFirst c_comesTo c_seedNow c_rowThen c_hasImage c_actsThen c_imageRow c_pastThen c_statusThen) H := hP
          have hD : va_D A (mW h0 ad G.2.2 c_code c_now c_read c_status c_tape c_taped y17.1 c_textSize y17.2.1 y17.2.2.1 y17.2.2.2.1 y17.2.2.2.2 y15.1 y15.2 c_faultPlace c_clauses c_naming c_lineBy c_becomes c_dualLines c_on c_rowNow c_least c_wayFirst c_ways c_acts c_past c_listPoints c_listLines c_listed c_list c_path c_places c_firstPlaces c_px c_py c_pz c_placeMany c_modulus c_drawn c_halvesMany c_halvesFirst c_spreadsMany c_spreadsFirst c_comesTo c_seedNow c_rowThen c_hasImage c_actsThen c_imageRow c_pastThen c_statusThen) := hD
          refine W.eq (g2 := F0 m 100 ls []) rfl ?_
          refine lv_iinc (v := (v2 + 1)) (lv' := [(2, .int (v2 + 1)), (1, .int (v1 ||| ((1 : Int32) <<< (y8.1 &&& 31)))), (3, .int y8.1), (0, .ref h0)]) hx hb dX3_readLine_100 hl (k := 3) rfl rfl (by decide) rfl (fun ls hl => ?_)
          refine lv_goto (tgt := 32) hx hb dX3_readLine_103 (by decide) ?_
          exact hk32 (v1 ||| ((1 : Int32) <<< (y8.1 &&& 31))) (v2 + 1) y17.1 y17.2.1 y17.2.2.1 y17.2.2.2.1 y17.2.2.2.2 y15.1 y15.2 _ _ _ h hP hD hS (lv_sub hl [3, 1, 0] rfl)
  have S_X3_readLine_32 : ∀ (n : Nat) (v1 : Int32) (v2 : Int32) (c_read : (Nat → Int32)) (c_at : Int32) (c_token : Int32) (c_number : Int32) (c_begins : Int32) (c_stops : Int32) (c_bad : Int32) (c_badPlace : Int32) (k106 : Int32 → Int32 → Int32 → Int32 → Int32 → Int32 → Int32 → Int32 → Option ((Nat → Int32) × Int32 × Int32 × Int32 × Int32 × Int32 × Int32 × Int32)), F_X3_readLine_32 N c_read c_tape c_textSize n v1 v2 c_at c_token c_number c_begins c_stops c_bad c_badPlace k106 = some ρ → (∀ (u1 : Int32) (z_c_at : Int32) (z_c_token : Int32) (z_c_number : Int32) (z_c_begins : Int32) (z_c_stops : Int32) (z_c_bad : Int32) (z_c_badPlace : Int32) (H : Heap) (locs : List Loc) (ls : Array Slot), k106 u1 z_c_at z_c_token z_c_number z_c_begins z_c_stops z_c_bad z_c_badPlace = some ρ → va_P G.2.1 vwCl (mW h0 ad G.2.2 c_code c_now c_read c_status c_tape c_taped z_c_at c_textSize z_c_token z_c_number z_c_begins z_c_stops z_c_bad z_c_badPlace c_faultPlace c_clauses c_naming c_lineBy c_becomes c_dualLines c_on c_rowNow c_least c_wayFirst c_ways c_acts c_past c_listPoints c_listLines c_listed c_list c_path c_places c_firstPlaces c_px c_py c_pz c_placeMany c_modulus c_drawn c_halvesMany c_halvesFirst c_spreadsMany c_spreadsFirst c_comesTo c_seedNow c_rowThen c_hasImage c_actsThen c_imageRow c_pastThen c_statusThen) H → va_D A (mW h0 ad G.2.2 c_code c_now c_read c_status c_tape c_taped z_c_at c_textSize z_c_token z_c_number z_c_begins z_c_stops z_c_bad z_c_badPlace c_faultPlace c_clauses c_naming c_lineBy c_becomes c_dualLines c_on c_rowNow c_least c_wayFirst c_ways c_acts c_past c_listPoints c_listLines c_listed c_list c_path c_places c_firstPlaces c_px c_py c_pz c_placeMany c_modulus c_drawn c_halvesMany c_halvesFirst c_spreadsMany c_spreadsFirst c_comesTo c_seedNow c_rowThen c_hasImage c_actsThen c_imageRow c_pastThen c_statusThen) → va_S A s.heap H locs → lv_has ls 4 [(0, .ref h0), (1, .int u1)] → W p l e (rmL 4 0 0) s m args below meth c H locs 0 0 Q (F0 m 106 ls [])) → ∀ (H : Heap) (locs : List Loc), va_P G.2.1 vwCl (mW h0 ad G.2.2 c_code c_now c_read c_status c_tape c_taped c_at c_textSize c_token c_number c_begins c_stops c_bad c_badPlace c_faultPlace c_clauses c_naming c_lineBy c_becomes c_dualLines c_on c_rowNow c_least c_wayFirst c_ways c_acts c_past c_listPoints c_listLines c_listed c_list c_path c_places c_firstPlaces c_px c_py c_pz c_placeMany c_modulus c_drawn c_halvesMany c_halvesFirst c_spreadsMany c_spreadsFirst c_comesTo c_seedNow c_rowThen c_hasImage c_actsThen c_imageRow c_pastThen c_statusThen) H → va_D A (mW h0 ad G.2.2 c_code c_now c_read c_status c_tape c_taped c_at c_textSize c_token c_number c_begins c_stops c_bad c_badPlace c_faultPlace c_clauses c_naming c_lineBy c_becomes c_dualLines c_on c_rowNow c_least c_wayFirst c_ways c_acts c_past c_listPoints c_listLines c_listed c_list c_path c_places c_firstPlaces c_px c_py c_pz c_placeMany c_modulus c_drawn c_halvesMany c_halvesFirst c_spreadsMany c_spreadsFirst c_comesTo c_seedNow c_rowThen c_hasImage c_actsThen c_imageRow c_pastThen c_statusThen) → va_S A s.heap H locs → ∀ (ls : Array Slot), lv_has ls 4 [(0, .ref h0), (1, .int v1), (2, .int v2)] → W p l e (rmL 4 0 0) s m args below meth c H locs 0 0 Q (F0 m 32 ls []) := by
    intro n
    induction n with
    | zero =>
      intro v1 v2 c_read c_at c_token c_number c_begins c_stops c_bad c_badPlace k106 h
      exact absurd h (by simp [F_X3_readLine_32])
    | succ n ih =>
      intro v1 v2 c_read c_at c_token c_number c_begins c_stops c_bad c_badPlace k106 h hk106 H locs hP hD hS ls hl
      rw [F_X3_readLine_32] at h
      refine lv_iload_n hx hb dX3_readLine_32 rfl (lv_at hl 2 rfl) ?_
      refine lv_iconst (v := 4) hx hb dX3_readLine_33 (by decide) ?_
      refine lv_icmp_ge (tgt := 106) hx hb dX3_readLine_34 (by decide) (fun c5 => ?_) (fun c5 => ?_)
      · rw [if_pos c5] at h
        exact hk106 v1 c_at c_token c_number c_begins c_stops c_bad c_badPlace _ _ _ h hP hD hS (lv_sub hl [0, 1] rfl)
      · rw [if_neg c5] at h
        refine lv_aload_n hx hb dX3_readLine_37 rfl (lv_at hl 0 rfl) ?_
        refine va_get (ci := 2) (v := .int c_bad) (C := RX3) (T := TX3) (N := 52) hx hb hts in_X3 hown hK hP 0 rfl rfl 12 (by decide) (hts _ q1670) (fun _ h9 => h9) rfl dX3_readLine_38 ?_
        refine lv_if_ne (tgt := 106) hx hb dX3_readLine_41 (by decide) (fun c6 => ?_) (fun c6 => ?_)
        · rw [if_neg c6] at h
          exact hk106 v1 c_at c_token c_number c_begins c_stops c_bad c_badPlace _ _ _ h hP hD hS (lv_sub hl [0, 1] rfl)
        · rw [if_pos c6] at h
          refine lv_iload_n hx hb dX3_readLine_44 rfl (lv_at hl 2 rfl) ?_
          refine lv_iconst (v := 2) hx hb dX3_readLine_45 (by decide) ?_
          refine lv_icmp_lt (tgt := 57) hx hb dX3_readLine_46 (by decide) (fun c7 => ?_) (fun c7 => ?_)
          · rw [if_pos c7] at h
            refine S_X3_readLine_57 v1 v2 c_read c_at c_token c_number c_begins c_stops c_bad c_badPlace _ h (fun u1 u2 z_c_at z_c_token z_c_number z_c_begins z_c_stops z_c_bad z_c_badPlace H locs ls h hP hD hS hl => ih u1 u2 c_read z_c_at z_c_token z_c_number z_c_begins z_c_stops z_c_bad z_c_badPlace _ h hk106 H locs hP hD hS ls hl) _ _ hP hD hS _ (lv_sub hl [0, 1, 2] rfl)
          · rw [if_neg c7] at h
            refine lv_aload_n hx hb dX3_readLine_49 rfl (lv_at hl 0 rfl) ?_
            refine va_get (ci := 2) (v := .int c_token) (C := RX3) (T := TX3) (N := 52) hx hb hts in_X3 hown hK hP 0 rfl rfl 8 (by decide) (hts _ q1666) (fun _ h9 => h9) rfl dX3_readLine_50 ?_
            refine lv_iconst (v := 2) hx hb dX3_readLine_53 (by decide) ?_
            refine lv_icmp_ne (tgt := 106) hx hb dX3_readLine_54 (by decide) (fun c18 => ?_) (fun c18 => ?_)
            · rw [if_neg c18] at h
              exact hk106 v1 c_at c_token c_number c_begins c_stops c_bad c_badPlace _ _ _ h hP hD hS (lv_sub hl [0, 1] rfl)
            · rw [if_pos c18] at h
              refine S_X3_readLine_57 v1 v2 c_read c_at c_token c_number c_begins c_stops c_bad c_badPlace _ h (fun u1 u2 z_c_at z_c_token z_c_number z_c_begins z_c_stops z_c_bad z_c_badPlace H locs ls h hP hD hS hl => ih u1 u2 c_read z_c_at z_c_token z_c_number z_c_begins z_c_stops z_c_bad z_c_badPlace _ h hk106 H locs hP hD hS ls hl) _ _ hP hD hS _ (lv_sub hl [0, 1, 2] rfl)
  have S_X3_readLine_138 : ∀ (v1 : Int32) (c_read : (Nat → Int32)) (c_at : Int32) (c_token : Int32) (c_number : Int32) (c_begins : Int32) (c_stops : Int32) (c_bad : Int32) (c_badPlace : Int32), F_X3_readLine_138 N c_at c_token c_number c_begins c_stops c_bad c_badPlace v1 c_read = some ρ → ∀ (H : Heap) (locs : List Loc), va_P G.2.1 vwCl (mW h0 ad G.2.2 c_code c_now c_read c_status c_tape c_taped c_at c_textSize c_token c_number c_begins c_stops c_bad c_badPlace c_faultPlace c_clauses c_naming c_lineBy c_becomes c_dualLines c_on c_rowNow c_least c_wayFirst c_ways c_acts c_past c_listPoints c_listLines c_listed c_list c_path c_places c_firstPlaces c_px c_py c_pz c_placeMany c_modulus c_drawn c_halvesMany c_halvesFirst c_spreadsMany c_spreadsFirst c_comesTo c_seedNow c_rowThen c_hasImage c_actsThen c_imageRow c_pastThen c_statusThen) H → va_D A (mW h0 ad G.2.2 c_code c_now c_read c_status c_tape c_taped c_at c_textSize c_token c_number c_begins c_stops c_bad c_badPlace c_faultPlace c_clauses c_naming c_lineBy c_becomes c_dualLines c_on c_rowNow c_least c_wayFirst c_ways c_acts c_past c_listPoints c_listLines c_listed c_list c_path c_places c_firstPlaces c_px c_py c_pz c_placeMany c_modulus c_drawn c_halvesMany c_halvesFirst c_spreadsMany c_spreadsFirst c_comesTo c_seedNow c_rowThen c_hasImage c_actsThen c_imageRow c_pastThen c_statusThen) → va_S A s.heap H locs → ∀ (ls : Array Slot), lv_has ls 4 [(0, .ref h0), (1, .int v1)] → W p l e (rmL 4 0 0) s m args below meth c H locs 0 0 Q (F0 m 138 ls []) := by
    intro v1 c_read c_at c_token c_number c_begins c_stops c_bad c_badPlace h H locs hP hD hS ls hl
    rw [F_X3_readLine_138] at h
    refine lv_aload_n hx hb dX3_readLine_138 rfl (lv_at hl 0 rfl) ?_
    refine va_get (ci := 2) (v := .ref (ad 2)) (C := RX3) (T := TX3) (N := 52) hx hb hts in_X3 hown hK hP 0 rfl rfl 2 (by decide) (hts _ q1660) (fun _ h9 => h9) rfl dX3_readLine_139 ?_
    refine lv_iconst (v := 2) hx hb dX3_readLine_142 (by decide) ?_
    refine lv_aload_n hx hb dX3_readLine_143 rfl (lv_at hl 0 rfl) ?_
    refine va_get (ci := 2) (v := .ref (ad 2)) (C := RX3) (T := TX3) (N := 52) hx hb hts in_X3 hown hK hP 0 rfl rfl 2 (by decide) (hts _ q1660) (fun _ h9 => h9) rfl dX3_readLine_144 ?_
    refine lv_iconst (v := 1) hx hb dX3_readLine_147 (by decide) ?_
    obtain ⟨i21, h⟩ := ckI_s h
    refine va_iald (f := c_read) hx hb hK hP 2 0 rfl rfl i21 dX3_readLine_148 ?_
    refine lv_iadd hx hb dX3_readLine_149 ?_
    refine lv_iload_n hx hb dX3_readLine_150 rfl (lv_at hl 1 rfl) ?_
    obtain ⟨i22, h⟩ := ckI_s h
    refine va_iast (f := c_read) hx hb hK hP hD hS 2 0 rfl rfl i22 dX3_readLine_151 (fun H locs hP hD hS => ?_)
    have hP : va_P G.2.1 vwCl (mW h0 ad G.2.2 c_code c_now (upd c_read (Int32.toNatClampNeg ((2 : Int32) + (c_read (Int32.toNatClampNeg 1)))) v1) c_status c_tape c_taped c_at c_textSize c_token c_number c_begins c_stops c_bad c_badPlace c_faultPlace c_clauses c_naming c_lineBy c_becomes c_dualLines c_on c_rowNow c_least c_wayFirst c_ways c_acts c_past c_listPoints c_listLines c_listed c_list c_path c_places c_firstPlaces c_px c_py c_pz c_placeMany c_modulus c_drawn c_halvesMany c_halvesFirst c_spreadsMany c_spreadsFirst c_comesTo c_seedNow c_rowThen c_hasImage c_actsThen c_imageRow c_pastThen c_statusThen) H := hP
    have hD : va_D A (mW h0 ad G.2.2 c_code c_now (upd c_read (Int32.toNatClampNeg ((2 : Int32) + (c_read (Int32.toNatClampNeg 1)))) v1) c_status c_tape c_taped c_at c_textSize c_token c_number c_begins c_stops c_bad c_badPlace c_faultPlace c_clauses c_naming c_lineBy c_becomes c_dualLines c_on c_rowNow c_least c_wayFirst c_ways c_acts c_past c_listPoints c_listLines c_listed c_list c_path c_places c_firstPlaces c_px c_py c_pz c_placeMany c_modulus c_drawn c_halvesMany c_halvesFirst c_spreadsMany c_spreadsFirst c_comesTo c_seedNow c_rowThen c_hasImage c_actsThen c_imageRow c_pastThen c_statusThen) := hD
    refine lv_aload_n hx hb dX3_readLine_152 rfl (lv_at hl 0 rfl) ?_
    refine va_get (ci := 2) (v := .ref (ad 2)) (C := RX3) (T := TX3) (N := 52) hx hb hts in_X3 hown hK hP 0 rfl rfl 2 (by decide) (hts _ q1660) (fun _ h9 => h9) rfl dX3_readLine_153 ?_
    refine lv_iconst (v := 1) hx hb dX3_readLine_156 (by decide) ?_
    refine lv_dup2_11 hx hb dX3_readLine_157 rfl rfl ?_
    obtain ⟨i23, h⟩ := ckI_s h
    refine va_iald (f := (upd c_read (Int32.toNatClampNeg ((2 : Int32) + (c_read (Int32.toNatClampNeg 1)))) v1)) hx hb hK hP 2 0 rfl rfl i23 dX3_readLine_158 ?_
    refine lv_iconst (v := 1) hx hb dX3_readLine_159 (by decide) ?_
    refine lv_iadd hx hb dX3_readLine_160 ?_
    obtain ⟨i24, h⟩ := ckI_s h
    refine va_iast (f := (upd c_read (Int32.toNatClampNeg ((2 : Int32) + (c_read (Int32.toNatClampNeg 1)))) v1)) hx hb hK hP hD hS 2 0 rfl rfl i24 dX3_readLine_161 (fun H locs hP hD hS => ?_)
    have hP : va_P G.2.1 vwCl (mW h0 ad G.2.2 c_code c_now (upd (upd c_read (Int32.toNatClampNeg ((2 : Int32) + (c_read (Int32.toNatClampNeg 1)))) v1) (Int32.toNatClampNeg 1) (((upd c_read (Int32.toNatClampNeg ((2 : Int32) + (c_read (Int32.toNatClampNeg 1)))) v1) (Int32.toNatClampNeg 1)) + (1 : Int32))) c_status c_tape c_taped c_at c_textSize c_token c_number c_begins c_stops c_bad c_badPlace c_faultPlace c_clauses c_naming c_lineBy c_becomes c_dualLines c_on c_rowNow c_least c_wayFirst c_ways c_acts c_past c_listPoints c_listLines c_listed c_list c_path c_places c_firstPlaces c_px c_py c_pz c_placeMany c_modulus c_drawn c_halvesMany c_halvesFirst c_spreadsMany c_spreadsFirst c_comesTo c_seedNow c_rowThen c_hasImage c_actsThen c_imageRow c_pastThen c_statusThen) H := hP
    have hD : va_D A (mW h0 ad G.2.2 c_code c_now (upd (upd c_read (Int32.toNatClampNeg ((2 : Int32) + (c_read (Int32.toNatClampNeg 1)))) v1) (Int32.toNatClampNeg 1) (((upd c_read (Int32.toNatClampNeg ((2 : Int32) + (c_read (Int32.toNatClampNeg 1)))) v1) (Int32.toNatClampNeg 1)) + (1 : Int32))) c_status c_tape c_taped c_at c_textSize c_token c_number c_begins c_stops c_bad c_badPlace c_faultPlace c_clauses c_naming c_lineBy c_becomes c_dualLines c_on c_rowNow c_least c_wayFirst c_ways c_acts c_past c_listPoints c_listLines c_listed c_list c_path c_places c_firstPlaces c_px c_py c_pz c_placeMany c_modulus c_drawn c_halvesMany c_halvesFirst c_spreadsMany c_spreadsFirst c_comesTo c_seedNow c_rowThen c_hasImage c_actsThen c_imageRow c_pastThen c_statusThen) := hD
    obtain rfl := Option.some.inj h
    exact hretv rfl dX3_readLine_162 rfl hP hD hS
  have S_X3_readLine_106 : ∀ (v1 : Int32) (c_read : (Nat → Int32)) (c_at : Int32) (c_token : Int32) (c_number : Int32) (c_begins : Int32) (c_stops : Int32) (c_bad : Int32) (c_badPlace : Int32), F_X3_readLine_106 N c_tape c_at c_number c_stops v1 c_read c_token c_begins c_bad c_badPlace = some ρ → ∀ (H : Heap) (locs : List Loc), va_P G.2.1 vwCl (mW h0 ad G.2.2 c_code c_now c_read c_status c_tape c_taped c_at c_textSize c_token c_number c_begins c_stops c_bad c_badPlace c_faultPlace c_clauses c_naming c_lineBy c_becomes c_dualLines c_on c_rowNow c_least c_wayFirst c_ways c_acts c_past c_listPoints c_listLines c_listed c_list c_path c_places c_firstPlaces c_px c_py c_pz c_placeMany c_modulus c_drawn c_halvesMany c_halvesFirst c_spreadsMany c_spreadsFirst c_comesTo c_seedNow c_rowThen c_hasImage c_actsThen c_imageRow c_pastThen c_statusThen) H → va_D A (mW h0 ad G.2.2 c_code c_now c_read c_status c_tape c_taped c_at c_textSize c_token c_number c_begins c_stops c_bad c_badPlace c_faultPlace c_clauses c_naming c_lineBy c_becomes c_dualLines c_on c_rowNow c_least c_wayFirst c_ways c_acts c_past c_listPoints c_listLines c_listed c_list c_path c_places c_firstPlaces c_px c_py c_pz c_placeMany c_modulus c_drawn c_halvesMany c_halvesFirst c_spreadsMany c_spreadsFirst c_comesTo c_seedNow c_rowThen c_hasImage c_actsThen c_imageRow c_pastThen c_statusThen) → va_S A s.heap H locs → ∀ (ls : Array Slot), lv_has ls 4 [(0, .ref h0), (1, .int v1)] → W p l e (rmL 4 0 0) s m args below meth c H locs 0 0 Q (F0 m 106 ls []) := by
    intro v1 c_read c_at c_token c_number c_begins c_stops c_bad c_badPlace h H locs hP hD hS ls hl
    rw [F_X3_readLine_106] at h
    refine lv_aload_n hx hb dX3_readLine_106 rfl (lv_at hl 0 rfl) ?_
    refine va_get (ci := 2) (v := .int c_bad) (C := RX3) (T := TX3) (N := 52) hx hb hts in_X3 hown hK hP 0 rfl rfl 12 (by decide) (hts _ q1670) (fun _ h9 => h9) rfl dX3_readLine_107 ?_
    refine lv_if_ne (tgt := 138) hx hb dX3_readLine_110 (by decide) (fun c20 => ?_) (fun c20 => ?_)
    · rw [if_neg c20] at h
      refine S_X3_readLine_138 v1 c_read c_at c_token c_number c_begins c_stops c_bad c_badPlace h  _ _ hP hD hS _ (lv_sub hl [0, 1] rfl)
    · rw [if_pos c20] at h
      refine lv_aload_n hx hb dX3_readLine_113 rfl (lv_at hl 0 rfl) ?_
      refine lv_bipush (v := 59) hx hb dX3_readLine_114 (by decide) ?_
      obtain ⟨y26, e26, h⟩ := ob_s h
      refine MR.callV (q0 := 0) (M_X3_isMarked hG e26) S (cw_X3_isMarked hts q1889 ⟨Nat.le_of_ble_eq_true rfl, Nat.le_of_ble_eq_true rfl⟩) hW0 hK hP rfl rfl rfl hl.1 rfl (Nat.le_of_ble_eq_true rfl) dX3_readLine_116 ⟨Nat.zero_le _, Nat.zero_le _⟩ ?_
      refine lv_if_eq (tgt := 138) hx hb dX3_readLine_119 (by decide) (fun c27 => ?_) (fun c27 => ?_)
      · rw [if_pos c27] at h
        refine S_X3_readLine_138 v1 c_read c_at c_token c_number c_begins c_stops c_bad c_badPlace h  _ _ hP hD hS _ (lv_sub hl [0, 1] rfl)
      · rw [if_neg c27] at h
        refine lv_aload_n hx hb dX3_readLine_122 rfl (lv_at hl 0 rfl) ?_
        refine va_get (ci := 2) (v := .ref (ad 2)) (C := RX3) (T := TX3) (N := 52) hx hb hts in_X3 hown hK hP 0 rfl rfl 2 (by decide) (hts _ q1660) (fun _ h9 => h9) rfl dX3_readLine_123 ?_
        refine lv_iload_n hx hb dX3_readLine_126 rfl (lv_at hl 1 rfl) ?_
        obtain ⟨y28, e28, h⟩ := ob_s h
        refine MR.callS (M_X3_sharesTwo hG e28) S (cw_X3_sharesTwo hts q1893 ⟨Nat.le_of_ble_eq_true rfl, Nat.le_of_ble_eq_true rfl⟩) hW0 (hP.sub [2] rfl) rfl hl.1 rfl (Nat.le_of_ble_eq_true rfl) dX3_readLine_127 ⟨Nat.zero_le _, Nat.zero_le _⟩ ?_
        refine lv_if_eq (tgt := 138) hx hb dX3_readLine_130 (by decide) (fun c29 => ?_) (fun c29 => ?_)
        · rw [if_pos c29] at h
          refine S_X3_readLine_138 v1 c_read c_at c_token c_number c_begins c_stops c_bad c_badPlace h  _ _ hP hD hS _ (lv_sub hl [0, 1] rfl)
        · rw [if_neg c29] at h
          refine lv_aload_n hx hb dX3_readLine_133 rfl (lv_at hl 0 rfl) ?_
          refine lv_iconst (v := 5) hx hb dX3_readLine_134 (by decide) ?_
          obtain ⟨y30, e30, h⟩ := ob_s h
          refine MW.callV (q0 := 0) (M_X3_wrong hG e30) S (cw_X3_wrong hts q1868 ⟨Nat.le_of_ble_eq_true rfl, Nat.le_of_ble_eq_true rfl⟩) hW0 hK hP hD hS hA rfl rfl rfl hl.1 rfl (Nat.le_of_ble_eq_true rfl) dX3_readLine_135 ⟨Nat.zero_le _, Nat.zero_le _⟩ (fun H locs hP hD hS => ?_)
          have hP : va_P G.2.1 vwCl (mW h0 ad G.2.2 c_code c_now c_read c_status c_tape c_taped c_at c_textSize c_token c_number c_begins c_stops y30.1 y30.2 c_faultPlace c_clauses c_naming c_lineBy c_becomes c_dualLines c_on c_rowNow c_least c_wayFirst c_ways c_acts c_past c_listPoints c_listLines c_listed c_list c_path c_places c_firstPlaces c_px c_py c_pz c_placeMany c_modulus c_drawn c_halvesMany c_halvesFirst c_spreadsMany c_spreadsFirst c_comesTo c_seedNow c_rowThen c_hasImage c_actsThen c_imageRow c_pastThen c_statusThen) H := hP
          have hD : va_D A (mW h0 ad G.2.2 c_code c_now c_read c_status c_tape c_taped c_at c_textSize c_token c_number c_begins c_stops y30.1 y30.2 c_faultPlace c_clauses c_naming c_lineBy c_becomes c_dualLines c_on c_rowNow c_least c_wayFirst c_ways c_acts c_past c_listPoints c_listLines c_listed c_list c_path c_places c_firstPlaces c_px c_py c_pz c_placeMany c_modulus c_drawn c_halvesMany c_halvesFirst c_spreadsMany c_spreadsFirst c_comesTo c_seedNow c_rowThen c_hasImage c_actsThen c_imageRow c_pastThen c_statusThen) := hD
          refine W.eq (g2 := F0 m 138 ls []) rfl ?_
          refine S_X3_readLine_138 v1 c_read c_at c_token c_number c_begins c_stops y30.1 y30.2 h  _ _ hP hD hS _ (lv_sub hl [0, 1] rfl)
  have S_X3_readLine_16 : ∀ (c_read : (Nat → Int32)) (c_at : Int32) (c_token : Int32) (c_number : Int32) (c_begins : Int32) (c_stops : Int32) (c_bad : Int32) (c_badPlace : Int32), F_X3_readLine_16 N c_tape c_textSize c_read c_at c_token c_number c_begins c_stops c_bad c_badPlace = some ρ → ∀ (H : Heap) (locs : List Loc), va_P G.2.1 vwCl (mW h0 ad G.2.2 c_code c_now c_read c_status c_tape c_taped c_at c_textSize c_token c_number c_begins c_stops c_bad c_badPlace c_faultPlace c_clauses c_naming c_lineBy c_becomes c_dualLines c_on c_rowNow c_least c_wayFirst c_ways c_acts c_past c_listPoints c_listLines c_listed c_list c_path c_places c_firstPlaces c_px c_py c_pz c_placeMany c_modulus c_drawn c_halvesMany c_halvesFirst c_spreadsMany c_spreadsFirst c_comesTo c_seedNow c_rowThen c_hasImage c_actsThen c_imageRow c_pastThen c_statusThen) H → va_D A (mW h0 ad G.2.2 c_code c_now c_read c_status c_tape c_taped c_at c_textSize c_token c_number c_begins c_stops c_bad c_badPlace c_faultPlace c_clauses c_naming c_lineBy c_becomes c_dualLines c_on c_rowNow c_least c_wayFirst c_ways c_acts c_past c_listPoints c_listLines c_listed c_list c_path c_places c_firstPlaces c_px c_py c_pz c_placeMany c_modulus c_drawn c_halvesMany c_halvesFirst c_spreadsMany c_spreadsFirst c_comesTo c_seedNow c_rowThen c_hasImage c_actsThen c_imageRow c_pastThen c_statusThen) → va_S A s.heap H locs → ∀ (ls : Array Slot), lv_has ls 4 [(0, .ref h0)] → W p l e (rmL 4 0 0) s m args below meth c H locs 0 0 Q (F0 m 16 ls []) := by
    intro c_read c_at c_token c_number c_begins c_stops c_bad c_badPlace h H locs hP hD hS ls hl
    rw [F_X3_readLine_16] at h
    refine lv_aload_n hx hb dX3_readLine_16 rfl (lv_at hl 0 rfl) ?_
    refine va_get (ci := 2) (v := .int c_bad) (C := RX3) (T := TX3) (N := 52) hx hb hts in_X3 hown hK hP 0 rfl rfl 12 (by decide) (hts _ q1670) (fun _ h9 => h9) rfl dX3_readLine_17 ?_
    refine lv_if_eq (tgt := 24) hx hb dX3_readLine_20 (by decide) (fun c3 => ?_) (fun c3 => ?_)
    · rw [if_pos c3] at h
      refine lv_aload_n hx hb dX3_readLine_24 rfl (lv_at hl 0 rfl) ?_
      obtain ⟨y4, e4, h⟩ := ob_s h
      refine MW.callV (q0 := 0) (M_X3_stepOn hG e4) S (cw_X3_stepOn hts q1831 ⟨Nat.le_of_ble_eq_true rfl, Nat.le_of_ble_eq_true rfl⟩) hW0 hK hP hD hS hA rfl rfl rfl hl.1 rfl (Nat.le_of_ble_eq_true rfl) dX3_readLine_25 ⟨Nat.zero_le _, Nat.zero_le _⟩ (fun H locs hP hD hS => ?_)
      have hP : va_P G.2.1 vwCl (mW h0 ad G.2.2 c_code c_now c_read c_status c_tape c_taped y4.1 c_textSize y4.2.1 y4.2.2.1 y4.2.2.2.1 y4.2.2.2.2 c_bad c_badPlace c_faultPlace c_clauses c_naming c_lineBy c_becomes c_dualLines c_on c_rowNow c_least c_wayFirst c_ways c_acts c_past c_listPoints c_listLines c_listed c_list c_path c_places c_firstPlaces c_px c_py c_pz c_placeMany c_modulus c_drawn c_halvesMany c_halvesFirst c_spreadsMany c_spreadsFirst c_comesTo c_seedNow c_rowThen c_hasImage c_actsThen c_imageRow c_pastThen c_statusThen) H := hP
      have hD : va_D A (mW h0 ad G.2.2 c_code c_now c_read c_status c_tape c_taped y4.1 c_textSize y4.2.1 y4.2.2.1 y4.2.2.2.1 y4.2.2.2.2 c_bad c_badPlace c_faultPlace c_clauses c_naming c_lineBy c_becomes c_dualLines c_on c_rowNow c_least c_wayFirst c_ways c_acts c_past c_listPoints c_listLines c_listed c_list c_path c_places c_firstPlaces c_px c_py c_pz c_placeMany c_modulus c_drawn c_halvesMany c_halvesFirst c_spreadsMany c_spreadsFirst c_comesTo c_seedNow c_rowThen c_hasImage c_actsThen c_imageRow c_pastThen c_statusThen) := hD
      refine W.eq (g2 := F0 m 28 ls []) rfl ?_
      refine lv_iconst (v := 0) hx hb dX3_readLine_28 (by decide) ?_
      refine lv_istore_n (lv' := [(1, .int 0), (0, .ref h0)]) hx hb dX3_readLine_29 rfl hl (by decide) rfl (fun ls hl => ?_)
      refine lv_iconst (v := 0) hx hb dX3_readLine_30 (by decide) ?_
      refine lv_istore_n (lv' := [(2, .int 0), (1, .int 0), (0, .ref h0)]) hx hb dX3_readLine_31 rfl hl (by decide) rfl (fun ls hl => ?_)
      refine S_X3_readLine_32 N 0 0 c_read y4.1 y4.2.1 y4.2.2.1 y4.2.2.2.1 y4.2.2.2.2 c_bad c_badPlace _ h ?_ _ _ hP hD hS _ (lv_sub hl [2, 1, 0] rfl)
      · intro u1_19 c_at_19 c_token_19 c_number_19 c_begins_19 c_stops_19 c_bad_19 c_badPlace_19 H locs ls h hP hD hS hl
        refine S_X3_readLine_106 u1_19 c_read c_at_19 c_token_19 c_number_19 c_begins_19 c_stops_19 c_bad_19 c_badPlace_19 h  _ _ hP hD hS _ (lv_sub hl [0, 1] rfl)
    · rw [if_neg c3] at h
      obtain rfl := Option.some.inj h
      exact hretv rfl dX3_readLine_23 rfl hP hD hS
  refine lv_aload_n hx hb dX3_readLine_0 rfl (lv_at hl 0 rfl) ?_
  refine va_get (ci := 2) (v := .ref (ad 2)) (C := RX3) (T := TX3) (N := 52) hx hb hts in_X3 hown hK hP 0 rfl rfl 2 (by decide) (hts _ q1660) (fun _ h9 => h9) rfl dX3_readLine_1 ?_
  refine lv_iconst (v := 1) hx hb dX3_readLine_4 (by decide) ?_
  obtain ⟨i1, h⟩ := ckI_s h
  refine va_iald (f := c_read) hx hb hK hP 2 0 rfl rfl i1 dX3_readLine_5 ?_
  refine lv_bipush (v := 12) hx hb dX3_readLine_6 (by decide) ?_
  refine lv_icmp_ne (tgt := 16) hx hb dX3_readLine_8 (by decide) (fun c2 => ?_) (fun c2 => ?_)
  · rw [if_neg c2] at h
    refine S_X3_readLine_16 c_read c_at c_token c_number c_begins c_stops c_bad c_badPlace h  _ _ hP hD hS _ (lv_sub hl [0] rfl)
  · rw [if_pos c2] at h
    refine lv_aload_n hx hb dX3_readLine_11 rfl (lv_at hl 0 rfl) ?_
    refine lv_iconst (v := 2) hx hb dX3_readLine_12 (by decide) ?_
    obtain ⟨y32, e32, h⟩ := ob_s h
    refine MW.callV (q0 := 0) (M_X3_wrong hG e32) S (cw_X3_wrong hts q1868 ⟨Nat.le_of_ble_eq_true rfl, Nat.le_of_ble_eq_true rfl⟩) hW0 hK hP hD hS hA rfl rfl rfl hl.1 rfl (Nat.le_of_ble_eq_true rfl) dX3_readLine_13 ⟨Nat.zero_le _, Nat.zero_le _⟩ (fun H locs hP hD hS => ?_)
    have hP : va_P G.2.1 vwCl (mW h0 ad G.2.2 c_code c_now c_read c_status c_tape c_taped c_at c_textSize c_token c_number c_begins c_stops y32.1 y32.2 c_faultPlace c_clauses c_naming c_lineBy c_becomes c_dualLines c_on c_rowNow c_least c_wayFirst c_ways c_acts c_past c_listPoints c_listLines c_listed c_list c_path c_places c_firstPlaces c_px c_py c_pz c_placeMany c_modulus c_drawn c_halvesMany c_halvesFirst c_spreadsMany c_spreadsFirst c_comesTo c_seedNow c_rowThen c_hasImage c_actsThen c_imageRow c_pastThen c_statusThen) H := hP
    have hD : va_D A (mW h0 ad G.2.2 c_code c_now c_read c_status c_tape c_taped c_at c_textSize c_token c_number c_begins c_stops y32.1 y32.2 c_faultPlace c_clauses c_naming c_lineBy c_becomes c_dualLines c_on c_rowNow c_least c_wayFirst c_ways c_acts c_past c_listPoints c_listLines c_listed c_list c_path c_places c_firstPlaces c_px c_py c_pz c_placeMany c_modulus c_drawn c_halvesMany c_halvesFirst c_spreadsMany c_spreadsFirst c_comesTo c_seedNow c_rowThen c_hasImage c_actsThen c_imageRow c_pastThen c_statusThen) := hD
    refine W.eq (g2 := F0 m 16 ls []) rfl ?_
    refine S_X3_readLine_16 c_read c_at c_token c_number c_begins c_stops y32.1 y32.2 h  _ _ hP hD hS _ (lv_sub hl [0] rfl)
def F_X3_readSigned (N : Nat) (c_tape : (Nat → Int32)) (c_at : Int32) (c_textSize : Int32) (c_token : Int32) (c_number : Int32) (c_begins : Int32) (c_stops : Int32) (c_bad : Int32) (c_badPlace : Int32) : Option (Int32 × Int32 × Int32 × Int32 × Int32 × Int32 × Int32 × Int32) := ((F_X3_isMarked N 45 c_tape c_token c_begins c_bad).bind fun y1 => (if y1 = 0 then ((F_X3_readNumber N 0 9 c_tape c_at c_textSize c_token c_number c_begins c_stops c_bad c_badPlace).bind fun y3 => (if y1 = 0 then (some (y3.1, y3.2.1, y3.2.2.1, y3.2.2.2.1, y3.2.2.2.2.1, y3.2.2.2.2.2.1, y3.2.2.2.2.2.2.1, y3.2.2.2.2.2.2.2)) else (some ((-y3.1), y3.2.1, y3.2.2.1, y3.2.2.2.1, y3.2.2.2.2.1, y3.2.2.2.2.2.1, y3.2.2.2.2.2.2.1, y3.2.2.2.2.2.2.2)))) else ((F_X3_stepOn N c_tape c_at c_textSize c_token c_number c_begins c_stops).bind fun y7 => ((F_X3_readNumber N 0 9 c_tape y7.1 c_textSize y7.2.1 y7.2.2.1 y7.2.2.2.1 y7.2.2.2.2 c_bad c_badPlace).bind fun y8 => (if y1 = 0 then (some (y8.1, y8.2.1, y8.2.2.1, y8.2.2.2.1, y8.2.2.2.2.1, y8.2.2.2.2.2.1, y8.2.2.2.2.2.2.1, y8.2.2.2.2.2.2.2)) else (some ((-y8.1), y8.2.1, y8.2.2.1, y8.2.2.2.1, y8.2.2.2.2.1, y8.2.2.2.2.2.1, y8.2.2.2.2.2.2.1, y8.2.2.2.2.2.2.2)))))))
theorem cw_X3_readSigned {R : Room} {s : State} {args : Array Value} {own : String} {index lev mc ms : Nat} (hts : ∀ w ∈ lw_all, w.before args s = true) (hl : Cond.methodLink own index yX3_readSigned ∈ lw_all) (hR : (rmL lev mc ms).frames + 1 ≤ R.frames ∧ 8 + (3 + 11) + (rmL lev mc ms).locals ≤ R.locals) : CallW R s args own RX3 index yX3_readSigned cX3_readSigned 3 (some .int) (ws_ yX3_readSigned cX3_readSigned 3 (some .int)) (rmL lev mc ms) mc ms 0 := cwV 0 hts (lw_V hl q1903 qs82 q172 q1904) rfl rfl rfl (by decide +kernel) hR
set_option maxHeartbeats 4000000 in
theorem M_X3_readSigned {l : Launch} {G : GE} (hG : GC G) {N : Nat} {h0 : Nat} {ad : Nat → Nat} {c_code : Int32} {c_now : (Nat → Int32)} {c_read : (Nat → Int32)} {c_status : (Nat → Int32)} {c_taped : Int32} {c_faultPlace : Int32} {c_clauses : Int32} {c_naming : (Nat → Int32)} {c_lineBy : (Nat → Int32)} {c_becomes : (Nat → Int32)} {c_dualLines : (Nat → Int32)} {c_on : (Nat → Int32)} {c_rowNow : (Nat → Int32)} {c_least : (Nat → Int32)} {c_wayFirst : (Nat → Int32)} {c_ways : Int32} {c_acts : Int32} {c_past : (Nat → Int32)} {c_listPoints : Int32} {c_listLines : Int32} {c_listed : Int32} {c_list : (Nat → Int32)} {c_path : (Nat → Int32)} {c_places : (Nat → Int32)} {c_firstPlaces : (Nat → Int32)} {c_px : (Nat → Int32)} {c_py : (Nat → Int32)} {c_pz : (Nat → Int32)} {c_placeMany : Int32} {c_modulus : Int32} {c_drawn : Int32} {c_halvesMany : Int32} {c_halvesFirst : Int32} {c_spreadsMany : Int32} {c_spreadsFirst : Int32} {c_comesTo : (Nat → Int32)} {c_seedNow : Int32} {c_rowThen : (Nat → Int32)} {c_hasImage : Int32} {c_actsThen : Int32} {c_imageRow : (Nat → Int32)} {c_pastThen : (Nat → Int32)} {c_statusThen : (Nat → Int32)} {c_tape : (Nat → Int32)} {c_at : Int32} {c_textSize : Int32} {c_token : Int32} {c_number : Int32} {c_begins : Int32} {c_stops : Int32} {c_bad : Int32} {c_badPlace : Int32} {ρ : (Int32 × Int32 × Int32 × Int32 × Int32 × Int32 × Int32 × Int32)} (h : F_X3_readSigned N c_tape c_at c_textSize c_token c_number c_begins c_stops c_bad c_badPlace = some ρ) : MW l G yX3_readSigned cX3_readSigned 3 (some .int) 4 (mW h0 ad G.2.2 c_code c_now c_read c_status c_tape c_taped c_at c_textSize c_token c_number c_begins c_stops c_bad c_badPlace c_faultPlace c_clauses c_naming c_lineBy c_becomes c_dualLines c_on c_rowNow c_least c_wayFirst c_ways c_acts c_past c_listPoints c_listLines c_listed c_list c_path c_places c_firstPlaces c_px c_py c_pz c_placeMany c_modulus c_drawn c_halvesMany c_halvesFirst c_spreadsMany c_spreadsFirst c_comesTo c_seedNow c_rowThen c_hasImage c_actsThen c_imageRow c_pastThen c_statusThen) [.ref h0] (some (.int ρ.1)) (mW h0 ad G.2.2 c_code c_now c_read c_status c_tape c_taped ρ.2.1 c_textSize ρ.2.2.1 ρ.2.2.2.1 ρ.2.2.2.2.1 ρ.2.2.2.2.2.1 ρ.2.2.2.2.2.2.1 ρ.2.2.2.2.2.2.2 c_faultPlace c_clauses c_naming c_lineBy c_becomes c_dualLines c_on c_rowNow c_least c_wayFirst c_ways c_acts c_past c_listPoints c_listLines c_listed c_list c_path c_places c_firstPlaces c_px c_py c_pz c_placeMany c_modulus c_drawn c_halvesMany c_halvesFirst c_spreadsMany c_spreadsFirst c_comesTo c_seedNow c_rowThen c_hasImage c_actsThen c_imageRow c_pastThen c_statusThen) := by
  rw [F_X3_readSigned] at h
  refine MW.start hG (by decide) (Nat.le_of_ble_eq_true rfl) ?_
  intro p e s m args below meth c Q A S hW0 hK hP hD hA hreti hretv ls hl
  have hS : va_S A s.heap s.heap [] := va_S.rf
  obtain ⟨hx, hb, hml, hown, hts⟩ := id S
  have hl : lv_has ls 3 [(0, .ref h0)] := hl
  refine lv_aload_n hx hb dX3_readSigned_0 rfl (lv_at hl 0 rfl) ?_
  refine lv_bipush (v := 45) hx hb dX3_readSigned_1 (by decide) ?_
  obtain ⟨y1, e1, h⟩ := ob_s h
  refine MR.callV (q0 := 0) (M_X3_isMarked hG e1) S (cw_X3_isMarked hts q1889 ⟨Nat.le_of_ble_eq_true rfl, Nat.le_of_ble_eq_true rfl⟩) hW0 hK hP rfl rfl rfl hl.1 rfl (Nat.le_of_ble_eq_true rfl) dX3_readSigned_3 ⟨Nat.zero_le _, Nat.zero_le _⟩ ?_
  refine lv_istore_n (lv' := [(1, .int y1), (0, .ref h0)]) hx hb dX3_readSigned_6 rfl hl (by decide) rfl (fun ls hl => ?_)
  refine lv_iload_n hx hb dX3_readSigned_7 rfl (lv_at hl 0 rfl) ?_
  refine lv_if_eq (tgt := 15) hx hb dX3_readSigned_8 (by decide) (fun c2 => ?_) (fun c2 => ?_)
  · rw [if_pos c2] at h
    refine lv_aload_n hx hb dX3_readSigned_15 rfl (lv_at hl 1 rfl) ?_
    refine lv_iconst (v := 0) hx hb dX3_readSigned_16 (by decide) ?_
    refine lv_bipush (v := 9) hx hb dX3_readSigned_17 (by decide) ?_
    obtain ⟨y3, e3, h⟩ := ob_s h
    refine MW.callV (q0 := 0) (M_X3_readNumber hG e3) S (cw_X3_readNumber hts q1872 ⟨Nat.le_of_ble_eq_true rfl, Nat.le_of_ble_eq_true rfl⟩) hW0 hK hP hD hS hA rfl rfl rfl hl.1 rfl (Nat.le_of_ble_eq_true rfl) dX3_readSigned_19 ⟨Nat.zero_le _, Nat.zero_le _⟩ (fun H locs hP hD hS => ?_)
    have hP : va_P G.2.1 vwCl (mW h0 ad G.2.2 c_code c_now c_read c_status c_tape c_taped y3.2.1 c_textSize y3.2.2.1 y3.2.2.2.1 y3.2.2.2.2.1 y3.2.2.2.2.2.1 y3.2.2.2.2.2.2.1 y3.2.2.2.2.2.2.2 c_faultPlace c_clauses c_naming c_lineBy c_becomes c_dualLines c_on c_rowNow c_least c_wayFirst c_ways c_acts c_past c_listPoints c_listLines c_listed c_list c_path c_places c_firstPlaces c_px c_py c_pz c_placeMany c_modulus c_drawn c_halvesMany c_halvesFirst c_spreadsMany c_spreadsFirst c_comesTo c_seedNow c_rowThen c_hasImage c_actsThen c_imageRow c_pastThen c_statusThen) H := hP
    have hD : va_D A (mW h0 ad G.2.2 c_code c_now c_read c_status c_tape c_taped y3.2.1 c_textSize y3.2.2.1 y3.2.2.2.1 y3.2.2.2.2.1 y3.2.2.2.2.2.1 y3.2.2.2.2.2.2.1 y3.2.2.2.2.2.2.2 c_faultPlace c_clauses c_naming c_lineBy c_becomes c_dualLines c_on c_rowNow c_least c_wayFirst c_ways c_acts c_past c_listPoints c_listLines c_listed c_list c_path c_places c_firstPlaces c_px c_py c_pz c_placeMany c_modulus c_drawn c_halvesMany c_halvesFirst c_spreadsMany c_spreadsFirst c_comesTo c_seedNow c_rowThen c_hasImage c_actsThen c_imageRow c_pastThen c_statusThen) := hD
    refine W.eq (g2 := F0 m 22 ls [.int y3.1]) rfl ?_
    refine lv_istore_n (lv' := [(2, .int y3.1), (1, .int y1), (0, .ref h0)]) hx hb dX3_readSigned_22 rfl hl (by decide) rfl (fun ls hl => ?_)
    refine lv_iload_n hx hb dX3_readSigned_23 rfl (lv_at hl 1 rfl) ?_
    refine lv_if_eq (tgt := 32) hx hb dX3_readSigned_24 (by decide) (fun c4 => ?_) (fun c4 => ?_)
    · rw [if_pos c4] at h
      refine lv_iload_n hx hb dX3_readSigned_32 rfl (lv_at hl 0 rfl) ?_
      obtain rfl := Option.some.inj h
      exact hreti rfl dX3_readSigned_33 rfl rfl hP hD hS
    · rw [if_neg c4] at h
      refine lv_iload_n hx hb dX3_readSigned_27 rfl (lv_at hl 0 rfl) ?_
      refine lv_ineg hx hb dX3_readSigned_28 ?_
      refine lv_goto (tgt := 33) hx hb dX3_readSigned_29 (by decide) ?_
      obtain rfl := Option.some.inj h
      exact hreti rfl dX3_readSigned_33 rfl rfl hP hD hS
  · rw [if_neg c2] at h
    refine lv_aload_n hx hb dX3_readSigned_11 rfl (lv_at hl 1 rfl) ?_
    obtain ⟨y7, e7, h⟩ := ob_s h
    refine MW.callV (q0 := 0) (M_X3_stepOn hG e7) S (cw_X3_stepOn hts q1831 ⟨Nat.le_of_ble_eq_true rfl, Nat.le_of_ble_eq_true rfl⟩) hW0 hK hP hD hS hA rfl rfl rfl hl.1 rfl (Nat.le_of_ble_eq_true rfl) dX3_readSigned_12 ⟨Nat.zero_le _, Nat.zero_le _⟩ (fun H locs hP hD hS => ?_)
    have hP : va_P G.2.1 vwCl (mW h0 ad G.2.2 c_code c_now c_read c_status c_tape c_taped y7.1 c_textSize y7.2.1 y7.2.2.1 y7.2.2.2.1 y7.2.2.2.2 c_bad c_badPlace c_faultPlace c_clauses c_naming c_lineBy c_becomes c_dualLines c_on c_rowNow c_least c_wayFirst c_ways c_acts c_past c_listPoints c_listLines c_listed c_list c_path c_places c_firstPlaces c_px c_py c_pz c_placeMany c_modulus c_drawn c_halvesMany c_halvesFirst c_spreadsMany c_spreadsFirst c_comesTo c_seedNow c_rowThen c_hasImage c_actsThen c_imageRow c_pastThen c_statusThen) H := hP
    have hD : va_D A (mW h0 ad G.2.2 c_code c_now c_read c_status c_tape c_taped y7.1 c_textSize y7.2.1 y7.2.2.1 y7.2.2.2.1 y7.2.2.2.2 c_bad c_badPlace c_faultPlace c_clauses c_naming c_lineBy c_becomes c_dualLines c_on c_rowNow c_least c_wayFirst c_ways c_acts c_past c_listPoints c_listLines c_listed c_list c_path c_places c_firstPlaces c_px c_py c_pz c_placeMany c_modulus c_drawn c_halvesMany c_halvesFirst c_spreadsMany c_spreadsFirst c_comesTo c_seedNow c_rowThen c_hasImage c_actsThen c_imageRow c_pastThen c_statusThen) := hD
    refine W.eq (g2 := F0 m 15 ls []) rfl ?_
    refine lv_aload_n hx hb dX3_readSigned_15 rfl (lv_at hl 1 rfl) ?_
    refine lv_iconst (v := 0) hx hb dX3_readSigned_16 (by decide) ?_
    refine lv_bipush (v := 9) hx hb dX3_readSigned_17 (by decide) ?_
    obtain ⟨y8, e8, h⟩ := ob_s h
    refine MW.callV (q0 := 0) (M_X3_readNumber hG e8) S (cw_X3_readNumber hts q1872 ⟨Nat.le_of_ble_eq_true rfl, Nat.le_of_ble_eq_true rfl⟩) hW0 hK hP hD hS hA rfl rfl rfl hl.1 rfl (Nat.le_of_ble_eq_true rfl) dX3_readSigned_19 ⟨Nat.zero_le _, Nat.zero_le _⟩ (fun H locs hP hD hS => ?_)
    have hP : va_P G.2.1 vwCl (mW h0 ad G.2.2 c_code c_now c_read c_status c_tape c_taped y8.2.1 c_textSize y8.2.2.1 y8.2.2.2.1 y8.2.2.2.2.1 y8.2.2.2.2.2.1 y8.2.2.2.2.2.2.1 y8.2.2.2.2.2.2.2 c_faultPlace c_clauses c_naming c_lineBy c_becomes c_dualLines c_on c_rowNow c_least c_wayFirst c_ways c_acts c_past c_listPoints c_listLines c_listed c_list c_path c_places c_firstPlaces c_px c_py c_pz c_placeMany c_modulus c_drawn c_halvesMany c_halvesFirst c_spreadsMany c_spreadsFirst c_comesTo c_seedNow c_rowThen c_hasImage c_actsThen c_imageRow c_pastThen c_statusThen) H := hP
    have hD : va_D A (mW h0 ad G.2.2 c_code c_now c_read c_status c_tape c_taped y8.2.1 c_textSize y8.2.2.1 y8.2.2.2.1 y8.2.2.2.2.1 y8.2.2.2.2.2.1 y8.2.2.2.2.2.2.1 y8.2.2.2.2.2.2.2 c_faultPlace c_clauses c_naming c_lineBy c_becomes c_dualLines c_on c_rowNow c_least c_wayFirst c_ways c_acts c_past c_listPoints c_listLines c_listed c_list c_path c_places c_firstPlaces c_px c_py c_pz c_placeMany c_modulus c_drawn c_halvesMany c_halvesFirst c_spreadsMany c_spreadsFirst c_comesTo c_seedNow c_rowThen c_hasImage c_actsThen c_imageRow c_pastThen c_statusThen) := hD
    refine W.eq (g2 := F0 m 22 ls [.int y8.1]) rfl ?_
    refine lv_istore_n (lv' := [(2, .int y8.1), (1, .int y1), (0, .ref h0)]) hx hb dX3_readSigned_22 rfl hl (by decide) rfl (fun ls hl => ?_)
    refine lv_iload_n hx hb dX3_readSigned_23 rfl (lv_at hl 1 rfl) ?_
    refine lv_if_eq (tgt := 32) hx hb dX3_readSigned_24 (by decide) (fun c9 => ?_) (fun c9 => ?_)
    · rw [if_pos c9] at h
      refine lv_iload_n hx hb dX3_readSigned_32 rfl (lv_at hl 0 rfl) ?_
      obtain rfl := Option.some.inj h
      exact hreti rfl dX3_readSigned_33 rfl rfl hP hD hS
    · rw [if_neg c9] at h
      refine lv_iload_n hx hb dX3_readSigned_27 rfl (lv_at hl 0 rfl) ?_
      refine lv_ineg hx hb dX3_readSigned_28 ?_
      refine lv_goto (tgt := 33) hx hb dX3_readSigned_29 (by decide) ?_
      obtain rfl := Option.some.inj h
      exact hreti rfl dX3_readSigned_33 rfl rfl hP hD hS
def F_X3_fault (N : Nat) (c_code : Int32) (c_faultPlace : Int32) : Option (Int32 × Int32) := (some (c_faultPlace, 0))
theorem cw_X3_fault {R : Room} {s : State} {args : Array Value} {own : String} {index lev mc ms : Nat} (hts : ∀ w ∈ lw_all, w.before args s = true) (hl : Cond.methodLink own index yX3_fault ∈ lw_all) (hR : (rmL lev mc ms).frames + 1 ≤ R.frames ∧ 8 + (1 + 11) + (rmL lev mc ms).locals ≤ R.locals) : CallW R s args own RX3 index yX3_fault cX3_fault 1 (some .int) (ws_ yX3_fault cX3_fault 1 (some .int)) (rmL lev mc ms) mc ms 0 := cwV 0 hts (lw_V hl q1906 q1907 q172 q1908) rfl rfl rfl (by decide +kernel) hR
set_option maxHeartbeats 4000000 in
theorem M_X3_fault {l : Launch} {G : GE} (hG : GC G) {N : Nat} {h0 : Nat} {ad : Nat → Nat} {c_now : (Nat → Int32)} {c_read : (Nat → Int32)} {c_status : (Nat → Int32)} {c_tape : (Nat → Int32)} {c_taped : Int32} {c_at : Int32} {c_textSize : Int32} {c_token : Int32} {c_number : Int32} {c_begins : Int32} {c_stops : Int32} {c_bad : Int32} {c_badPlace : Int32} {c_clauses : Int32} {c_naming : (Nat → Int32)} {c_lineBy : (Nat → Int32)} {c_becomes : (Nat → Int32)} {c_dualLines : (Nat → Int32)} {c_on : (Nat → Int32)} {c_rowNow : (Nat → Int32)} {c_least : (Nat → Int32)} {c_wayFirst : (Nat → Int32)} {c_ways : Int32} {c_acts : Int32} {c_past : (Nat → Int32)} {c_listPoints : Int32} {c_listLines : Int32} {c_listed : Int32} {c_list : (Nat → Int32)} {c_path : (Nat → Int32)} {c_places : (Nat → Int32)} {c_firstPlaces : (Nat → Int32)} {c_px : (Nat → Int32)} {c_py : (Nat → Int32)} {c_pz : (Nat → Int32)} {c_placeMany : Int32} {c_modulus : Int32} {c_drawn : Int32} {c_halvesMany : Int32} {c_halvesFirst : Int32} {c_spreadsMany : Int32} {c_spreadsFirst : Int32} {c_comesTo : (Nat → Int32)} {c_seedNow : Int32} {c_rowThen : (Nat → Int32)} {c_hasImage : Int32} {c_actsThen : Int32} {c_imageRow : (Nat → Int32)} {c_pastThen : (Nat → Int32)} {c_statusThen : (Nat → Int32)} {c_code : Int32} {c_faultPlace : Int32} {ρ : (Int32 × Int32)} (h : F_X3_fault N c_code c_faultPlace = some ρ) : MW l G yX3_fault cX3_fault 1 (some .int) 1 (mW h0 ad G.2.2 c_code c_now c_read c_status c_tape c_taped c_at c_textSize c_token c_number c_begins c_stops c_bad c_badPlace c_faultPlace c_clauses c_naming c_lineBy c_becomes c_dualLines c_on c_rowNow c_least c_wayFirst c_ways c_acts c_past c_listPoints c_listLines c_listed c_list c_path c_places c_firstPlaces c_px c_py c_pz c_placeMany c_modulus c_drawn c_halvesMany c_halvesFirst c_spreadsMany c_spreadsFirst c_comesTo c_seedNow c_rowThen c_hasImage c_actsThen c_imageRow c_pastThen c_statusThen) [.ref h0] (some (.int ρ.1)) (mW h0 ad G.2.2 ρ.2 c_now c_read c_status c_tape c_taped c_at c_textSize c_token c_number c_begins c_stops c_bad c_badPlace c_faultPlace c_clauses c_naming c_lineBy c_becomes c_dualLines c_on c_rowNow c_least c_wayFirst c_ways c_acts c_past c_listPoints c_listLines c_listed c_list c_path c_places c_firstPlaces c_px c_py c_pz c_placeMany c_modulus c_drawn c_halvesMany c_halvesFirst c_spreadsMany c_spreadsFirst c_comesTo c_seedNow c_rowThen c_hasImage c_actsThen c_imageRow c_pastThen c_statusThen) := by
  rw [F_X3_fault] at h
  refine MW.start hG (by decide) (Nat.le_of_ble_eq_true rfl) ?_
  intro p e s m args below meth c Q A S hW0 hK hP hD hA hreti hretv ls hl
  have hS : va_S A s.heap s.heap [] := va_S.rf
  obtain ⟨hx, hb, hml, hown, hts⟩ := id S
  have hl : lv_has ls 1 [(0, .ref h0)] := hl
  refine lv_aload_n hx hb dX3_fault_0 rfl (lv_at hl 0 rfl) ?_
  refine lv_iconst (v := 0) hx hb dX3_fault_1 (by decide) ?_
  refine va_put (ci := 2) (v := .int 0) (ty := .int) (C := RX3) (T := TX3) (N := 52) hx hb hts in_X3 tyX3 tyX3_ok nmX3 hown hK hP hD hS 0 rfl rfl 0 (by decide) (hts _ q1658) (fun _ h9 => h9) rfl (by decide +kernel) rfl rfl (Nat.le_of_ble_eq_true rfl) dX3_fault_2 (fun H locs hP hD hS => ?_)
  have hP : va_P G.2.1 vwCl (mW h0 ad G.2.2 0 c_now c_read c_status c_tape c_taped c_at c_textSize c_token c_number c_begins c_stops c_bad c_badPlace c_faultPlace c_clauses c_naming c_lineBy c_becomes c_dualLines c_on c_rowNow c_least c_wayFirst c_ways c_acts c_past c_listPoints c_listLines c_listed c_list c_path c_places c_firstPlaces c_px c_py c_pz c_placeMany c_modulus c_drawn c_halvesMany c_halvesFirst c_spreadsMany c_spreadsFirst c_comesTo c_seedNow c_rowThen c_hasImage c_actsThen c_imageRow c_pastThen c_statusThen) H := hP
  have hD : va_D A (mW h0 ad G.2.2 0 c_now c_read c_status c_tape c_taped c_at c_textSize c_token c_number c_begins c_stops c_bad c_badPlace c_faultPlace c_clauses c_naming c_lineBy c_becomes c_dualLines c_on c_rowNow c_least c_wayFirst c_ways c_acts c_past c_listPoints c_listLines c_listed c_list c_path c_places c_firstPlaces c_px c_py c_pz c_placeMany c_modulus c_drawn c_halvesMany c_halvesFirst c_spreadsMany c_spreadsFirst c_comesTo c_seedNow c_rowThen c_hasImage c_actsThen c_imageRow c_pastThen c_statusThen) := hD
  refine lv_aload_n hx hb dX3_fault_5 rfl (lv_at hl 0 rfl) ?_
  refine va_get (ci := 2) (v := .int c_faultPlace) (C := RX3) (T := TX3) (N := 52) hx hb hts in_X3 hown hK hP 0 rfl rfl 14 (by decide) (hts _ q1672) (fun _ h9 => h9) rfl dX3_fault_6 ?_
  obtain rfl := Option.some.inj h
  exact hreti rfl dX3_fault_9 rfl rfl hP hD hS
def F_X3_regularR_11 (N : Nat) (v1 : Int32) (c_now : (Nat → Int32)) : Nat → Int32 → Option (Int32)
  | 0, _ => none
  | n + 1, v2 => ((F_X3_points N c_now).bind fun y3 => (if y3 ≤ v2 then (some (v1)) else ((F_X3_linesOn N v2 c_now).bind fun y6 => ((F_X3_bits N y6).bind fun y7 => (if y7 = v1 then (F_X3_regularR_11 N v1 c_now n (v2 + 1)) else (some ((-1))))))))
def F_X3_regularR (N : Nat) (c_now : (Nat → Int32)) : Option (Int32) := ((F_X3_linesOn N 0 c_now).bind fun y1 => ((F_X3_bits N y1).bind fun y2 => (F_X3_regularR_11 N y2 c_now N 1)))
theorem cw_X3_regularR {R : Room} {s : State} {args : Array Value} {own : String} {index lev mc ms : Nat} (hts : ∀ w ∈ lw_all, w.before args s = true) (hl : Cond.methodLink own index yX3_regularR ∈ lw_all) (hR : (rmL lev mc ms).frames + 1 ≤ R.frames ∧ 8 + (3 + 11) + (rmL lev mc ms).locals ≤ R.locals) : CallW R s args own RX3 index yX3_regularR cX3_regularR 3 (some .int) (ws_ yX3_regularR cX3_regularR 3 (some .int)) (rmL lev mc ms) mc ms 0 := cwV 0 hts (lw_V hl q1935 qs88 q172 q1936) rfl rfl rfl (by decide +kernel) hR
set_option maxHeartbeats 4000000 in
theorem M_X3_regularR {l : Launch} {G : GE} (hG : GC G) {N : Nat} {h0 : Nat} {ad : Nat → Nat} {c_code : Int32} {c_read : (Nat → Int32)} {c_status : (Nat → Int32)} {c_tape : (Nat → Int32)} {c_taped : Int32} {c_at : Int32} {c_textSize : Int32} {c_token : Int32} {c_number : Int32} {c_begins : Int32} {c_stops : Int32} {c_bad : Int32} {c_badPlace : Int32} {c_faultPlace : Int32} {c_clauses : Int32} {c_naming : (Nat → Int32)} {c_lineBy : (Nat → Int32)} {c_becomes : (Nat → Int32)} {c_dualLines : (Nat → Int32)} {c_on : (Nat → Int32)} {c_rowNow : (Nat → Int32)} {c_least : (Nat → Int32)} {c_wayFirst : (Nat → Int32)} {c_ways : Int32} {c_acts : Int32} {c_past : (Nat → Int32)} {c_listPoints : Int32} {c_listLines : Int32} {c_listed : Int32} {c_list : (Nat → Int32)} {c_path : (Nat → Int32)} {c_places : (Nat → Int32)} {c_firstPlaces : (Nat → Int32)} {c_px : (Nat → Int32)} {c_py : (Nat → Int32)} {c_pz : (Nat → Int32)} {c_placeMany : Int32} {c_modulus : Int32} {c_drawn : Int32} {c_halvesMany : Int32} {c_halvesFirst : Int32} {c_spreadsMany : Int32} {c_spreadsFirst : Int32} {c_comesTo : (Nat → Int32)} {c_seedNow : Int32} {c_rowThen : (Nat → Int32)} {c_hasImage : Int32} {c_actsThen : Int32} {c_imageRow : (Nat → Int32)} {c_pastThen : (Nat → Int32)} {c_statusThen : (Nat → Int32)} {c_now : (Nat → Int32)} {ρ : (Int32)} (h : F_X3_regularR N c_now = some ρ) : MR l G yX3_regularR cX3_regularR 3 (some .int) 3 (mW h0 ad G.2.2 c_code c_now c_read c_status c_tape c_taped c_at c_textSize c_token c_number c_begins c_stops c_bad c_badPlace c_faultPlace c_clauses c_naming c_lineBy c_becomes c_dualLines c_on c_rowNow c_least c_wayFirst c_ways c_acts c_past c_listPoints c_listLines c_listed c_list c_path c_places c_firstPlaces c_px c_py c_pz c_placeMany c_modulus c_drawn c_halvesMany c_halvesFirst c_spreadsMany c_spreadsFirst c_comesTo c_seedNow c_rowThen c_hasImage c_actsThen c_imageRow c_pastThen c_statusThen) [.ref h0] ρ := by
  rw [F_X3_regularR] at h
  refine MR.start (rt := .int) hG (by decide) (Nat.le_of_ble_eq_true rfl) ?_
  intro p e s m args below meth c Q S hW0 hK hP hret ls hl
  obtain ⟨hx, hb, hml, hown, hts⟩ := id S
  have hl : lv_has ls 3 [(0, .ref h0)] := hl
  have S_X3_regularR_11 : ∀ (n : Nat) (v1 : Int32) (v2 : Int32), F_X3_regularR_11 N v1 c_now n v2 = some ρ → ∀ (ls : Array Slot), lv_has ls 3 [(0, .ref h0), (1, .int v1), (2, .int v2)] → W p l e (rmL 3 0 0) s m args below meth c s.heap [] 0 0 Q (F0 m 11 ls []) := by
    intro n
    induction n with
    | zero =>
      intro v1 v2 h
      exact absurd h (by simp [F_X3_regularR_11])
    | succ n ih =>
      intro v1 v2 h ls hl
      rw [F_X3_regularR_11] at h
      refine lv_iload_n hx hb dX3_regularR_11 rfl (lv_at hl 2 rfl) ?_
      refine lv_aload_n hx hb dX3_regularR_12 rfl (lv_at hl 0 rfl) ?_
      obtain ⟨y3, e3, h⟩ := ob_s h
      refine MR.callV (q0 := 0) (M_X3_points hG e3) S (cw_X3_points hts q1913 ⟨Nat.le_of_ble_eq_true rfl, Nat.le_of_ble_eq_true rfl⟩) hW0 hK hP rfl rfl rfl hl.1 rfl (Nat.le_of_ble_eq_true rfl) dX3_regularR_13 ⟨Nat.zero_le _, Nat.zero_le _⟩ ?_
      refine lv_icmp_ge (tgt := 39) hx hb dX3_regularR_16 (by decide) (fun c4 => ?_) (fun c4 => ?_)
      · rw [if_pos c4] at h
        refine lv_iload_n hx hb dX3_regularR_39 rfl (lv_at hl 1 rfl) ?_
        obtain rfl := Option.some.inj h
        exact hret dX3_regularR_40 rfl
      · rw [if_neg c4] at h
        refine lv_aload_n hx hb dX3_regularR_19 rfl (lv_at hl 0 rfl) ?_
        refine lv_iload_n hx hb dX3_regularR_20 rfl (lv_at hl 2 rfl) ?_
        obtain ⟨y6, e6, h⟩ := ob_s h
        refine MR.callV (q0 := 0) (M_X3_linesOn hG e6) S (cw_X3_linesOn hts q1937 ⟨Nat.le_of_ble_eq_true rfl, Nat.le_of_ble_eq_true rfl⟩) hW0 hK hP rfl rfl rfl hl.1 rfl (Nat.le_of_ble_eq_true rfl) dX3_regularR_21 ⟨Nat.zero_le _, Nat.zero_le _⟩ ?_
        obtain ⟨y7, e7, h⟩ := ob_s h
        refine MR.callS (M_X3_bits hG e7) S (cw_X3_bits hts q1896 ⟨Nat.le_of_ble_eq_true rfl, Nat.le_of_ble_eq_true rfl⟩) hW0 vaP0 rfl hl.1 rfl (Nat.le_of_ble_eq_true rfl) dX3_regularR_24 ⟨Nat.zero_le _, Nat.zero_le _⟩ ?_
        refine lv_iload_n hx hb dX3_regularR_27 rfl (lv_at hl 1 rfl) ?_
        refine lv_icmp_eq (tgt := 33) hx hb dX3_regularR_28 (by decide) (fun c8 => ?_) (fun c8 => ?_)
        · rw [if_pos c8] at h
          refine lv_iinc (v := (v2 + 1)) (lv' := [(2, .int (v2 + 1)), (0, .ref h0), (1, .int v1)]) hx hb dX3_regularR_33 hl (k := 2) rfl rfl (by decide) rfl (fun ls hl => ?_)
          refine lv_goto (tgt := 11) hx hb dX3_regularR_36 (by decide) ?_
          exact ih v1 (v2 + 1) h _ (lv_sub hl [1, 2, 0] rfl)
        · rw [if_neg c8] at h
          refine lv_iconst (v := (-1)) hx hb dX3_regularR_31 (by decide) ?_
          obtain rfl := Option.some.inj h
          exact hret dX3_regularR_32 rfl
  refine lv_aload_n hx hb dX3_regularR_0 rfl (lv_at hl 0 rfl) ?_
  refine lv_iconst (v := 0) hx hb dX3_regularR_1 (by decide) ?_
  obtain ⟨y1, e1, h⟩ := ob_s h
  refine MR.callV (q0 := 0) (M_X3_linesOn hG e1) S (cw_X3_linesOn hts q1937 ⟨Nat.le_of_ble_eq_true rfl, Nat.le_of_ble_eq_true rfl⟩) hW0 hK hP rfl rfl rfl hl.1 rfl (Nat.le_of_ble_eq_true rfl) dX3_regularR_2 ⟨Nat.zero_le _, Nat.zero_le _⟩ ?_
  obtain ⟨y2, e2, h⟩ := ob_s h
  refine MR.callS (M_X3_bits hG e2) S (cw_X3_bits hts q1896 ⟨Nat.le_of_ble_eq_true rfl, Nat.le_of_ble_eq_true rfl⟩) hW0 vaP0 rfl hl.1 rfl (Nat.le_of_ble_eq_true rfl) dX3_regularR_5 ⟨Nat.zero_le _, Nat.zero_le _⟩ ?_
  refine lv_istore_n (lv' := [(1, .int y2), (0, .ref h0)]) hx hb dX3_regularR_8 rfl hl (by decide) rfl (fun ls hl => ?_)
  refine lv_iconst (v := 1) hx hb dX3_regularR_9 (by decide) ?_
  refine lv_istore_n (lv' := [(2, .int 1), (1, .int y2), (0, .ref h0)]) hx hb dX3_regularR_10 rfl hl (by decide) rfl (fun ls hl => ?_)
  refine S_X3_regularR_11 N y2 1 h  _ (lv_sub hl [2, 1, 0] rfl)
def F_X3_regularK_22 (N : Nat) (v1 : Int32) (c_now : (Nat → Int32)) : Nat → Int32 → Option (Int32)
  | 0, _ => none
  | n + 1, v2 => ((F_X3_lines N c_now).bind fun y5 => (if y5 ≤ v2 then (some (v1)) else ((F_X3_lineAt N v2 c_now).bind fun y8 => ((F_X3_bits N y8).bind fun y9 => (if y9 = v1 then (F_X3_regularK_22 N v1 c_now n (v2 + 1)) else (some ((-1))))))))
def F_X3_regularK_19 (N : Nat) (c_now : (Nat → Int32)) (s0 : Int32) : Option (Int32) := (F_X3_regularK_22 N s0 c_now N 1)
def F_X3_regularK (N : Nat) (c_now : (Nat → Int32)) : Option (Int32) := ((F_X3_lines N c_now).bind fun y1 => (if y1 = 0 then (F_X3_regularK_19 N c_now 0) else ((F_X3_lineAt N 0 c_now).bind fun y3 => ((F_X3_bits N y3).bind fun y4 => (F_X3_regularK_19 N c_now y4)))))
theorem cw_X3_regularK {R : Room} {s : State} {args : Array Value} {own : String} {index lev mc ms : Nat} (hts : ∀ w ∈ lw_all, w.before args s = true) (hl : Cond.methodLink own index yX3_regularK ∈ lw_all) (hR : (rmL lev mc ms).frames + 1 ≤ R.frames ∧ 8 + (3 + 11) + (rmL lev mc ms).locals ≤ R.locals) : CallW R s args own RX3 index yX3_regularK cX3_regularK 3 (some .int) (ws_ yX3_regularK cX3_regularK 3 (some .int)) (rmL lev mc ms) mc ms 0 := cwV 0 hts (lw_V hl q1943 qs90 q172 q1944) rfl rfl rfl (by decide +kernel) hR
set_option maxHeartbeats 4000000 in
theorem M_X3_regularK {l : Launch} {G : GE} (hG : GC G) {N : Nat} {h0 : Nat} {ad : Nat → Nat} {c_code : Int32} {c_read : (Nat → Int32)} {c_status : (Nat → Int32)} {c_tape : (Nat → Int32)} {c_taped : Int32} {c_at : Int32} {c_textSize : Int32} {c_token : Int32} {c_number : Int32} {c_begins : Int32} {c_stops : Int32} {c_bad : Int32} {c_badPlace : Int32} {c_faultPlace : Int32} {c_clauses : Int32} {c_naming : (Nat → Int32)} {c_lineBy : (Nat → Int32)} {c_becomes : (Nat → Int32)} {c_dualLines : (Nat → Int32)} {c_on : (Nat → Int32)} {c_rowNow : (Nat → Int32)} {c_least : (Nat → Int32)} {c_wayFirst : (Nat → Int32)} {c_ways : Int32} {c_acts : Int32} {c_past : (Nat → Int32)} {c_listPoints : Int32} {c_listLines : Int32} {c_listed : Int32} {c_list : (Nat → Int32)} {c_path : (Nat → Int32)} {c_places : (Nat → Int32)} {c_firstPlaces : (Nat → Int32)} {c_px : (Nat → Int32)} {c_py : (Nat → Int32)} {c_pz : (Nat → Int32)} {c_placeMany : Int32} {c_modulus : Int32} {c_drawn : Int32} {c_halvesMany : Int32} {c_halvesFirst : Int32} {c_spreadsMany : Int32} {c_spreadsFirst : Int32} {c_comesTo : (Nat → Int32)} {c_seedNow : Int32} {c_rowThen : (Nat → Int32)} {c_hasImage : Int32} {c_actsThen : Int32} {c_imageRow : (Nat → Int32)} {c_pastThen : (Nat → Int32)} {c_statusThen : (Nat → Int32)} {c_now : (Nat → Int32)} {ρ : (Int32)} (h : F_X3_regularK N c_now = some ρ) : MR l G yX3_regularK cX3_regularK 3 (some .int) 3 (mW h0 ad G.2.2 c_code c_now c_read c_status c_tape c_taped c_at c_textSize c_token c_number c_begins c_stops c_bad c_badPlace c_faultPlace c_clauses c_naming c_lineBy c_becomes c_dualLines c_on c_rowNow c_least c_wayFirst c_ways c_acts c_past c_listPoints c_listLines c_listed c_list c_path c_places c_firstPlaces c_px c_py c_pz c_placeMany c_modulus c_drawn c_halvesMany c_halvesFirst c_spreadsMany c_spreadsFirst c_comesTo c_seedNow c_rowThen c_hasImage c_actsThen c_imageRow c_pastThen c_statusThen) [.ref h0] ρ := by
  rw [F_X3_regularK] at h
  refine MR.start (rt := .int) hG (by decide) (Nat.le_of_ble_eq_true rfl) ?_
  intro p e s m args below meth c Q S hW0 hK hP hret ls hl
  obtain ⟨hx, hb, hml, hown, hts⟩ := id S
  have hl : lv_has ls 3 [(0, .ref h0)] := hl
  have S_X3_regularK_22 : ∀ (n : Nat) (v1 : Int32) (v2 : Int32), F_X3_regularK_22 N v1 c_now n v2 = some ρ → ∀ (ls : Array Slot), lv_has ls 3 [(0, .ref h0), (1, .int v1), (2, .int v2)] → W p l e (rmL 3 0 0) s m args below meth c s.heap [] 0 0 Q (F0 m 22 ls []) := by
    intro n
    induction n with
    | zero =>
      intro v1 v2 h
      exact absurd h (by simp [F_X3_regularK_22])
    | succ n ih =>
      intro v1 v2 h ls hl
      rw [F_X3_regularK_22] at h
      refine lv_iload_n hx hb dX3_regularK_22 rfl (lv_at hl 2 rfl) ?_
      refine lv_aload_n hx hb dX3_regularK_23 rfl (lv_at hl 0 rfl) ?_
      obtain ⟨y5, e5, h⟩ := ob_s h
      refine MR.callV (q0 := 0) (M_X3_lines hG e5) S (cw_X3_lines hts q1917 ⟨Nat.le_of_ble_eq_true rfl, Nat.le_of_ble_eq_true rfl⟩) hW0 hK hP rfl rfl rfl hl.1 rfl (Nat.le_of_ble_eq_true rfl) dX3_regularK_24 ⟨Nat.zero_le _, Nat.zero_le _⟩ ?_
      refine lv_icmp_ge (tgt := 50) hx hb dX3_regularK_27 (by decide) (fun c6 => ?_) (fun c6 => ?_)
      · rw [if_pos c6] at h
        refine lv_iload_n hx hb dX3_regularK_50 rfl (lv_at hl 1 rfl) ?_
        obtain rfl := Option.some.inj h
        exact hret dX3_regularK_51 rfl
      · rw [if_neg c6] at h
        refine lv_aload_n hx hb dX3_regularK_30 rfl (lv_at hl 0 rfl) ?_
        refine lv_iload_n hx hb dX3_regularK_31 rfl (lv_at hl 2 rfl) ?_
        obtain ⟨y8, e8, h⟩ := ob_s h
        refine MR.callV (q0 := 0) (M_X3_lineAt hG e8) S (cw_X3_lineAt hts q1925 ⟨Nat.le_of_ble_eq_true rfl, Nat.le_of_ble_eq_true rfl⟩) hW0 hK hP rfl rfl rfl hl.1 rfl (Nat.le_of_ble_eq_true rfl) dX3_regularK_32 ⟨Nat.zero_le _, Nat.zero_le _⟩ ?_
        obtain ⟨y9, e9, h⟩ := ob_s h
        refine MR.callS (M_X3_bits hG e9) S (cw_X3_bits hts q1896 ⟨Nat.le_of_ble_eq_true rfl, Nat.le_of_ble_eq_true rfl⟩) hW0 vaP0 rfl hl.1 rfl (Nat.le_of_ble_eq_true rfl) dX3_regularK_35 ⟨Nat.zero_le _, Nat.zero_le _⟩ ?_
        refine lv_iload_n hx hb dX3_regularK_38 rfl (lv_at hl 1 rfl) ?_
        refine lv_icmp_eq (tgt := 44) hx hb dX3_regularK_39 (by decide) (fun c10 => ?_) (fun c10 => ?_)
        · rw [if_pos c10] at h
          refine lv_iinc (v := (v2 + 1)) (lv' := [(2, .int (v2 + 1)), (0, .ref h0), (1, .int v1)]) hx hb dX3_regularK_44 hl (k := 2) rfl rfl (by decide) rfl (fun ls hl => ?_)
          refine lv_goto (tgt := 22) hx hb dX3_regularK_47 (by decide) ?_
          exact ih v1 (v2 + 1) h _ (lv_sub hl [1, 2, 0] rfl)
        · rw [if_neg c10] at h
          refine lv_iconst (v := (-1)) hx hb dX3_regularK_42 (by decide) ?_
          obtain rfl := Option.some.inj h
          exact hret dX3_regularK_43 rfl
  have S_X3_regularK_19 : ∀ (s0 : Int32), F_X3_regularK_19 N c_now s0 = some ρ → ∀ (ls : Array Slot), lv_has ls 3 [(0, .ref h0)] → W p l e (rmL 3 0 0) s m args below meth c s.heap [] 0 0 Q (F0 m 19 ls [.int s0]) := by
    intro s0 h ls hl
    rw [F_X3_regularK_19] at h
    refine lv_istore_n (lv' := [(1, .int s0), (0, .ref h0)]) hx hb dX3_regularK_19 rfl hl (by decide) rfl (fun ls hl => ?_)
    refine lv_iconst (v := 1) hx hb dX3_regularK_20 (by decide) ?_
    refine lv_istore_n (lv' := [(2, .int 1), (1, .int s0), (0, .ref h0)]) hx hb dX3_regularK_21 rfl hl (by decide) rfl (fun ls hl => ?_)
    refine S_X3_regularK_22 N s0 1 h  _ (lv_sub hl [2, 1, 0] rfl)
  refine lv_aload_n hx hb dX3_regularK_0 rfl (lv_at hl 0 rfl) ?_
  obtain ⟨y1, e1, h⟩ := ob_s h
  refine MR.callV (q0 := 0) (M_X3_lines hG e1) S (cw_X3_lines hts q1917 ⟨Nat.le_of_ble_eq_true rfl, Nat.le_of_ble_eq_true rfl⟩) hW0 hK hP rfl rfl rfl hl.1 rfl (Nat.le_of_ble_eq_true rfl) dX3_regularK_1 ⟨Nat.zero_le _, Nat.zero_le _⟩ ?_
  refine lv_if_ne (tgt := 11) hx hb dX3_regularK_4 (by decide) (fun c2 => ?_) (fun c2 => ?_)
  · rw [if_neg c2] at h
    refine lv_aload_n hx hb dX3_regularK_11 rfl (lv_at hl 0 rfl) ?_
    refine lv_iconst (v := 0) hx hb dX3_regularK_12 (by decide) ?_
    obtain ⟨y3, e3, h⟩ := ob_s h
    refine MR.callV (q0 := 0) (M_X3_lineAt hG e3) S (cw_X3_lineAt hts q1925 ⟨Nat.le_of_ble_eq_true rfl, Nat.le_of_ble_eq_true rfl⟩) hW0 hK hP rfl rfl rfl hl.1 rfl (Nat.le_of_ble_eq_true rfl) dX3_regularK_13 ⟨Nat.zero_le _, Nat.zero_le _⟩ ?_
    obtain ⟨y4, e4, h⟩ := ob_s h
    refine MR.callS (M_X3_bits hG e4) S (cw_X3_bits hts q1896 ⟨Nat.le_of_ble_eq_true rfl, Nat.le_of_ble_eq_true rfl⟩) hW0 vaP0 rfl hl.1 rfl (Nat.le_of_ble_eq_true rfl) dX3_regularK_16 ⟨Nat.zero_le _, Nat.zero_le _⟩ ?_
    refine S_X3_regularK_19 y4 h  _ (lv_sub hl [0] rfl)
  · rw [if_pos c2] at h
    refine lv_iconst (v := 0) hx hb dX3_regularK_7 (by decide) ?_
    refine lv_goto (tgt := 19) hx hb dX3_regularK_8 (by decide) ?_
    refine S_X3_regularK_19 0 h  _ (lv_sub hl [0] rfl)
def F_X3_isRegular (N : Nat) (c_now : (Nat → Int32)) : Option (Int32) := ((F_X3_regularR N c_now).bind fun y1 => (if y1 = (-1) then (some (0)) else ((F_X3_regularK N c_now).bind fun y4 => (if y4 = (-1) then (some (0)) else (some (1))))))
theorem cw_X3_isRegular {R : Room} {s : State} {args : Array Value} {own : String} {index lev mc ms : Nat} (hts : ∀ w ∈ lw_all, w.before args s = true) (hl : Cond.methodLink own index yX3_isRegular ∈ lw_all) (hR : (rmL lev mc ms).frames + 1 ≤ R.frames ∧ 8 + (1 + 11) + (rmL lev mc ms).locals ≤ R.locals) : CallW R s args own RX3 index yX3_isRegular cX3_isRegular 1 (some .boolean) (ws_ yX3_isRegular cX3_isRegular 1 (some .boolean)) (rmL lev mc ms) mc ms 0 := cwV 0 hts (lw_V hl q1931 qs87 q172 q1932) rfl rfl rfl (by decide +kernel) hR
set_option maxHeartbeats 4000000 in
theorem M_X3_isRegular {l : Launch} {G : GE} (hG : GC G) {N : Nat} {h0 : Nat} {ad : Nat → Nat} {c_code : Int32} {c_read : (Nat → Int32)} {c_status : (Nat → Int32)} {c_tape : (Nat → Int32)} {c_taped : Int32} {c_at : Int32} {c_textSize : Int32} {c_token : Int32} {c_number : Int32} {c_begins : Int32} {c_stops : Int32} {c_bad : Int32} {c_badPlace : Int32} {c_faultPlace : Int32} {c_clauses : Int32} {c_naming : (Nat → Int32)} {c_lineBy : (Nat → Int32)} {c_becomes : (Nat → Int32)} {c_dualLines : (Nat → Int32)} {c_on : (Nat → Int32)} {c_rowNow : (Nat → Int32)} {c_least : (Nat → Int32)} {c_wayFirst : (Nat → Int32)} {c_ways : Int32} {c_acts : Int32} {c_past : (Nat → Int32)} {c_listPoints : Int32} {c_listLines : Int32} {c_listed : Int32} {c_list : (Nat → Int32)} {c_path : (Nat → Int32)} {c_places : (Nat → Int32)} {c_firstPlaces : (Nat → Int32)} {c_px : (Nat → Int32)} {c_py : (Nat → Int32)} {c_pz : (Nat → Int32)} {c_placeMany : Int32} {c_modulus : Int32} {c_drawn : Int32} {c_halvesMany : Int32} {c_halvesFirst : Int32} {c_spreadsMany : Int32} {c_spreadsFirst : Int32} {c_comesTo : (Nat → Int32)} {c_seedNow : Int32} {c_rowThen : (Nat → Int32)} {c_hasImage : Int32} {c_actsThen : Int32} {c_imageRow : (Nat → Int32)} {c_pastThen : (Nat → Int32)} {c_statusThen : (Nat → Int32)} {c_now : (Nat → Int32)} {ρ : (Int32)} (h : F_X3_isRegular N c_now = some ρ) : MR l G yX3_isRegular cX3_isRegular 1 (some .boolean) 4 (mW h0 ad G.2.2 c_code c_now c_read c_status c_tape c_taped c_at c_textSize c_token c_number c_begins c_stops c_bad c_badPlace c_faultPlace c_clauses c_naming c_lineBy c_becomes c_dualLines c_on c_rowNow c_least c_wayFirst c_ways c_acts c_past c_listPoints c_listLines c_listed c_list c_path c_places c_firstPlaces c_px c_py c_pz c_placeMany c_modulus c_drawn c_halvesMany c_halvesFirst c_spreadsMany c_spreadsFirst c_comesTo c_seedNow c_rowThen c_hasImage c_actsThen c_imageRow c_pastThen c_statusThen) [.ref h0] ρ := by
  rw [F_X3_isRegular] at h
  refine MR.start (rt := .boolean) hG (by decide) (Nat.le_of_ble_eq_true rfl) ?_
  intro p e s m args below meth c Q S hW0 hK hP hret ls hl
  obtain ⟨hx, hb, hml, hown, hts⟩ := id S
  have hl : lv_has ls 1 [(0, .ref h0)] := hl
  refine lv_aload_n hx hb dX3_isRegular_0 rfl (lv_at hl 0 rfl) ?_
  obtain ⟨y1, e1, h⟩ := ob_s h
  refine MR.callV (q0 := 0) (M_X3_regularR hG e1) S (cw_X3_regularR hts q1933 ⟨Nat.le_of_ble_eq_true rfl, Nat.le_of_ble_eq_true rfl⟩) hW0 hK hP rfl rfl rfl hl.1 rfl (Nat.le_of_ble_eq_true rfl) dX3_isRegular_1 ⟨Nat.zero_le _, Nat.zero_le _⟩ ?_
  refine lv_iconst (v := (-1)) hx hb dX3_isRegular_4 (by decide) ?_
  refine lv_icmp_eq (tgt := 20) hx hb dX3_isRegular_5 (by decide) (fun c2 => ?_) (fun c2 => ?_)
  · rw [if_pos c2] at h
    refine lv_iconst (v := 0) hx hb dX3_isRegular_20 (by decide) ?_
    obtain rfl := Option.some.inj h
    exact hret dX3_isRegular_21 rfl
  · rw [if_neg c2] at h
    refine lv_aload_n hx hb dX3_isRegular_8 rfl (lv_at hl 0 rfl) ?_
    obtain ⟨y4, e4, h⟩ := ob_s h
    refine MR.callV (q0 := 0) (M_X3_regularK hG e4) S (cw_X3_regularK hts q1941 ⟨Nat.le_of_ble_eq_true rfl, Nat.le_of_ble_eq_true rfl⟩) hW0 hK hP rfl rfl rfl hl.1 rfl (Nat.le_of_ble_eq_true rfl) dX3_isRegular_9 ⟨Nat.zero_le _, Nat.zero_le _⟩ ?_
    refine lv_iconst (v := (-1)) hx hb dX3_isRegular_12 (by decide) ?_
    refine lv_icmp_eq (tgt := 20) hx hb dX3_isRegular_13 (by decide) (fun c5 => ?_) (fun c5 => ?_)
    · rw [if_pos c5] at h
      refine lv_iconst (v := 0) hx hb dX3_isRegular_20 (by decide) ?_
      obtain rfl := Option.some.inj h
      exact hret dX3_isRegular_21 rfl
    · rw [if_neg c5] at h
      refine lv_iconst (v := 1) hx hb dX3_isRegular_16 (by decide) ?_
      refine lv_goto (tgt := 21) hx hb dX3_isRegular_17 (by decide) ?_
      obtain rfl := Option.some.inj h
      exact hret dX3_isRegular_21 rfl
def F_X3_pieceOf_17 (N : Nat) (c_now : (Nat → Int32)) : Nat → Int32 → Int32 → (Int32 → Option (Int32)) → Option (Int32)
  | 0, _, _, _ => none
  | n + 1, v2, v4, k52 => ((F_X3_lines N c_now).bind fun y4 => (if y4 ≤ v4 then (k52 v2) else ((F_X3_lineAt N v4 c_now).bind fun y6 => (if (y6 &&& v2) = 0 then (F_X3_pieceOf_17 N c_now n v2 (v4 + 1) k52) else ((F_X3_lineAt N v4 c_now).bind fun y8 => (F_X3_pieceOf_17 N c_now n (v2 ||| y8) (v4 + 1) k52))))))
def F_X3_pieceOf_6 (N : Nat) (c_now : (Nat → Int32)) : Nat → Int32 → Int32 → Option (Int32)
  | 0, _, _ => none
  | n + 1, v2, v3 => ((F_X3_points N c_now).bind fun y1 => (if y1 ≤ v3 then (some (v2)) else (F_X3_pieceOf_17 N c_now N v2 0 (fun u2_9 => (F_X3_pieceOf_6 N c_now n u2_9 (v3 + 1))))))
def F_X3_pieceOf (N : Nat) (v1 : Int32) (c_now : (Nat → Int32)) : Option (Int32) := (F_X3_pieceOf_6 N c_now N ((1 : Int32) <<< (v1 &&& 31)) 0)
theorem cw_X3_pieceOf {R : Room} {s : State} {args : Array Value} {own : String} {index lev mc ms : Nat} (hts : ∀ w ∈ lw_all, w.before args s = true) (hl : Cond.methodLink own index yX3_pieceOf ∈ lw_all) (hR : (rmL lev mc ms).frames + 1 ≤ R.frames ∧ 8 + (5 + 11) + (rmL lev mc ms).locals ≤ R.locals) : CallW R s args own RX3 index yX3_pieceOf cX3_pieceOf 5 (some .int) (ws_ yX3_pieceOf cX3_pieceOf 5 (some .int)) (rmL lev mc ms) mc ms 1 := cwV 1 hts (lw_V hl q1967 qs96 q172 q1968) rfl rfl rfl (by decide +kernel) hR
set_option maxHeartbeats 4000000 in
theorem M_X3_pieceOf {l : Launch} {G : GE} (hG : GC G) {N : Nat} {h0 : Nat} {ad : Nat → Nat} {c_code : Int32} {c_read : (Nat → Int32)} {c_status : (Nat → Int32)} {c_tape : (Nat → Int32)} {c_taped : Int32} {c_at : Int32} {c_textSize : Int32} {c_token : Int32} {c_number : Int32} {c_begins : Int32} {c_stops : Int32} {c_bad : Int32} {c_badPlace : Int32} {c_faultPlace : Int32} {c_clauses : Int32} {c_naming : (Nat → Int32)} {c_lineBy : (Nat → Int32)} {c_becomes : (Nat → Int32)} {c_dualLines : (Nat → Int32)} {c_on : (Nat → Int32)} {c_rowNow : (Nat → Int32)} {c_least : (Nat → Int32)} {c_wayFirst : (Nat → Int32)} {c_ways : Int32} {c_acts : Int32} {c_past : (Nat → Int32)} {c_listPoints : Int32} {c_listLines : Int32} {c_listed : Int32} {c_list : (Nat → Int32)} {c_path : (Nat → Int32)} {c_places : (Nat → Int32)} {c_firstPlaces : (Nat → Int32)} {c_px : (Nat → Int32)} {c_py : (Nat → Int32)} {c_pz : (Nat → Int32)} {c_placeMany : Int32} {c_modulus : Int32} {c_drawn : Int32} {c_halvesMany : Int32} {c_halvesFirst : Int32} {c_spreadsMany : Int32} {c_spreadsFirst : Int32} {c_comesTo : (Nat → Int32)} {c_seedNow : Int32} {c_rowThen : (Nat → Int32)} {c_hasImage : Int32} {c_actsThen : Int32} {c_imageRow : (Nat → Int32)} {c_pastThen : (Nat → Int32)} {c_statusThen : (Nat → Int32)} {v1 : Int32} {c_now : (Nat → Int32)} {ρ : (Int32)} (h : F_X3_pieceOf N v1 c_now = some ρ) : MR l G yX3_pieceOf cX3_pieceOf 5 (some .int) 2 (mW h0 ad G.2.2 c_code c_now c_read c_status c_tape c_taped c_at c_textSize c_token c_number c_begins c_stops c_bad c_badPlace c_faultPlace c_clauses c_naming c_lineBy c_becomes c_dualLines c_on c_rowNow c_least c_wayFirst c_ways c_acts c_past c_listPoints c_listLines c_listed c_list c_path c_places c_firstPlaces c_px c_py c_pz c_placeMany c_modulus c_drawn c_halvesMany c_halvesFirst c_spreadsMany c_spreadsFirst c_comesTo c_seedNow c_rowThen c_hasImage c_actsThen c_imageRow c_pastThen c_statusThen) [.ref h0, .int v1] ρ := by
  rw [F_X3_pieceOf] at h
  refine MR.start (rt := .int) hG (by decide) (Nat.le_of_ble_eq_true rfl) ?_
  intro p e s m args below meth c Q S hW0 hK hP hret ls hl
  obtain ⟨hx, hb, hml, hown, hts⟩ := id S
  have hl : lv_has ls 5 [(0, .ref h0), (1, .int v1)] := hl
  have S_X3_pieceOf_17 : ∀ (n : Nat) (v2 : Int32) (v3 : Int32) (v4 : Int32) (k52 : Int32 → Option (Int32)), F_X3_pieceOf_17 N c_now n v2 v4 k52 = some ρ → (∀ (u2 : Int32) (ls : Array Slot), k52 u2 = some ρ → lv_has ls 5 [(0, .ref h0), (2, .int u2), (3, .int v3)] → W p l e (rmL 2 0 0) s m args below meth c s.heap [] 0 0 Q (F0 m 52 ls [])) → ∀ (ls : Array Slot), lv_has ls 5 [(0, .ref h0), (2, .int v2), (3, .int v3), (4, .int v4)] → W p l e (rmL 2 0 0) s m args below meth c s.heap [] 0 0 Q (F0 m 17 ls []) := by
    intro n
    induction n with
    | zero =>
      intro v2 v3 v4 k52 h
      exact absurd h (by simp [F_X3_pieceOf_17])
    | succ n ih =>
      intro v2 v3 v4 k52 h hk52 ls hl
      rw [F_X3_pieceOf_17] at h
      refine lv_iload hx hb dX3_pieceOf_17 (lv_at hl 3 rfl) ?_
      refine lv_aload_n hx hb dX3_pieceOf_19 rfl (lv_at hl 0 rfl) ?_
      obtain ⟨y4, e4, h⟩ := ob_s h
      refine MR.callV (q0 := 0) (M_X3_lines hG e4) S (cw_X3_lines hts q1917 ⟨Nat.le_of_ble_eq_true rfl, Nat.le_of_ble_eq_true rfl⟩) hW0 hK hP rfl rfl rfl hl.1 rfl (Nat.le_of_ble_eq_true rfl) dX3_pieceOf_20 ⟨Nat.zero_le _, Nat.zero_le _⟩ ?_
      refine lv_icmp_ge (tgt := 52) hx hb dX3_pieceOf_23 (by decide) (fun c5 => ?_) (fun c5 => ?_)
      · rw [if_pos c5] at h
        exact hk52 v2 _ h (lv_sub hl [0, 1, 2] rfl)
      · rw [if_neg c5] at h
        refine lv_aload_n hx hb dX3_pieceOf_26 rfl (lv_at hl 0 rfl) ?_
        refine lv_iload hx hb dX3_pieceOf_27 (lv_at hl 3 rfl) ?_
        obtain ⟨y6, e6, h⟩ := ob_s h
        refine MR.callV (q0 := 0) (M_X3_lineAt hG e6) S (cw_X3_lineAt hts q1925 ⟨Nat.le_of_ble_eq_true rfl, Nat.le_of_ble_eq_true rfl⟩) hW0 hK hP rfl rfl rfl hl.1 rfl (Nat.le_of_ble_eq_true rfl) dX3_pieceOf_29 ⟨Nat.zero_le _, Nat.zero_le _⟩ ?_
        refine lv_iload_n hx hb dX3_pieceOf_32 rfl (lv_at hl 1 rfl) ?_
        refine lv_iand hx hb dX3_pieceOf_33 ?_
        refine lv_if_eq (tgt := 46) hx hb dX3_pieceOf_34 (by decide) (fun c7 => ?_) (fun c7 => ?_)
        · rw [if_pos c7] at h
          refine lv_iinc (v := (v4 + 1)) (lv' := [(4, .int (v4 + 1)), (0, .ref h0), (2, .int v2), (3, .int v3)]) hx hb dX3_pieceOf_46 hl (k := 3) rfl rfl (by decide) rfl (fun ls hl => ?_)
          refine lv_goto (tgt := 17) hx hb dX3_pieceOf_49 (by decide) ?_
          exact ih v2 v3 (v4 + 1) _ h hk52 _ (lv_sub hl [1, 2, 3, 0] rfl)
        · rw [if_neg c7] at h
          refine lv_iload_n hx hb dX3_pieceOf_37 rfl (lv_at hl 1 rfl) ?_
          refine lv_aload_n hx hb dX3_pieceOf_38 rfl (lv_at hl 0 rfl) ?_
          refine lv_iload hx hb dX3_pieceOf_39 (lv_at hl 3 rfl) ?_
          obtain ⟨y8, e8, h⟩ := ob_s h
          refine MR.callV (q0 := 0) (M_X3_lineAt hG e8) S (cw_X3_lineAt hts q1925 ⟨Nat.le_of_ble_eq_true rfl, Nat.le_of_ble_eq_true rfl⟩) hW0 hK hP rfl rfl rfl hl.1 rfl (Nat.le_of_ble_eq_true rfl) dX3_pieceOf_41 ⟨Nat.zero_le _, Nat.zero_le _⟩ ?_
          refine lv_ior hx hb dX3_pieceOf_44 ?_
          refine lv_istore_n (lv' := [(2, .int (v2 ||| y8)), (0, .ref h0), (3, .int v3), (4, .int v4)]) hx hb dX3_pieceOf_45 rfl hl (by decide) rfl (fun ls hl => ?_)
          refine lv_iinc (v := (v4 + 1)) (lv' := [(4, .int (v4 + 1)), (2, .int (v2 ||| y8)), (0, .ref h0), (3, .int v3)]) hx hb dX3_pieceOf_46 hl (k := 3) rfl rfl (by decide) rfl (fun ls hl => ?_)
          refine lv_goto (tgt := 17) hx hb dX3_pieceOf_49 (by decide) ?_
          exact ih (v2 ||| y8) v3 (v4 + 1) _ h hk52 _ (lv_sub hl [2, 1, 3, 0] rfl)
  have S_X3_pieceOf_6 : ∀ (n : Nat) (v2 : Int32) (v3 : Int32), F_X3_pieceOf_6 N c_now n v2 v3 = some ρ → ∀ (ls : Array Slot), lv_has ls 5 [(0, .ref h0), (2, .int v2), (3, .int v3)] → W p l e (rmL 2 0 0) s m args below meth c s.heap [] 0 0 Q (F0 m 6 ls []) := by
    intro n
    induction n with
    | zero =>
      intro v2 v3 h
      exact absurd h (by simp [F_X3_pieceOf_6])
    | succ n ih =>
      intro v2 v3 h ls hl
      rw [F_X3_pieceOf_6] at h
      refine lv_iload_n hx hb dX3_pieceOf_6 rfl (lv_at hl 2 rfl) ?_
      refine lv_aload_n hx hb dX3_pieceOf_7 rfl (lv_at hl 0 rfl) ?_
      obtain ⟨y1, e1, h⟩ := ob_s h
      refine MR.callV (q0 := 0) (M_X3_points hG e1) S (cw_X3_points hts q1913 ⟨Nat.le_of_ble_eq_true rfl, Nat.le_of_ble_eq_true rfl⟩) hW0 hK hP rfl rfl rfl hl.1 rfl (Nat.le_of_ble_eq_true rfl) dX3_pieceOf_8 ⟨Nat.zero_le _, Nat.zero_le _⟩ ?_
      refine lv_icmp_ge (tgt := 58) hx hb dX3_pieceOf_11 (by decide) (fun c2 => ?_) (fun c2 => ?_)
      · rw [if_pos c2] at h
        refine lv_iload_n hx hb dX3_pieceOf_58 rfl (lv_at hl 1 rfl) ?_
        obtain rfl := Option.some.inj h
        exact hret dX3_pieceOf_59 rfl
      · rw [if_neg c2] at h
        refine lv_iconst (v := 0) hx hb dX3_pieceOf_14 (by decide) ?_
        refine lv_istore (lv' := [(4, .int 0), (0, .ref h0), (2, .int v2), (3, .int v3)]) hx hb dX3_pieceOf_15 hl (by decide) rfl (fun ls hl => ?_)
        refine S_X3_pieceOf_17 N v2 v3 0 _ h ?_ _ (lv_sub hl [1, 2, 3, 0] rfl)
        · intro u2_9 ls h hl
          refine lv_iinc (v := (v3 + 1)) (lv' := [(3, .int (v3 + 1)), (0, .ref h0), (2, .int u2_9)]) hx hb dX3_pieceOf_52 hl (k := 2) rfl rfl (by decide) rfl (fun ls hl => ?_)
          refine lv_goto (tgt := 6) hx hb dX3_pieceOf_55 (by decide) ?_
          exact ih u2_9 (v3 + 1) h _ (lv_sub hl [1, 2, 0] rfl)
  refine lv_iconst (v := 1) hx hb dX3_pieceOf_0 (by decide) ?_
  refine lv_iload_n hx hb dX3_pieceOf_1 rfl (lv_at hl 1 rfl) ?_
  refine lv_ishl hx hb dX3_pieceOf_2 ?_
  refine lv_istore_n (lv' := [(2, .int ((1 : Int32) <<< (v1 &&& 31))), (0, .ref h0), (1, .int v1)]) hx hb dX3_pieceOf_3 rfl hl (by decide) rfl (fun ls hl => ?_)
  refine lv_iconst (v := 0) hx hb dX3_pieceOf_4 (by decide) ?_
  refine lv_istore_n (lv' := [(3, .int 0), (2, .int ((1 : Int32) <<< (v1 &&& 31))), (0, .ref h0), (1, .int v1)]) hx hb dX3_pieceOf_5 rfl hl (by decide) rfl (fun ls hl => ?_)
  refine S_X3_pieceOf_6 N ((1 : Int32) <<< (v1 &&& 31)) 0 h  _ (lv_sub hl [2, 1, 0] rfl)
def F_J16_numberOfTrailingZeros_49 (N : Nat) (v0 : Int32) (v1 : Int32) : Option (Int32) := (if v0 ≤ 16 then (if v0 ≤ 4 then (some ((v1 + ((Int32.toUInt32 v0) >>> ((Int32.toUInt32 1) &&& Int32.toUInt32 31)).toInt32))) else (some (((v1 + 2) + ((Int32.toUInt32 (((Int32.toUInt32 v0) >>> ((Int32.toUInt32 2) &&& Int32.toUInt32 31)).toInt32)) >>> ((Int32.toUInt32 1) &&& Int32.toUInt32 31)).toInt32)))) else (if ((Int32.toUInt32 v0) >>> ((Int32.toUInt32 4) &&& Int32.toUInt32 31)).toInt32 ≤ 4 then (some (((v1 + 4) + ((Int32.toUInt32 (((Int32.toUInt32 v0) >>> ((Int32.toUInt32 4) &&& Int32.toUInt32 31)).toInt32)) >>> ((Int32.toUInt32 1) &&& Int32.toUInt32 31)).toInt32))) else (some ((((v1 + 4) + 2) + ((Int32.toUInt32 (((Int32.toUInt32 (((Int32.toUInt32 v0) >>> ((Int32.toUInt32 4) &&& Int32.toUInt32 31)).toInt32)) >>> ((Int32.toUInt32 2) &&& Int32.toUInt32 31)).toInt32)) >>> ((Int32.toUInt32 1) &&& Int32.toUInt32 31)).toInt32)))))
def F_J16_numberOfTrailingZeros_34 (N : Nat) (v0 : Int32) (v1 : Int32) : Option (Int32) := (if v0 ≤ 256 then (F_J16_numberOfTrailingZeros_49 N v0 v1) else (F_J16_numberOfTrailingZeros_49 N (((Int32.toUInt32 v0) >>> ((Int32.toUInt32 8) &&& Int32.toUInt32 31)).toInt32) (v1 + 8)))
def F_J16_numberOfTrailingZeros (N : Nat) (v0 : Int32) : Option (Int32) := (if 0 < ((v0 ^^^ (-1 : Int32)) &&& (v0 - (1 : Int32))) then (if ((v0 ^^^ (-1 : Int32)) &&& (v0 - (1 : Int32))) ≤ 65536 then (F_J16_numberOfTrailingZeros_34 N ((v0 ^^^ (-1 : Int32)) &&& (v0 - (1 : Int32))) 1) else (F_J16_numberOfTrailingZeros_34 N (((Int32.toUInt32 ((v0 ^^^ (-1 : Int32)) &&& (v0 - (1 : Int32)))) >>> ((Int32.toUInt32 16) &&& Int32.toUInt32 31)).toInt32) (1 + 16))) else (some ((((v0 ^^^ (-1 : Int32)) &&& (v0 - (1 : Int32))) &&& (32 : Int32)))))
theorem cw_J16_numberOfTrailingZeros {R : Room} {s : State} {args : Array Value} {own : String} {index lev mc ms : Nat} (hts : ∀ w ∈ lw_all, w.before args s = true) (hl : Cond.methodLink own index yJ16_numberOfTrailingZeros ∈ lw_all) (hR : (rmL lev mc ms).frames + 1 ≤ R.frames ∧ 8 + (2 + 11) + (rmL lev mc ms).locals ≤ R.locals) : CallB R s args own index yJ16_numberOfTrailingZeros cJ16_numberOfTrailingZeros 2 (some .int) (ws_ yJ16_numberOfTrailingZeros cJ16_numberOfTrailingZeros 2 (some .int)) (rmL lev mc ms) mc ms 1 ∧ (Cond.static yJ16_numberOfTrailingZeros).before args s = true := va_cwS 1 hts (lw_S hl q1237 q171 q1238) rfl rfl rfl (by decide +kernel) hR
set_option maxHeartbeats 4000000 in
theorem M_J16_numberOfTrailingZeros {l : Launch} {G : GE} (hG : GC G) {N : Nat} {v0 : Int32} {ρ : (Int32)} (h : F_J16_numberOfTrailingZeros N v0 = some ρ) : MR l G yJ16_numberOfTrailingZeros cJ16_numberOfTrailingZeros 2 (some .int) 1 [] [.int v0] ρ := by
  rw [F_J16_numberOfTrailingZeros] at h
  refine MR.start (rt := .int) hG (by decide) (Nat.le_of_ble_eq_true rfl) ?_
  intro p e s m args below meth c Q S hW0 hK hP hret ls hl
  obtain ⟨hx, hb, hml, hown, hts⟩ := id S
  have hl : lv_has ls 2 [(0, .int v0)] := hl
  have S_J16_numberOfTrailingZeros_49 : ∀ (v0 : Int32) (v1 : Int32), F_J16_numberOfTrailingZeros_49 N v0 v1 = some ρ → ∀ (ls : Array Slot), lv_has ls 2 [(0, .int v0), (1, .int v1)] → W p l e (rmL 1 0 0) s m args below meth c s.heap [] 0 0 Q (F0 m 49 ls []) := by
    intro v0 v1 h ls hl
    rw [F_J16_numberOfTrailingZeros_49] at h
    refine lv_iload_n hx hb dJ16_numberOfTrailingZeros_49 rfl (lv_at hl 0 rfl) ?_
    refine lv_bipush (v := 16) hx hb dJ16_numberOfTrailingZeros_50 (by decide) ?_
    refine lv_icmp_le (tgt := 62) hx hb dJ16_numberOfTrailingZeros_52 (by decide) (fun c4 => ?_) (fun c4 => ?_)
    · rw [if_pos c4] at h
      refine lv_iload_n hx hb dJ16_numberOfTrailingZeros_62 rfl (lv_at hl 0 rfl) ?_
      refine lv_iconst (v := 4) hx hb dJ16_numberOfTrailingZeros_63 (by decide) ?_
      refine lv_icmp_le (tgt := 74) hx hb dJ16_numberOfTrailingZeros_64 (by decide) (fun c5 => ?_) (fun c5 => ?_)
      · rw [if_pos c5] at h
        refine lv_iload_n hx hb dJ16_numberOfTrailingZeros_74 rfl (lv_at hl 1 rfl) ?_
        refine lv_iload_n hx hb dJ16_numberOfTrailingZeros_75 rfl (lv_at hl 0 rfl) ?_
        refine lv_iconst (v := 1) hx hb dJ16_numberOfTrailingZeros_76 (by decide) ?_
        refine lv_iushr hx hb dJ16_numberOfTrailingZeros_77 rfl ?_
        refine lv_iadd hx hb dJ16_numberOfTrailingZeros_78 ?_
        obtain rfl := Option.some.inj h
        exact hret dJ16_numberOfTrailingZeros_79 rfl
      · rw [if_neg c5] at h
        refine lv_iinc (v := (v1 + 2)) (lv' := [(1, .int (v1 + 2)), (0, .int v0)]) hx hb dJ16_numberOfTrailingZeros_67 hl (k := 1) rfl rfl (by decide) rfl (fun ls hl => ?_)
        refine lv_iload_n hx hb dJ16_numberOfTrailingZeros_70 rfl (lv_at hl 1 rfl) ?_
        refine lv_iconst (v := 2) hx hb dJ16_numberOfTrailingZeros_71 (by decide) ?_
        refine lv_iushr hx hb dJ16_numberOfTrailingZeros_72 rfl ?_
        refine lv_istore_n (lv' := [(0, .int ((Int32.toUInt32 v0) >>> ((Int32.toUInt32 2) &&& Int32.toUInt32 31)).toInt32), (1, .int (v1 + 2))]) hx hb dJ16_numberOfTrailingZeros_73 rfl hl (by decide) rfl (fun ls hl => ?_)
        refine lv_iload_n hx hb dJ16_numberOfTrailingZeros_74 rfl (lv_at hl 1 rfl) ?_
        refine lv_iload_n hx hb dJ16_numberOfTrailingZeros_75 rfl (lv_at hl 0 rfl) ?_
        refine lv_iconst (v := 1) hx hb dJ16_numberOfTrailingZeros_76 (by decide) ?_
        refine lv_iushr hx hb dJ16_numberOfTrailingZeros_77 rfl ?_
        refine lv_iadd hx hb dJ16_numberOfTrailingZeros_78 ?_
        obtain rfl := Option.some.inj h
        exact hret dJ16_numberOfTrailingZeros_79 rfl
    · rw [if_neg c4] at h
      refine lv_iinc (v := (v1 + 4)) (lv' := [(1, .int (v1 + 4)), (0, .int v0)]) hx hb dJ16_numberOfTrailingZeros_55 hl (k := 1) rfl rfl (by decide) rfl (fun ls hl => ?_)
      refine lv_iload_n hx hb dJ16_numberOfTrailingZeros_58 rfl (lv_at hl 1 rfl) ?_
      refine lv_iconst (v := 4) hx hb dJ16_numberOfTrailingZeros_59 (by decide) ?_
      refine lv_iushr hx hb dJ16_numberOfTrailingZeros_60 rfl ?_
      refine lv_istore_n (lv' := [(0, .int ((Int32.toUInt32 v0) >>> ((Int32.toUInt32 4) &&& Int32.toUInt32 31)).toInt32), (1, .int (v1 + 4))]) hx hb dJ16_numberOfTrailingZeros_61 rfl hl (by decide) rfl (fun ls hl => ?_)
      refine lv_iload_n hx hb dJ16_numberOfTrailingZeros_62 rfl (lv_at hl 0 rfl) ?_
      refine lv_iconst (v := 4) hx hb dJ16_numberOfTrailingZeros_63 (by decide) ?_
      refine lv_icmp_le (tgt := 74) hx hb dJ16_numberOfTrailingZeros_64 (by decide) (fun c8 => ?_) (fun c8 => ?_)
      · rw [if_pos c8] at h
        refine lv_iload_n hx hb dJ16_numberOfTrailingZeros_74 rfl (lv_at hl 1 rfl) ?_
        refine lv_iload_n hx hb dJ16_numberOfTrailingZeros_75 rfl (lv_at hl 0 rfl) ?_
        refine lv_iconst (v := 1) hx hb dJ16_numberOfTrailingZeros_76 (by decide) ?_
        refine lv_iushr hx hb dJ16_numberOfTrailingZeros_77 rfl ?_
        refine lv_iadd hx hb dJ16_numberOfTrailingZeros_78 ?_
        obtain rfl := Option.some.inj h
        exact hret dJ16_numberOfTrailingZeros_79 rfl
      · rw [if_neg c8] at h
        refine lv_iinc (v := ((v1 + 4) + 2)) (lv' := [(1, .int ((v1 + 4) + 2)), (0, .int ((Int32.toUInt32 v0) >>> ((Int32.toUInt32 4) &&& Int32.toUInt32 31)).toInt32)]) hx hb dJ16_numberOfTrailingZeros_67 hl (k := 1) rfl rfl (by decide) rfl (fun ls hl => ?_)
        refine lv_iload_n hx hb dJ16_numberOfTrailingZeros_70 rfl (lv_at hl 1 rfl) ?_
        refine lv_iconst (v := 2) hx hb dJ16_numberOfTrailingZeros_71 (by decide) ?_
        refine lv_iushr hx hb dJ16_numberOfTrailingZeros_72 rfl ?_
        refine lv_istore_n (lv' := [(0, .int ((Int32.toUInt32 (((Int32.toUInt32 v0) >>> ((Int32.toUInt32 4) &&& Int32.toUInt32 31)).toInt32)) >>> ((Int32.toUInt32 2) &&& Int32.toUInt32 31)).toInt32), (1, .int ((v1 + 4) + 2))]) hx hb dJ16_numberOfTrailingZeros_73 rfl hl (by decide) rfl (fun ls hl => ?_)
        refine lv_iload_n hx hb dJ16_numberOfTrailingZeros_74 rfl (lv_at hl 1 rfl) ?_
        refine lv_iload_n hx hb dJ16_numberOfTrailingZeros_75 rfl (lv_at hl 0 rfl) ?_
        refine lv_iconst (v := 1) hx hb dJ16_numberOfTrailingZeros_76 (by decide) ?_
        refine lv_iushr hx hb dJ16_numberOfTrailingZeros_77 rfl ?_
        refine lv_iadd hx hb dJ16_numberOfTrailingZeros_78 ?_
        obtain rfl := Option.some.inj h
        exact hret dJ16_numberOfTrailingZeros_79 rfl
  have S_J16_numberOfTrailingZeros_34 : ∀ (v0 : Int32) (v1 : Int32), F_J16_numberOfTrailingZeros_34 N v0 v1 = some ρ → ∀ (ls : Array Slot), lv_has ls 2 [(0, .int v0), (1, .int v1)] → W p l e (rmL 1 0 0) s m args below meth c s.heap [] 0 0 Q (F0 m 34 ls []) := by
    intro v0 v1 h ls hl
    rw [F_J16_numberOfTrailingZeros_34] at h
    refine lv_iload_n hx hb dJ16_numberOfTrailingZeros_34 rfl (lv_at hl 0 rfl) ?_
    refine lv_sipush (v := 256) hx hb dJ16_numberOfTrailingZeros_35 (by decide) ?_
    refine lv_icmp_le (tgt := 49) hx hb dJ16_numberOfTrailingZeros_38 (by decide) (fun c3 => ?_) (fun c3 => ?_)
    · rw [if_pos c3] at h
      refine S_J16_numberOfTrailingZeros_49 v0 v1 h  _ (lv_sub hl [0, 1] rfl)
    · rw [if_neg c3] at h
      refine lv_iinc (v := (v1 + 8)) (lv' := [(1, .int (v1 + 8)), (0, .int v0)]) hx hb dJ16_numberOfTrailingZeros_41 hl (k := 1) rfl rfl (by decide) rfl (fun ls hl => ?_)
      refine lv_iload_n hx hb dJ16_numberOfTrailingZeros_44 rfl (lv_at hl 1 rfl) ?_
      refine lv_bipush (v := 8) hx hb dJ16_numberOfTrailingZeros_45 (by decide) ?_
      refine lv_iushr hx hb dJ16_numberOfTrailingZeros_47 rfl ?_
      refine lv_istore_n (lv' := [(0, .int ((Int32.toUInt32 v0) >>> ((Int32.toUInt32 8) &&& Int32.toUInt32 31)).toInt32), (1, .int (v1 + 8))]) hx hb dJ16_numberOfTrailingZeros_48 rfl hl (by decide) rfl (fun ls hl => ?_)
      refine S_J16_numberOfTrailingZeros_49 (((Int32.toUInt32 v0) >>> ((Int32.toUInt32 8) &&& Int32.toUInt32 31)).toInt32) (v1 + 8) h  _ (lv_sub hl [0, 1] rfl)
  refine lv_iload_n hx hb dJ16_numberOfTrailingZeros_0 rfl (lv_at hl 0 rfl) ?_
  refine lv_iconst (v := (-1)) hx hb dJ16_numberOfTrailingZeros_1 (by decide) ?_
  refine lv_ixor hx hb dJ16_numberOfTrailingZeros_2 ?_
  refine lv_iload_n hx hb dJ16_numberOfTrailingZeros_3 rfl (lv_at hl 0 rfl) ?_
  refine lv_iconst (v := 1) hx hb dJ16_numberOfTrailingZeros_4 (by decide) ?_
  refine lv_isub hx hb dJ16_numberOfTrailingZeros_5 ?_
  refine lv_iand hx hb dJ16_numberOfTrailingZeros_6 ?_
  refine lv_istore_n (lv' := [(0, .int ((v0 ^^^ (-1 : Int32)) &&& (v0 - (1 : Int32))))]) hx hb dJ16_numberOfTrailingZeros_7 rfl hl (by decide) rfl (fun ls hl => ?_)
  refine lv_iload_n hx hb dJ16_numberOfTrailingZeros_8 rfl (lv_at hl 0 rfl) ?_
  refine lv_if_gt (tgt := 17) hx hb dJ16_numberOfTrailingZeros_9 (by decide) (fun c1 => ?_) (fun c1 => ?_)
  · rw [if_pos c1] at h
    refine lv_iconst (v := 1) hx hb dJ16_numberOfTrailingZeros_17 (by decide) ?_
    refine lv_istore_n (lv' := [(1, .int 1), (0, .int ((v0 ^^^ (-1 : Int32)) &&& (v0 - (1 : Int32))))]) hx hb dJ16_numberOfTrailingZeros_18 rfl hl (by decide) rfl (fun ls hl => ?_)
    refine lv_iload_n hx hb dJ16_numberOfTrailingZeros_19 rfl (lv_at hl 1 rfl) ?_
    refine lv_ldcw hx hb hown (hts _ q1239) dJ16_numberOfTrailingZeros_20 ?_
    refine lv_icmp_le (tgt := 34) hx hb dJ16_numberOfTrailingZeros_23 (by decide) (fun c2 => ?_) (fun c2 => ?_)
    · rw [if_pos c2] at h
      refine S_J16_numberOfTrailingZeros_34 ((v0 ^^^ (-1 : Int32)) &&& (v0 - (1 : Int32))) 1 h  _ (lv_sub hl [1, 0] rfl)
    · rw [if_neg c2] at h
      refine lv_iinc (v := (1 + 16)) (lv' := [(1, .int (1 + 16)), (0, .int ((v0 ^^^ (-1 : Int32)) &&& (v0 - (1 : Int32))))]) hx hb dJ16_numberOfTrailingZeros_26 hl (k := 0) rfl rfl (by decide) rfl (fun ls hl => ?_)
      refine lv_iload_n hx hb dJ16_numberOfTrailingZeros_29 rfl (lv_at hl 1 rfl) ?_
      refine lv_bipush (v := 16) hx hb dJ16_numberOfTrailingZeros_30 (by decide) ?_
      refine lv_iushr hx hb dJ16_numberOfTrailingZeros_32 rfl ?_
      refine lv_istore_n (lv' := [(0, .int ((Int32.toUInt32 ((v0 ^^^ (-1 : Int32)) &&& (v0 - (1 : Int32)))) >>> ((Int32.toUInt32 16) &&& Int32.toUInt32 31)).toInt32), (1, .int (1 + 16))]) hx hb dJ16_numberOfTrailingZeros_33 rfl hl (by decide) rfl (fun ls hl => ?_)
      refine S_J16_numberOfTrailingZeros_34 (((Int32.toUInt32 ((v0 ^^^ (-1 : Int32)) &&& (v0 - (1 : Int32)))) >>> ((Int32.toUInt32 16) &&& Int32.toUInt32 31)).toInt32) (1 + 16) h  _ (lv_sub hl [0, 1] rfl)
  · rw [if_neg c1] at h
    refine lv_iload_n hx hb dJ16_numberOfTrailingZeros_12 rfl (lv_at hl 0 rfl) ?_
    refine lv_bipush (v := 32) hx hb dJ16_numberOfTrailingZeros_13 (by decide) ?_
    refine lv_iand hx hb dJ16_numberOfTrailingZeros_15 ?_
    obtain rfl := Option.some.inj h
    exact hret dJ16_numberOfTrailingZeros_16 rfl
def F_X3_pieces_4 (N : Nat) (c_now : (Nat → Int32)) : Nat → Int32 → Int32 → Option (Int32)
  | 0, _, _ => none
  | n + 1, v1, v2 => ((F_X3_points N c_now).bind fun y1 => (if y1 ≤ v2 then (some (v1)) else ((F_X3_pieceOf N v2 c_now).bind fun y4 => ((F_J16_numberOfTrailingZeros N y4).bind fun y5 => (if y5 = v2 then (F_X3_pieces_4 N c_now n (v1 + (1 : Int32)) (v2 + 1)) else (F_X3_pieces_4 N c_now n (v1 + (0 : Int32)) (v2 + 1)))))))
def F_X3_pieces (N : Nat) (c_now : (Nat → Int32)) : Option (Int32) := (F_X3_pieces_4 N c_now N 0 0)
theorem cw_X3_pieces {R : Room} {s : State} {args : Array Value} {own : String} {index lev mc ms : Nat} (hts : ∀ w ∈ lw_all, w.before args s = true) (hl : Cond.methodLink own index yX3_pieces ∈ lw_all) (hR : (rmL lev mc ms).frames + 1 ≤ R.frames ∧ 8 + (3 + 11) + (rmL lev mc ms).locals ≤ R.locals) : CallW R s args own RX3 index yX3_pieces cX3_pieces 3 (some .int) (ws_ yX3_pieces cX3_pieces 3 (some .int)) (rmL lev mc ms) mc ms 0 := cwV 0 hts (lw_V hl q1963 qs95 q172 q1964) rfl rfl rfl (by decide +kernel) hR
set_option maxHeartbeats 4000000 in
theorem M_X3_pieces {l : Launch} {G : GE} (hG : GC G) {N : Nat} {h0 : Nat} {ad : Nat → Nat} {c_code : Int32} {c_read : (Nat → Int32)} {c_status : (Nat → Int32)} {c_tape : (Nat → Int32)} {c_taped : Int32} {c_at : Int32} {c_textSize : Int32} {c_token : Int32} {c_number : Int32} {c_begins : Int32} {c_stops : Int32} {c_bad : Int32} {c_badPlace : Int32} {c_faultPlace : Int32} {c_clauses : Int32} {c_naming : (Nat → Int32)} {c_lineBy : (Nat → Int32)} {c_becomes : (Nat → Int32)} {c_dualLines : (Nat → Int32)} {c_on : (Nat → Int32)} {c_rowNow : (Nat → Int32)} {c_least : (Nat → Int32)} {c_wayFirst : (Nat → Int32)} {c_ways : Int32} {c_acts : Int32} {c_past : (Nat → Int32)} {c_listPoints : Int32} {c_listLines : Int32} {c_listed : Int32} {c_list : (Nat → Int32)} {c_path : (Nat → Int32)} {c_places : (Nat → Int32)} {c_firstPlaces : (Nat → Int32)} {c_px : (Nat → Int32)} {c_py : (Nat → Int32)} {c_pz : (Nat → Int32)} {c_placeMany : Int32} {c_modulus : Int32} {c_drawn : Int32} {c_halvesMany : Int32} {c_halvesFirst : Int32} {c_spreadsMany : Int32} {c_spreadsFirst : Int32} {c_comesTo : (Nat → Int32)} {c_seedNow : Int32} {c_rowThen : (Nat → Int32)} {c_hasImage : Int32} {c_actsThen : Int32} {c_imageRow : (Nat → Int32)} {c_pastThen : (Nat → Int32)} {c_statusThen : (Nat → Int32)} {c_now : (Nat → Int32)} {ρ : (Int32)} (h : F_X3_pieces N c_now = some ρ) : MR l G yX3_pieces cX3_pieces 3 (some .int) 3 (mW h0 ad G.2.2 c_code c_now c_read c_status c_tape c_taped c_at c_textSize c_token c_number c_begins c_stops c_bad c_badPlace c_faultPlace c_clauses c_naming c_lineBy c_becomes c_dualLines c_on c_rowNow c_least c_wayFirst c_ways c_acts c_past c_listPoints c_listLines c_listed c_list c_path c_places c_firstPlaces c_px c_py c_pz c_placeMany c_modulus c_drawn c_halvesMany c_halvesFirst c_spreadsMany c_spreadsFirst c_comesTo c_seedNow c_rowThen c_hasImage c_actsThen c_imageRow c_pastThen c_statusThen) [.ref h0] ρ := by
  rw [F_X3_pieces] at h
  refine MR.start (rt := .int) hG (by decide) (Nat.le_of_ble_eq_true rfl) ?_
  intro p e s m args below meth c Q S hW0 hK hP hret ls hl
  obtain ⟨hx, hb, hml, hown, hts⟩ := id S
  have hl : lv_has ls 3 [(0, .ref h0)] := hl
  have S_X3_pieces_4 : ∀ (n : Nat) (v1 : Int32) (v2 : Int32), F_X3_pieces_4 N c_now n v1 v2 = some ρ → ∀ (ls : Array Slot), lv_has ls 3 [(0, .ref h0), (1, .int v1), (2, .int v2)] → W p l e (rmL 3 0 0) s m args below meth c s.heap [] 0 0 Q (F0 m 4 ls []) := by
    intro n
    induction n with
    | zero =>
      intro v1 v2 h
      exact absurd h (by simp [F_X3_pieces_4])
    | succ n ih =>
      intro v1 v2 h ls hl
      rw [F_X3_pieces_4] at h
      refine lv_iload_n hx hb dX3_pieces_4 rfl (lv_at hl 2 rfl) ?_
      refine lv_aload_n hx hb dX3_pieces_5 rfl (lv_at hl 0 rfl) ?_
      obtain ⟨y1, e1, h⟩ := ob_s h
      refine MR.callV (q0 := 0) (M_X3_points hG e1) S (cw_X3_points hts q1913 ⟨Nat.le_of_ble_eq_true rfl, Nat.le_of_ble_eq_true rfl⟩) hW0 hK hP rfl rfl rfl hl.1 rfl (Nat.le_of_ble_eq_true rfl) dX3_pieces_6 ⟨Nat.zero_le _, Nat.zero_le _⟩ ?_
      refine lv_icmp_ge (tgt := 38) hx hb dX3_pieces_9 (by decide) (fun c2 => ?_) (fun c2 => ?_)
      · rw [if_pos c2] at h
        refine lv_iload_n hx hb dX3_pieces_38 rfl (lv_at hl 1 rfl) ?_
        obtain rfl := Option.some.inj h
        exact hret dX3_pieces_39 rfl
      · rw [if_neg c2] at h
        refine lv_iload_n hx hb dX3_pieces_12 rfl (lv_at hl 1 rfl) ?_
        refine lv_aload_n hx hb dX3_pieces_13 rfl (lv_at hl 0 rfl) ?_
        refine lv_iload_n hx hb dX3_pieces_14 rfl (lv_at hl 2 rfl) ?_
        obtain ⟨y4, e4, h⟩ := ob_s h
        refine MR.callV (q0 := 0) (M_X3_pieceOf hG e4) S (cw_X3_pieceOf hts q1965 ⟨Nat.le_of_ble_eq_true rfl, Nat.le_of_ble_eq_true rfl⟩) hW0 hK hP rfl rfl rfl hl.1 rfl (Nat.le_of_ble_eq_true rfl) dX3_pieces_15 ⟨Nat.zero_le _, Nat.zero_le _⟩ ?_
        obtain ⟨y5, e5, h⟩ := ob_s h
        refine MR.callS (M_J16_numberOfTrailingZeros hG e5) S (cw_J16_numberOfTrailingZeros hts q1969 ⟨Nat.le_of_ble_eq_true rfl, Nat.le_of_ble_eq_true rfl⟩) hW0 vaP0 rfl hl.1 rfl (Nat.le_of_ble_eq_true rfl) dX3_pieces_18 ⟨Nat.zero_le _, Nat.zero_le _⟩ ?_
        refine lv_iload_n hx hb dX3_pieces_21 rfl (lv_at hl 2 rfl) ?_
        refine lv_icmp_ne (tgt := 29) hx hb dX3_pieces_22 (by decide) (fun c6 => ?_) (fun c6 => ?_)
        · rw [if_neg c6] at h
          refine lv_iconst (v := 0) hx hb dX3_pieces_29 (by decide) ?_
          refine lv_iadd hx hb dX3_pieces_30 ?_
          refine lv_istore_n (lv' := [(1, .int (v1 + (0 : Int32))), (0, .ref h0), (2, .int v2)]) hx hb dX3_pieces_31 rfl hl (by decide) rfl (fun ls hl => ?_)
          refine lv_iinc (v := (v2 + 1)) (lv' := [(2, .int (v2 + 1)), (1, .int (v1 + (0 : Int32))), (0, .ref h0)]) hx hb dX3_pieces_32 hl (k := 2) rfl rfl (by decide) rfl (fun ls hl => ?_)
          refine lv_goto (tgt := 4) hx hb dX3_pieces_35 (by decide) ?_
          exact ih (v1 + (0 : Int32)) (v2 + 1) h _ (lv_sub hl [2, 1, 0] rfl)
        · rw [if_pos c6] at h
          refine lv_iconst (v := 1) hx hb dX3_pieces_25 (by decide) ?_
          refine lv_goto (tgt := 30) hx hb dX3_pieces_26 (by decide) ?_
          refine lv_iadd hx hb dX3_pieces_30 ?_
          refine lv_istore_n (lv' := [(1, .int (v1 + (1 : Int32))), (0, .ref h0), (2, .int v2)]) hx hb dX3_pieces_31 rfl hl (by decide) rfl (fun ls hl => ?_)
          refine lv_iinc (v := (v2 + 1)) (lv' := [(2, .int (v2 + 1)), (1, .int (v1 + (1 : Int32))), (0, .ref h0)]) hx hb dX3_pieces_32 hl (k := 2) rfl rfl (by decide) rfl (fun ls hl => ?_)
          refine lv_goto (tgt := 4) hx hb dX3_pieces_35 (by decide) ?_
          exact ih (v1 + (1 : Int32)) (v2 + 1) h _ (lv_sub hl [2, 1, 0] rfl)
  refine lv_iconst (v := 0) hx hb dX3_pieces_0 (by decide) ?_
  refine lv_istore_n (lv' := [(1, .int 0), (0, .ref h0)]) hx hb dX3_pieces_1 rfl hl (by decide) rfl (fun ls hl => ?_)
  refine lv_iconst (v := 0) hx hb dX3_pieces_2 (by decide) ?_
  refine lv_istore_n (lv' := [(2, .int 0), (1, .int 0), (0, .ref h0)]) hx hb dX3_pieces_3 rfl hl (by decide) rfl (fun ls hl => ?_)
  refine S_X3_pieces_4 N 0 0 h  _ (lv_sub hl [2, 1, 0] rfl)
def F_X3_tellLines_2 (N : Nat) : Nat → Int32 → (Nat → Int32) → ((Nat → Int32) → Option ((Nat → Int32))) → Option ((Nat → Int32))
  | 0, _, _, _ => none
  | n + 1, v1, c_lineBy, k22 => (if 256 ≤ v1 then (k22 c_lineBy) else (ckI v1 256 (F_X3_tellLines_2 N n (v1 + 1) (upd c_lineBy (Int32.toNatClampNeg v1) (-1)) k22)))
def F_X3_tellLines_24 (N : Nat) (c_now : (Nat → Int32)) : Nat → Int32 → (Nat → Int32) → Option ((Nat → Int32))
  | 0, _, _ => none
  | n + 1, v1, c_lineBy => ((F_X3_lines N c_now).bind fun y4 => (if y4 ≤ v1 then (some (c_lineBy)) else ((F_X3_lineAt N v1 c_now).bind fun y7 => (ckI y7 256 (F_X3_tellLines_24 N c_now n (v1 + 1) (upd c_lineBy (Int32.toNatClampNeg y7) v1))))))
def F_X3_tellLines (N : Nat) (c_now : (Nat → Int32)) (c_lineBy : (Nat → Int32)) : Option ((Nat → Int32)) := (F_X3_tellLines_2 N N 0 c_lineBy (fun c_lineBy_3 => (F_X3_tellLines_24 N c_now N 0 c_lineBy_3)))
theorem cw_X3_tellLines {R : Room} {s : State} {args : Array Value} {own : String} {index lev mc ms : Nat} (hts : ∀ w ∈ lw_all, w.before args s = true) (hl : Cond.methodLink own index yX3_tellLines ∈ lw_all) (hR : (rmL lev mc ms).frames + 1 ≤ R.frames ∧ 8 + (2 + 11) + (rmL lev mc ms).locals ≤ R.locals) : CallW R s args own RX3 index yX3_tellLines cX3_tellLines 2 none (ws_ yX3_tellLines cX3_tellLines 2 none) (rmL lev mc ms) mc ms 0 := cwV 0 hts (lw_V hl q1976 qs98 q172 q1977) rfl rfl rfl (by decide +kernel) hR
set_option maxHeartbeats 4000000 in
theorem M_X3_tellLines {l : Launch} {G : GE} (hG : GC G) {N : Nat} {h0 : Nat} {ad : Nat → Nat} {c_code : Int32} {c_read : (Nat → Int32)} {c_status : (Nat → Int32)} {c_tape : (Nat → Int32)} {c_taped : Int32} {c_at : Int32} {c_textSize : Int32} {c_token : Int32} {c_number : Int32} {c_begins : Int32} {c_stops : Int32} {c_bad : Int32} {c_badPlace : Int32} {c_faultPlace : Int32} {c_clauses : Int32} {c_naming : (Nat → Int32)} {c_becomes : (Nat → Int32)} {c_dualLines : (Nat → Int32)} {c_on : (Nat → Int32)} {c_rowNow : (Nat → Int32)} {c_least : (Nat → Int32)} {c_wayFirst : (Nat → Int32)} {c_ways : Int32} {c_acts : Int32} {c_past : (Nat → Int32)} {c_listPoints : Int32} {c_listLines : Int32} {c_listed : Int32} {c_list : (Nat → Int32)} {c_path : (Nat → Int32)} {c_places : (Nat → Int32)} {c_firstPlaces : (Nat → Int32)} {c_px : (Nat → Int32)} {c_py : (Nat → Int32)} {c_pz : (Nat → Int32)} {c_placeMany : Int32} {c_modulus : Int32} {c_drawn : Int32} {c_halvesMany : Int32} {c_halvesFirst : Int32} {c_spreadsMany : Int32} {c_spreadsFirst : Int32} {c_comesTo : (Nat → Int32)} {c_seedNow : Int32} {c_rowThen : (Nat → Int32)} {c_hasImage : Int32} {c_actsThen : Int32} {c_imageRow : (Nat → Int32)} {c_pastThen : (Nat → Int32)} {c_statusThen : (Nat → Int32)} {c_now : (Nat → Int32)} {c_lineBy : (Nat → Int32)} {ρ : ((Nat → Int32))} (h : F_X3_tellLines N c_now c_lineBy = some ρ) : MW l G yX3_tellLines cX3_tellLines 2 none 2 (mW h0 ad G.2.2 c_code c_now c_read c_status c_tape c_taped c_at c_textSize c_token c_number c_begins c_stops c_bad c_badPlace c_faultPlace c_clauses c_naming c_lineBy c_becomes c_dualLines c_on c_rowNow c_least c_wayFirst c_ways c_acts c_past c_listPoints c_listLines c_listed c_list c_path c_places c_firstPlaces c_px c_py c_pz c_placeMany c_modulus c_drawn c_halvesMany c_halvesFirst c_spreadsMany c_spreadsFirst c_comesTo c_seedNow c_rowThen c_hasImage c_actsThen c_imageRow c_pastThen c_statusThen) [.ref h0] none (mW h0 ad G.2.2 c_code c_now c_read c_status c_tape c_taped c_at c_textSize c_token c_number c_begins c_stops c_bad c_badPlace c_faultPlace c_clauses c_naming ρ c_becomes c_dualLines c_on c_rowNow c_least c_wayFirst c_ways c_acts c_past c_listPoints c_listLines c_listed c_list c_path c_places c_firstPlaces c_px c_py c_pz c_placeMany c_modulus c_drawn c_halvesMany c_halvesFirst c_spreadsMany c_spreadsFirst c_comesTo c_seedNow c_rowThen c_hasImage c_actsThen c_imageRow c_pastThen c_statusThen) := by
  rw [F_X3_tellLines] at h
  refine MW.start hG (by decide) (Nat.le_of_ble_eq_true rfl) ?_
  intro p e s m args below meth c Q A S hW0 hK hP hD hA hreti hretv ls hl
  have hS : va_S A s.heap s.heap [] := va_S.rf
  obtain ⟨hx, hb, hml, hown, hts⟩ := id S
  have hl : lv_has ls 2 [(0, .ref h0)] := hl
  have S_X3_tellLines_2 : ∀ (n : Nat) (v1 : Int32) (c_lineBy : (Nat → Int32)) (k22 : (Nat → Int32) → Option ((Nat → Int32))), F_X3_tellLines_2 N n v1 c_lineBy k22 = some ρ → (∀ (z_c_lineBy : (Nat → Int32)) (H : Heap) (locs : List Loc) (ls : Array Slot), k22 z_c_lineBy = some ρ → va_P G.2.1 vwCl (mW h0 ad G.2.2 c_code c_now c_read c_status c_tape c_taped c_at c_textSize c_token c_number c_begins c_stops c_bad c_badPlace c_faultPlace c_clauses c_naming z_c_lineBy c_becomes c_dualLines c_on c_rowNow c_least c_wayFirst c_ways c_acts c_past c_listPoints c_listLines c_listed c_list c_path c_places c_firstPlaces c_px c_py c_pz c_placeMany c_modulus c_drawn c_halvesMany c_halvesFirst c_spreadsMany c_spreadsFirst c_comesTo c_seedNow c_rowThen c_hasImage c_actsThen c_imageRow c_pastThen c_statusThen) H → va_D A (mW h0 ad G.2.2 c_code c_now c_read c_status c_tape c_taped c_at c_textSize c_token c_number c_begins c_stops c_bad c_badPlace c_faultPlace c_clauses c_naming z_c_lineBy c_becomes c_dualLines c_on c_rowNow c_least c_wayFirst c_ways c_acts c_past c_listPoints c_listLines c_listed c_list c_path c_places c_firstPlaces c_px c_py c_pz c_placeMany c_modulus c_drawn c_halvesMany c_halvesFirst c_spreadsMany c_spreadsFirst c_comesTo c_seedNow c_rowThen c_hasImage c_actsThen c_imageRow c_pastThen c_statusThen) → va_S A s.heap H locs → lv_has ls 2 [(0, .ref h0)] → W p l e (rmL 2 0 0) s m args below meth c H locs 0 0 Q (F0 m 22 ls [])) → ∀ (H : Heap) (locs : List Loc), va_P G.2.1 vwCl (mW h0 ad G.2.2 c_code c_now c_read c_status c_tape c_taped c_at c_textSize c_token c_number c_begins c_stops c_bad c_badPlace c_faultPlace c_clauses c_naming c_lineBy c_becomes c_dualLines c_on c_rowNow c_least c_wayFirst c_ways c_acts c_past c_listPoints c_listLines c_listed c_list c_path c_places c_firstPlaces c_px c_py c_pz c_placeMany c_modulus c_drawn c_halvesMany c_halvesFirst c_spreadsMany c_spreadsFirst c_comesTo c_seedNow c_rowThen c_hasImage c_actsThen c_imageRow c_pastThen c_statusThen) H → va_D A (mW h0 ad G.2.2 c_code c_now c_read c_status c_tape c_taped c_at c_textSize c_token c_number c_begins c_stops c_bad c_badPlace c_faultPlace c_clauses c_naming c_lineBy c_becomes c_dualLines c_on c_rowNow c_least c_wayFirst c_ways c_acts c_past c_listPoints c_listLines c_listed c_list c_path c_places c_firstPlaces c_px c_py c_pz c_placeMany c_modulus c_drawn c_halvesMany c_halvesFirst c_spreadsMany c_spreadsFirst c_comesTo c_seedNow c_rowThen c_hasImage c_actsThen c_imageRow c_pastThen c_statusThen) → va_S A s.heap H locs → ∀ (ls : Array Slot), lv_has ls 2 [(0, .ref h0), (1, .int v1)] → W p l e (rmL 2 0 0) s m args below meth c H locs 0 0 Q (F0 m 2 ls []) := by
    intro n
    induction n with
    | zero =>
      intro v1 c_lineBy k22 h
      exact absurd h (by simp [F_X3_tellLines_2])
    | succ n ih =>
      intro v1 c_lineBy k22 h hk22 H locs hP hD hS ls hl
      rw [F_X3_tellLines_2] at h
      refine lv_iload_n hx hb dX3_tellLines_2 rfl (lv_at hl 1 rfl) ?_
      refine lv_sipush (v := 256) hx hb dX3_tellLines_3 (by decide) ?_
      refine lv_icmp_ge (tgt := 22) hx hb dX3_tellLines_6 (by decide) (fun c1 => ?_) (fun c1 => ?_)
      · rw [if_pos c1] at h
        exact hk22 c_lineBy _ _ _ h hP hD hS (lv_sub hl [0] rfl)
      · rw [if_neg c1] at h
        refine lv_aload_n hx hb dX3_tellLines_9 rfl (lv_at hl 0 rfl) ?_
        refine va_get (ci := 2) (v := .ref (ad 17)) (C := RX3) (T := TX3) (N := 52) hx hb hts in_X3 hown hK hP 0 rfl rfl 17 (by decide) (hts _ q1675) (fun _ h9 => h9) rfl dX3_tellLines_10 ?_
        refine lv_iload_n hx hb dX3_tellLines_13 rfl (lv_at hl 1 rfl) ?_
        refine lv_iconst (v := (-1)) hx hb dX3_tellLines_14 (by decide) ?_
        obtain ⟨i2, h⟩ := ckI_s h
        refine va_iast (f := c_lineBy) hx hb hK hP hD hS 6 0 rfl rfl i2 dX3_tellLines_15 (fun H locs hP hD hS => ?_)
        have hP : va_P G.2.1 vwCl (mW h0 ad G.2.2 c_code c_now c_read c_status c_tape c_taped c_at c_textSize c_token c_number c_begins c_stops c_bad c_badPlace c_faultPlace c_clauses c_naming (upd c_lineBy (Int32.toNatClampNeg v1) (-1)) c_becomes c_dualLines c_on c_rowNow c_least c_wayFirst c_ways c_acts c_past c_listPoints c_listLines c_listed c_list c_path c_places c_firstPlaces c_px c_py c_pz c_placeMany c_modulus c_drawn c_halvesMany c_halvesFirst c_spreadsMany c_spreadsFirst c_comesTo c_seedNow c_rowThen c_hasImage c_actsThen c_imageRow c_pastThen c_statusThen) H := hP
        have hD : va_D A (mW h0 ad G.2.2 c_code c_now c_read c_status c_tape c_taped c_at c_textSize c_token c_number c_begins c_stops c_bad c_badPlace c_faultPlace c_clauses c_naming (upd c_lineBy (Int32.toNatClampNeg v1) (-1)) c_becomes c_dualLines c_on c_rowNow c_least c_wayFirst c_ways c_acts c_past c_listPoints c_listLines c_listed c_list c_path c_places c_firstPlaces c_px c_py c_pz c_placeMany c_modulus c_drawn c_halvesMany c_halvesFirst c_spreadsMany c_spreadsFirst c_comesTo c_seedNow c_rowThen c_hasImage c_actsThen c_imageRow c_pastThen c_statusThen) := hD
        refine lv_iinc (v := (v1 + 1)) (lv' := [(1, .int (v1 + 1)), (0, .ref h0)]) hx hb dX3_tellLines_16 hl (k := 1) rfl rfl (by decide) rfl (fun ls hl => ?_)
        refine lv_goto (tgt := 2) hx hb dX3_tellLines_19 (by decide) ?_
        exact ih (v1 + 1) (upd c_lineBy (Int32.toNatClampNeg v1) (-1)) _ h hk22 _ _ hP hD hS _ (lv_sub hl [1, 0] rfl)
  have S_X3_tellLines_24 : ∀ (n : Nat) (v1 : Int32) (c_lineBy : (Nat → Int32)), F_X3_tellLines_24 N c_now n v1 c_lineBy = some ρ → ∀ (H : Heap) (locs : List Loc), va_P G.2.1 vwCl (mW h0 ad G.2.2 c_code c_now c_read c_status c_tape c_taped c_at c_textSize c_token c_number c_begins c_stops c_bad c_badPlace c_faultPlace c_clauses c_naming c_lineBy c_becomes c_dualLines c_on c_rowNow c_least c_wayFirst c_ways c_acts c_past c_listPoints c_listLines c_listed c_list c_path c_places c_firstPlaces c_px c_py c_pz c_placeMany c_modulus c_drawn c_halvesMany c_halvesFirst c_spreadsMany c_spreadsFirst c_comesTo c_seedNow c_rowThen c_hasImage c_actsThen c_imageRow c_pastThen c_statusThen) H → va_D A (mW h0 ad G.2.2 c_code c_now c_read c_status c_tape c_taped c_at c_textSize c_token c_number c_begins c_stops c_bad c_badPlace c_faultPlace c_clauses c_naming c_lineBy c_becomes c_dualLines c_on c_rowNow c_least c_wayFirst c_ways c_acts c_past c_listPoints c_listLines c_listed c_list c_path c_places c_firstPlaces c_px c_py c_pz c_placeMany c_modulus c_drawn c_halvesMany c_halvesFirst c_spreadsMany c_spreadsFirst c_comesTo c_seedNow c_rowThen c_hasImage c_actsThen c_imageRow c_pastThen c_statusThen) → va_S A s.heap H locs → ∀ (ls : Array Slot), lv_has ls 2 [(0, .ref h0), (1, .int v1)] → W p l e (rmL 2 0 0) s m args below meth c H locs 0 0 Q (F0 m 24 ls []) := by
    intro n
    induction n with
    | zero =>
      intro v1 c_lineBy h
      exact absurd h (by simp [F_X3_tellLines_24])
    | succ n ih =>
      intro v1 c_lineBy h H locs hP hD hS ls hl
      rw [F_X3_tellLines_24] at h
      refine lv_iload_n hx hb dX3_tellLines_24 rfl (lv_at hl 1 rfl) ?_
      refine lv_aload_n hx hb dX3_tellLines_25 rfl (lv_at hl 0 rfl) ?_
      obtain ⟨y4, e4, h⟩ := ob_s h
      refine MR.callV (q0 := 0) (M_X3_lines hG e4) S (cw_X3_lines hts q1917 ⟨Nat.le_of_ble_eq_true rfl, Nat.le_of_ble_eq_true rfl⟩) hW0 hK hP rfl rfl rfl hl.1 rfl (Nat.le_of_ble_eq_true rfl) dX3_tellLines_26 ⟨Nat.zero_le _, Nat.zero_le _⟩ ?_
      refine lv_icmp_ge (tgt := 49) hx hb dX3_tellLines_29 (by decide) (fun c5 => ?_) (fun c5 => ?_)
      · rw [if_pos c5] at h
        obtain rfl := Option.some.inj h
        exact hretv rfl dX3_tellLines_49 rfl hP hD hS
      · rw [if_neg c5] at h
        refine lv_aload_n hx hb dX3_tellLines_32 rfl (lv_at hl 0 rfl) ?_
        refine va_get (ci := 2) (v := .ref (ad 17)) (C := RX3) (T := TX3) (N := 52) hx hb hts in_X3 hown hK hP 0 rfl rfl 17 (by decide) (hts _ q1675) (fun _ h9 => h9) rfl dX3_tellLines_33 ?_
        refine lv_aload_n hx hb dX3_tellLines_36 rfl (lv_at hl 0 rfl) ?_
        refine lv_iload_n hx hb dX3_tellLines_37 rfl (lv_at hl 1 rfl) ?_
        obtain ⟨y7, e7, h⟩ := ob_s h
        refine MR.callV (q0 := 0) (M_X3_lineAt hG e7) S (cw_X3_lineAt hts q1925 ⟨Nat.le_of_ble_eq_true rfl, Nat.le_of_ble_eq_true rfl⟩) hW0 hK hP rfl rfl rfl hl.1 rfl (Nat.le_of_ble_eq_true rfl) dX3_tellLines_38 ⟨Nat.zero_le _, Nat.zero_le _⟩ ?_
        refine lv_iload_n hx hb dX3_tellLines_41 rfl (lv_at hl 1 rfl) ?_
        obtain ⟨i8, h⟩ := ckI_s h
        refine va_iast (f := c_lineBy) hx hb hK hP hD hS 6 0 rfl rfl i8 dX3_tellLines_42 (fun H locs hP hD hS => ?_)
        have hP : va_P G.2.1 vwCl (mW h0 ad G.2.2 c_code c_now c_read c_status c_tape c_taped c_at c_textSize c_token c_number c_begins c_stops c_bad c_badPlace c_faultPlace c_clauses c_naming (upd c_lineBy (Int32.toNatClampNeg y7) v1) c_becomes c_dualLines c_on c_rowNow c_least c_wayFirst c_ways c_acts c_past c_listPoints c_listLines c_listed c_list c_path c_places c_firstPlaces c_px c_py c_pz c_placeMany c_modulus c_drawn c_halvesMany c_halvesFirst c_spreadsMany c_spreadsFirst c_comesTo c_seedNow c_rowThen c_hasImage c_actsThen c_imageRow c_pastThen c_statusThen) H := hP
        have hD : va_D A (mW h0 ad G.2.2 c_code c_now c_read c_status c_tape c_taped c_at c_textSize c_token c_number c_begins c_stops c_bad c_badPlace c_faultPlace c_clauses c_naming (upd c_lineBy (Int32.toNatClampNeg y7) v1) c_becomes c_dualLines c_on c_rowNow c_least c_wayFirst c_ways c_acts c_past c_listPoints c_listLines c_listed c_list c_path c_places c_firstPlaces c_px c_py c_pz c_placeMany c_modulus c_drawn c_halvesMany c_halvesFirst c_spreadsMany c_spreadsFirst c_comesTo c_seedNow c_rowThen c_hasImage c_actsThen c_imageRow c_pastThen c_statusThen) := hD
        refine lv_iinc (v := (v1 + 1)) (lv' := [(1, .int (v1 + 1)), (0, .ref h0)]) hx hb dX3_tellLines_43 hl (k := 1) rfl rfl (by decide) rfl (fun ls hl => ?_)
        refine lv_goto (tgt := 24) hx hb dX3_tellLines_46 (by decide) ?_
        exact ih (v1 + 1) (upd c_lineBy (Int32.toNatClampNeg y7) v1) h _ _ hP hD hS _ (lv_sub hl [1, 0] rfl)
  refine lv_iconst (v := 0) hx hb dX3_tellLines_0 (by decide) ?_
  refine lv_istore_n (lv' := [(1, .int 0), (0, .ref h0)]) hx hb dX3_tellLines_1 rfl hl (by decide) rfl (fun ls hl => ?_)
  refine S_X3_tellLines_2 N 0 c_lineBy _ h ?_ _ _ hP hD hS _ (lv_sub hl [1, 0] rfl)
  · intro c_lineBy_3 H locs ls h hP hD hS hl
    refine lv_iconst (v := 0) hx hb dX3_tellLines_22 (by decide) ?_
    refine lv_istore_n (lv' := [(1, .int 0), (0, .ref h0)]) hx hb dX3_tellLines_23 rfl hl (by decide) rfl (fun ls hl => ?_)
    refine S_X3_tellLines_24 N 0 c_lineBy_3 h  _ _ hP hD hS _ (lv_sub hl [1, 0] rfl)
def F_X3_beginNaming_2 (N : Nat) (v1 : Int32) : Nat → Int32 → (Nat → Int32) → Option ((Nat → Int32))
  | 0, _, _ => none
  | n + 1, v2, c_naming => (if v1 ≤ v2 then (some (c_naming)) else (ckI v2 8 (F_X3_beginNaming_2 N v1 n (v2 + 1) (upd c_naming (Int32.toNatClampNeg v2) v2))))
def F_X3_beginNaming (N : Nat) (v1 : Int32) (c_naming : (Nat → Int32)) : Option ((Nat → Int32)) := (F_X3_beginNaming_2 N v1 N 0 c_naming)
theorem cw_X3_beginNaming {R : Room} {s : State} {args : Array Value} {own : String} {index lev mc ms : Nat} (hts : ∀ w ∈ lw_all, w.before args s = true) (hl : Cond.methodLink own index yX3_beginNaming ∈ lw_all) (hR : (rmL lev mc ms).frames + 1 ≤ R.frames ∧ 8 + (3 + 11) + (rmL lev mc ms).locals ≤ R.locals) : CallW R s args own RX3 index yX3_beginNaming cX3_beginNaming 3 none (ws_ yX3_beginNaming cX3_beginNaming 3 none) (rmL lev mc ms) mc ms 1 := cwV 1 hts (lw_V hl q1980 qs99 q172 q1981) rfl rfl rfl (by decide +kernel) hR
set_option maxHeartbeats 4000000 in
theorem M_X3_beginNaming {l : Launch} {G : GE} (hG : GC G) {N : Nat} {h0 : Nat} {ad : Nat → Nat} {c_code : Int32} {c_now : (Nat → Int32)} {c_read : (Nat → Int32)} {c_status : (Nat → Int32)} {c_tape : (Nat → Int32)} {c_taped : Int32} {c_at : Int32} {c_textSize : Int32} {c_token : Int32} {c_number : Int32} {c_begins : Int32} {c_stops : Int32} {c_bad : Int32} {c_badPlace : Int32} {c_faultPlace : Int32} {c_clauses : Int32} {c_lineBy : (Nat → Int32)} {c_becomes : (Nat → Int32)} {c_dualLines : (Nat → Int32)} {c_on : (Nat → Int32)} {c_rowNow : (Nat → Int32)} {c_least : (Nat → Int32)} {c_wayFirst : (Nat → Int32)} {c_ways : Int32} {c_acts : Int32} {c_past : (Nat → Int32)} {c_listPoints : Int32} {c_listLines : Int32} {c_listed : Int32} {c_list : (Nat → Int32)} {c_path : (Nat → Int32)} {c_places : (Nat → Int32)} {c_firstPlaces : (Nat → Int32)} {c_px : (Nat → Int32)} {c_py : (Nat → Int32)} {c_pz : (Nat → Int32)} {c_placeMany : Int32} {c_modulus : Int32} {c_drawn : Int32} {c_halvesMany : Int32} {c_halvesFirst : Int32} {c_spreadsMany : Int32} {c_spreadsFirst : Int32} {c_comesTo : (Nat → Int32)} {c_seedNow : Int32} {c_rowThen : (Nat → Int32)} {c_hasImage : Int32} {c_actsThen : Int32} {c_imageRow : (Nat → Int32)} {c_pastThen : (Nat → Int32)} {c_statusThen : (Nat → Int32)} {v1 : Int32} {c_naming : (Nat → Int32)} {ρ : ((Nat → Int32))} (h : F_X3_beginNaming N v1 c_naming = some ρ) : MW l G yX3_beginNaming cX3_beginNaming 3 none 1 (mW h0 ad G.2.2 c_code c_now c_read c_status c_tape c_taped c_at c_textSize c_token c_number c_begins c_stops c_bad c_badPlace c_faultPlace c_clauses c_naming c_lineBy c_becomes c_dualLines c_on c_rowNow c_least c_wayFirst c_ways c_acts c_past c_listPoints c_listLines c_listed c_list c_path c_places c_firstPlaces c_px c_py c_pz c_placeMany c_modulus c_drawn c_halvesMany c_halvesFirst c_spreadsMany c_spreadsFirst c_comesTo c_seedNow c_rowThen c_hasImage c_actsThen c_imageRow c_pastThen c_statusThen) [.ref h0, .int v1] none (mW h0 ad G.2.2 c_code c_now c_read c_status c_tape c_taped c_at c_textSize c_token c_number c_begins c_stops c_bad c_badPlace c_faultPlace c_clauses ρ c_lineBy c_becomes c_dualLines c_on c_rowNow c_least c_wayFirst c_ways c_acts c_past c_listPoints c_listLines c_listed c_list c_path c_places c_firstPlaces c_px c_py c_pz c_placeMany c_modulus c_drawn c_halvesMany c_halvesFirst c_spreadsMany c_spreadsFirst c_comesTo c_seedNow c_rowThen c_hasImage c_actsThen c_imageRow c_pastThen c_statusThen) := by
  rw [F_X3_beginNaming] at h
  refine MW.start hG (by decide) (Nat.le_of_ble_eq_true rfl) ?_
  intro p e s m args below meth c Q A S hW0 hK hP hD hA hreti hretv ls hl
  have hS : va_S A s.heap s.heap [] := va_S.rf
  obtain ⟨hx, hb, hml, hown, hts⟩ := id S
  have hl : lv_has ls 3 [(0, .ref h0), (1, .int v1)] := hl
  have S_X3_beginNaming_2 : ∀ (n : Nat) (v1 : Int32) (v2 : Int32) (c_naming : (Nat → Int32)), F_X3_beginNaming_2 N v1 n v2 c_naming = some ρ → ∀ (H : Heap) (locs : List Loc), va_P G.2.1 vwCl (mW h0 ad G.2.2 c_code c_now c_read c_status c_tape c_taped c_at c_textSize c_token c_number c_begins c_stops c_bad c_badPlace c_faultPlace c_clauses c_naming c_lineBy c_becomes c_dualLines c_on c_rowNow c_least c_wayFirst c_ways c_acts c_past c_listPoints c_listLines c_listed c_list c_path c_places c_firstPlaces c_px c_py c_pz c_placeMany c_modulus c_drawn c_halvesMany c_halvesFirst c_spreadsMany c_spreadsFirst c_comesTo c_seedNow c_rowThen c_hasImage c_actsThen c_imageRow c_pastThen c_statusThen) H → va_D A (mW h0 ad G.2.2 c_code c_now c_read c_status c_tape c_taped c_at c_textSize c_token c_number c_begins c_stops c_bad c_badPlace c_faultPlace c_clauses c_naming c_lineBy c_becomes c_dualLines c_on c_rowNow c_least c_wayFirst c_ways c_acts c_past c_listPoints c_listLines c_listed c_list c_path c_places c_firstPlaces c_px c_py c_pz c_placeMany c_modulus c_drawn c_halvesMany c_halvesFirst c_spreadsMany c_spreadsFirst c_comesTo c_seedNow c_rowThen c_hasImage c_actsThen c_imageRow c_pastThen c_statusThen) → va_S A s.heap H locs → ∀ (ls : Array Slot), lv_has ls 3 [(0, .ref h0), (1, .int v1), (2, .int v2)] → W p l e (rmL 1 0 0) s m args below meth c H locs 0 0 Q (F0 m 2 ls []) := by
    intro n
    induction n with
    | zero =>
      intro v1 v2 c_naming h
      exact absurd h (by simp [F_X3_beginNaming_2])
    | succ n ih =>
      intro v1 v2 c_naming h H locs hP hD hS ls hl
      rw [F_X3_beginNaming_2] at h
      refine lv_iload_n hx hb dX3_beginNaming_2 rfl (lv_at hl 2 rfl) ?_
      refine lv_iload_n hx hb dX3_beginNaming_3 rfl (lv_at hl 1 rfl) ?_
      refine lv_icmp_ge (tgt := 20) hx hb dX3_beginNaming_4 (by decide) (fun c1 => ?_) (fun c1 => ?_)
      · rw [if_pos c1] at h
        obtain rfl := Option.some.inj h
        exact hretv rfl dX3_beginNaming_20 rfl hP hD hS
      · rw [if_neg c1] at h
        refine lv_aload_n hx hb dX3_beginNaming_7 rfl (lv_at hl 0 rfl) ?_
        refine va_get (ci := 2) (v := .ref (ad 16)) (C := RX3) (T := TX3) (N := 52) hx hb hts in_X3 hown hK hP 0 rfl rfl 16 (by decide) (hts _ q1674) (fun _ h9 => h9) rfl dX3_beginNaming_8 ?_
        refine lv_iload_n hx hb dX3_beginNaming_11 rfl (lv_at hl 2 rfl) ?_
        refine lv_iload_n hx hb dX3_beginNaming_12 rfl (lv_at hl 2 rfl) ?_
        obtain ⟨i3, h⟩ := ckI_s h
        refine va_iast (f := c_naming) hx hb hK hP hD hS 5 0 rfl rfl i3 dX3_beginNaming_13 (fun H locs hP hD hS => ?_)
        have hP : va_P G.2.1 vwCl (mW h0 ad G.2.2 c_code c_now c_read c_status c_tape c_taped c_at c_textSize c_token c_number c_begins c_stops c_bad c_badPlace c_faultPlace c_clauses (upd c_naming (Int32.toNatClampNeg v2) v2) c_lineBy c_becomes c_dualLines c_on c_rowNow c_least c_wayFirst c_ways c_acts c_past c_listPoints c_listLines c_listed c_list c_path c_places c_firstPlaces c_px c_py c_pz c_placeMany c_modulus c_drawn c_halvesMany c_halvesFirst c_spreadsMany c_spreadsFirst c_comesTo c_seedNow c_rowThen c_hasImage c_actsThen c_imageRow c_pastThen c_statusThen) H := hP
        have hD : va_D A (mW h0 ad G.2.2 c_code c_now c_read c_status c_tape c_taped c_at c_textSize c_token c_number c_begins c_stops c_bad c_badPlace c_faultPlace c_clauses (upd c_naming (Int32.toNatClampNeg v2) v2) c_lineBy c_becomes c_dualLines c_on c_rowNow c_least c_wayFirst c_ways c_acts c_past c_listPoints c_listLines c_listed c_list c_path c_places c_firstPlaces c_px c_py c_pz c_placeMany c_modulus c_drawn c_halvesMany c_halvesFirst c_spreadsMany c_spreadsFirst c_comesTo c_seedNow c_rowThen c_hasImage c_actsThen c_imageRow c_pastThen c_statusThen) := hD
        refine lv_iinc (v := (v2 + 1)) (lv' := [(2, .int (v2 + 1)), (0, .ref h0), (1, .int v1)]) hx hb dX3_beginNaming_14 hl (k := 2) rfl rfl (by decide) rfl (fun ls hl => ?_)
        refine lv_goto (tgt := 2) hx hb dX3_beginNaming_17 (by decide) ?_
        exact ih v1 (v2 + 1) (upd c_naming (Int32.toNatClampNeg v2) v2) h _ _ hP hD hS _ (lv_sub hl [1, 2, 0] rfl)
  refine lv_iconst (v := 0) hx hb dX3_beginNaming_0 (by decide) ?_
  refine lv_istore_n (lv' := [(2, .int 0), (0, .ref h0), (1, .int v1)]) hx hb dX3_beginNaming_1 rfl hl (by decide) rfl (fun ls hl => ?_)
  refine S_X3_beginNaming_2 N v1 0 c_naming h  _ _ hP hD hS _ (lv_sub hl [1, 2, 0] rfl)
def F_X3_named_4 (N : Nat) (c_naming : (Nat → Int32)) : Nat → Int32 → Int32 → Option (Int32)
  | 0, _, _ => none
  | n + 1, v2, v3 => (if v3 = 0 then (some (v2)) else ((F_J16_numberOfTrailingZeros N v3).bind fun y3 => (ckI y3 8 (F_X3_named_4 N c_naming n (v2 ||| ((1 : Int32) <<< ((c_naming (Int32.toNatClampNeg y3)) &&& 31))) (v3 &&& (v3 - (1 : Int32)))))))
def F_X3_named (N : Nat) (v1 : Int32) (c_naming : (Nat → Int32)) : Option (Int32) := (F_X3_named_4 N c_naming N 0 v1)
theorem cw_X3_named {R : Room} {s : State} {args : Array Value} {own : String} {index lev mc ms : Nat} (hts : ∀ w ∈ lw_all, w.before args s = true) (hl : Cond.methodLink own index yX3_named ∈ lw_all) (hR : (rmL lev mc ms).frames + 1 ≤ R.frames ∧ 8 + (4 + 11) + (rmL lev mc ms).locals ≤ R.locals) : CallW R s args own RX3 index yX3_named cX3_named 4 (some .int) (ws_ yX3_named cX3_named 4 (some .int)) (rmL lev mc ms) mc ms 1 := cwV 1 hts (lw_V hl q1988 qs101 q172 q1989) rfl rfl rfl (by decide +kernel) hR
set_option maxHeartbeats 4000000 in
theorem M_X3_named {l : Launch} {G : GE} (hG : GC G) {N : Nat} {h0 : Nat} {ad : Nat → Nat} {c_code : Int32} {c_now : (Nat → Int32)} {c_read : (Nat → Int32)} {c_status : (Nat → Int32)} {c_tape : (Nat → Int32)} {c_taped : Int32} {c_at : Int32} {c_textSize : Int32} {c_token : Int32} {c_number : Int32} {c_begins : Int32} {c_stops : Int32} {c_bad : Int32} {c_badPlace : Int32} {c_faultPlace : Int32} {c_clauses : Int32} {c_lineBy : (Nat → Int32)} {c_becomes : (Nat → Int32)} {c_dualLines : (Nat → Int32)} {c_on : (Nat → Int32)} {c_rowNow : (Nat → Int32)} {c_least : (Nat → Int32)} {c_wayFirst : (Nat → Int32)} {c_ways : Int32} {c_acts : Int32} {c_past : (Nat → Int32)} {c_listPoints : Int32} {c_listLines : Int32} {c_listed : Int32} {c_list : (Nat → Int32)} {c_path : (Nat → Int32)} {c_places : (Nat → Int32)} {c_firstPlaces : (Nat → Int32)} {c_px : (Nat → Int32)} {c_py : (Nat → Int32)} {c_pz : (Nat → Int32)} {c_placeMany : Int32} {c_modulus : Int32} {c_drawn : Int32} {c_halvesMany : Int32} {c_halvesFirst : Int32} {c_spreadsMany : Int32} {c_spreadsFirst : Int32} {c_comesTo : (Nat → Int32)} {c_seedNow : Int32} {c_rowThen : (Nat → Int32)} {c_hasImage : Int32} {c_actsThen : Int32} {c_imageRow : (Nat → Int32)} {c_pastThen : (Nat → Int32)} {c_statusThen : (Nat → Int32)} {v1 : Int32} {c_naming : (Nat → Int32)} {ρ : (Int32)} (h : F_X3_named N v1 c_naming = some ρ) : MR l G yX3_named cX3_named 4 (some .int) 2 (mW h0 ad G.2.2 c_code c_now c_read c_status c_tape c_taped c_at c_textSize c_token c_number c_begins c_stops c_bad c_badPlace c_faultPlace c_clauses c_naming c_lineBy c_becomes c_dualLines c_on c_rowNow c_least c_wayFirst c_ways c_acts c_past c_listPoints c_listLines c_listed c_list c_path c_places c_firstPlaces c_px c_py c_pz c_placeMany c_modulus c_drawn c_halvesMany c_halvesFirst c_spreadsMany c_spreadsFirst c_comesTo c_seedNow c_rowThen c_hasImage c_actsThen c_imageRow c_pastThen c_statusThen) [.ref h0, .int v1] ρ := by
  rw [F_X3_named] at h
  refine MR.start (rt := .int) hG (by decide) (Nat.le_of_ble_eq_true rfl) ?_
  intro p e s m args below meth c Q S hW0 hK hP hret ls hl
  obtain ⟨hx, hb, hml, hown, hts⟩ := id S
  have hl : lv_has ls 4 [(0, .ref h0), (1, .int v1)] := hl
  have S_X3_named_4 : ∀ (n : Nat) (v2 : Int32) (v3 : Int32), F_X3_named_4 N c_naming n v2 v3 = some ρ → ∀ (ls : Array Slot), lv_has ls 4 [(0, .ref h0), (2, .int v2), (3, .int v3)] → W p l e (rmL 2 0 0) s m args below meth c s.heap [] 0 0 Q (F0 m 4 ls []) := by
    intro n
    induction n with
    | zero =>
      intro v2 v3 h
      exact absurd h (by simp [F_X3_named_4])
    | succ n ih =>
      intro v2 v3 h ls hl
      rw [F_X3_named_4] at h
      refine lv_iload_n hx hb dX3_named_4 rfl (lv_at hl 2 rfl) ?_
      refine lv_if_eq (tgt := 31) hx hb dX3_named_5 (by decide) (fun c1 => ?_) (fun c1 => ?_)
      · rw [if_pos c1] at h
        refine lv_iload_n hx hb dX3_named_31 rfl (lv_at hl 1 rfl) ?_
        obtain rfl := Option.some.inj h
        exact hret dX3_named_32 rfl
      · rw [if_neg c1] at h
        refine lv_iload_n hx hb dX3_named_8 rfl (lv_at hl 1 rfl) ?_
        refine lv_iconst (v := 1) hx hb dX3_named_9 (by decide) ?_
        refine lv_aload_n hx hb dX3_named_10 rfl (lv_at hl 0 rfl) ?_
        refine va_get (ci := 2) (v := .ref (ad 16)) (C := RX3) (T := TX3) (N := 52) hx hb hts in_X3 hown hK hP 0 rfl rfl 16 (by decide) (hts _ q1674) (fun _ h9 => h9) rfl dX3_named_11 ?_
        refine lv_iload_n hx hb dX3_named_14 rfl (lv_at hl 2 rfl) ?_
        obtain ⟨y3, e3, h⟩ := ob_s h
        refine MR.callS (M_J16_numberOfTrailingZeros hG e3) S (cw_J16_numberOfTrailingZeros hts q1969 ⟨Nat.le_of_ble_eq_true rfl, Nat.le_of_ble_eq_true rfl⟩) hW0 vaP0 rfl hl.1 rfl (Nat.le_of_ble_eq_true rfl) dX3_named_15 ⟨Nat.zero_le _, Nat.zero_le _⟩ ?_
        obtain ⟨i4, h⟩ := ckI_s h
        refine va_iald (f := c_naming) hx hb hK hP 5 0 rfl rfl i4 dX3_named_18 ?_
        refine lv_ishl hx hb dX3_named_19 ?_
        refine lv_ior hx hb dX3_named_20 ?_
        refine lv_istore_n (lv' := [(2, .int (v2 ||| ((1 : Int32) <<< ((c_naming (Int32.toNatClampNeg y3)) &&& 31)))), (0, .ref h0), (3, .int v3)]) hx hb dX3_named_21 rfl hl (by decide) rfl (fun ls hl => ?_)
        refine lv_iload_n hx hb dX3_named_22 rfl (lv_at hl 2 rfl) ?_
        refine lv_iload_n hx hb dX3_named_23 rfl (lv_at hl 2 rfl) ?_
        refine lv_iconst (v := 1) hx hb dX3_named_24 (by decide) ?_
        refine lv_isub hx hb dX3_named_25 ?_
        refine lv_iand hx hb dX3_named_26 ?_
        refine lv_istore_n (lv' := [(3, .int (v3 &&& (v3 - (1 : Int32)))), (2, .int (v2 ||| ((1 : Int32) <<< ((c_naming (Int32.toNatClampNeg y3)) &&& 31)))), (0, .ref h0)]) hx hb dX3_named_27 rfl hl (by decide) rfl (fun ls hl => ?_)
        refine lv_goto (tgt := 4) hx hb dX3_named_28 (by decide) ?_
        exact ih (v2 ||| ((1 : Int32) <<< ((c_naming (Int32.toNatClampNeg y3)) &&& 31))) (v3 &&& (v3 - (1 : Int32))) h _ (lv_sub hl [2, 1, 0] rfl)
  refine lv_iconst (v := 0) hx hb dX3_named_0 (by decide) ?_
  refine lv_istore_n (lv' := [(2, .int 0), (0, .ref h0), (1, .int v1)]) hx hb dX3_named_1 rfl hl (by decide) rfl (fun ls hl => ?_)
  refine lv_iload_n hx hb dX3_named_2 rfl (lv_at hl 2 rfl) ?_
  refine lv_istore_n (lv' := [(3, .int v1), (2, .int 0), (0, .ref h0), (1, .int v1)]) hx hb dX3_named_3 rfl hl (by decide) rfl (fun ls hl => ?_)
  refine S_X3_named_4 N 0 v1 h  _ (lv_sub hl [2, 1, 0] rfl)
def F_X3_isSymmetry_2 (N : Nat) (c_now : (Nat → Int32)) (c_naming : (Nat → Int32)) (c_lineBy : (Nat → Int32)) : Nat → Int32 → Option (Int32)
  | 0, _ => none
  | n + 1, v1 => ((F_X3_lines N c_now).bind fun y1 => (if y1 ≤ v1 then (some (1)) else ((F_X3_lineAt N v1 c_now).bind fun y4 => ((F_X3_named N y4 c_naming).bind fun y5 => (ckI y5 256 (if (c_lineBy (Int32.toNatClampNeg y5)) = (-1) then (some (0)) else (F_X3_isSymmetry_2 N c_now c_naming c_lineBy n (v1 + 1))))))))
def F_X3_isSymmetry (N : Nat) (c_now : (Nat → Int32)) (c_naming : (Nat → Int32)) (c_lineBy : (Nat → Int32)) : Option (Int32) := (F_X3_isSymmetry_2 N c_now c_naming c_lineBy N 0)
theorem cw_X3_isSymmetry {R : Room} {s : State} {args : Array Value} {own : String} {index lev mc ms : Nat} (hts : ∀ w ∈ lw_all, w.before args s = true) (hl : Cond.methodLink own index yX3_isSymmetry ∈ lw_all) (hR : (rmL lev mc ms).frames + 1 ≤ R.frames ∧ 8 + (2 + 11) + (rmL lev mc ms).locals ≤ R.locals) : CallW R s args own RX3 index yX3_isSymmetry cX3_isSymmetry 2 (some .boolean) (ws_ yX3_isSymmetry cX3_isSymmetry 2 (some .boolean)) (rmL lev mc ms) mc ms 0 := cwV 0 hts (lw_V hl q1984 qs100 q172 q1985) rfl rfl rfl (by decide +kernel) hR
set_option maxHeartbeats 4000000 in
theorem M_X3_isSymmetry {l : Launch} {G : GE} (hG : GC G) {N : Nat} {h0 : Nat} {ad : Nat → Nat} {c_code : Int32} {c_read : (Nat → Int32)} {c_status : (Nat → Int32)} {c_tape : (Nat → Int32)} {c_taped : Int32} {c_at : Int32} {c_textSize : Int32} {c_token : Int32} {c_number : Int32} {c_begins : Int32} {c_stops : Int32} {c_bad : Int32} {c_badPlace : Int32} {c_faultPlace : Int32} {c_clauses : Int32} {c_becomes : (Nat → Int32)} {c_dualLines : (Nat → Int32)} {c_on : (Nat → Int32)} {c_rowNow : (Nat → Int32)} {c_least : (Nat → Int32)} {c_wayFirst : (Nat → Int32)} {c_ways : Int32} {c_acts : Int32} {c_past : (Nat → Int32)} {c_listPoints : Int32} {c_listLines : Int32} {c_listed : Int32} {c_list : (Nat → Int32)} {c_path : (Nat → Int32)} {c_places : (Nat → Int32)} {c_firstPlaces : (Nat → Int32)} {c_px : (Nat → Int32)} {c_py : (Nat → Int32)} {c_pz : (Nat → Int32)} {c_placeMany : Int32} {c_modulus : Int32} {c_drawn : Int32} {c_halvesMany : Int32} {c_halvesFirst : Int32} {c_spreadsMany : Int32} {c_spreadsFirst : Int32} {c_comesTo : (Nat → Int32)} {c_seedNow : Int32} {c_rowThen : (Nat → Int32)} {c_hasImage : Int32} {c_actsThen : Int32} {c_imageRow : (Nat → Int32)} {c_pastThen : (Nat → Int32)} {c_statusThen : (Nat → Int32)} {c_now : (Nat → Int32)} {c_naming : (Nat → Int32)} {c_lineBy : (Nat → Int32)} {ρ : (Int32)} (h : F_X3_isSymmetry N c_now c_naming c_lineBy = some ρ) : MR l G yX3_isSymmetry cX3_isSymmetry 2 (some .boolean) 3 (mW h0 ad G.2.2 c_code c_now c_read c_status c_tape c_taped c_at c_textSize c_token c_number c_begins c_stops c_bad c_badPlace c_faultPlace c_clauses c_naming c_lineBy c_becomes c_dualLines c_on c_rowNow c_least c_wayFirst c_ways c_acts c_past c_listPoints c_listLines c_listed c_list c_path c_places c_firstPlaces c_px c_py c_pz c_placeMany c_modulus c_drawn c_halvesMany c_halvesFirst c_spreadsMany c_spreadsFirst c_comesTo c_seedNow c_rowThen c_hasImage c_actsThen c_imageRow c_pastThen c_statusThen) [.ref h0] ρ := by
  rw [F_X3_isSymmetry] at h
  refine MR.start (rt := .boolean) hG (by decide) (Nat.le_of_ble_eq_true rfl) ?_
  intro p e s m args below meth c Q S hW0 hK hP hret ls hl
  obtain ⟨hx, hb, hml, hown, hts⟩ := id S
  have hl : lv_has ls 2 [(0, .ref h0)] := hl
  have S_X3_isSymmetry_2 : ∀ (n : Nat) (v1 : Int32), F_X3_isSymmetry_2 N c_now c_naming c_lineBy n v1 = some ρ → ∀ (ls : Array Slot), lv_has ls 2 [(0, .ref h0), (1, .int v1)] → W p l e (rmL 3 0 0) s m args below meth c s.heap [] 0 0 Q (F0 m 2 ls []) := by
    intro n
    induction n with
    | zero =>
      intro v1 h
      exact absurd h (by simp [F_X3_isSymmetry_2])
    | succ n ih =>
      intro v1 h ls hl
      rw [F_X3_isSymmetry_2] at h
      refine lv_iload_n hx hb dX3_isSymmetry_2 rfl (lv_at hl 1 rfl) ?_
      refine lv_aload_n hx hb dX3_isSymmetry_3 rfl (lv_at hl 0 rfl) ?_
      obtain ⟨y1, e1, h⟩ := ob_s h
      refine MR.callV (q0 := 0) (M_X3_lines hG e1) S (cw_X3_lines hts q1917 ⟨Nat.le_of_ble_eq_true rfl, Nat.le_of_ble_eq_true rfl⟩) hW0 hK hP rfl rfl rfl hl.1 rfl (Nat.le_of_ble_eq_true rfl) dX3_isSymmetry_4 ⟨Nat.zero_le _, Nat.zero_le _⟩ ?_
      refine lv_icmp_ge (tgt := 36) hx hb dX3_isSymmetry_7 (by decide) (fun c2 => ?_) (fun c2 => ?_)
      · rw [if_pos c2] at h
        refine lv_iconst (v := 1) hx hb dX3_isSymmetry_36 (by decide) ?_
        obtain rfl := Option.some.inj h
        exact hret dX3_isSymmetry_37 rfl
      · rw [if_neg c2] at h
        refine lv_aload_n hx hb dX3_isSymmetry_10 rfl (lv_at hl 0 rfl) ?_
        refine va_get (ci := 2) (v := .ref (ad 17)) (C := RX3) (T := TX3) (N := 52) hx hb hts in_X3 hown hK hP 0 rfl rfl 17 (by decide) (hts _ q1675) (fun _ h9 => h9) rfl dX3_isSymmetry_11 ?_
        refine lv_aload_n hx hb dX3_isSymmetry_14 rfl (lv_at hl 0 rfl) ?_
        refine lv_aload_n hx hb dX3_isSymmetry_15 rfl (lv_at hl 0 rfl) ?_
        refine lv_iload_n hx hb dX3_isSymmetry_16 rfl (lv_at hl 1 rfl) ?_
        obtain ⟨y4, e4, h⟩ := ob_s h
        refine MR.callV (q0 := 0) (M_X3_lineAt hG e4) S (cw_X3_lineAt hts q1925 ⟨Nat.le_of_ble_eq_true rfl, Nat.le_of_ble_eq_true rfl⟩) hW0 hK hP rfl rfl rfl hl.1 rfl (Nat.le_of_ble_eq_true rfl) dX3_isSymmetry_17 ⟨Nat.zero_le _, Nat.zero_le _⟩ ?_
        obtain ⟨y5, e5, h⟩ := ob_s h
        refine MR.callV (q0 := 0) (M_X3_named hG e5) S (cw_X3_named hts q1986 ⟨Nat.le_of_ble_eq_true rfl, Nat.le_of_ble_eq_true rfl⟩) hW0 hK hP rfl rfl rfl hl.1 rfl (Nat.le_of_ble_eq_true rfl) dX3_isSymmetry_20 ⟨Nat.zero_le _, Nat.zero_le _⟩ ?_
        obtain ⟨i6, h⟩ := ckI_s h
        refine va_iald (f := c_lineBy) hx hb hK hP 6 0 rfl rfl i6 dX3_isSymmetry_23 ?_
        refine lv_iconst (v := (-1)) hx hb dX3_isSymmetry_24 (by decide) ?_
        refine lv_icmp_ne (tgt := 30) hx hb dX3_isSymmetry_25 (by decide) (fun c7 => ?_) (fun c7 => ?_)
        · rw [if_neg c7] at h
          refine lv_iinc (v := (v1 + 1)) (lv' := [(1, .int (v1 + 1)), (0, .ref h0)]) hx hb dX3_isSymmetry_30 hl (k := 1) rfl rfl (by decide) rfl (fun ls hl => ?_)
          refine lv_goto (tgt := 2) hx hb dX3_isSymmetry_33 (by decide) ?_
          exact ih (v1 + 1) h _ (lv_sub hl [1, 0] rfl)
        · rw [if_pos c7] at h
          refine lv_iconst (v := 0) hx hb dX3_isSymmetry_28 (by decide) ?_
          obtain rfl := Option.some.inj h
          exact hret dX3_isSymmetry_29 rfl
  refine lv_iconst (v := 0) hx hb dX3_isSymmetry_0 (by decide) ?_
  refine lv_istore_n (lv' := [(1, .int 0), (0, .ref h0)]) hx hb dX3_isSymmetry_1 rfl hl (by decide) rfl (fun ls hl => ?_)
  refine S_X3_isSymmetry_2 N 0 h  _ (lv_sub hl [1, 0] rfl)
