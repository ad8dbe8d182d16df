set_option maxRecDepth 100000
set_option linter.unusedVariables false
def F_J16_bitCount (N : Nat) (v0 : Int32) : Option (Int32) := (some (((((((((v0 - (((Int32.toUInt32 v0) >>> ((Int32.toUInt32 1) &&& Int32.toUInt32 31)).toInt32 &&& (1431655765 : Int32))) &&& (858993459 : Int32)) + (((Int32.toUInt32 (v0 - (((Int32.toUInt32 v0) >>> ((Int32.toUInt32 1) &&& Int32.toUInt32 31)).toInt32 &&& (1431655765 : Int32)))) >>> ((Int32.toUInt32 2) &&& Int32.toUInt32 31)).toInt32 &&& (858993459 : Int32))) + ((Int32.toUInt32 (((v0 - (((Int32.toUInt32 v0) >>> ((Int32.toUInt32 1) &&& Int32.toUInt32 31)).toInt32 &&& (1431655765 : Int32))) &&& (858993459 : Int32)) + (((Int32.toUInt32 (v0 - (((Int32.toUInt32 v0) >>> ((Int32.toUInt32 1) &&& Int32.toUInt32 31)).toInt32 &&& (1431655765 : Int32)))) >>> ((Int32.toUInt32 2) &&& Int32.toUInt32 31)).toInt32 &&& (858993459 : Int32)))) >>> ((Int32.toUInt32 4) &&& Int32.toUInt32 31)).toInt32) &&& (252645135 : Int32)) + ((Int32.toUInt32 (((((v0 - (((Int32.toUInt32 v0) >>> ((Int32.toUInt32 1) &&& Int32.toUInt32 31)).toInt32 &&& (1431655765 : Int32))) &&& (858993459 : Int32)) + (((Int32.toUInt32 (v0 - (((Int32.toUInt32 v0) >>> ((Int32.toUInt32 1) &&& Int32.toUInt32 31)).toInt32 &&& (1431655765 : Int32)))) >>> ((Int32.toUInt32 2) &&& Int32.toUInt32 31)).toInt32 &&& (858993459 : Int32))) + ((Int32.toUInt32 (((v0 - (((Int32.toUInt32 v0) >>> ((Int32.toUInt32 1) &&& Int32.toUInt32 31)).toInt32 &&& (1431655765 : Int32))) &&& (858993459 : Int32)) + (((Int32.toUInt32 (v0 - (((Int32.toUInt32 v0) >>> ((Int32.toUInt32 1) &&& Int32.toUInt32 31)).toInt32 &&& (1431655765 : Int32)))) >>> ((Int32.toUInt32 2) &&& Int32.toUInt32 31)).toInt32 &&& (858993459 : Int32)))) >>> ((Int32.toUInt32 4) &&& Int32.toUInt32 31)).toInt32) &&& (252645135 : Int32))) >>> ((Int32.toUInt32 8) &&& Int32.toUInt32 31)).toInt32) + ((Int32.toUInt32 ((((((v0 - (((Int32.toUInt32 v0) >>> ((Int32.toUInt32 1) &&& Int32.toUInt32 31)).toInt32 &&& (1431655765 : Int32))) &&& (858993459 : Int32)) + (((Int32.toUInt32 (v0 - (((Int32.toUInt32 v0) >>> ((Int32.toUInt32 1) &&& Int32.toUInt32 31)).toInt32 &&& (1431655765 : Int32)))) >>> ((Int32.toUInt32 2) &&& Int32.toUInt32 31)).toInt32 &&& (858993459 : Int32))) + ((Int32.toUInt32 (((v0 - (((Int32.toUInt32 v0) >>> ((Int32.toUInt32 1) &&& Int32.toUInt32 31)).toInt32 &&& (1431655765 : Int32))) &&& (858993459 : Int32)) + (((Int32.toUInt32 (v0 - (((Int32.toUInt32 v0) >>> ((Int32.toUInt32 1) &&& Int32.toUInt32 31)).toInt32 &&& (1431655765 : Int32)))) >>> ((Int32.toUInt32 2) &&& Int32.toUInt32 31)).toInt32 &&& (858993459 : Int32)))) >>> ((Int32.toUInt32 4) &&& Int32.toUInt32 31)).toInt32) &&& (252645135 : Int32)) + ((Int32.toUInt32 (((((v0 - (((Int32.toUInt32 v0) >>> ((Int32.toUInt32 1) &&& Int32.toUInt32 31)).toInt32 &&& (1431655765 : Int32))) &&& (858993459 : Int32)) + (((Int32.toUInt32 (v0 - (((Int32.toUInt32 v0) >>> ((Int32.toUInt32 1) &&& Int32.toUInt32 31)).toInt32 &&& (1431655765 : Int32)))) >>> ((Int32.toUInt32 2) &&& Int32.toUInt32 31)).toInt32 &&& (858993459 : Int32))) + ((Int32.toUInt32 (((v0 - (((Int32.toUInt32 v0) >>> ((Int32.toUInt32 1) &&& Int32.toUInt32 31)).toInt32 &&& (1431655765 : Int32))) &&& (858993459 : Int32)) + (((Int32.toUInt32 (v0 - (((Int32.toUInt32 v0) >>> ((Int32.toUInt32 1) &&& Int32.toUInt32 31)).toInt32 &&& (1431655765 : Int32)))) >>> ((Int32.toUInt32 2) &&& Int32.toUInt32 31)).toInt32 &&& (858993459 : Int32)))) >>> ((Int32.toUInt32 4) &&& Int32.toUInt32 31)).toInt32) &&& (252645135 : Int32))) >>> ((Int32.toUInt32 8) &&& Int32.toUInt32 31)).toInt32)) >>> ((Int32.toUInt32 16) &&& Int32.toUInt32 31)).toInt32) &&& (63 : Int32))))
theorem cw_J16_bitCount {R : Room} {s : State} {args : Array Value} {own : String} {index lev mc ms : Nat} (hts : ∀ w ∈ lw_all, w.before args s = true) (hl : Cond.methodLink own index yJ16_bitCount ∈ lw_all) (hR : (rmL lev mc ms).frames + 1 ≤ R.frames ∧ 8 + (1 + 11) + (rmL lev mc ms).locals ≤ R.locals) : CallB R s args own index yJ16_bitCount cJ16_bitCount 1 (some .int) (ws_ yJ16_bitCount cJ16_bitCount 1 (some .int)) (rmL lev mc ms) mc ms 1 ∧ (Cond.static yJ16_bitCount).before args s = true := va_cwS 1 hts (lw_S hl q683 q171 q684) rfl rfl rfl (by decide +kernel) hR
set_option maxHeartbeats 4000000 in
theorem M_J16_bitCount {l : Launch} {G : GE} (hG : GC G) {N : Nat} {v0 : Int32} {ρ : (Int32)} (h : F_J16_bitCount N v0 = some ρ) : MR l G yJ16_bitCount cJ16_bitCount 1 (some .int) 1 [] [.int v0] ρ := by
  rw [F_J16_bitCount] at h
  refine MR.start (rt := .int) hG (by decide) (Nat.le_of_ble_eq_true rfl) ?_
  intro p e s m args below meth c Q S hW0 hK hP hret ls hl
  obtain ⟨hx, hb, hml, hown, hts⟩ := id S
  have hl : lv_has ls 1 [(0, .int v0)] := hl
  refine lv_iload_n hx hb dJ16_bitCount_0 rfl (lv_at hl 0 rfl) ?_
  refine lv_iload_n hx hb dJ16_bitCount_1 rfl (lv_at hl 0 rfl) ?_
  refine lv_iconst (v := 1) hx hb dJ16_bitCount_2 (by decide) ?_
  refine lv_iushr hx hb dJ16_bitCount_3 rfl ?_
  refine lv_ldcw hx hb hown (hts _ q685) dJ16_bitCount_4 ?_
  refine lv_iand hx hb dJ16_bitCount_7 ?_
  refine lv_isub hx hb dJ16_bitCount_8 ?_
  refine lv_istore_n (lv' := [(0, .int (v0 - (((Int32.toUInt32 v0) >>> ((Int32.toUInt32 1) &&& Int32.toUInt32 31)).toInt32 &&& (1431655765 : Int32))))]) hx hb dJ16_bitCount_9 rfl hl (by decide) rfl (fun ls hl => ?_)
  refine lv_iload_n hx hb dJ16_bitCount_10 rfl (lv_at hl 0 rfl) ?_
  refine lv_ldcw hx hb hown (hts _ q686) dJ16_bitCount_11 ?_
  refine lv_iand hx hb dJ16_bitCount_14 ?_
  refine lv_iload_n hx hb dJ16_bitCount_15 rfl (lv_at hl 0 rfl) ?_
  refine lv_iconst (v := 2) hx hb dJ16_bitCount_16 (by decide) ?_
  refine lv_iushr hx hb dJ16_bitCount_17 rfl ?_
  refine lv_ldcw hx hb hown (hts _ q686) dJ16_bitCount_18 ?_
  refine lv_iand hx hb dJ16_bitCount_21 ?_
  refine lv_iadd hx hb dJ16_bitCount_22 ?_
  refine lv_istore_n (lv' := [(0, .int (((v0 - (((Int32.toUInt32 v0) >>> ((Int32.toUInt32 1) &&& Int32.toUInt32 31)).toInt32 &&& (1431655765 : Int32))) &&& (858993459 : Int32)) + (((Int32.toUInt32 (v0 - (((Int32.toUInt32 v0) >>> ((Int32.toUInt32 1) &&& Int32.toUInt32 31)).toInt32 &&& (1431655765 : Int32)))) >>> ((Int32.toUInt32 2) &&& Int32.toUInt32 31)).toInt32 &&& (858993459 : Int32))))]) hx hb dJ16_bitCount_23 rfl hl (by decide) rfl (fun ls hl => ?_)
  refine lv_iload_n hx hb dJ16_bitCount_24 rfl (lv_at hl 0 rfl) ?_
  refine lv_iload_n hx hb dJ16_bitCount_25 rfl (lv_at hl 0 rfl) ?_
  refine lv_iconst (v := 4) hx hb dJ16_bitCount_26 (by decide) ?_
  refine lv_iushr hx hb dJ16_bitCount_27 rfl ?_
  refine lv_iadd hx hb dJ16_bitCount_28 ?_
  refine lv_ldcw hx hb hown (hts _ q687) dJ16_bitCount_29 ?_
  refine lv_iand hx hb dJ16_bitCount_32 ?_
  refine lv_istore_n (lv' := [(0, .int (((((v0 - (((Int32.toUInt32 v0) >>> ((Int32.toUInt32 1) &&& Int32.toUInt32 31)).toInt32 &&& (1431655765 : Int32))) &&& (858993459 : Int32)) + (((Int32.toUInt32 (v0 - (((Int32.toUInt32 v0) >>> ((Int32.toUInt32 1) &&& Int32.toUInt32 31)).toInt32 &&& (1431655765 : Int32)))) >>> ((Int32.toUInt32 2) &&& Int32.toUInt32 31)).toInt32 &&& (858993459 : Int32))) + ((Int32.toUInt32 (((v0 - (((Int32.toUInt32 v0) >>> ((Int32.toUInt32 1) &&& Int32.toUInt32 31)).toInt32 &&& (1431655765 : Int32))) &&& (858993459 : Int32)) + (((Int32.toUInt32 (v0 - (((Int32.toUInt32 v0) >>> ((Int32.toUInt32 1) &&& Int32.toUInt32 31)).toInt32 &&& (1431655765 : Int32)))) >>> ((Int32.toUInt32 2) &&& Int32.toUInt32 31)).toInt32 &&& (858993459 : Int32)))) >>> ((Int32.toUInt32 4) &&& Int32.toUInt32 31)).toInt32) &&& (252645135 : Int32)))]) hx hb dJ16_bitCount_33 rfl hl (by decide) rfl (fun ls hl => ?_)
  refine lv_iload_n hx hb dJ16_bitCount_34 rfl (lv_at hl 0 rfl) ?_
  refine lv_iload_n hx hb dJ16_bitCount_35 rfl (lv_at hl 0 rfl) ?_
  refine lv_bipush (v := 8) hx hb dJ16_bitCount_36 (by decide) ?_
  refine lv_iushr hx hb dJ16_bitCount_38 rfl ?_
  refine lv_iadd hx hb dJ16_bitCount_39 ?_
  refine lv_istore_n (lv' := [(0, .int ((((((v0 - (((Int32.toUInt32 v0) >>> ((Int32.toUInt32 1) &&& Int32.toUInt32 31)).toInt32 &&& (1431655765 : Int32))) &&& (858993459 : Int32)) + (((Int32.toUInt32 (v0 - (((Int32.toUInt32 v0) >>> ((Int32.toUInt32 1) &&& Int32.toUInt32 31)).toInt32 &&& (1431655765 : Int32)))) >>> ((Int32.toUInt32 2) &&& Int32.toUInt32 31)).toInt32 &&& (858993459 : Int32))) + ((Int32.toUInt32 (((v0 - (((Int32.toUInt32 v0) >>> ((Int32.toUInt32 1) &&& Int32.toUInt32 31)).toInt32 &&& (1431655765 : Int32))) &&& (858993459 : Int32)) + (((Int32.toUInt32 (v0 - (((Int32.toUInt32 v0) >>> ((Int32.toUInt32 1) &&& Int32.toUInt32 31)).toInt32 &&& (1431655765 : Int32)))) >>> ((Int32.toUInt32 2) &&& Int32.toUInt32 31)).toInt32 &&& (858993459 : Int32)))) >>> ((Int32.toUInt32 4) &&& Int32.toUInt32 31)).toInt32) &&& (252645135 : Int32)) + ((Int32.toUInt32 (((((v0 - (((Int32.toUInt32 v0) >>> ((Int32.toUInt32 1) &&& Int32.toUInt32 31)).toInt32 &&& (1431655765 : Int32))) &&& (858993459 : Int32)) + (((Int32.toUInt32 (v0 - (((Int32.toUInt32 v0) >>> ((Int32.toUInt32 1) &&& Int32.toUInt32 31)).toInt32 &&& (1431655765 : Int32)))) >>> ((Int32.toUInt32 2) &&& Int32.toUInt32 31)).toInt32 &&& (858993459 : Int32))) + ((Int32.toUInt32 (((v0 - (((Int32.toUInt32 v0) >>> ((Int32.toUInt32 1) &&& Int32.toUInt32 31)).toInt32 &&& (1431655765 : Int32))) &&& (858993459 : Int32)) + (((Int32.toUInt32 (v0 - (((Int32.toUInt32 v0) >>> ((Int32.toUInt32 1) &&& Int32.toUInt32 31)).toInt32 &&& (1431655765 : Int32)))) >>> ((Int32.toUInt32 2) &&& Int32.toUInt32 31)).toInt32 &&& (858993459 : Int32)))) >>> ((Int32.toUInt32 4) &&& Int32.toUInt32 31)).toInt32) &&& (252645135 : Int32))) >>> ((Int32.toUInt32 8) &&& Int32.toUInt32 31)).toInt32))]) hx hb dJ16_bitCount_40 rfl hl (by decide) rfl (fun ls hl => ?_)
  refine lv_iload_n hx hb dJ16_bitCount_41 rfl (lv_at hl 0 rfl) ?_
  refine lv_iload_n hx hb dJ16_bitCount_42 rfl (lv_at hl 0 rfl) ?_
  refine lv_bipush (v := 16) hx hb dJ16_bitCount_43 (by decide) ?_
  refine lv_iushr hx hb dJ16_bitCount_45 rfl ?_
  refine lv_iadd hx hb dJ16_bitCount_46 ?_
  refine lv_istore_n (lv' := [(0, .int (((((((v0 - (((Int32.toUInt32 v0) >>> ((Int32.toUInt32 1) &&& Int32.toUInt32 31)).toInt32 &&& (1431655765 : Int32))) &&& (858993459 : Int32)) + (((Int32.toUInt32 (v0 - (((Int32.toUInt32 v0) >>> ((Int32.toUInt32 1) &&& Int32.toUInt32 31)).toInt32 &&& (1431655765 : Int32)))) >>> ((Int32.toUInt32 2) &&& Int32.toUInt32 31)).toInt32 &&& (858993459 : Int32))) + ((Int32.toUInt32 (((v0 - (((Int32.toUInt32 v0) >>> ((Int32.toUInt32 1) &&& Int32.toUInt32 31)).toInt32 &&& (1431655765 : Int32))) &&& (858993459 : Int32)) + (((Int32.toUInt32 (v0 - (((Int32.toUInt32 v0) >>> ((Int32.toUInt32 1) &&& Int32.toUInt32 31)).toInt32 &&& (1431655765 : Int32)))) >>> ((Int32.toUInt32 2) &&& Int32.toUInt32 31)).toInt32 &&& (858993459 : Int32)))) >>> ((Int32.toUInt32 4) &&& Int32.toUInt32 31)).toInt32) &&& (252645135 : Int32)) + ((Int32.toUInt32 (((((v0 - (((Int32.toUInt32 v0) >>> ((Int32.toUInt32 1) &&& Int32.toUInt32 31)).toInt32 &&& (1431655765 : Int32))) &&& (858993459 : Int32)) + (((Int32.toUInt32 (v0 - (((Int32.toUInt32 v0) >>> ((Int32.toUInt32 1) &&& Int32.toUInt32 31)).toInt32 &&& (1431655765 : Int32)))) >>> ((Int32.toUInt32 2) &&& Int32.toUInt32 31)).toInt32 &&& (858993459 : Int32))) + ((Int32.toUInt32 (((v0 - (((Int32.toUInt32 v0) >>> ((Int32.toUInt32 1) &&& Int32.toUInt32 31)).toInt32 &&& (1431655765 : Int32))) &&& (858993459 : Int32)) + (((Int32.toUInt32 (v0 - (((Int32.toUInt32 v0) >>> ((Int32.toUInt32 1) &&& Int32.toUInt32 31)).toInt32 &&& (1431655765 : Int32)))) >>> ((Int32.toUInt32 2) &&& Int32.toUInt32 31)).toInt32 &&& (858993459 : Int32)))) >>> ((Int32.toUInt32 4) &&& Int32.toUInt32 31)).toInt32) &&& (252645135 : Int32))) >>> ((Int32.toUInt32 8) &&& Int32.toUInt32 31)).toInt32) + ((Int32.toUInt32 ((((((v0 - (((Int32.toUInt32 v0) >>> ((Int32.toUInt32 1) &&& Int32.toUInt32 31)).toInt32 &&& (1431655765 : Int32))) &&& (858993459 : Int32)) + (((Int32.toUInt32 (v0 - (((Int32.toUInt32 v0) >>> ((Int32.toUInt32 1) &&& Int32.toUInt32 31)).toInt32 &&& (1431655765 : Int32)))) >>> ((Int32.toUInt32 2) &&& Int32.toUInt32 31)).toInt32 &&& (858993459 : Int32))) + ((Int32.toUInt32 (((v0 - (((Int32.toUInt32 v0) >>> ((Int32.toUInt32 1) &&& Int32.toUInt32 31)).toInt32 &&& (1431655765 : Int32))) &&& (858993459 : Int32)) + (((Int32.toUInt32 (v0 - (((Int32.toUInt32 v0) >>> ((Int32.toUInt32 1) &&& Int32.toUInt32 31)).toInt32 &&& (1431655765 : Int32)))) >>> ((Int32.toUInt32 2) &&& Int32.toUInt32 31)).toInt32 &&& (858993459 : Int32)))) >>> ((Int32.toUInt32 4) &&& Int32.toUInt32 31)).toInt32) &&& (252645135 : Int32)) + ((Int32.toUInt32 (((((v0 - (((Int32.toUInt32 v0) >>> ((Int32.toUInt32 1) &&& Int32.toUInt32 31)).toInt32 &&& (1431655765 : Int32))) &&& (858993459 : Int32)) + (((Int32.toUInt32 (v0 - (((Int32.toUInt32 v0) >>> ((Int32.toUInt32 1) &&& Int32.toUInt32 31)).toInt32 &&& (1431655765 : Int32)))) >>> ((Int32.toUInt32 2) &&& Int32.toUInt32 31)).toInt32 &&& (858993459 : Int32))) + ((Int32.toUInt32 (((v0 - (((Int32.toUInt32 v0) >>> ((Int32.toUInt32 1) &&& Int32.toUInt32 31)).toInt32 &&& (1431655765 : Int32))) &&& (858993459 : Int32)) + (((Int32.toUInt32 (v0 - (((Int32.toUInt32 v0) >>> ((Int32.toUInt32 1) &&& Int32.toUInt32 31)).toInt32 &&& (1431655765 : Int32)))) >>> ((Int32.toUInt32 2) &&& Int32.toUInt32 31)).toInt32 &&& (858993459 : Int32)))) >>> ((Int32.toUInt32 4) &&& Int32.toUInt32 31)).toInt32) &&& (252645135 : Int32))) >>> ((Int32.toUInt32 8) &&& Int32.toUInt32 31)).toInt32)) >>> ((Int32.toUInt32 16) &&& Int32.toUInt32 31)).toInt32))]) hx hb dJ16_bitCount_47 rfl hl (by decide) rfl (fun ls hl => ?_)
  refine lv_iload_n hx hb dJ16_bitCount_48 rfl (lv_at hl 0 rfl) ?_
  refine lv_bipush (v := 63) hx hb dJ16_bitCount_49 (by decide) ?_
  refine lv_iand hx hb dJ16_bitCount_51 ?_
  obtain rfl := Option.some.inj h
  exact hret dJ16_bitCount_52 rfl
def F_X3_points (N : Nat) (c_now : (Nat → Int32)) : Option (Int32) := (ckI 0 154 (some ((c_now (Int32.toNatClampNeg 0)))))
theorem cw_X3_points {R : Room} {s : State} {args : Array Value} {own : String} {index lev mc ms : Nat} (hts : ∀ w ∈ lw_all, w.before args s = true) (hl : Cond.methodLink own index yX3_points ∈ lw_all) (hR : (rmL lev mc ms).frames + 1 ≤ R.frames ∧ 8 + (1 + 11) + (rmL lev mc ms).locals ≤ R.locals) : CallW R s args own RX3 index yX3_points cX3_points 1 (some .int) (ws_ yX3_points cX3_points 1 (some .int)) (rmL lev mc ms) mc ms 0 := cwV 0 hts (lw_V hl q1915 qs83 q172 q1916) rfl rfl rfl (by decide +kernel) hR
set_option maxHeartbeats 4000000 in
theorem M_X3_points {l : Launch} {G : GE} (hG : GC G) {N : Nat} {h0 : Nat} {ad : Nat → Nat} {c_code : Int32} {c_read : (Nat → Int32)} {c_status : (Nat → Int32)} {c_tape : (Nat → Int32)} {c_taped : Int32} {c_at : Int32} {c_textSize : Int32} {c_token : Int32} {c_number : Int32} {c_begins : Int32} {c_stops : Int32} {c_bad : Int32} {c_badPlace : Int32} {c_faultPlace : Int32} {c_clauses : Int32} {c_naming : (Nat → Int32)} {c_lineBy : (Nat → Int32)} {c_becomes : (Nat → Int32)} {c_dualLines : (Nat → Int32)} {c_on : (Nat → Int32)} {c_rowNow : (Nat → Int32)} {c_least : (Nat → Int32)} {c_wayFirst : (Nat → Int32)} {c_ways : Int32} {c_acts : Int32} {c_past : (Nat → Int32)} {c_listPoints : Int32} {c_listLines : Int32} {c_listed : Int32} {c_list : (Nat → Int32)} {c_path : (Nat → Int32)} {c_places : (Nat → Int32)} {c_firstPlaces : (Nat → Int32)} {c_px : (Nat → Int32)} {c_py : (Nat → Int32)} {c_pz : (Nat → Int32)} {c_placeMany : Int32} {c_modulus : Int32} {c_drawn : Int32} {c_halvesMany : Int32} {c_halvesFirst : Int32} {c_spreadsMany : Int32} {c_spreadsFirst : Int32} {c_comesTo : (Nat → Int32)} {c_seedNow : Int32} {c_rowThen : (Nat → Int32)} {c_hasImage : Int32} {c_actsThen : Int32} {c_imageRow : (Nat → Int32)} {c_pastThen : (Nat → Int32)} {c_statusThen : (Nat → Int32)} {c_now : (Nat → Int32)} {ρ : (Int32)} (h : F_X3_points N c_now = some ρ) : MR l G yX3_points cX3_points 1 (some .int) 1 (mW h0 ad G.2.2 c_code c_now c_read c_status c_tape c_taped c_at c_textSize c_token c_number c_begins c_stops c_bad c_badPlace c_faultPlace c_clauses c_naming c_lineBy c_becomes c_dualLines c_on c_rowNow c_least c_wayFirst c_ways c_acts c_past c_listPoints c_listLines c_listed c_list c_path c_places c_firstPlaces c_px c_py c_pz c_placeMany c_modulus c_drawn c_halvesMany c_halvesFirst c_spreadsMany c_spreadsFirst c_comesTo c_seedNow c_rowThen c_hasImage c_actsThen c_imageRow c_pastThen c_statusThen) [.ref h0] ρ := by
  rw [F_X3_points] at h
  refine MR.start (rt := .int) hG (by decide) (Nat.le_of_ble_eq_true rfl) ?_
  intro p e s m args below meth c Q S hW0 hK hP hret ls hl
  obtain ⟨hx, hb, hml, hown, hts⟩ := id S
  have hl : lv_has ls 1 [(0, .ref h0)] := hl
  refine lv_aload_n hx hb dX3_points_0 rfl (lv_at hl 0 rfl) ?_
  refine va_get (ci := 2) (v := .ref (ad 1)) (C := RX3) (T := TX3) (N := 52) hx hb hts in_X3 hown hK hP 0 rfl rfl 1 (by decide) (hts _ q1659) (fun _ h9 => h9) rfl dX3_points_1 ?_
  refine lv_iconst (v := 0) hx hb dX3_points_4 (by decide) ?_
  obtain ⟨i1, h⟩ := ckI_s h
  refine va_iald (f := c_now) hx hb hK hP 1 0 rfl rfl i1 dX3_points_5 ?_
  obtain rfl := Option.some.inj h
  exact hret dX3_points_6 rfl
def F_X3_lines (N : Nat) (c_now : (Nat → Int32)) : Option (Int32) := (ckI 1 154 (some ((c_now (Int32.toNatClampNeg 1)))))
theorem cw_X3_lines {R : Room} {s : State} {args : Array Value} {own : String} {index lev mc ms : Nat} (hts : ∀ w ∈ lw_all, w.before args s = true) (hl : Cond.methodLink own index yX3_lines ∈ lw_all) (hR : (rmL lev mc ms).frames + 1 ≤ R.frames ∧ 8 + (1 + 11) + (rmL lev mc ms).locals ≤ R.locals) : CallW R s args own RX3 index yX3_lines cX3_lines 1 (some .int) (ws_ yX3_lines cX3_lines 1 (some .int)) (rmL lev mc ms) mc ms 0 := cwV 0 hts (lw_V hl q1919 qs84 q172 q1920) rfl rfl rfl (by decide +kernel) hR
set_option maxHeartbeats 4000000 in
theorem M_X3_lines {l : Launch} {G : GE} (hG : GC G) {N : Nat} {h0 : Nat} {ad : Nat → Nat} {c_code : Int32} {c_read : (Nat → Int32)} {c_status : (Nat → Int32)} {c_tape : (Nat → Int32)} {c_taped : Int32} {c_at : Int32} {c_textSize : Int32} {c_token : Int32} {c_number : Int32} {c_begins : Int32} {c_stops : Int32} {c_bad : Int32} {c_badPlace : Int32} {c_faultPlace : Int32} {c_clauses : Int32} {c_naming : (Nat → Int32)} {c_lineBy : (Nat → Int32)} {c_becomes : (Nat → Int32)} {c_dualLines : (Nat → Int32)} {c_on : (Nat → Int32)} {c_rowNow : (Nat → Int32)} {c_least : (Nat → Int32)} {c_wayFirst : (Nat → Int32)} {c_ways : Int32} {c_acts : Int32} {c_past : (Nat → Int32)} {c_listPoints : Int32} {c_listLines : Int32} {c_listed : Int32} {c_list : (Nat → Int32)} {c_path : (Nat → Int32)} {c_places : (Nat → Int32)} {c_firstPlaces : (Nat → Int32)} {c_px : (Nat → Int32)} {c_py : (Nat → Int32)} {c_pz : (Nat → Int32)} {c_placeMany : Int32} {c_modulus : Int32} {c_drawn : Int32} {c_halvesMany : Int32} {c_halvesFirst : Int32} {c_spreadsMany : Int32} {c_spreadsFirst : Int32} {c_comesTo : (Nat → Int32)} {c_seedNow : Int32} {c_rowThen : (Nat → Int32)} {c_hasImage : Int32} {c_actsThen : Int32} {c_imageRow : (Nat → Int32)} {c_pastThen : (Nat → Int32)} {c_statusThen : (Nat → Int32)} {c_now : (Nat → Int32)} {ρ : (Int32)} (h : F_X3_lines N c_now = some ρ) : MR l G yX3_lines cX3_lines 1 (some .int) 1 (mW h0 ad G.2.2 c_code c_now c_read c_status c_tape c_taped c_at c_textSize c_token c_number c_begins c_stops c_bad c_badPlace c_faultPlace c_clauses c_naming c_lineBy c_becomes c_dualLines c_on c_rowNow c_least c_wayFirst c_ways c_acts c_past c_listPoints c_listLines c_listed c_list c_path c_places c_firstPlaces c_px c_py c_pz c_placeMany c_modulus c_drawn c_halvesMany c_halvesFirst c_spreadsMany c_spreadsFirst c_comesTo c_seedNow c_rowThen c_hasImage c_actsThen c_imageRow c_pastThen c_statusThen) [.ref h0] ρ := by
  rw [F_X3_lines] at h
  refine MR.start (rt := .int) hG (by decide) (Nat.le_of_ble_eq_true rfl) ?_
  intro p e s m args below meth c Q S hW0 hK hP hret ls hl
  obtain ⟨hx, hb, hml, hown, hts⟩ := id S
  have hl : lv_has ls 1 [(0, .ref h0)] := hl
  refine lv_aload_n hx hb dX3_lines_0 rfl (lv_at hl 0 rfl) ?_
  refine va_get (ci := 2) (v := .ref (ad 1)) (C := RX3) (T := TX3) (N := 52) hx hb hts in_X3 hown hK hP 0 rfl rfl 1 (by decide) (hts _ q1659) (fun _ h9 => h9) rfl dX3_lines_1 ?_
  refine lv_iconst (v := 1) hx hb dX3_lines_4 (by decide) ?_
  obtain ⟨i1, h⟩ := ckI_s h
  refine va_iald (f := c_now) hx hb hK hP 1 0 rfl rfl i1 dX3_lines_5 ?_
  obtain rfl := Option.some.inj h
  exact hret dX3_lines_6 rfl
def F_X3_lineAt (N : Nat) (v1 : Int32) (c_now : (Nat → Int32)) : Option (Int32) := (ckI ((2 : Int32) + v1) 154 (some ((c_now (Int32.toNatClampNeg ((2 : Int32) + v1))))))
theorem cw_X3_lineAt {R : Room} {s : State} {args : Array Value} {own : String} {index lev mc ms : Nat} (hts : ∀ w ∈ lw_all, w.before args s = true) (hl : Cond.methodLink own index yX3_lineAt ∈ lw_all) (hR : (rmL lev mc ms).frames + 1 ≤ R.frames ∧ 8 + (2 + 11) + (rmL lev mc ms).locals ≤ R.locals) : CallW R s args own RX3 index yX3_lineAt cX3_lineAt 2 (some .int) (ws_ yX3_lineAt cX3_lineAt 2 (some .int)) (rmL lev mc ms) mc ms 1 := cwV 1 hts (lw_V hl q1927 qs86 q172 q1928) rfl rfl rfl (by decide +kernel) hR
set_option maxHeartbeats 4000000 in
theorem M_X3_lineAt {l : Launch} {G : GE} (hG : GC G) {N : Nat} {h0 : Nat} {ad : Nat → Nat} {c_code : Int32} {c_read : (Nat → Int32)} {c_status : (Nat → Int32)} {c_tape : (Nat → Int32)} {c_taped : Int32} {c_at : Int32} {c_textSize : Int32} {c_token : Int32} {c_number : Int32} {c_begins : Int32} {c_stops : Int32} {c_bad : Int32} {c_badPlace : Int32} {c_faultPlace : Int32} {c_clauses : Int32} {c_naming : (Nat → Int32)} {c_lineBy : (Nat → Int32)} {c_becomes : (Nat → Int32)} {c_dualLines : (Nat → Int32)} {c_on : (Nat → Int32)} {c_rowNow : (Nat → Int32)} {c_least : (Nat → Int32)} {c_wayFirst : (Nat → Int32)} {c_ways : Int32} {c_acts : Int32} {c_past : (Nat → Int32)} {c_listPoints : Int32} {c_listLines : Int32} {c_listed : Int32} {c_list : (Nat → Int32)} {c_path : (Nat → Int32)} {c_places : (Nat → Int32)} {c_firstPlaces : (Nat → Int32)} {c_px : (Nat → Int32)} {c_py : (Nat → Int32)} {c_pz : (Nat → Int32)} {c_placeMany : Int32} {c_modulus : Int32} {c_drawn : Int32} {c_halvesMany : Int32} {c_halvesFirst : Int32} {c_spreadsMany : Int32} {c_spreadsFirst : Int32} {c_comesTo : (Nat → Int32)} {c_seedNow : Int32} {c_rowThen : (Nat → Int32)} {c_hasImage : Int32} {c_actsThen : Int32} {c_imageRow : (Nat → Int32)} {c_pastThen : (Nat → Int32)} {c_statusThen : (Nat → Int32)} {v1 : Int32} {c_now : (Nat → Int32)} {ρ : (Int32)} (h : F_X3_lineAt N v1 c_now = some ρ) : MR l G yX3_lineAt cX3_lineAt 2 (some .int) 1 (mW h0 ad G.2.2 c_code c_now c_read c_status c_tape c_taped c_at c_textSize c_token c_number c_begins c_stops c_bad c_badPlace c_faultPlace c_clauses c_naming c_lineBy c_becomes c_dualLines c_on c_rowNow c_least c_wayFirst c_ways c_acts c_past c_listPoints c_listLines c_listed c_list c_path c_places c_firstPlaces c_px c_py c_pz c_placeMany c_modulus c_drawn c_halvesMany c_halvesFirst c_spreadsMany c_spreadsFirst c_comesTo c_seedNow c_rowThen c_hasImage c_actsThen c_imageRow c_pastThen c_statusThen) [.ref h0, .int v1] ρ := by
  rw [F_X3_lineAt] at h
  refine MR.start (rt := .int) hG (by decide) (Nat.le_of_ble_eq_true rfl) ?_
  intro p e s m args below meth c Q S hW0 hK hP hret ls hl
  obtain ⟨hx, hb, hml, hown, hts⟩ := id S
  have hl : lv_has ls 2 [(0, .ref h0), (1, .int v1)] := hl
  refine lv_aload_n hx hb dX3_lineAt_0 rfl (lv_at hl 0 rfl) ?_
  refine va_get (ci := 2) (v := .ref (ad 1)) (C := RX3) (T := TX3) (N := 52) hx hb hts in_X3 hown hK hP 0 rfl rfl 1 (by decide) (hts _ q1659) (fun _ h9 => h9) rfl dX3_lineAt_1 ?_
  refine lv_iconst (v := 2) hx hb dX3_lineAt_4 (by decide) ?_
  refine lv_iload_n hx hb dX3_lineAt_5 rfl (lv_at hl 1 rfl) ?_
  refine lv_iadd hx hb dX3_lineAt_6 ?_
  obtain ⟨i1, h⟩ := ckI_s h
  refine va_iald (f := c_now) hx hb hK hP 1 0 rfl rfl i1 dX3_lineAt_7 ?_
  obtain rfl := Option.some.inj h
  exact hret dX3_lineAt_8 rfl
def F_X3_bits (N : Nat) (v0 : Int32) : Option (Int32) := ((F_J16_bitCount N v0).bind fun y1 => (some (y1)))
theorem cw_X3_bits {R : Room} {s : State} {args : Array Value} {own : String} {index lev mc ms : Nat} (hts : ∀ w ∈ lw_all, w.before args s = true) (hl : Cond.methodLink own index yX3_bits ∈ lw_all) (hR : (rmL lev mc ms).frames + 1 ≤ R.frames ∧ 8 + (1 + 11) + (rmL lev mc ms).locals ≤ R.locals) : CallB R s args own index yX3_bits cX3_bits 1 (some .int) (ws_ yX3_bits cX3_bits 1 (some .int)) (rmL lev mc ms) mc ms 1 ∧ (Cond.static yX3_bits).before args s = true := va_cwS 1 hts (lw_S hl q1897 q172 q1898) rfl rfl rfl (by decide +kernel) hR
set_option maxHeartbeats 4000000 in
theorem M_X3_bits {l : Launch} {G : GE} (hG : GC G) {N : Nat} {v0 : Int32} {ρ : (Int32)} (h : F_X3_bits N v0 = some ρ) : MR l G yX3_bits cX3_bits 1 (some .int) 2 [] [.int v0] ρ := by
  rw [F_X3_bits] at h
  refine MR.start (rt := .int) hG (by decide) (Nat.le_of_ble_eq_true rfl) ?_
  intro p e s m args below meth c Q S hW0 hK hP hret ls hl
  obtain ⟨hx, hb, hml, hown, hts⟩ := id S
  have hl : lv_has ls 1 [(0, .int v0)] := hl
  refine lv_iload_n hx hb dX3_bits_0 rfl (lv_at hl 0 rfl) ?_
  obtain ⟨y1, e1, h⟩ := ob_s h
  refine MR.callS (M_J16_bitCount hG e1) S (cw_J16_bitCount hts q1899 ⟨Nat.le_of_ble_eq_true rfl, Nat.le_of_ble_eq_true rfl⟩) hW0 vaP0 rfl hl.1 rfl (Nat.le_of_ble_eq_true rfl) dX3_bits_1 ⟨Nat.zero_le _, Nat.zero_le _⟩ ?_
  obtain rfl := Option.some.inj h
  exact hret dX3_bits_4 rfl
def F_X3_flags_4 (N : Nat) (c_now : (Nat → Int32)) : Nat → Int32 → Int32 → Option (Int32)
  | 0, _, _ => none
  | n + 1, v1, v2 => ((F_X3_lines N c_now).bind fun y1 => (if y1 ≤ v2 then (some (v1)) else ((F_X3_lineAt N v2 c_now).bind fun y4 => ((F_X3_bits N y4).bind fun y5 => (F_X3_flags_4 N c_now n (v1 + y5) (v2 + 1))))))
def F_X3_flags (N : Nat) (c_now : (Nat → Int32)) : Option (Int32) := (F_X3_flags_4 N c_now N 0 0)
theorem cw_X3_flags {R : Room} {s : State} {args : Array Value} {own : String} {index lev mc ms : Nat} (hts : ∀ w ∈ lw_all, w.before args s = true) (hl : Cond.methodLink own index yX3_flags ∈ lw_all) (hR : (rmL lev mc ms).frames + 1 ≤ R.frames ∧ 8 + (3 + 11) + (rmL lev mc ms).locals ≤ R.locals) : CallW R s args own RX3 index yX3_flags cX3_flags 3 (some .int) (ws_ yX3_flags cX3_flags 3 (some .int)) (rmL lev mc ms) mc ms 0 := cwV 0 hts (lw_V hl q1923 qs85 q172 q1924) rfl rfl rfl (by decide +kernel) hR
set_option maxHeartbeats 4000000 in
theorem M_X3_flags {l : Launch} {G : GE} (hG : GC G) {N : Nat} {h0 : Nat} {ad : Nat → Nat} {c_code : Int32} {c_read : (Nat → Int32)} {c_status : (Nat → Int32)} {c_tape : (Nat → Int32)} {c_taped : Int32} {c_at : Int32} {c_textSize : Int32} {c_token : Int32} {c_number : Int32} {c_begins : Int32} {c_stops : Int32} {c_bad : Int32} {c_badPlace : Int32} {c_faultPlace : Int32} {c_clauses : Int32} {c_naming : (Nat → Int32)} {c_lineBy : (Nat → Int32)} {c_becomes : (Nat → Int32)} {c_dualLines : (Nat → Int32)} {c_on : (Nat → Int32)} {c_rowNow : (Nat → Int32)} {c_least : (Nat → Int32)} {c_wayFirst : (Nat → Int32)} {c_ways : Int32} {c_acts : Int32} {c_past : (Nat → Int32)} {c_listPoints : Int32} {c_listLines : Int32} {c_listed : Int32} {c_list : (Nat → Int32)} {c_path : (Nat → Int32)} {c_places : (Nat → Int32)} {c_firstPlaces : (Nat → Int32)} {c_px : (Nat → Int32)} {c_py : (Nat → Int32)} {c_pz : (Nat → Int32)} {c_placeMany : Int32} {c_modulus : Int32} {c_drawn : Int32} {c_halvesMany : Int32} {c_halvesFirst : Int32} {c_spreadsMany : Int32} {c_spreadsFirst : Int32} {c_comesTo : (Nat → Int32)} {c_seedNow : Int32} {c_rowThen : (Nat → Int32)} {c_hasImage : Int32} {c_actsThen : Int32} {c_imageRow : (Nat → Int32)} {c_pastThen : (Nat → Int32)} {c_statusThen : (Nat → Int32)} {c_now : (Nat → Int32)} {ρ : (Int32)} (h : F_X3_flags N c_now = some ρ) : MR l G yX3_flags cX3_flags 3 (some .int) 3 (mW h0 ad G.2.2 c_code c_now c_read c_status c_tape c_taped c_at c_textSize c_token c_number c_begins c_stops c_bad c_badPlace c_faultPlace c_clauses c_naming c_lineBy c_becomes c_dualLines c_on c_rowNow c_least c_wayFirst c_ways c_acts c_past c_listPoints c_listLines c_listed c_list c_path c_places c_firstPlaces c_px c_py c_pz c_placeMany c_modulus c_drawn c_halvesMany c_halvesFirst c_spreadsMany c_spreadsFirst c_comesTo c_seedNow c_rowThen c_hasImage c_actsThen c_imageRow c_pastThen c_statusThen) [.ref h0] ρ := by
  rw [F_X3_flags] at h
  refine MR.start (rt := .int) hG (by decide) (Nat.le_of_ble_eq_true rfl) ?_
  intro p e s m args below meth c Q S hW0 hK hP hret ls hl
  obtain ⟨hx, hb, hml, hown, hts⟩ := id S
  have hl : lv_has ls 3 [(0, .ref h0)] := hl
  have S_X3_flags_4 : ∀ (n : Nat) (v1 : Int32) (v2 : Int32), F_X3_flags_4 N c_now n v1 v2 = some ρ → ∀ (ls : Array Slot), lv_has ls 3 [(0, .ref h0), (1, .int v1), (2, .int v2)] → W p l e (rmL 3 0 0) s m args below meth c s.heap [] 0 0 Q (F0 m 4 ls []) := by
    intro n
    induction n with
    | zero =>
      intro v1 v2 h
      exact absurd h (by simp [F_X3_flags_4])
    | succ n ih =>
      intro v1 v2 h ls hl
      rw [F_X3_flags_4] at h
      refine lv_iload_n hx hb dX3_flags_4 rfl (lv_at hl 2 rfl) ?_
      refine lv_aload_n hx hb dX3_flags_5 rfl (lv_at hl 0 rfl) ?_
      obtain ⟨y1, e1, h⟩ := ob_s h
      refine MR.callV (q0 := 0) (M_X3_lines hG e1) S (cw_X3_lines hts q1917 ⟨Nat.le_of_ble_eq_true rfl, Nat.le_of_ble_eq_true rfl⟩) hW0 hK hP rfl rfl rfl hl.1 rfl (Nat.le_of_ble_eq_true rfl) dX3_flags_6 ⟨Nat.zero_le _, Nat.zero_le _⟩ ?_
      refine lv_icmp_ge (tgt := 29) hx hb dX3_flags_9 (by decide) (fun c2 => ?_) (fun c2 => ?_)
      · rw [if_pos c2] at h
        refine lv_iload_n hx hb dX3_flags_29 rfl (lv_at hl 1 rfl) ?_
        obtain rfl := Option.some.inj h
        exact hret dX3_flags_30 rfl
      · rw [if_neg c2] at h
        refine lv_iload_n hx hb dX3_flags_12 rfl (lv_at hl 1 rfl) ?_
        refine lv_aload_n hx hb dX3_flags_13 rfl (lv_at hl 0 rfl) ?_
        refine lv_iload_n hx hb dX3_flags_14 rfl (lv_at hl 2 rfl) ?_
        obtain ⟨y4, e4, h⟩ := ob_s h
        refine MR.callV (q0 := 0) (M_X3_lineAt hG e4) S (cw_X3_lineAt hts q1925 ⟨Nat.le_of_ble_eq_true rfl, Nat.le_of_ble_eq_true rfl⟩) hW0 hK hP rfl rfl rfl hl.1 rfl (Nat.le_of_ble_eq_true rfl) dX3_flags_15 ⟨Nat.zero_le _, Nat.zero_le _⟩ ?_
        obtain ⟨y5, e5, h⟩ := ob_s h
        refine MR.callS (M_X3_bits hG e5) S (cw_X3_bits hts q1896 ⟨Nat.le_of_ble_eq_true rfl, Nat.le_of_ble_eq_true rfl⟩) hW0 vaP0 rfl hl.1 rfl (Nat.le_of_ble_eq_true rfl) dX3_flags_18 ⟨Nat.zero_le _, Nat.zero_le _⟩ ?_
        refine lv_iadd hx hb dX3_flags_21 ?_
        refine lv_istore_n (lv' := [(1, .int (v1 + y5)), (0, .ref h0), (2, .int v2)]) hx hb dX3_flags_22 rfl hl (by decide) rfl (fun ls hl => ?_)
        refine lv_iinc (v := (v2 + 1)) (lv' := [(2, .int (v2 + 1)), (1, .int (v1 + y5)), (0, .ref h0)]) hx hb dX3_flags_23 hl (k := 2) rfl rfl (by decide) rfl (fun ls hl => ?_)
        refine lv_goto (tgt := 4) hx hb dX3_flags_26 (by decide) ?_
        exact ih (v1 + y5) (v2 + 1) h _ (lv_sub hl [2, 1, 0] rfl)
  refine lv_iconst (v := 0) hx hb dX3_flags_0 (by decide) ?_
  refine lv_istore_n (lv' := [(1, .int 0), (0, .ref h0)]) hx hb dX3_flags_1 rfl hl (by decide) rfl (fun ls hl => ?_)
  refine lv_iconst (v := 0) hx hb dX3_flags_2 (by decide) ?_
  refine lv_istore_n (lv' := [(2, .int 0), (1, .int 0), (0, .ref h0)]) hx hb dX3_flags_3 rfl hl (by decide) rfl (fun ls hl => ?_)
  refine S_X3_flags_4 N 0 0 h  _ (lv_sub hl [2, 1, 0] rfl)
def F_X3_linesOn_4 (N : Nat) (v1 : Int32) (c_now : (Nat → Int32)) : Nat → Int32 → Int32 → Option (Int32)
  | 0, _, _ => none
  | n + 1, v2, v3 => ((F_X3_lines N c_now).bind fun y1 => (if y1 ≤ v3 then (some (v2)) else ((F_X3_lineAt N v3 c_now).bind fun y4 => (F_X3_linesOn_4 N v1 c_now n (v2 ||| (((y4 >>> (v1 &&& 31)) &&& (1 : Int32)) <<< (v3 &&& 31))) (v3 + 1)))))
def F_X3_linesOn (N : Nat) (v1 : Int32) (c_now : (Nat → Int32)) : Option (Int32) := (F_X3_linesOn_4 N v1 c_now N 0 0)
theorem cw_X3_linesOn {R : Room} {s : State} {args : Array Value} {own : String} {index lev mc ms : Nat} (hts : ∀ w ∈ lw_all, w.before args s = true) (hl : Cond.methodLink own index yX3_linesOn ∈ lw_all) (hR : (rmL lev mc ms).frames + 1 ≤ R.frames ∧ 8 + (4 + 11) + (rmL lev mc ms).locals ≤ R.locals) : CallW R s args own RX3 index yX3_linesOn cX3_linesOn 4 (some .int) (ws_ yX3_linesOn cX3_linesOn 4 (some .int)) (rmL lev mc ms) mc ms 1 := cwV 1 hts (lw_V hl q1939 qs89 q172 q1940) rfl rfl rfl (by decide +kernel) hR
set_option maxHeartbeats 4000000 in
theorem M_X3_linesOn {l : Launch} {G : GE} (hG : GC G) {N : Nat} {h0 : Nat} {ad : Nat → Nat} {c_code : Int32} {c_read : (Nat → Int32)} {c_status : (Nat → Int32)} {c_tape : (Nat → Int32)} {c_taped : Int32} {c_at : Int32} {c_textSize : Int32} {c_token : Int32} {c_number : Int32} {c_begins : Int32} {c_stops : Int32} {c_bad : Int32} {c_badPlace : Int32} {c_faultPlace : Int32} {c_clauses : Int32} {c_naming : (Nat → Int32)} {c_lineBy : (Nat → Int32)} {c_becomes : (Nat → Int32)} {c_dualLines : (Nat → Int32)} {c_on : (Nat → Int32)} {c_rowNow : (Nat → Int32)} {c_least : (Nat → Int32)} {c_wayFirst : (Nat → Int32)} {c_ways : Int32} {c_acts : Int32} {c_past : (Nat → Int32)} {c_listPoints : Int32} {c_listLines : Int32} {c_listed : Int32} {c_list : (Nat → Int32)} {c_path : (Nat → Int32)} {c_places : (Nat → Int32)} {c_firstPlaces : (Nat → Int32)} {c_px : (Nat → Int32)} {c_py : (Nat → Int32)} {c_pz : (Nat → Int32)} {c_placeMany : Int32} {c_modulus : Int32} {c_drawn : Int32} {c_halvesMany : Int32} {c_halvesFirst : Int32} {c_spreadsMany : Int32} {c_spreadsFirst : Int32} {c_comesTo : (Nat → Int32)} {c_seedNow : Int32} {c_rowThen : (Nat → Int32)} {c_hasImage : Int32} {c_actsThen : Int32} {c_imageRow : (Nat → Int32)} {c_pastThen : (Nat → Int32)} {c_statusThen : (Nat → Int32)} {v1 : Int32} {c_now : (Nat → Int32)} {ρ : (Int32)} (h : F_X3_linesOn N v1 c_now = some ρ) : MR l G yX3_linesOn cX3_linesOn 4 (some .int) 2 (mW h0 ad G.2.2 c_code c_now c_read c_status c_tape c_taped c_at c_textSize c_token c_number c_begins c_stops c_bad c_badPlace c_faultPlace c_clauses c_naming c_lineBy c_becomes c_dualLines c_on c_rowNow c_least c_wayFirst c_ways c_acts c_past c_listPoints c_listLines c_listed c_list c_path c_places c_firstPlaces c_px c_py c_pz c_placeMany c_modulus c_drawn c_halvesMany c_halvesFirst c_spreadsMany c_spreadsFirst c_comesTo c_seedNow c_rowThen c_hasImage c_actsThen c_imageRow c_pastThen c_statusThen) [.ref h0, .int v1] ρ := by
  rw [F_X3_linesOn] at h
  refine MR.start (rt := .int) hG (by decide) (Nat.le_of_ble_eq_true rfl) ?_
  intro p e s m args below meth c Q S hW0 hK hP hret ls hl
  obtain ⟨hx, hb, hml, hown, hts⟩ := id S
  have hl : lv_has ls 4 [(0, .ref h0), (1, .int v1)] := hl
  have S_X3_linesOn_4 : ∀ (n : Nat) (v1 : Int32) (v2 : Int32) (v3 : Int32), F_X3_linesOn_4 N v1 c_now n v2 v3 = some ρ → ∀ (ls : Array Slot), lv_has ls 4 [(0, .ref h0), (1, .int v1), (2, .int v2), (3, .int v3)] → W p l e (rmL 2 0 0) s m args below meth c s.heap [] 0 0 Q (F0 m 4 ls []) := by
    intro n
    induction n with
    | zero =>
      intro v1 v2 v3 h
      exact absurd h (by simp [F_X3_linesOn_4])
    | succ n ih =>
      intro v1 v2 v3 h ls hl
      rw [F_X3_linesOn_4] at h
      refine lv_iload_n hx hb dX3_linesOn_4 rfl (lv_at hl 3 rfl) ?_
      refine lv_aload_n hx hb dX3_linesOn_5 rfl (lv_at hl 0 rfl) ?_
      obtain ⟨y1, e1, h⟩ := ob_s h
      refine MR.callV (q0 := 0) (M_X3_lines hG e1) S (cw_X3_lines hts q1917 ⟨Nat.le_of_ble_eq_true rfl, Nat.le_of_ble_eq_true rfl⟩) hW0 hK hP rfl rfl rfl hl.1 rfl (Nat.le_of_ble_eq_true rfl) dX3_linesOn_6 ⟨Nat.zero_le _, Nat.zero_le _⟩ ?_
      refine lv_icmp_ge (tgt := 32) hx hb dX3_linesOn_9 (by decide) (fun c2 => ?_) (fun c2 => ?_)
      · rw [if_pos c2] at h
        refine lv_iload_n hx hb dX3_linesOn_32 rfl (lv_at hl 2 rfl) ?_
        obtain rfl := Option.some.inj h
        exact hret dX3_linesOn_33 rfl
      · rw [if_neg c2] at h
        refine lv_iload_n hx hb dX3_linesOn_12 rfl (lv_at hl 2 rfl) ?_
        refine lv_aload_n hx hb dX3_linesOn_13 rfl (lv_at hl 0 rfl) ?_
        refine lv_iload_n hx hb dX3_linesOn_14 rfl (lv_at hl 3 rfl) ?_
        obtain ⟨y4, e4, h⟩ := ob_s h
        refine MR.callV (q0 := 0) (M_X3_lineAt hG e4) S (cw_X3_lineAt hts q1925 ⟨Nat.le_of_ble_eq_true rfl, Nat.le_of_ble_eq_true rfl⟩) hW0 hK hP rfl rfl rfl hl.1 rfl (Nat.le_of_ble_eq_true rfl) dX3_linesOn_15 ⟨Nat.zero_le _, Nat.zero_le _⟩ ?_
        refine lv_iload_n hx hb dX3_linesOn_18 rfl (lv_at hl 1 rfl) ?_
        refine lv_ishr hx hb dX3_linesOn_19 ?_
        refine lv_iconst (v := 1) hx hb dX3_linesOn_20 (by decide) ?_
        refine lv_iand hx hb dX3_linesOn_21 ?_
        refine lv_iload_n hx hb dX3_linesOn_22 rfl (lv_at hl 3 rfl) ?_
        refine lv_ishl hx hb dX3_linesOn_23 ?_
        refine lv_ior hx hb dX3_linesOn_24 ?_
        refine lv_istore_n (lv' := [(2, .int (v2 ||| (((y4 >>> (v1 &&& 31)) &&& (1 : Int32)) <<< (v3 &&& 31)))), (0, .ref h0), (1, .int v1), (3, .int v3)]) hx hb dX3_linesOn_25 rfl hl (by decide) rfl (fun ls hl => ?_)
        refine lv_iinc (v := (v3 + 1)) (lv' := [(3, .int (v3 + 1)), (2, .int (v2 ||| (((y4 >>> (v1 &&& 31)) &&& (1 : Int32)) <<< (v3 &&& 31)))), (0, .ref h0), (1, .int v1)]) hx hb dX3_linesOn_26 hl (k := 3) rfl rfl (by decide) rfl (fun ls hl => ?_)
        refine lv_goto (tgt := 4) hx hb dX3_linesOn_29 (by decide) ?_
        exact ih v1 (v2 ||| (((y4 >>> (v1 &&& 31)) &&& (1 : Int32)) <<< (v3 &&& 31))) (v3 + 1) h _ (lv_sub hl [2, 3, 1, 0] rfl)
  refine lv_iconst (v := 0) hx hb dX3_linesOn_0 (by decide) ?_
  refine lv_istore_n (lv' := [(2, .int 0), (0, .ref h0), (1, .int v1)]) hx hb dX3_linesOn_1 rfl hl (by decide) rfl (fun ls hl => ?_)
  refine lv_iconst (v := 0) hx hb dX3_linesOn_2 (by decide) ?_
  refine lv_istore_n (lv' := [(3, .int 0), (2, .int 0), (0, .ref h0), (1, .int v1)]) hx hb dX3_linesOn_3 rfl hl (by decide) rfl (fun ls hl => ?_)
  refine S_X3_linesOn_4 N v1 0 0 h  _ (lv_sub hl [2, 3, 1, 0] rfl)
def F_X3_lineOf_2 (N : Nat) (v1 : Int32) (c_now : (Nat → Int32)) : Nat → Int32 → Option (Int32)
  | 0, _ => none
  | n + 1, v2 => ((F_X3_lines N c_now).bind fun y1 => (if y1 ≤ v2 then (some ((-1))) else ((F_X3_lineAt N v2 c_now).bind fun y4 => (if (y4 &&& v1) = v1 then (some (v2)) else (F_X3_lineOf_2 N v1 c_now n (v2 + 1))))))
def F_X3_lineOf (N : Nat) (v1 : Int32) (c_now : (Nat → Int32)) : Option (Int32) := (F_X3_lineOf_2 N v1 c_now N 0)
theorem cw_X3_lineOf {R : Room} {s : State} {args : Array Value} {own : String} {index lev mc ms : Nat} (hts : ∀ w ∈ lw_all, w.before args s = true) (hl : Cond.methodLink own index yX3_lineOf ∈ lw_all) (hR : (rmL lev mc ms).frames + 1 ≤ R.frames ∧ 8 + (3 + 11) + (rmL lev mc ms).locals ≤ R.locals) : CallW R s args own RX3 index yX3_lineOf cX3_lineOf 3 (some .int) (ws_ yX3_lineOf cX3_lineOf 3 (some .int)) (rmL lev mc ms) mc ms 1 := cwV 1 hts (lw_V hl q1955 qs93 q172 q1956) rfl rfl rfl (by decide +kernel) hR
set_option maxHeartbeats 4000000 in
theorem M_X3_lineOf {l : Launch} {G : GE} (hG : GC G) {N : Nat} {h0 : Nat} {ad : Nat → Nat} {c_code : Int32} {c_read : (Nat → Int32)} {c_status : (Nat → Int32)} {c_tape : (Nat → Int32)} {c_taped : Int32} {c_at : Int32} {c_textSize : Int32} {c_token : Int32} {c_number : Int32} {c_begins : Int32} {c_stops : Int32} {c_bad : Int32} {c_badPlace : Int32} {c_faultPlace : Int32} {c_clauses : Int32} {c_naming : (Nat → Int32)} {c_lineBy : (Nat → Int32)} {c_becomes : (Nat → Int32)} {c_dualLines : (Nat → Int32)} {c_on : (Nat → Int32)} {c_rowNow : (Nat → Int32)} {c_least : (Nat → Int32)} {c_wayFirst : (Nat → Int32)} {c_ways : Int32} {c_acts : Int32} {c_past : (Nat → Int32)} {c_listPoints : Int32} {c_listLines : Int32} {c_listed : Int32} {c_list : (Nat → Int32)} {c_path : (Nat → Int32)} {c_places : (Nat → Int32)} {c_firstPlaces : (Nat → Int32)} {c_px : (Nat → Int32)} {c_py : (Nat → Int32)} {c_pz : (Nat → Int32)} {c_placeMany : Int32} {c_modulus : Int32} {c_drawn : Int32} {c_halvesMany : Int32} {c_halvesFirst : Int32} {c_spreadsMany : Int32} {c_spreadsFirst : Int32} {c_comesTo : (Nat → Int32)} {c_seedNow : Int32} {c_rowThen : (Nat → Int32)} {c_hasImage : Int32} {c_actsThen : Int32} {c_imageRow : (Nat → Int32)} {c_pastThen : (Nat → Int32)} {c_statusThen : (Nat → Int32)} {v1 : Int32} {c_now : (Nat → Int32)} {ρ : (Int32)} (h : F_X3_lineOf N v1 c_now = some ρ) : MR l G yX3_lineOf cX3_lineOf 3 (some .int) 2 (mW h0 ad G.2.2 c_code c_now c_read c_status c_tape c_taped c_at c_textSize c_token c_number c_begins c_stops c_bad c_badPlace c_faultPlace c_clauses c_naming c_lineBy c_becomes c_dualLines c_on c_rowNow c_least c_wayFirst c_ways c_acts c_past c_listPoints c_listLines c_listed c_list c_path c_places c_firstPlaces c_px c_py c_pz c_placeMany c_modulus c_drawn c_halvesMany c_halvesFirst c_spreadsMany c_spreadsFirst c_comesTo c_seedNow c_rowThen c_hasImage c_actsThen c_imageRow c_pastThen c_statusThen) [.ref h0, .int v1] ρ := by
  rw [F_X3_lineOf] at h
  refine MR.start (rt := .int) hG (by decide) (Nat.le_of_ble_eq_true rfl) ?_
  intro p e s m args below meth c Q S hW0 hK hP hret ls hl
  obtain ⟨hx, hb, hml, hown, hts⟩ := id S
  have hl : lv_has ls 3 [(0, .ref h0), (1, .int v1)] := hl
  have S_X3_lineOf_2 : ∀ (n : Nat) (v1 : Int32) (v2 : Int32), F_X3_lineOf_2 N v1 c_now n v2 = some ρ → ∀ (ls : Array Slot), lv_has ls 3 [(0, .ref h0), (1, .int v1), (2, .int v2)] → W p l e (rmL 2 0 0) s m args below meth c s.heap [] 0 0 Q (F0 m 2 ls []) := by
    intro n
    induction n with
    | zero =>
      intro v1 v2 h
      exact absurd h (by simp [F_X3_lineOf_2])
    | succ n ih =>
      intro v1 v2 h ls hl
      rw [F_X3_lineOf_2] at h
      refine lv_iload_n hx hb dX3_lineOf_2 rfl (lv_at hl 2 rfl) ?_
      refine lv_aload_n hx hb dX3_lineOf_3 rfl (lv_at hl 0 rfl) ?_
      obtain ⟨y1, e1, h⟩ := ob_s h
      refine MR.callV (q0 := 0) (M_X3_lines hG e1) S (cw_X3_lines hts q1917 ⟨Nat.le_of_ble_eq_true rfl, Nat.le_of_ble_eq_true rfl⟩) hW0 hK hP rfl rfl rfl hl.1 rfl (Nat.le_of_ble_eq_true rfl) dX3_lineOf_4 ⟨Nat.zero_le _, Nat.zero_le _⟩ ?_
      refine lv_icmp_ge (tgt := 29) hx hb dX3_lineOf_7 (by decide) (fun c2 => ?_) (fun c2 => ?_)
      · rw [if_pos c2] at h
        refine lv_iconst (v := (-1)) hx hb dX3_lineOf_29 (by decide) ?_
        obtain rfl := Option.some.inj h
        exact hret dX3_lineOf_30 rfl
      · rw [if_neg c2] at h
        refine lv_aload_n hx hb dX3_lineOf_10 rfl (lv_at hl 0 rfl) ?_
        refine lv_iload_n hx hb dX3_lineOf_11 rfl (lv_at hl 2 rfl) ?_
        obtain ⟨y4, e4, h⟩ := ob_s h
        refine MR.callV (q0 := 0) (M_X3_lineAt hG e4) S (cw_X3_lineAt hts q1925 ⟨Nat.le_of_ble_eq_true rfl, Nat.le_of_ble_eq_true rfl⟩) hW0 hK hP rfl rfl rfl hl.1 rfl (Nat.le_of_ble_eq_true rfl) dX3_lineOf_12 ⟨Nat.zero_le _, Nat.zero_le _⟩ ?_
        refine lv_iload_n hx hb dX3_lineOf_15 rfl (lv_at hl 1 rfl) ?_
        refine lv_iand hx hb dX3_lineOf_16 ?_
        refine lv_iload_n hx hb dX3_lineOf_17 rfl (lv_at hl 1 rfl) ?_
        refine lv_icmp_ne (tgt := 23) hx hb dX3_lineOf_18 (by decide) (fun c5 => ?_) (fun c5 => ?_)
        · rw [if_neg c5] at h
          refine lv_iinc (v := (v2 + 1)) (lv' := [(2, .int (v2 + 1)), (0, .ref h0), (1, .int v1)]) hx hb dX3_lineOf_23 hl (k := 2) rfl rfl (by decide) rfl (fun ls hl => ?_)
          refine lv_goto (tgt := 2) hx hb dX3_lineOf_26 (by decide) ?_
          exact ih v1 (v2 + 1) h _ (lv_sub hl [1, 2, 0] rfl)
        · rw [if_pos c5] at h
          refine lv_iload_n hx hb dX3_lineOf_21 rfl (lv_at hl 2 rfl) ?_
          obtain rfl := Option.some.inj h
          exact hret dX3_lineOf_22 rfl
  refine lv_iconst (v := 0) hx hb dX3_lineOf_0 (by decide) ?_
  refine lv_istore_n (lv' := [(2, .int 0), (0, .ref h0), (1, .int v1)]) hx hb dX3_lineOf_1 rfl hl (by decide) rfl (fun ls hl => ?_)
  refine S_X3_lineOf_2 N v1 0 h  _ (lv_sub hl [1, 2, 0] rfl)
def F_X3_areJoined (N : Nat) (v1 : Int32) (v2 : Int32) (c_now : (Nat → Int32)) : Option (Int32) := ((F_X3_lineOf N (((1 : Int32) <<< (v1 &&& 31)) ||| ((1 : Int32) <<< (v2 &&& 31))) c_now).bind fun y1 => (if y1 = (-1) then (some (0)) else (some (1))))
theorem cw_X3_areJoined {R : Room} {s : State} {args : Array Value} {own : String} {index lev mc ms : Nat} (hts : ∀ w ∈ lw_all, w.before args s = true) (hl : Cond.methodLink own index yX3_areJoined ∈ lw_all) (hR : (rmL lev mc ms).frames + 1 ≤ R.frames ∧ 8 + (3 + 11) + (rmL lev mc ms).locals ≤ R.locals) : CallW R s args own RX3 index yX3_areJoined cX3_areJoined 3 (some .boolean) (ws_ yX3_areJoined cX3_areJoined 3 (some .boolean)) (rmL lev mc ms) mc ms 2 := cwV 2 hts (lw_V hl q1951 qs92 q172 q1952) rfl rfl rfl (by decide +kernel) hR
set_option maxHeartbeats 4000000 in
theorem M_X3_areJoined {l : Launch} {G : GE} (hG : GC G) {N : Nat} {h0 : Nat} {ad : Nat → Nat} {c_code : Int32} {c_read : (Nat → Int32)} {c_status : (Nat → Int32)} {c_tape : (Nat → Int32)} {c_taped : Int32} {c_at : Int32} {c_textSize : Int32} {c_token : Int32} {c_number : Int32} {c_begins : Int32} {c_stops : Int32} {c_bad : Int32} {c_badPlace : Int32} {c_faultPlace : Int32} {c_clauses : Int32} {c_naming : (Nat → Int32)} {c_lineBy : (Nat → Int32)} {c_becomes : (Nat → Int32)} {c_dualLines : (Nat → Int32)} {c_on : (Nat → Int32)} {c_rowNow : (Nat → Int32)} {c_least : (Nat → Int32)} {c_wayFirst : (Nat → Int32)} {c_ways : Int32} {c_acts : Int32} {c_past : (Nat → Int32)} {c_listPoints : Int32} {c_listLines : Int32} {c_listed : Int32} {c_list : (Nat → Int32)} {c_path : (Nat → Int32)} {c_places : (Nat → Int32)} {c_firstPlaces : (Nat → Int32)} {c_px : (Nat → Int32)} {c_py : (Nat → Int32)} {c_pz : (Nat → Int32)} {c_placeMany : Int32} {c_modulus : Int32} {c_drawn : Int32} {c_halvesMany : Int32} {c_halvesFirst : Int32} {c_spreadsMany : Int32} {c_spreadsFirst : Int32} {c_comesTo : (Nat → Int32)} {c_seedNow : Int32} {c_rowThen : (Nat → Int32)} {c_hasImage : Int32} {c_actsThen : Int32} {c_imageRow : (Nat → Int32)} {c_pastThen : (Nat → Int32)} {c_statusThen : (Nat → Int32)} {v1 : Int32} {v2 : Int32} {c_now : (Nat → Int32)} {ρ : (Int32)} (h : F_X3_areJoined N v1 v2 c_now = some ρ) : MR l G yX3_areJoined cX3_areJoined 3 (some .boolean) 3 (mW h0 ad G.2.2 c_code c_now c_read c_status c_tape c_taped c_at c_textSize c_token c_number c_begins c_stops c_bad c_badPlace c_faultPlace c_clauses c_naming c_lineBy c_becomes c_dualLines c_on c_rowNow c_least c_wayFirst c_ways c_acts c_past c_listPoints c_listLines c_listed c_list c_path c_places c_firstPlaces c_px c_py c_pz c_placeMany c_modulus c_drawn c_halvesMany c_halvesFirst c_spreadsMany c_spreadsFirst c_comesTo c_seedNow c_rowThen c_hasImage c_actsThen c_imageRow c_pastThen c_statusThen) [.ref h0, .int v1, .int v2] ρ := by
  rw [F_X3_areJoined] at h
  refine MR.start (rt := .boolean) hG (by decide) (Nat.le_of_ble_eq_true rfl) ?_
  intro p e s m args below meth c Q S hW0 hK hP hret ls hl
  obtain ⟨hx, hb, hml, hown, hts⟩ := id S
  have hl : lv_has ls 3 [(0, .ref h0), (1, .int v1), (2, .int v2)] := hl
  refine lv_aload_n hx hb dX3_areJoined_0 rfl (lv_at hl 0 rfl) ?_
  refine lv_iconst (v := 1) hx hb dX3_areJoined_1 (by decide) ?_
  refine lv_iload_n hx hb dX3_areJoined_2 rfl (lv_at hl 1 rfl) ?_
  refine lv_ishl hx hb dX3_areJoined_3 ?_
  refine lv_iconst (v := 1) hx hb dX3_areJoined_4 (by decide) ?_
  refine lv_iload_n hx hb dX3_areJoined_5 rfl (lv_at hl 2 rfl) ?_
  refine lv_ishl hx hb dX3_areJoined_6 ?_
  refine lv_ior hx hb dX3_areJoined_7 ?_
  obtain ⟨y1, e1, h⟩ := ob_s h
  refine MR.callV (q0 := 0) (M_X3_lineOf hG e1) S (cw_X3_lineOf hts q1953 ⟨Nat.le_of_ble_eq_true rfl, Nat.le_of_ble_eq_true rfl⟩) hW0 hK hP rfl rfl rfl hl.1 rfl (Nat.le_of_ble_eq_true rfl) dX3_areJoined_8 ⟨Nat.zero_le _, Nat.zero_le _⟩ ?_
  refine lv_iconst (v := (-1)) hx hb dX3_areJoined_11 (by decide) ?_
  refine lv_icmp_eq (tgt := 19) hx hb dX3_areJoined_12 (by decide) (fun c2 => ?_) (fun c2 => ?_)
  · rw [if_pos c2] at h
    refine lv_iconst (v := 0) hx hb dX3_areJoined_19 (by decide) ?_
    obtain rfl := Option.some.inj h
    exact hret dX3_areJoined_20 rfl
  · rw [if_neg c2] at h
    refine lv_iconst (v := 1) hx hb dX3_areJoined_15 (by decide) ?_
    refine lv_goto (tgt := 20) hx hb dX3_areJoined_16 (by decide) ?_
    obtain rfl := Option.some.inj h
    exact hret dX3_areJoined_20 rfl
def F_X3_pairs_16 (N : Nat) (v2 : Int32) (c_now : (Nat → Int32)) : Nat → Int32 → Int32 → (Int32 → Option (Int32)) → Option (Int32)
  | 0, _, _, _ => none
  | n + 1, v1, v3, k47 => ((F_X3_points N c_now).bind fun y4 => (if y4 ≤ v3 then (k47 v1) else ((F_X3_areJoined N v2 v3 c_now).bind fun y6 => (if y6 = 0 then (F_X3_pairs_16 N v2 c_now n (v1 + (0 : Int32)) (v3 + 1) k47) else (F_X3_pairs_16 N v2 c_now n (v1 + (1 : Int32)) (v3 + 1) k47)))))
def F_X3_pairs_4 (N : Nat) (c_now : (Nat → Int32)) : Nat → Int32 → Int32 → Option (Int32)
  | 0, _, _ => none
  | n + 1, v1, v2 => ((F_X3_points N c_now).bind fun y1 => (if y1 ≤ v2 then (some (v1)) else (F_X3_pairs_16 N v2 c_now N v1 (v2 + (1 : Int32)) (fun u1_8 => (F_X3_pairs_4 N c_now n u1_8 (v2 + 1))))))
def F_X3_pairs (N : Nat) (c_now : (Nat → Int32)) : Option (Int32) := (F_X3_pairs_4 N c_now N 0 0)
theorem cw_X3_pairs {R : Room} {s : State} {args : Array Value} {own : String} {index lev mc ms : Nat} (hts : ∀ w ∈ lw_all, w.before args s = true) (hl : Cond.methodLink own index yX3_pairs ∈ lw_all) (hR : (rmL lev mc ms).frames + 1 ≤ R.frames ∧ 8 + (4 + 11) + (rmL lev mc ms).locals ≤ R.locals) : CallW R s args own RX3 index yX3_pairs cX3_pairs 4 (some .int) (ws_ yX3_pairs cX3_pairs 4 (some .int)) (rmL lev mc ms) mc ms 0 := cwV 0 hts (lw_V hl q1947 qs91 q172 q1948) rfl rfl rfl (by decide +kernel) hR
set_option maxHeartbeats 4000000 in
theorem M_X3_pairs {l : Launch} {G : GE} (hG : GC G) {N : Nat} {h0 : Nat} {ad : Nat → Nat} {c_code : Int32} {c_read : (Nat → Int32)} {c_status : (Nat → Int32)} {c_tape : (Nat → Int32)} {c_taped : Int32} {c_at : Int32} {c_textSize : Int32} {c_token : Int32} {c_number : Int32} {c_begins : Int32} {c_stops : Int32} {c_bad : Int32} {c_badPlace : Int32} {c_faultPlace : Int32} {c_clauses : Int32} {c_naming : (Nat → Int32)} {c_lineBy : (Nat → Int32)} {c_becomes : (Nat → Int32)} {c_dualLines : (Nat → Int32)} {c_on : (Nat → Int32)} {c_rowNow : (Nat → Int32)} {c_least : (Nat → Int32)} {c_wayFirst : (Nat → Int32)} {c_ways : Int32} {c_acts : Int32} {c_past : (Nat → Int32)} {c_listPoints : Int32} {c_listLines : Int32} {c_listed : Int32} {c_list : (Nat → Int32)} {c_path : (Nat → Int32)} {c_places : (Nat → Int32)} {c_firstPlaces : (Nat → Int32)} {c_px : (Nat → Int32)} {c_py : (Nat → Int32)} {c_pz : (Nat → Int32)} {c_placeMany : Int32} {c_modulus : Int32} {c_drawn : Int32} {c_halvesMany : Int32} {c_halvesFirst : Int32} {c_spreadsMany : Int32} {c_spreadsFirst : Int32} {c_comesTo : (Nat → Int32)} {c_seedNow : Int32} {c_rowThen : (Nat → Int32)} {c_hasImage : Int32} {c_actsThen : Int32} {c_imageRow : (Nat → Int32)} {c_pastThen : (Nat → Int32)} {c_statusThen : (Nat → Int32)} {c_now : (Nat → Int32)} {ρ : (Int32)} (h : F_X3_pairs N c_now = some ρ) : MR l G yX3_pairs cX3_pairs 4 (some .int) 4 (mW h0 ad G.2.2 c_code c_now c_read c_status c_tape c_taped c_at c_textSize c_token c_number c_begins c_stops c_bad c_badPlace c_faultPlace c_clauses c_naming c_lineBy c_becomes c_dualLines c_on c_rowNow c_least c_wayFirst c_ways c_acts c_past c_listPoints c_listLines c_listed c_list c_path c_places c_firstPlaces c_px c_py c_pz c_placeMany c_modulus c_drawn c_halvesMany c_halvesFirst c_spreadsMany c_spreadsFirst c_comesTo c_seedNow c_rowThen c_hasImage c_actsThen c_imageRow c_pastThen c_statusThen) [.ref h0] ρ := by
  rw [F_X3_pairs] at h
  refine MR.start (rt := .int) hG (by decide) (Nat.le_of_ble_eq_true rfl) ?_
  intro p e s m args below meth c Q S hW0 hK hP hret ls hl
  obtain ⟨hx, hb, hml, hown, hts⟩ := id S
  have hl : lv_has ls 4 [(0, .ref h0)] := hl
  have S_X3_pairs_16 : ∀ (n : Nat) (v1 : Int32) (v2 : Int32) (v3 : Int32) (k47 : Int32 → Option (Int32)), F_X3_pairs_16 N v2 c_now n v1 v3 k47 = some ρ → (∀ (u1 : Int32) (ls : Array Slot), k47 u1 = some ρ → lv_has ls 4 [(0, .ref h0), (1, .int u1), (2, .int v2)] → W p l e (rmL 4 0 0) s m args below meth c s.heap [] 0 0 Q (F0 m 47 ls [])) → ∀ (ls : Array Slot), lv_has ls 4 [(0, .ref h0), (1, .int v1), (2, .int v2), (3, .int v3)] → W p l e (rmL 4 0 0) s m args below meth c s.heap [] 0 0 Q (F0 m 16 ls []) := by
    intro n
    induction n with
    | zero =>
      intro v1 v2 v3 k47 h
      exact absurd h (by simp [F_X3_pairs_16])
    | succ n ih =>
      intro v1 v2 v3 k47 h hk47 ls hl
      rw [F_X3_pairs_16] at h
      refine lv_iload_n hx hb dX3_pairs_16 rfl (lv_at hl 3 rfl) ?_
      refine lv_aload_n hx hb dX3_pairs_17 rfl (lv_at hl 0 rfl) ?_
      obtain ⟨y4, e4, h⟩ := ob_s h
      refine MR.callV (q0 := 0) (M_X3_points hG e4) S (cw_X3_points hts q1913 ⟨Nat.le_of_ble_eq_true rfl, Nat.le_of_ble_eq_true rfl⟩) hW0 hK hP rfl rfl rfl hl.1 rfl (Nat.le_of_ble_eq_true rfl) dX3_pairs_18 ⟨Nat.zero_le _, Nat.zero_le _⟩ ?_
      refine lv_icmp_ge (tgt := 47) hx hb dX3_pairs_21 (by decide) (fun c5 => ?_) (fun c5 => ?_)
      · rw [if_pos c5] at h
        exact hk47 v1 _ h (lv_sub hl [0, 1, 2] rfl)
      · rw [if_neg c5] at h
        refine lv_iload_n hx hb dX3_pairs_24 rfl (lv_at hl 1 rfl) ?_
        refine lv_aload_n hx hb dX3_pairs_25 rfl (lv_at hl 0 rfl) ?_
        refine lv_iload_n hx hb dX3_pairs_26 rfl (lv_at hl 2 rfl) ?_
        refine lv_iload_n hx hb dX3_pairs_27 rfl (lv_at hl 3 rfl) ?_
        obtain ⟨y6, e6, h⟩ := ob_s h
        refine MR.callV (q0 := 0) (M_X3_areJoined hG e6) S (cw_X3_areJoined hts q1949 ⟨Nat.le_of_ble_eq_true rfl, Nat.le_of_ble_eq_true rfl⟩) hW0 hK hP rfl rfl rfl hl.1 rfl (Nat.le_of_ble_eq_true rfl) dX3_pairs_28 ⟨Nat.zero_le _, Nat.zero_le _⟩ ?_
        refine lv_if_eq (tgt := 38) hx hb dX3_pairs_31 (by decide) (fun c7 => ?_) (fun c7 => ?_)
        · rw [if_pos c7] at h
          refine lv_iconst (v := 0) hx hb dX3_pairs_38 (by decide) ?_
          refine lv_iadd hx hb dX3_pairs_39 ?_
          refine lv_istore_n (lv' := [(1, .int (v1 + (0 : Int32))), (0, .ref h0), (2, .int v2), (3, .int v3)]) hx hb dX3_pairs_40 rfl hl (by decide) rfl (fun ls hl => ?_)
          refine lv_iinc (v := (v3 + 1)) (lv' := [(3, .int (v3 + 1)), (1, .int (v1 + (0 : Int32))), (0, .ref h0), (2, .int v2)]) hx hb dX3_pairs_41 hl (k := 3) rfl rfl (by decide) rfl (fun ls hl => ?_)
          refine lv_goto (tgt := 16) hx hb dX3_pairs_44 (by decide) ?_
          exact ih (v1 + (0 : Int32)) v2 (v3 + 1) _ h hk47 _ (lv_sub hl [2, 1, 3, 0] rfl)
        · rw [if_neg c7] at h
          refine lv_iconst (v := 1) hx hb dX3_pairs_34 (by decide) ?_
          refine lv_goto (tgt := 39) hx hb dX3_pairs_35 (by decide) ?_
          refine lv_iadd hx hb dX3_pairs_39 ?_
          refine lv_istore_n (lv' := [(1, .int (v1 + (1 : Int32))), (0, .ref h0), (2, .int v2), (3, .int v3)]) hx hb dX3_pairs_40 rfl hl (by decide) rfl (fun ls hl => ?_)
          refine lv_iinc (v := (v3 + 1)) (lv' := [(3, .int (v3 + 1)), (1, .int (v1 + (1 : Int32))), (0, .ref h0), (2, .int v2)]) hx hb dX3_pairs_41 hl (k := 3) rfl rfl (by decide) rfl (fun ls hl => ?_)
          refine lv_goto (tgt := 16) hx hb dX3_pairs_44 (by decide) ?_
          exact ih (v1 + (1 : Int32)) v2 (v3 + 1) _ h hk47 _ (lv_sub hl [2, 1, 3, 0] rfl)
  have S_X3_pairs_4 : ∀ (n : Nat) (v1 : Int32) (v2 : Int32), F_X3_pairs_4 N c_now n v1 v2 = some ρ → ∀ (ls : Array Slot), lv_has ls 4 [(0, .ref h0), (1, .int v1), (2, .int v2)] → W p l e (rmL 4 0 0) s m args below meth c s.heap [] 0 0 Q (F0 m 4 ls []) := by
    intro n
    induction n with
    | zero =>
      intro v1 v2 h
      exact absurd h (by simp [F_X3_pairs_4])
    | succ n ih =>
      intro v1 v2 h ls hl
      rw [F_X3_pairs_4] at h
      refine lv_iload_n hx hb dX3_pairs_4 rfl (lv_at hl 2 rfl) ?_
      refine lv_aload_n hx hb dX3_pairs_5 rfl (lv_at hl 0 rfl) ?_
      obtain ⟨y1, e1, h⟩ := ob_s h
      refine MR.callV (q0 := 0) (M_X3_points hG e1) S (cw_X3_points hts q1913 ⟨Nat.le_of_ble_eq_true rfl, Nat.le_of_ble_eq_true rfl⟩) hW0 hK hP rfl rfl rfl hl.1 rfl (Nat.le_of_ble_eq_true rfl) dX3_pairs_6 ⟨Nat.zero_le _, Nat.zero_le _⟩ ?_
      refine lv_icmp_ge (tgt := 53) hx hb dX3_pairs_9 (by decide) (fun c2 => ?_) (fun c2 => ?_)
      · rw [if_pos c2] at h
        refine lv_iload_n hx hb dX3_pairs_53 rfl (lv_at hl 1 rfl) ?_
        obtain rfl := Option.some.inj h
        exact hret dX3_pairs_54 rfl
      · rw [if_neg c2] at h
        refine lv_iload_n hx hb dX3_pairs_12 rfl (lv_at hl 2 rfl) ?_
        refine lv_iconst (v := 1) hx hb dX3_pairs_13 (by decide) ?_
        refine lv_iadd hx hb dX3_pairs_14 ?_
        refine lv_istore_n (lv' := [(3, .int (v2 + (1 : Int32))), (0, .ref h0), (1, .int v1), (2, .int v2)]) hx hb dX3_pairs_15 rfl hl (by decide) rfl (fun ls hl => ?_)
        refine S_X3_pairs_16 N v1 v2 (v2 + (1 : Int32)) _ h ?_ _ (lv_sub hl [1, 2, 3, 0] rfl)
        · intro u1_8 ls h hl
          refine lv_iinc (v := (v2 + 1)) (lv' := [(2, .int (v2 + 1)), (0, .ref h0), (1, .int u1_8)]) hx hb dX3_pairs_47 hl (k := 2) rfl rfl (by decide) rfl (fun ls hl => ?_)
          refine lv_goto (tgt := 4) hx hb dX3_pairs_50 (by decide) ?_
          exact ih u1_8 (v2 + 1) h _ (lv_sub hl [1, 2, 0] rfl)
  refine lv_iconst (v := 0) hx hb dX3_pairs_0 (by decide) ?_
  refine lv_istore_n (lv' := [(1, .int 0), (0, .ref h0)]) hx hb dX3_pairs_1 rfl hl (by decide) rfl (fun ls hl => ?_)
  refine lv_iconst (v := 0) hx hb dX3_pairs_2 (by decide) ?_
  refine lv_istore_n (lv' := [(2, .int 0), (1, .int 0), (0, .ref h0)]) hx hb dX3_pairs_3 rfl hl (by decide) rfl (fun ls hl => ?_)
  refine S_X3_pairs_4 N 0 0 h  _ (lv_sub hl [2, 1, 0] rfl)
def F_X3_triangles_29 (N : Nat) (v2 : Int32) (v3 : Int32) (c_now : (Nat → Int32)) : Nat → Int32 → Int32 → (Int32 → Option (Int32)) → Option (Int32)
  | 0, _, _, _ => none
  | n + 1, v1, v4, k123 => ((F_X3_lines N c_now).bind fun y6 => (if y6 ≤ v4 then (k123 v1) else ((F_X3_lineAt N v2 c_now).bind fun y8 => ((F_X3_lineAt N v3 c_now).bind fun y9 => ((F_X3_lineAt N v2 c_now).bind fun y10 => ((F_X3_lineAt N v4 c_now).bind fun y11 => ((F_X3_lineAt N v3 c_now).bind fun y12 => ((F_X3_lineAt N v4 c_now).bind fun y13 => (if (y8 &&& y9) = 0 then (F_X3_triangles_29 N v2 v3 c_now n (v1 + (0 : Int32)) (v4 + 1) k123) else (if (y10 &&& y11) = 0 then (F_X3_triangles_29 N v2 v3 c_now n (v1 + (0 : Int32)) (v4 + 1) k123) else (if (y12 &&& y13) = 0 then (F_X3_triangles_29 N v2 v3 c_now n (v1 + (0 : Int32)) (v4 + 1) k123) else ((F_X3_bits N (((y8 &&& y9) ||| (y10 &&& y11)) ||| (y12 &&& y13))).bind fun y17 => (if y17 = 3 then (F_X3_triangles_29 N v2 v3 c_now n (v1 + (1 : Int32)) (v4 + 1) k123) else (F_X3_triangles_29 N v2 v3 c_now n (v1 + (0 : Int32)) (v4 + 1) k123))))))))))))))
def F_X3_triangles_16 (N : Nat) (v2 : Int32) (c_now : (Nat → Int32)) : Nat → Int32 → Int32 → (Int32 → Option (Int32)) → Option (Int32)
  | 0, _, _, _ => none
  | n + 1, v1, v3, k129 => ((F_X3_lines N c_now).bind fun y4 => (if y4 ≤ v3 then (k129 v1) else (F_X3_triangles_29 N v2 v3 c_now N v1 (v3 + (1 : Int32)) (fun u1_19 => (F_X3_triangles_16 N v2 c_now n u1_19 (v3 + 1) k129)))))
def F_X3_triangles_4 (N : Nat) (c_now : (Nat → Int32)) : Nat → Int32 → Int32 → Option (Int32)
  | 0, _, _ => none
  | n + 1, v1, v2 => ((F_X3_lines N c_now).bind fun y1 => (if y1 ≤ v2 then (some (v1)) else (F_X3_triangles_16 N v2 c_now N v1 (v2 + (1 : Int32)) (fun u1_20 => (F_X3_triangles_4 N c_now n u1_20 (v2 + 1))))))
def F_X3_triangles (N : Nat) (c_now : (Nat → Int32)) : Option (Int32) := (F_X3_triangles_4 N c_now N 0 0)
theorem cw_X3_triangles {R : Room} {s : State} {args : Array Value} {own : String} {index lev mc ms : Nat} (hts : ∀ w ∈ lw_all, w.before args s = true) (hl : Cond.methodLink own index yX3_triangles ∈ lw_all) (hR : (rmL lev mc ms).frames + 1 ≤ R.frames ∧ 8 + (8 + 11) + (rmL lev mc ms).locals ≤ R.locals) : CallW R s args own RX3 index yX3_triangles cX3_triangles 8 (some .int) (ws_ yX3_triangles cX3_triangles 8 (some .int)) (rmL lev mc ms) mc ms 0 := cwV 0 hts (lw_V hl q1959 qs94 q172 q1960) rfl rfl rfl (by decide +kernel) hR
set_option maxHeartbeats 4000000 in
theorem M_X3_triangles {l : Launch} {G : GE} (hG : GC G) {N : Nat} {h0 : Nat} {ad : Nat → Nat} {c_code : Int32} {c_read : (Nat → Int32)} {c_status : (Nat → Int32)} {c_tape : (Nat → Int32)} {c_taped : Int32} {c_at : Int32} {c_textSize : Int32} {c_token : Int32} {c_number : Int32} {c_begins : Int32} {c_stops : Int32} {c_bad : Int32} {c_badPlace : Int32} {c_faultPlace : Int32} {c_clauses : Int32} {c_naming : (Nat → Int32)} {c_lineBy : (Nat → Int32)} {c_becomes : (Nat → Int32)} {c_dualLines : (Nat → Int32)} {c_on : (Nat → Int32)} {c_rowNow : (Nat → Int32)} {c_least : (Nat → Int32)} {c_wayFirst : (Nat → Int32)} {c_ways : Int32} {c_acts : Int32} {c_past : (Nat → Int32)} {c_listPoints : Int32} {c_listLines : Int32} {c_listed : Int32} {c_list : (Nat → Int32)} {c_path : (Nat → Int32)} {c_places : (Nat → Int32)} {c_firstPlaces : (Nat → Int32)} {c_px : (Nat → Int32)} {c_py : (Nat → Int32)} {c_pz : (Nat → Int32)} {c_placeMany : Int32} {c_modulus : Int32} {c_drawn : Int32} {c_halvesMany : Int32} {c_halvesFirst : Int32} {c_spreadsMany : Int32} {c_spreadsFirst : Int32} {c_comesTo : (Nat → Int32)} {c_seedNow : Int32} {c_rowThen : (Nat → Int32)} {c_hasImage : Int32} {c_actsThen : Int32} {c_imageRow : (Nat → Int32)} {c_pastThen : (Nat → Int32)} {c_statusThen : (Nat → Int32)} {c_now : (Nat → Int32)} {ρ : (Int32)} (h : F_X3_triangles N c_now = some ρ) : MR l G yX3_triangles cX3_triangles 8 (some .int) 3 (mW h0 ad G.2.2 c_code c_now c_read c_status c_tape c_taped c_at c_textSize c_token c_number c_begins c_stops c_bad c_badPlace c_faultPlace c_clauses c_naming c_lineBy c_becomes c_dualLines c_on c_rowNow c_least c_wayFirst c_ways c_acts c_past c_listPoints c_listLines c_listed c_list c_path c_places c_firstPlaces c_px c_py c_pz c_placeMany c_modulus c_drawn c_halvesMany c_halvesFirst c_spreadsMany c_spreadsFirst c_comesTo c_seedNow c_rowThen c_hasImage c_actsThen c_imageRow c_pastThen c_statusThen) [.ref h0] ρ := by
  rw [F_X3_triangles] at h
  refine MR.start (rt := .int) hG (by decide) (Nat.le_of_ble_eq_true rfl) ?_
  intro p e s m args below meth c Q S hW0 hK hP hret ls hl
  obtain ⟨hx, hb, hml, hown, hts⟩ := id S
  have hl : lv_has ls 8 [(0, .ref h0)] := hl
  have S_X3_triangles_29 : ∀ (n : Nat) (v1 : Int32) (v2 : Int32) (v3 : Int32) (v4 : Int32) (k123 : Int32 → Option (Int32)), F_X3_triangles_29 N v2 v3 c_now n v1 v4 k123 = some ρ → (∀ (u1 : Int32) (ls : Array Slot), k123 u1 = some ρ → lv_has ls 8 [(0, .ref h0), (1, .int u1), (2, .int v2), (3, .int v3)] → W p l e (rmL 3 0 0) s m args below meth c s.heap [] 0 0 Q (F0 m 123 ls [])) → ∀ (ls : Array Slot), lv_has ls 8 [(0, .ref h0), (1, .int v1), (2, .int v2), (3, .int v3), (4, .int v4)] → W p l e (rmL 3 0 0) s m args below meth c s.heap [] 0 0 Q (F0 m 29 ls []) := by
    intro n
    induction n with
    | zero =>
      intro v1 v2 v3 v4 k123 h
      exact absurd h (by simp [F_X3_triangles_29])
    | succ n ih =>
      intro v1 v2 v3 v4 k123 h hk123 ls hl
      rw [F_X3_triangles_29] at h
      refine lv_iload hx hb dX3_triangles_29 (lv_at hl 4 rfl) ?_
      refine lv_aload_n hx hb dX3_triangles_31 rfl (lv_at hl 0 rfl) ?_
      obtain ⟨y6, e6, h⟩ := ob_s h
      refine MR.callV (q0 := 0) (M_X3_lines hG e6) S (cw_X3_lines hts q1917 ⟨Nat.le_of_ble_eq_true rfl, Nat.le_of_ble_eq_true rfl⟩) hW0 hK hP rfl rfl rfl hl.1 rfl (Nat.le_of_ble_eq_true rfl) dX3_triangles_32 ⟨Nat.zero_le _, Nat.zero_le _⟩ ?_
      refine lv_icmp_ge (tgt := 123) hx hb dX3_triangles_35 (by decide) (fun c7 => ?_) (fun c7 => ?_)
      · rw [if_pos c7] at h
        exact hk123 v1 _ h (lv_sub hl [0, 1, 2, 3] rfl)
      · rw [if_neg c7] at h
        refine lv_aload_n hx hb dX3_triangles_38 rfl (lv_at hl 0 rfl) ?_
        refine lv_iload_n hx hb dX3_triangles_39 rfl (lv_at hl 2 rfl) ?_
        obtain ⟨y8, e8, h⟩ := ob_s h
        refine MR.callV (q0 := 0) (M_X3_lineAt hG e8) S (cw_X3_lineAt hts q1925 ⟨Nat.le_of_ble_eq_true rfl, Nat.le_of_ble_eq_true rfl⟩) hW0 hK hP rfl rfl rfl hl.1 rfl (Nat.le_of_ble_eq_true rfl) dX3_triangles_40 ⟨Nat.zero_le _, Nat.zero_le _⟩ ?_
        refine lv_aload_n hx hb dX3_triangles_43 rfl (lv_at hl 0 rfl) ?_
        refine lv_iload_n hx hb dX3_triangles_44 rfl (lv_at hl 3 rfl) ?_
        obtain ⟨y9, e9, h⟩ := ob_s h
        refine MR.callV (q0 := 0) (M_X3_lineAt hG e9) S (cw_X3_lineAt hts q1925 ⟨Nat.le_of_ble_eq_true rfl, Nat.le_of_ble_eq_true rfl⟩) hW0 hK hP rfl rfl rfl hl.1 rfl (Nat.le_of_ble_eq_true rfl) dX3_triangles_45 ⟨Nat.zero_le _, Nat.zero_le _⟩ ?_
        refine lv_iand hx hb dX3_triangles_48 ?_
        refine lv_istore (lv' := [(5, .int (y8 &&& y9)), (0, .ref h0), (1, .int v1), (2, .int v2), (3, .int v3), (4, .int v4)]) hx hb dX3_triangles_49 hl (by decide) rfl (fun ls hl => ?_)
        refine lv_aload_n hx hb dX3_triangles_51 rfl (lv_at hl 1 rfl) ?_
        refine lv_iload_n hx hb dX3_triangles_52 rfl (lv_at hl 3 rfl) ?_
        obtain ⟨y10, e10, h⟩ := ob_s h
        refine MR.callV (q0 := 0) (M_X3_lineAt hG e10) S (cw_X3_lineAt hts q1925 ⟨Nat.le_of_ble_eq_true rfl, Nat.le_of_ble_eq_true rfl⟩) hW0 hK hP rfl rfl rfl hl.1 rfl (Nat.le_of_ble_eq_true rfl) dX3_triangles_53 ⟨Nat.zero_le _, Nat.zero_le _⟩ ?_
        refine lv_aload_n hx hb dX3_triangles_56 rfl (lv_at hl 1 rfl) ?_
        refine lv_iload hx hb dX3_triangles_57 (lv_at hl 5 rfl) ?_
        obtain ⟨y11, e11, h⟩ := ob_s h
        refine MR.callV (q0 := 0) (M_X3_lineAt hG e11) S (cw_X3_lineAt hts q1925 ⟨Nat.le_of_ble_eq_true rfl, Nat.le_of_ble_eq_true rfl⟩) hW0 hK hP rfl rfl rfl hl.1 rfl (Nat.le_of_ble_eq_true rfl) dX3_triangles_59 ⟨Nat.zero_le _, Nat.zero_le _⟩ ?_
        refine lv_iand hx hb dX3_triangles_62 ?_
        refine lv_istore (lv' := [(6, .int (y10 &&& y11)), (5, .int (y8 &&& y9)), (0, .ref h0), (1, .int v1), (2, .int v2), (3, .int v3), (4, .int v4)]) hx hb dX3_triangles_63 hl (by decide) rfl (fun ls hl => ?_)
        refine lv_aload_n hx hb dX3_triangles_65 rfl (lv_at hl 2 rfl) ?_
        refine lv_iload_n hx hb dX3_triangles_66 rfl (lv_at hl 5 rfl) ?_
        obtain ⟨y12, e12, h⟩ := ob_s h
        refine MR.callV (q0 := 0) (M_X3_lineAt hG e12) S (cw_X3_lineAt hts q1925 ⟨Nat.le_of_ble_eq_true rfl, Nat.le_of_ble_eq_true rfl⟩) hW0 hK hP rfl rfl rfl hl.1 rfl (Nat.le_of_ble_eq_true rfl) dX3_triangles_67 ⟨Nat.zero_le _, Nat.zero_le _⟩ ?_
        refine lv_aload_n hx hb dX3_triangles_70 rfl (lv_at hl 2 rfl) ?_
        refine lv_iload hx hb dX3_triangles_71 (lv_at hl 6 rfl) ?_
        obtain ⟨y13, e13, h⟩ := ob_s h
        refine MR.callV (q0 := 0) (M_X3_lineAt hG e13) S (cw_X3_lineAt hts q1925 ⟨Nat.le_of_ble_eq_true rfl, Nat.le_of_ble_eq_true rfl⟩) hW0 hK hP rfl rfl rfl hl.1 rfl (Nat.le_of_ble_eq_true rfl) dX3_triangles_73 ⟨Nat.zero_le _, Nat.zero_le _⟩ ?_
        refine lv_iand hx hb dX3_triangles_76 ?_
        refine lv_istore (lv' := [(7, .int (y12 &&& y13)), (6, .int (y10 &&& y11)), (5, .int (y8 &&& y9)), (0, .ref h0), (1, .int v1), (2, .int v2), (3, .int v3), (4, .int v4)]) hx hb dX3_triangles_77 hl (by decide) rfl (fun ls hl => ?_)
        refine lv_iload_n hx hb dX3_triangles_79 rfl (lv_at hl 4 rfl) ?_
        refine lv_iload hx hb dX3_triangles_80 (lv_at hl 2 rfl) ?_
        refine lv_if_eq (tgt := 114) hx hb dX3_triangles_82 (by decide) (fun c14 => ?_) (fun c14 => ?_)
        · rw [if_pos c14] at h
          refine lv_iconst (v := 0) hx hb dX3_triangles_114 (by decide) ?_
          refine lv_iadd hx hb dX3_triangles_115 ?_
          refine lv_istore_n (lv' := [(1, .int (v1 + (0 : Int32))), (7, .int (y12 &&& y13)), (6, .int (y10 &&& y11)), (5, .int (y8 &&& y9)), (0, .ref h0), (2, .int v2), (3, .int v3), (4, .int v4)]) hx hb dX3_triangles_116 rfl hl (by decide) rfl (fun ls hl => ?_)
          refine lv_iinc (v := (v4 + 1)) (lv' := [(4, .int (v4 + 1)), (1, .int (v1 + (0 : Int32))), (7, .int (y12 &&& y13)), (6, .int (y10 &&& y11)), (5, .int (y8 &&& y9)), (0, .ref h0), (2, .int v2), (3, .int v3)]) hx hb dX3_triangles_117 hl (k := 7) rfl rfl (by decide) rfl (fun ls hl => ?_)
          refine lv_goto (tgt := 29) hx hb dX3_triangles_120 (by decide) ?_
          exact ih (v1 + (0 : Int32)) v2 v3 (v4 + 1) _ h hk123 _ (lv_sub hl [5, 1, 6, 7, 0] rfl)
        · rw [if_neg c14] at h
          refine lv_iload hx hb dX3_triangles_85 (lv_at hl 1 rfl) ?_
          refine lv_if_eq (tgt := 114) hx hb dX3_triangles_87 (by decide) (fun c15 => ?_) (fun c15 => ?_)
          · rw [if_pos c15] at h
            refine lv_iconst (v := 0) hx hb dX3_triangles_114 (by decide) ?_
            refine lv_iadd hx hb dX3_triangles_115 ?_
            refine lv_istore_n (lv' := [(1, .int (v1 + (0 : Int32))), (7, .int (y12 &&& y13)), (6, .int (y10 &&& y11)), (5, .int (y8 &&& y9)), (0, .ref h0), (2, .int v2), (3, .int v3), (4, .int v4)]) hx hb dX3_triangles_116 rfl hl (by decide) rfl (fun ls hl => ?_)
            refine lv_iinc (v := (v4 + 1)) (lv' := [(4, .int (v4 + 1)), (1, .int (v1 + (0 : Int32))), (7, .int (y12 &&& y13)), (6, .int (y10 &&& y11)), (5, .int (y8 &&& y9)), (0, .ref h0), (2, .int v2), (3, .int v3)]) hx hb dX3_triangles_117 hl (k := 7) rfl rfl (by decide) rfl (fun ls hl => ?_)
            refine lv_goto (tgt := 29) hx hb dX3_triangles_120 (by decide) ?_
            exact ih (v1 + (0 : Int32)) v2 v3 (v4 + 1) _ h hk123 _ (lv_sub hl [5, 1, 6, 7, 0] rfl)
          · rw [if_neg c15] at h
            refine lv_iload hx hb dX3_triangles_90 (lv_at hl 0 rfl) ?_
            refine lv_if_eq (tgt := 114) hx hb dX3_triangles_92 (by decide) (fun c16 => ?_) (fun c16 => ?_)
            · rw [if_pos c16] at h
              refine lv_iconst (v := 0) hx hb dX3_triangles_114 (by decide) ?_
              refine lv_iadd hx hb dX3_triangles_115 ?_
              refine lv_istore_n (lv' := [(1, .int (v1 + (0 : Int32))), (7, .int (y12 &&& y13)), (6, .int (y10 &&& y11)), (5, .int (y8 &&& y9)), (0, .ref h0), (2, .int v2), (3, .int v3), (4, .int v4)]) hx hb dX3_triangles_116 rfl hl (by decide) rfl (fun ls hl => ?_)
              refine lv_iinc (v := (v4 + 1)) (lv' := [(4, .int (v4 + 1)), (1, .int (v1 + (0 : Int32))), (7, .int (y12 &&& y13)), (6, .int (y10 &&& y11)), (5, .int (y8 &&& y9)), (0, .ref h0), (2, .int v2), (3, .int v3)]) hx hb dX3_triangles_117 hl (k := 7) rfl rfl (by decide) rfl (fun ls hl => ?_)
              refine lv_goto (tgt := 29) hx hb dX3_triangles_120 (by decide) ?_
              exact ih (v1 + (0 : Int32)) v2 v3 (v4 + 1) _ h hk123 _ (lv_sub hl [5, 1, 6, 7, 0] rfl)
            · rw [if_neg c16] at h
              refine lv_iload hx hb dX3_triangles_95 (lv_at hl 2 rfl) ?_
              refine lv_iload hx hb dX3_triangles_97 (lv_at hl 1 rfl) ?_
              refine lv_ior hx hb dX3_triangles_99 ?_
              refine lv_iload hx hb dX3_triangles_100 (lv_at hl 0 rfl) ?_
              refine lv_ior hx hb dX3_triangles_102 ?_
              obtain ⟨y17, e17, h⟩ := ob_s h
              refine MR.callS (M_X3_bits hG e17) S (cw_X3_bits hts q1896 ⟨Nat.le_of_ble_eq_true rfl, Nat.le_of_ble_eq_true rfl⟩) hW0 vaP0 rfl hl.1 rfl (Nat.le_of_ble_eq_true rfl) dX3_triangles_103 ⟨Nat.zero_le _, Nat.zero_le _⟩ ?_
              refine lv_iconst (v := 3) hx hb dX3_triangles_106 (by decide) ?_
              refine lv_icmp_ne (tgt := 114) hx hb dX3_triangles_107 (by decide) (fun c18 => ?_) (fun c18 => ?_)
              · rw [if_neg c18] at h
                refine lv_iconst (v := 0) hx hb dX3_triangles_114 (by decide) ?_
                refine lv_iadd hx hb dX3_triangles_115 ?_
                refine lv_istore_n (lv' := [(1, .int (v1 + (0 : Int32))), (7, .int (y12 &&& y13)), (6, .int (y10 &&& y11)), (5, .int (y8 &&& y9)), (0, .ref h0), (2, .int v2), (3, .int v3), (4, .int v4)]) hx hb dX3_triangles_116 rfl hl (by decide) rfl (fun ls hl => ?_)
                refine lv_iinc (v := (v4 + 1)) (lv' := [(4, .int (v4 + 1)), (1, .int (v1 + (0 : Int32))), (7, .int (y12 &&& y13)), (6, .int (y10 &&& y11)), (5, .int (y8 &&& y9)), (0, .ref h0), (2, .int v2), (3, .int v3)]) hx hb dX3_triangles_117 hl (k := 7) rfl rfl (by decide) rfl (fun ls hl => ?_)
                refine lv_goto (tgt := 29) hx hb dX3_triangles_120 (by decide) ?_
                exact ih (v1 + (0 : Int32)) v2 v3 (v4 + 1) _ h hk123 _ (lv_sub hl [5, 1, 6, 7, 0] rfl)
              · rw [if_pos c18] at h
                refine lv_iconst (v := 1) hx hb dX3_triangles_110 (by decide) ?_
                refine lv_goto (tgt := 115) hx hb dX3_triangles_111 (by decide) ?_
                refine lv_iadd hx hb dX3_triangles_115 ?_
                refine lv_istore_n (lv' := [(1, .int (v1 + (1 : Int32))), (7, .int (y12 &&& y13)), (6, .int (y10 &&& y11)), (5, .int (y8 &&& y9)), (0, .ref h0), (2, .int v2), (3, .int v3), (4, .int v4)]) hx hb dX3_triangles_116 rfl hl (by decide) rfl (fun ls hl => ?_)
                refine lv_iinc (v := (v4 + 1)) (lv' := [(4, .int (v4 + 1)), (1, .int (v1 + (1 : Int32))), (7, .int (y12 &&& y13)), (6, .int (y10 &&& y11)), (5, .int (y8 &&& y9)), (0, .ref h0), (2, .int v2), (3, .int v3)]) hx hb dX3_triangles_117 hl (k := 7) rfl rfl (by decide) rfl (fun ls hl => ?_)
                refine lv_goto (tgt := 29) hx hb dX3_triangles_120 (by decide) ?_
                exact ih (v1 + (1 : Int32)) v2 v3 (v4 + 1) _ h hk123 _ (lv_sub hl [5, 1, 6, 7, 0] rfl)
  have S_X3_triangles_16 : ∀ (n : Nat) (v1 : Int32) (v2 : Int32) (v3 : Int32) (k129 : Int32 → Option (Int32)), F_X3_triangles_16 N v2 c_now n v1 v3 k129 = some ρ → (∀ (u1 : Int32) (ls : Array Slot), k129 u1 = some ρ → lv_has ls 8 [(0, .ref h0), (1, .int u1), (2, .int v2)] → W p l e (rmL 3 0 0) s m args below meth c s.heap [] 0 0 Q (F0 m 129 ls [])) → ∀ (ls : Array Slot), lv_has ls 8 [(0, .ref h0), (1, .int v1), (2, .int v2), (3, .int v3)] → W p l e (rmL 3 0 0) s m args below meth c s.heap [] 0 0 Q (F0 m 16 ls []) := by
    intro n
    induction n with
    | zero =>
      intro v1 v2 v3 k129 h
      exact absurd h (by simp [F_X3_triangles_16])
    | succ n ih =>
      intro v1 v2 v3 k129 h hk129 ls hl
      rw [F_X3_triangles_16] at h
      refine lv_iload_n hx hb dX3_triangles_16 rfl (lv_at hl 3 rfl) ?_
      refine lv_aload_n hx hb dX3_triangles_17 rfl (lv_at hl 0 rfl) ?_
      obtain ⟨y4, e4, h⟩ := ob_s h
      refine MR.callV (q0 := 0) (M_X3_lines hG e4) S (cw_X3_lines hts q1917 ⟨Nat.le_of_ble_eq_true rfl, Nat.le_of_ble_eq_true rfl⟩) hW0 hK hP rfl rfl rfl hl.1 rfl (Nat.le_of_ble_eq_true rfl) dX3_triangles_18 ⟨Nat.zero_le _, Nat.zero_le _⟩ ?_
      refine lv_icmp_ge (tgt := 129) hx hb dX3_triangles_21 (by decide) (fun c5 => ?_) (fun c5 => ?_)
      · rw [if_pos c5] at h
        exact hk129 v1 _ h (lv_sub hl [0, 1, 2] rfl)
      · rw [if_neg c5] at h
        refine lv_iload_n hx hb dX3_triangles_24 rfl (lv_at hl 3 rfl) ?_
        refine lv_iconst (v := 1) hx hb dX3_triangles_25 (by decide) ?_
        refine lv_iadd hx hb dX3_triangles_26 ?_
        refine lv_istore (lv' := [(4, .int (v3 + (1 : Int32))), (0, .ref h0), (1, .int v1), (2, .int v2), (3, .int v3)]) hx hb dX3_triangles_27 hl (by decide) rfl (fun ls hl => ?_)
        refine S_X3_triangles_29 N v1 v2 v3 (v3 + (1 : Int32)) _ h ?_ _ (lv_sub hl [1, 2, 3, 4, 0] rfl)
        · intro u1_19 ls h hl
          refine lv_iinc (v := (v3 + 1)) (lv' := [(3, .int (v3 + 1)), (0, .ref h0), (1, .int u1_19), (2, .int v2)]) hx hb dX3_triangles_123 hl (k := 3) rfl rfl (by decide) rfl (fun ls hl => ?_)
          refine lv_goto (tgt := 16) hx hb dX3_triangles_126 (by decide) ?_
          exact ih u1_19 v2 (v3 + 1) _ h hk129 _ (lv_sub hl [1, 2, 3, 0] rfl)
  have S_X3_triangles_4 : ∀ (n : Nat) (v1 : Int32) (v2 : Int32), F_X3_triangles_4 N c_now n v1 v2 = some ρ → ∀ (ls : Array Slot), lv_has ls 8 [(0, .ref h0), (1, .int v1), (2, .int v2)] → W p l e (rmL 3 0 0) s m args below meth c s.heap [] 0 0 Q (F0 m 4 ls []) := by
    intro n
    induction n with
    | zero =>
      intro v1 v2 h
      exact absurd h (by simp [F_X3_triangles_4])
    | succ n ih =>
      intro v1 v2 h ls hl
      rw [F_X3_triangles_4] at h
      refine lv_iload_n hx hb dX3_triangles_4 rfl (lv_at hl 2 rfl) ?_
      refine lv_aload_n hx hb dX3_triangles_5 rfl (lv_at hl 0 rfl) ?_
      obtain ⟨y1, e1, h⟩ := ob_s h
      refine MR.callV (q0 := 0) (M_X3_lines hG e1) S (cw_X3_lines hts q1917 ⟨Nat.le_of_ble_eq_true rfl, Nat.le_of_ble_eq_true rfl⟩) hW0 hK hP rfl rfl rfl hl.1 rfl (Nat.le_of_ble_eq_true rfl) dX3_triangles_6 ⟨Nat.zero_le _, Nat.zero_le _⟩ ?_
      refine lv_icmp_ge (tgt := 135) hx hb dX3_triangles_9 (by decide) (fun c2 => ?_) (fun c2 => ?_)
      · rw [if_pos c2] at h
        refine lv_iload_n hx hb dX3_triangles_135 rfl (lv_at hl 1 rfl) ?_
        obtain rfl := Option.some.inj h
        exact hret dX3_triangles_136 rfl
      · rw [if_neg c2] at h
        refine lv_iload_n hx hb dX3_triangles_12 rfl (lv_at hl 2 rfl) ?_
        refine lv_iconst (v := 1) hx hb dX3_triangles_13 (by decide) ?_
        refine lv_iadd hx hb dX3_triangles_14 ?_
        refine lv_istore_n (lv' := [(3, .int (v2 + (1 : Int32))), (0, .ref h0), (1, .int v1), (2, .int v2)]) hx hb dX3_triangles_15 rfl hl (by decide) rfl (fun ls hl => ?_)
        refine S_X3_triangles_16 N v1 v2 (v2 + (1 : Int32)) _ h ?_ _ (lv_sub hl [1, 2, 3, 0] rfl)
        · intro u1_20 ls h hl
          refine lv_iinc (v := (v2 + 1)) (lv' := [(2, .int (v2 + 1)), (0, .ref h0), (1, .int u1_20)]) hx hb dX3_triangles_129 hl (k := 2) rfl rfl (by decide) rfl (fun ls hl => ?_)
          refine lv_goto (tgt := 4) hx hb dX3_triangles_132 (by decide) ?_
          exact ih u1_20 (v2 + 1) h _ (lv_sub hl [1, 2, 0] rfl)
  refine lv_iconst (v := 0) hx hb dX3_triangles_0 (by decide) ?_
  refine lv_istore_n (lv' := [(1, .int 0), (0, .ref h0)]) hx hb dX3_triangles_1 rfl hl (by decide) rfl (fun ls hl => ?_)
  refine lv_iconst (v := 0) hx hb dX3_triangles_2 (by decide) ?_
  refine lv_istore_n (lv' := [(2, .int 0), (1, .int 0), (0, .ref h0)]) hx hb dX3_triangles_3 rfl hl (by decide) rfl (fun ls hl => ?_)
  refine S_X3_triangles_4 N 0 0 h  _ (lv_sub hl [2, 1, 0] rfl)
