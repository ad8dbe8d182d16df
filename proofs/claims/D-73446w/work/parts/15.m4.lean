set_option maxRecDepth 100000
set_option linter.unusedVariables false
def F_X3_putSorted_2 (N : Nat) (v2 : Int32) : Nat → Int32 → (Nat → Int32) → Option ((Nat → Int32))
  | 0, _, _ => none
  | n + 1, v3, c_rowNow => (if v3 ≤ 0 then (ckI v3 12 (some ((upd c_rowNow (Int32.toNatClampNeg v3) v2)))) else (ckI (v3 - (1 : Int32)) 12 (if (c_rowNow (Int32.toNatClampNeg (v3 - (1 : Int32)))) ≤ v2 then (ckI v3 12 (some ((upd c_rowNow (Int32.toNatClampNeg v3) v2)))) else (ckI (v3 - (1 : Int32)) 12 (ckI v3 12 (F_X3_putSorted_2 N v2 n (v3 + (-1)) (upd c_rowNow (Int32.toNatClampNeg v3) (c_rowNow (Int32.toNatClampNeg (v3 - (1 : Int32)))))))))))
def F_X3_putSorted (N : Nat) (v1 : Int32) (v2 : Int32) (c_rowNow : (Nat → Int32)) : Option ((Nat → Int32)) := (F_X3_putSorted_2 N v2 N v1 c_rowNow)
theorem cw_X3_putSorted {R : Room} {s : State} {args : Array Value} {own : String} {index lev mc ms : Nat} (hts : ∀ w ∈ lw_all, w.before args s = true) (hl : Cond.methodLink own index yX3_putSorted ∈ lw_all) (hR : (rmL lev mc ms).frames + 1 ≤ R.frames ∧ 8 + (4 + 11) + (rmL lev mc ms).locals ≤ R.locals) : CallW R s args own RX3 index yX3_putSorted cX3_putSorted 4 none (ws_ yX3_putSorted cX3_putSorted 4 none) (rmL lev mc ms) mc ms 2 := cwV 2 hts (lw_V hl q2094 qs120 q172 q2095) rfl rfl rfl (by decide +kernel) hR
set_option maxHeartbeats 4000000 in
theorem M_X3_putSorted {l : Launch} {G : GE} (hG : GC G) {N : Nat} {h0 : Nat} {ad : Nat → Nat} {c_code : Int32} {c_now : (Nat → Int32)} {c_read : (Nat → Int32)} {c_status : (Nat → Int32)} {c_tape : (Nat → Int32)} {c_taped : Int32} {c_at : Int32} {c_textSize : Int32} {c_token : Int32} {c_number : Int32} {c_begins : Int32} {c_stops : Int32} {c_bad : Int32} {c_badPlace : Int32} {c_faultPlace : Int32} {c_clauses : Int32} {c_naming : (Nat → Int32)} {c_lineBy : (Nat → Int32)} {c_becomes : (Nat → Int32)} {c_dualLines : (Nat → Int32)} {c_on : (Nat → Int32)} {c_least : (Nat → Int32)} {c_wayFirst : (Nat → Int32)} {c_ways : Int32} {c_acts : Int32} {c_past : (Nat → Int32)} {c_listPoints : Int32} {c_listLines : Int32} {c_listed : Int32} {c_list : (Nat → Int32)} {c_path : (Nat → Int32)} {c_places : (Nat → Int32)} {c_firstPlaces : (Nat → Int32)} {c_px : (Nat → Int32)} {c_py : (Nat → Int32)} {c_pz : (Nat → Int32)} {c_placeMany : Int32} {c_modulus : Int32} {c_drawn : Int32} {c_halvesMany : Int32} {c_halvesFirst : Int32} {c_spreadsMany : Int32} {c_spreadsFirst : Int32} {c_comesTo : (Nat → Int32)} {c_seedNow : Int32} {c_rowThen : (Nat → Int32)} {c_hasImage : Int32} {c_actsThen : Int32} {c_imageRow : (Nat → Int32)} {c_pastThen : (Nat → Int32)} {c_statusThen : (Nat → Int32)} {v1 : Int32} {v2 : Int32} {c_rowNow : (Nat → Int32)} {ρ : ((Nat → Int32))} (h : F_X3_putSorted N v1 v2 c_rowNow = some ρ) : MW l G yX3_putSorted cX3_putSorted 4 none 1 (mW h0 ad G.2.2 c_code c_now c_read c_status c_tape c_taped c_at c_textSize c_token c_number c_begins c_stops c_bad c_badPlace c_faultPlace c_clauses c_naming c_lineBy c_becomes c_dualLines c_on c_rowNow c_least c_wayFirst c_ways c_acts c_past c_listPoints c_listLines c_listed c_list c_path c_places c_firstPlaces c_px c_py c_pz c_placeMany c_modulus c_drawn c_halvesMany c_halvesFirst c_spreadsMany c_spreadsFirst c_comesTo c_seedNow c_rowThen c_hasImage c_actsThen c_imageRow c_pastThen c_statusThen) [.ref h0, .int v1, .int v2] none (mW h0 ad G.2.2 c_code c_now c_read c_status c_tape c_taped c_at c_textSize c_token c_number c_begins c_stops c_bad c_badPlace c_faultPlace c_clauses c_naming c_lineBy c_becomes c_dualLines c_on ρ c_least c_wayFirst c_ways c_acts c_past c_listPoints c_listLines c_listed c_list c_path c_places c_firstPlaces c_px c_py c_pz c_placeMany c_modulus c_drawn c_halvesMany c_halvesFirst c_spreadsMany c_spreadsFirst c_comesTo c_seedNow c_rowThen c_hasImage c_actsThen c_imageRow c_pastThen c_statusThen) := by
  rw [F_X3_putSorted] at h
  refine MW.start hG (by decide) (Nat.le_of_ble_eq_true rfl) ?_
  intro p e s m args below meth c Q A S hW0 hK hP hD hA hreti hretv ls hl
  have hS : va_S A s.heap s.heap [] := va_S.rf
  obtain ⟨hx, hb, hml, hown, hts⟩ := id S
  have hl : lv_has ls 4 [(0, .ref h0), (1, .int v1), (2, .int v2)] := hl
  have S_X3_putSorted_2 : ∀ (n : Nat) (v2 : Int32) (v3 : Int32) (c_rowNow : (Nat → Int32)), F_X3_putSorted_2 N v2 n v3 c_rowNow = some ρ → ∀ (H : Heap) (locs : List Loc), va_P G.2.1 vwCl (mW h0 ad G.2.2 c_code c_now c_read c_status c_tape c_taped c_at c_textSize c_token c_number c_begins c_stops c_bad c_badPlace c_faultPlace c_clauses c_naming c_lineBy c_becomes c_dualLines c_on c_rowNow c_least c_wayFirst c_ways c_acts c_past c_listPoints c_listLines c_listed c_list c_path c_places c_firstPlaces c_px c_py c_pz c_placeMany c_modulus c_drawn c_halvesMany c_halvesFirst c_spreadsMany c_spreadsFirst c_comesTo c_seedNow c_rowThen c_hasImage c_actsThen c_imageRow c_pastThen c_statusThen) H → va_D A (mW h0 ad G.2.2 c_code c_now c_read c_status c_tape c_taped c_at c_textSize c_token c_number c_begins c_stops c_bad c_badPlace c_faultPlace c_clauses c_naming c_lineBy c_becomes c_dualLines c_on c_rowNow c_least c_wayFirst c_ways c_acts c_past c_listPoints c_listLines c_listed c_list c_path c_places c_firstPlaces c_px c_py c_pz c_placeMany c_modulus c_drawn c_halvesMany c_halvesFirst c_spreadsMany c_spreadsFirst c_comesTo c_seedNow c_rowThen c_hasImage c_actsThen c_imageRow c_pastThen c_statusThen) → va_S A s.heap H locs → ∀ (ls : Array Slot), lv_has ls 4 [(0, .ref h0), (2, .int v2), (3, .int v3)] → W p l e (rmL 1 0 0) s m args below meth c H locs 0 0 Q (F0 m 2 ls []) := by
    intro n
    induction n with
    | zero =>
      intro v2 v3 c_rowNow h
      exact absurd h (by simp [F_X3_putSorted_2])
    | succ n ih =>
      intro v2 v3 c_rowNow h H locs hP hD hS ls hl
      rw [F_X3_putSorted_2] at h
      refine lv_iload_n hx hb dX3_putSorted_2 rfl (lv_at hl 2 rfl) ?_
      refine lv_if_le (tgt := 38) hx hb dX3_putSorted_3 (by decide) (fun c1 => ?_) (fun c1 => ?_)
      · rw [if_pos c1] at h
        refine lv_aload_n hx hb dX3_putSorted_38 rfl (lv_at hl 0 rfl) ?_
        refine va_get (ci := 2) (v := .ref (ad 21)) (C := RX3) (T := TX3) (N := 52) hx hb hts in_X3 hown hK hP 0 rfl rfl 21 (by decide) (hts _ q1679) (fun _ h9 => h9) rfl dX3_putSorted_39 ?_
        refine lv_iload_n hx hb dX3_putSorted_42 rfl (lv_at hl 2 rfl) ?_
        refine lv_iload_n hx hb dX3_putSorted_43 rfl (lv_at hl 1 rfl) ?_
        obtain ⟨i2, h⟩ := ckI_s h
        refine va_iast (f := c_rowNow) hx hb hK hP hD hS 10 0 rfl rfl i2 dX3_putSorted_44 (fun H locs hP hD hS => ?_)
        have hP : va_P G.2.1 vwCl (mW h0 ad G.2.2 c_code c_now c_read c_status c_tape c_taped c_at c_textSize c_token c_number c_begins c_stops c_bad c_badPlace c_faultPlace c_clauses c_naming c_lineBy c_becomes c_dualLines c_on (upd c_rowNow (Int32.toNatClampNeg v3) v2) c_least c_wayFirst c_ways c_acts c_past c_listPoints c_listLines c_listed c_list c_path c_places c_firstPlaces c_px c_py c_pz c_placeMany c_modulus c_drawn c_halvesMany c_halvesFirst c_spreadsMany c_spreadsFirst c_comesTo c_seedNow c_rowThen c_hasImage c_actsThen c_imageRow c_pastThen c_statusThen) H := hP
        have hD : va_D A (mW h0 ad G.2.2 c_code c_now c_read c_status c_tape c_taped c_at c_textSize c_token c_number c_begins c_stops c_bad c_badPlace c_faultPlace c_clauses c_naming c_lineBy c_becomes c_dualLines c_on (upd c_rowNow (Int32.toNatClampNeg v3) v2) c_least c_wayFirst c_ways c_acts c_past c_listPoints c_listLines c_listed c_list c_path c_places c_firstPlaces c_px c_py c_pz c_placeMany c_modulus c_drawn c_halvesMany c_halvesFirst c_spreadsMany c_spreadsFirst c_comesTo c_seedNow c_rowThen c_hasImage c_actsThen c_imageRow c_pastThen c_statusThen) := hD
        obtain rfl := Option.some.inj h
        exact hretv rfl dX3_putSorted_45 rfl hP hD hS
      · rw [if_neg c1] at h
        refine lv_aload_n hx hb dX3_putSorted_6 rfl (lv_at hl 0 rfl) ?_
        refine va_get (ci := 2) (v := .ref (ad 21)) (C := RX3) (T := TX3) (N := 52) hx hb hts in_X3 hown hK hP 0 rfl rfl 21 (by decide) (hts _ q1679) (fun _ h9 => h9) rfl dX3_putSorted_7 ?_
        refine lv_iload_n hx hb dX3_putSorted_10 rfl (lv_at hl 2 rfl) ?_
        refine lv_iconst (v := 1) hx hb dX3_putSorted_11 (by decide) ?_
        refine lv_isub hx hb dX3_putSorted_12 ?_
        obtain ⟨i4, h⟩ := ckI_s h
        refine va_iald (f := c_rowNow) hx hb hK hP 10 0 rfl rfl i4 dX3_putSorted_13 ?_
        refine lv_iload_n hx hb dX3_putSorted_14 rfl (lv_at hl 1 rfl) ?_
        refine lv_icmp_le (tgt := 38) hx hb dX3_putSorted_15 (by decide) (fun c5 => ?_) (fun c5 => ?_)
        · rw [if_pos c5] at h
          refine lv_aload_n hx hb dX3_putSorted_38 rfl (lv_at hl 0 rfl) ?_
          refine va_get (ci := 2) (v := .ref (ad 21)) (C := RX3) (T := TX3) (N := 52) hx hb hts in_X3 hown hK hP 0 rfl rfl 21 (by decide) (hts _ q1679) (fun _ h9 => h9) rfl dX3_putSorted_39 ?_
          refine lv_iload_n hx hb dX3_putSorted_42 rfl (lv_at hl 2 rfl) ?_
          refine lv_iload_n hx hb dX3_putSorted_43 rfl (lv_at hl 1 rfl) ?_
          obtain ⟨i6, h⟩ := ckI_s h
          refine va_iast (f := c_rowNow) hx hb hK hP hD hS 10 0 rfl rfl i6 dX3_putSorted_44 (fun H locs hP hD hS => ?_)
          have hP : va_P G.2.1 vwCl (mW h0 ad G.2.2 c_code c_now c_read c_status c_tape c_taped c_at c_textSize c_token c_number c_begins c_stops c_bad c_badPlace c_faultPlace c_clauses c_naming c_lineBy c_becomes c_dualLines c_on (upd c_rowNow (Int32.toNatClampNeg v3) v2) c_least c_wayFirst c_ways c_acts c_past c_listPoints c_listLines c_listed c_list c_path c_places c_firstPlaces c_px c_py c_pz c_placeMany c_modulus c_drawn c_halvesMany c_halvesFirst c_spreadsMany c_spreadsFirst c_comesTo c_seedNow c_rowThen c_hasImage c_actsThen c_imageRow c_pastThen c_statusThen) H := hP
          have hD : va_D A (mW h0 ad G.2.2 c_code c_now c_read c_status c_tape c_taped c_at c_textSize c_token c_number c_begins c_stops c_bad c_badPlace c_faultPlace c_clauses c_naming c_lineBy c_becomes c_dualLines c_on (upd c_rowNow (Int32.toNatClampNeg v3) v2) c_least c_wayFirst c_ways c_acts c_past c_listPoints c_listLines c_listed c_list c_path c_places c_firstPlaces c_px c_py c_pz c_placeMany c_modulus c_drawn c_halvesMany c_halvesFirst c_spreadsMany c_spreadsFirst c_comesTo c_seedNow c_rowThen c_hasImage c_actsThen c_imageRow c_pastThen c_statusThen) := hD
          obtain rfl := Option.some.inj h
          exact hretv rfl dX3_putSorted_45 rfl hP hD hS
        · rw [if_neg c5] at h
          refine lv_aload_n hx hb dX3_putSorted_18 rfl (lv_at hl 0 rfl) ?_
          refine va_get (ci := 2) (v := .ref (ad 21)) (C := RX3) (T := TX3) (N := 52) hx hb hts in_X3 hown hK hP 0 rfl rfl 21 (by decide) (hts _ q1679) (fun _ h9 => h9) rfl dX3_putSorted_19 ?_
          refine lv_iload_n hx hb dX3_putSorted_22 rfl (lv_at hl 2 rfl) ?_
          refine lv_aload_n hx hb dX3_putSorted_23 rfl (lv_at hl 0 rfl) ?_
          refine va_get (ci := 2) (v := .ref (ad 21)) (C := RX3) (T := TX3) (N := 52) hx hb hts in_X3 hown hK hP 0 rfl rfl 21 (by decide) (hts _ q1679) (fun _ h9 => h9) rfl dX3_putSorted_24 ?_
          refine lv_iload_n hx hb dX3_putSorted_27 rfl (lv_at hl 2 rfl) ?_
          refine lv_iconst (v := 1) hx hb dX3_putSorted_28 (by decide) ?_
          refine lv_isub hx hb dX3_putSorted_29 ?_
          obtain ⟨i8, h⟩ := ckI_s h
          refine va_iald (f := c_rowNow) hx hb hK hP 10 0 rfl rfl i8 dX3_putSorted_30 ?_
          obtain ⟨i9, h⟩ := ckI_s h
          refine va_iast (f := c_rowNow) hx hb hK hP hD hS 10 0 rfl rfl i9 dX3_putSorted_31 (fun H locs hP hD hS => ?_)
          have hP : va_P G.2.1 vwCl (mW h0 ad G.2.2 c_code c_now c_read c_status c_tape c_taped c_at c_textSize c_token c_number c_begins c_stops c_bad c_badPlace c_faultPlace c_clauses c_naming c_lineBy c_becomes c_dualLines c_on (upd c_rowNow (Int32.toNatClampNeg v3) (c_rowNow (Int32.toNatClampNeg (v3 - (1 : Int32))))) c_least c_wayFirst c_ways c_acts c_past c_listPoints c_listLines c_listed c_list c_path c_places c_firstPlaces c_px c_py c_pz c_placeMany c_modulus c_drawn c_halvesMany c_halvesFirst c_spreadsMany c_spreadsFirst c_comesTo c_seedNow c_rowThen c_hasImage c_actsThen c_imageRow c_pastThen c_statusThen) H := hP
          have hD : va_D A (mW h0 ad G.2.2 c_code c_now c_read c_status c_tape c_taped c_at c_textSize c_token c_number c_begins c_stops c_bad c_badPlace c_faultPlace c_clauses c_naming c_lineBy c_becomes c_dualLines c_on (upd c_rowNow (Int32.toNatClampNeg v3) (c_rowNow (Int32.toNatClampNeg (v3 - (1 : Int32))))) c_least c_wayFirst c_ways c_acts c_past c_listPoints c_listLines c_listed c_list c_path c_places c_firstPlaces c_px c_py c_pz c_placeMany c_modulus c_drawn c_halvesMany c_halvesFirst c_spreadsMany c_spreadsFirst c_comesTo c_seedNow c_rowThen c_hasImage c_actsThen c_imageRow c_pastThen c_statusThen) := hD
          refine lv_iinc (v := (v3 + (-1))) (lv' := [(3, .int (v3 + (-1))), (0, .ref h0), (2, .int v2)]) hx hb dX3_putSorted_32 hl (k := 2) rfl rfl (by decide) rfl (fun ls hl => ?_)
          refine lv_goto (tgt := 2) hx hb dX3_putSorted_35 (by decide) ?_
          exact ih v2 (v3 + (-1)) (upd c_rowNow (Int32.toNatClampNeg v3) (c_rowNow (Int32.toNatClampNeg (v3 - (1 : Int32))))) h _ _ hP hD hS _ (lv_sub hl [1, 2, 0] rfl)
  refine lv_iload_n hx hb dX3_putSorted_0 rfl (lv_at hl 1 rfl) ?_
  refine lv_istore_n (lv' := [(3, .int v1), (0, .ref h0), (1, .int v1), (2, .int v2)]) hx hb dX3_putSorted_1 rfl hl (by decide) rfl (fun ls hl => ?_)
  refine S_X3_putSorted_2 N v2 v1 c_rowNow h  _ _ hP hD hS _ (lv_sub hl [1, 3, 0] rfl)
def F_X3_compare_2 (N : Nat) (n0 : Nat) (n1 : Nat) (v2 : Int32) (c_p0 : (Nat → Int32)) (c_p1 : (Nat → Int32)) : Nat → Int32 → Option (Int32)
  | 0, _ => none
  | n + 1, v3 => (if v2 ≤ v3 then (some (0)) else (ckI v3 n0 (ckI v3 n1 (if (c_p0 (Int32.toNatClampNeg v3)) = (c_p1 (Int32.toNatClampNeg v3)) then (F_X3_compare_2 N n0 n1 v2 c_p0 c_p1 n (v3 + 1)) else (ckI v3 n0 (ckI v3 n1 (some (((c_p0 (Int32.toNatClampNeg v3)) - (c_p1 (Int32.toNatClampNeg v3)))))))))))
def F_X3_compare (N : Nat) (n0 : Nat) (n1 : Nat) (v2 : Int32) (c_p0 : (Nat → Int32)) (c_p1 : (Nat → Int32)) : Option (Int32) := (F_X3_compare_2 N n0 n1 v2 c_p0 c_p1 N 0)
theorem cw_X3_compare {R : Room} {s : State} {args : Array Value} {own : String} {index lev mc ms : Nat} (hts : ∀ w ∈ lw_all, w.before args s = true) (hl : Cond.methodLink own index yX3_compare ∈ lw_all) (hR : (rmL lev mc ms).frames + 1 ≤ R.frames ∧ 8 + (4 + 11) + (rmL lev mc ms).locals ≤ R.locals) : CallB R s args own index yX3_compare cX3_compare 4 (some .int) (ws_ yX3_compare cX3_compare 4 (some .int)) (rmL lev mc ms) mc ms 3 ∧ (Cond.static yX3_compare).before args s = true := va_cwS 3 hts (lw_S hl q2097 q172 q2098) rfl rfl rfl (by decide +kernel) hR
set_option maxHeartbeats 4000000 in
theorem M_X3_compare {l : Launch} {G : GE} (hG : GC G) {N : Nat} {b0 : Nat} {n0 : Nat} {b1 : Nat} {n1 : Nat} {v2 : Int32} {c_p0 : (Nat → Int32)} {c_p1 : (Nat → Int32)} {ρ : (Int32)} (h : F_X3_compare N n0 n1 v2 c_p0 c_p1 = some ρ) : MR l G yX3_compare cX3_compare 4 (some .int) 1 [(b0, .inl (G.2.2 0, n0, .inl c_p0)), (b1, .inl (G.2.2 0, n1, .inl c_p1))] [.ref b0, .ref b1, .int v2] ρ := by
  rw [F_X3_compare] at h
  refine MR.start (rt := .int) hG (by decide) (Nat.le_of_ble_eq_true rfl) ?_
  intro p e s m args below meth c Q S hW0 hK hP hret ls hl
  obtain ⟨hx, hb, hml, hown, hts⟩ := id S
  have hl : lv_has ls 4 [(0, .ref b0), (1, .ref b1), (2, .int v2)] := hl
  have S_X3_compare_2 : ∀ (n : Nat) (v2 : Int32) (v3 : Int32), F_X3_compare_2 N n0 n1 v2 c_p0 c_p1 n v3 = some ρ → ∀ (ls : Array Slot), lv_has ls 4 [(0, .ref b0), (1, .ref b1), (2, .int v2), (3, .int v3)] → W p l e (rmL 1 0 0) s m args below meth c s.heap [] 0 0 Q (F0 m 2 ls []) := by
    intro n
    induction n with
    | zero =>
      intro v2 v3 h
      exact absurd h (by simp [F_X3_compare_2])
    | succ n ih =>
      intro v2 v3 h ls hl
      rw [F_X3_compare_2] at h
      refine lv_iload_n hx hb dX3_compare_2 rfl (lv_at hl 3 rfl) ?_
      refine lv_iload_n hx hb dX3_compare_3 rfl (lv_at hl 2 rfl) ?_
      refine lv_icmp_ge (tgt := 30) hx hb dX3_compare_4 (by decide) (fun c1 => ?_) (fun c1 => ?_)
      · rw [if_pos c1] at h
        refine lv_iconst (v := 0) hx hb dX3_compare_30 (by decide) ?_
        obtain rfl := Option.some.inj h
        exact hret dX3_compare_31 rfl
      · rw [if_neg c1] at h
        refine lv_aload_n hx hb dX3_compare_7 rfl (lv_at hl 0 rfl) ?_
        refine lv_iload_n hx hb dX3_compare_8 rfl (lv_at hl 3 rfl) ?_
        obtain ⟨i3, h⟩ := ckI_s h
        refine va_iald (f := c_p0) hx hb hK hP 0 0 rfl rfl i3 dX3_compare_9 ?_
        refine lv_aload_n hx hb dX3_compare_10 rfl (lv_at hl 1 rfl) ?_
        refine lv_iload_n hx hb dX3_compare_11 rfl (lv_at hl 3 rfl) ?_
        obtain ⟨i4, h⟩ := ckI_s h
        refine va_iald (f := c_p1) hx hb hK hP 1 0 rfl rfl i4 dX3_compare_12 ?_
        refine lv_icmp_eq (tgt := 24) hx hb dX3_compare_13 (by decide) (fun c5 => ?_) (fun c5 => ?_)
        · rw [if_pos c5] at h
          refine lv_iinc (v := (v3 + 1)) (lv' := [(3, .int (v3 + 1)), (0, .ref b0), (1, .ref b1), (2, .int v2)]) hx hb dX3_compare_24 hl (k := 3) rfl rfl (by decide) rfl (fun ls hl => ?_)
          refine lv_goto (tgt := 2) hx hb dX3_compare_27 (by decide) ?_
          exact ih v2 (v3 + 1) h _ (lv_sub hl [1, 2, 3, 0] rfl)
        · rw [if_neg c5] at h
          refine lv_aload_n hx hb dX3_compare_16 rfl (lv_at hl 0 rfl) ?_
          refine lv_iload_n hx hb dX3_compare_17 rfl (lv_at hl 3 rfl) ?_
          obtain ⟨i6, h⟩ := ckI_s h
          refine va_iald (f := c_p0) hx hb hK hP 0 0 rfl rfl i6 dX3_compare_18 ?_
          refine lv_aload_n hx hb dX3_compare_19 rfl (lv_at hl 1 rfl) ?_
          refine lv_iload_n hx hb dX3_compare_20 rfl (lv_at hl 3 rfl) ?_
          obtain ⟨i7, h⟩ := ckI_s h
          refine va_iald (f := c_p1) hx hb hK hP 1 0 rfl rfl i7 dX3_compare_21 ?_
          refine lv_isub hx hb dX3_compare_22 ?_
          obtain rfl := Option.some.inj h
          exact hret dX3_compare_23 rfl
  refine lv_iconst (v := 0) hx hb dX3_compare_0 (by decide) ?_
  refine lv_istore_n (lv' := [(3, .int 0), (0, .ref b0), (1, .ref b1), (2, .int v2)]) hx hb dX3_compare_1 rfl hl (by decide) rfl (fun ls hl => ?_)
  refine S_X3_compare_2 N v2 0 h  _ (lv_sub hl [1, 2, 3, 0] rfl)
def F_X3_tellLeast_24 (N : Nat) (v1 : Int32) (c_now : (Nat → Int32)) (c_naming : (Nat → Int32)) : Nat → Int32 → (Nat → Int32) → ((Nat → Int32) → Option ((Nat → Int32) × (Nat → Int32) × (Nat → Int32))) → Option ((Nat → Int32) × (Nat → Int32) × (Nat → Int32))
  | 0, _, _, _ => none
  | n + 1, v4, c_rowNow, k52 => (if v1 ≤ v4 then (k52 c_rowNow) else ((F_X3_lineAt N v4 c_now).bind fun y7 => ((F_X3_named N y7 c_naming).bind fun y8 => ((F_X3_putSorted N v4 y8 c_rowNow).bind fun y9 => (F_X3_tellLeast_24 N v1 c_now c_naming n (v4 + 1) y9 k52)))))
def F_X3_tellLeast_81 (N : Nat) (v1 : Int32) (v4 : Int32) (c_rowNow : (Nat → Int32)) : Nat → Int32 → (Nat → Int32) → ((Nat → Int32) → Option ((Nat → Int32) × (Nat → Int32) × (Nat → Int32))) → Option ((Nat → Int32) × (Nat → Int32) × (Nat → Int32))
  | 0, _, _, _ => none
  | n + 1, v5, c_least, k112 => (if v1 ≤ v5 then (k112 c_least) else (if v4 = 0 then (k112 c_least) else (ckI v5 12 (ckI v5 12 (F_X3_tellLeast_81 N v1 v4 c_rowNow n (v5 + 1) (upd c_least (Int32.toNatClampNeg v5) (c_rowNow (Int32.toNatClampNeg v5))) k112)))))
def F_X3_tellLeast_76 (N : Nat) (c_now : (Nat → Int32)) (s0 : Int32) (v1 : Int32) (c_naming : (Nat → Int32)) (c_rowNow : (Nat → Int32)) (c_least : (Nat → Int32)) (k17 : Int32 → Int32 → (Nat → Int32) → (Nat → Int32) → (Nat → Int32) → Option ((Nat → Int32) × (Nat → Int32) × (Nat → Int32))) : Option ((Nat → Int32) × (Nat → Int32) × (Nat → Int32)) := (F_X3_tellLeast_81 N v1 s0 c_rowNow N 0 c_least (fun c_least_16 => ((F_X3_points N c_now).bind fun y17 => ((F_X3_nextNaming N y17 c_naming).bind fun y18 => (k17 0 y18.1 y18.2 c_rowNow c_least_16)))))
def F_X3_tellLeast_71 (N : Nat) (c_now : (Nat → Int32)) (v1 : Int32) (c_naming : (Nat → Int32)) (c_rowNow : (Nat → Int32)) (c_least : (Nat → Int32)) (k17 : Int32 → Int32 → (Nat → Int32) → (Nat → Int32) → (Nat → Int32) → Option ((Nat → Int32) × (Nat → Int32) × (Nat → Int32))) : Option ((Nat → Int32) × (Nat → Int32) × (Nat → Int32)) := (F_X3_tellLeast_76 N c_now 1 v1 c_naming c_rowNow c_least k17)
def F_X3_tellLeast_17 (N : Nat) (v1 : Int32) (c_now : (Nat → Int32)) : Nat → Int32 → Int32 → (Nat → Int32) → (Nat → Int32) → (Nat → Int32) → Option ((Nat → Int32) × (Nat → Int32) × (Nat → Int32))
  | 0, _, _, _, _, _ => none
  | n + 1, v2, v3, c_naming, c_rowNow, c_least => (if v3 = 0 then (some (c_naming, c_rowNow, c_least)) else (F_X3_tellLeast_24 N v1 c_now c_naming N 0 c_rowNow (fun c_rowNow_10 => (if v2 = 0 then ((F_X3_compare N 12 12 v1 c_rowNow_10 c_least).bind fun y19 => (if 0 ≤ y19 then (F_X3_tellLeast_76 N c_now 0 v1 c_naming c_rowNow_10 c_least (fun u2 u3 z_c_naming z_c_rowNow z_c_least => (F_X3_tellLeast_17 N v1 c_now n u2 u3 z_c_naming z_c_rowNow z_c_least))) else (F_X3_tellLeast_71 N c_now v1 c_naming c_rowNow_10 c_least (fun u2 u3 z_c_naming z_c_rowNow z_c_least => (F_X3_tellLeast_17 N v1 c_now n u2 u3 z_c_naming z_c_rowNow z_c_least))))) else (F_X3_tellLeast_71 N c_now v1 c_naming c_rowNow_10 c_least (fun u2 u3 z_c_naming z_c_rowNow z_c_least => (F_X3_tellLeast_17 N v1 c_now n u2 u3 z_c_naming z_c_rowNow z_c_least)))))))
def F_X3_tellLeast (N : Nat) (c_now : (Nat → Int32)) (c_naming : (Nat → Int32)) (c_rowNow : (Nat → Int32)) (c_least : (Nat → Int32)) : Option ((Nat → Int32) × (Nat → Int32) × (Nat → Int32)) := ((F_X3_lines N c_now).bind fun y1 => ((F_X3_points N c_now).bind fun y2 => ((F_X3_beginNaming N y2 c_naming).bind fun y3 => (F_X3_tellLeast_17 N y1 c_now N 1 1 y3 c_rowNow c_least))))
theorem cw_X3_tellLeast {R : Room} {s : State} {args : Array Value} {own : String} {index lev mc ms : Nat} (hts : ∀ w ∈ lw_all, w.before args s = true) (hl : Cond.methodLink own index yX3_tellLeast ∈ lw_all) (hR : (rmL lev mc ms).frames + 1 ≤ R.frames ∧ 8 + (6 + 11) + (rmL lev mc ms).locals ≤ R.locals) : CallW R s args own RX3 index yX3_tellLeast cX3_tellLeast 6 none (ws_ yX3_tellLeast cX3_tellLeast 6 none) (rmL lev mc ms) mc ms 0 := cwV 0 hts (lw_V hl q2090 qs119 q172 q2091) rfl rfl rfl (by decide +kernel) hR
set_option maxHeartbeats 4000000 in
theorem M_X3_tellLeast {l : Launch} {G : GE} (hG : GC G) {N : Nat} {h0 : Nat} {ad : Nat → Nat} {c_code : Int32} {c_read : (Nat → Int32)} {c_status : (Nat → Int32)} {c_tape : (Nat → Int32)} {c_taped : Int32} {c_at : Int32} {c_textSize : Int32} {c_token : Int32} {c_number : Int32} {c_begins : Int32} {c_stops : Int32} {c_bad : Int32} {c_badPlace : Int32} {c_faultPlace : Int32} {c_clauses : Int32} {c_lineBy : (Nat → Int32)} {c_becomes : (Nat → Int32)} {c_dualLines : (Nat → Int32)} {c_on : (Nat → Int32)} {c_wayFirst : (Nat → Int32)} {c_ways : Int32} {c_acts : Int32} {c_past : (Nat → Int32)} {c_listPoints : Int32} {c_listLines : Int32} {c_listed : Int32} {c_list : (Nat → Int32)} {c_path : (Nat → Int32)} {c_places : (Nat → Int32)} {c_firstPlaces : (Nat → Int32)} {c_px : (Nat → Int32)} {c_py : (Nat → Int32)} {c_pz : (Nat → Int32)} {c_placeMany : Int32} {c_modulus : Int32} {c_drawn : Int32} {c_halvesMany : Int32} {c_halvesFirst : Int32} {c_spreadsMany : Int32} {c_spreadsFirst : Int32} {c_comesTo : (Nat → Int32)} {c_seedNow : Int32} {c_rowThen : (Nat → Int32)} {c_hasImage : Int32} {c_actsThen : Int32} {c_imageRow : (Nat → Int32)} {c_pastThen : (Nat → Int32)} {c_statusThen : (Nat → Int32)} {c_now : (Nat → Int32)} {c_naming : (Nat → Int32)} {c_rowNow : (Nat → Int32)} {c_least : (Nat → Int32)} {ρ : ((Nat → Int32) × (Nat → Int32) × (Nat → Int32))} (h : F_X3_tellLeast N c_now c_naming c_rowNow c_least = some ρ) : MW l G yX3_tellLeast cX3_tellLeast 6 none 3 (mW h0 ad G.2.2 c_code c_now c_read c_status c_tape c_taped c_at c_textSize c_token c_number c_begins c_stops c_bad c_badPlace c_faultPlace c_clauses c_naming c_lineBy c_becomes c_dualLines c_on c_rowNow c_least c_wayFirst c_ways c_acts c_past c_listPoints c_listLines c_listed c_list c_path c_places c_firstPlaces c_px c_py c_pz c_placeMany c_modulus c_drawn c_halvesMany c_halvesFirst c_spreadsMany c_spreadsFirst c_comesTo c_seedNow c_rowThen c_hasImage c_actsThen c_imageRow c_pastThen c_statusThen) [.ref h0] none (mW h0 ad G.2.2 c_code c_now c_read c_status c_tape c_taped c_at c_textSize c_token c_number c_begins c_stops c_bad c_badPlace c_faultPlace c_clauses ρ.1 c_lineBy c_becomes c_dualLines c_on ρ.2.1 ρ.2.2 c_wayFirst c_ways c_acts c_past c_listPoints c_listLines c_listed c_list c_path c_places c_firstPlaces c_px c_py c_pz c_placeMany c_modulus c_drawn c_halvesMany c_halvesFirst c_spreadsMany c_spreadsFirst c_comesTo c_seedNow c_rowThen c_hasImage c_actsThen c_imageRow c_pastThen c_statusThen) := by
  rw [F_X3_tellLeast] at h
  refine MW.start hG (by decide) (Nat.le_of_ble_eq_true rfl) ?_
  intro p e s m args below meth c Q A S hW0 hK hP hD hA hreti hretv ls hl
  have hS : va_S A s.heap s.heap [] := va_S.rf
  obtain ⟨hx, hb, hml, hown, hts⟩ := id S
  have hl : lv_has ls 6 [(0, .ref h0)] := hl
  have S_X3_tellLeast_24 : ∀ (n : Nat) (v1 : Int32) (v2 : Int32) (v4 : Int32) (c_naming : (Nat → Int32)) (c_rowNow : (Nat → Int32)) (c_least : (Nat → Int32)) (k52 : (Nat → Int32) → Option ((Nat → Int32) × (Nat → Int32) × (Nat → Int32))), F_X3_tellLeast_24 N v1 c_now c_naming n v4 c_rowNow k52 = some ρ → (∀ (z_c_rowNow : (Nat → Int32)) (H : Heap) (locs : List Loc) (ls : Array Slot), k52 z_c_rowNow = some ρ → va_P G.2.1 vwCl (mW h0 ad G.2.2 c_code c_now c_read c_status c_tape c_taped c_at c_textSize c_token c_number c_begins c_stops c_bad c_badPlace c_faultPlace c_clauses c_naming c_lineBy c_becomes c_dualLines c_on z_c_rowNow c_least c_wayFirst c_ways c_acts c_past c_listPoints c_listLines c_listed c_list c_path c_places c_firstPlaces c_px c_py c_pz c_placeMany c_modulus c_drawn c_halvesMany c_halvesFirst c_spreadsMany c_spreadsFirst c_comesTo c_seedNow c_rowThen c_hasImage c_actsThen c_imageRow c_pastThen c_statusThen) H → va_D A (mW h0 ad G.2.2 c_code c_now c_read c_status c_tape c_taped c_at c_textSize c_token c_number c_begins c_stops c_bad c_badPlace c_faultPlace c_clauses c_naming c_lineBy c_becomes c_dualLines c_on z_c_rowNow c_least c_wayFirst c_ways c_acts c_past c_listPoints c_listLines c_listed c_list c_path c_places c_firstPlaces c_px c_py c_pz c_placeMany c_modulus c_drawn c_halvesMany c_halvesFirst c_spreadsMany c_spreadsFirst c_comesTo c_seedNow c_rowThen c_hasImage c_actsThen c_imageRow c_pastThen c_statusThen) → va_S A s.heap H locs → lv_has ls 6 [(0, .ref h0), (1, .int v1), (2, .int v2)] → W p l e (rmL 3 0 0) s m args below meth c H locs 0 0 Q (F0 m 52 ls [])) → ∀ (H : Heap) (locs : List Loc), va_P G.2.1 vwCl (mW h0 ad G.2.2 c_code c_now c_read c_status c_tape c_taped c_at c_textSize c_token c_number c_begins c_stops c_bad c_badPlace c_faultPlace c_clauses c_naming c_lineBy c_becomes c_dualLines c_on c_rowNow c_least c_wayFirst c_ways c_acts c_past c_listPoints c_listLines c_listed c_list c_path c_places c_firstPlaces c_px c_py c_pz c_placeMany c_modulus c_drawn c_halvesMany c_halvesFirst c_spreadsMany c_spreadsFirst c_comesTo c_seedNow c_rowThen c_hasImage c_actsThen c_imageRow c_pastThen c_statusThen) H → va_D A (mW h0 ad G.2.2 c_code c_now c_read c_status c_tape c_taped c_at c_textSize c_token c_number c_begins c_stops c_bad c_badPlace c_faultPlace c_clauses c_naming c_lineBy c_becomes c_dualLines c_on c_rowNow c_least c_wayFirst c_ways c_acts c_past c_listPoints c_listLines c_listed c_list c_path c_places c_firstPlaces c_px c_py c_pz c_placeMany c_modulus c_drawn c_halvesMany c_halvesFirst c_spreadsMany c_spreadsFirst c_comesTo c_seedNow c_rowThen c_hasImage c_actsThen c_imageRow c_pastThen c_statusThen) → va_S A s.heap H locs → ∀ (ls : Array Slot), lv_has ls 6 [(0, .ref h0), (1, .int v1), (2, .int v2), (4, .int v4)] → W p l e (rmL 3 0 0) s m args below meth c H locs 0 0 Q (F0 m 24 ls []) := by
    intro n
    induction n with
    | zero =>
      intro v1 v2 v4 c_naming c_rowNow c_least k52 h
      exact absurd h (by simp [F_X3_tellLeast_24])
    | succ n ih =>
      intro v1 v2 v4 c_naming c_rowNow c_least k52 h hk52 H locs hP hD hS ls hl
      rw [F_X3_tellLeast_24] at h
      refine lv_iload hx hb dX3_tellLeast_24 (lv_at hl 3 rfl) ?_
      refine lv_iload_n hx hb dX3_tellLeast_26 rfl (lv_at hl 1 rfl) ?_
      refine lv_icmp_ge (tgt := 52) hx hb dX3_tellLeast_27 (by decide) (fun c6 => ?_) (fun c6 => ?_)
      · rw [if_pos c6] at h
        exact hk52 c_rowNow _ _ _ h hP hD hS (lv_sub hl [0, 1, 2] rfl)
      · rw [if_neg c6] at h
        refine lv_aload_n hx hb dX3_tellLeast_30 rfl (lv_at hl 0 rfl) ?_
        refine lv_iload hx hb dX3_tellLeast_31 (lv_at hl 3 rfl) ?_
        refine lv_aload_n hx hb dX3_tellLeast_33 rfl (lv_at hl 0 rfl) ?_
        refine lv_aload_n hx hb dX3_tellLeast_34 rfl (lv_at hl 0 rfl) ?_
        refine lv_iload hx hb dX3_tellLeast_35 (lv_at hl 3 rfl) ?_
        obtain ⟨y7, e7, h⟩ := ob_s h
        refine MR.callV (q0 := 0) (M_X3_lineAt hG e7) S (cw_X3_lineAt hts q1925 ⟨Nat.le_of_ble_eq_true rfl, Nat.le_of_ble_eq_true rfl⟩) hW0 hK hP rfl rfl rfl hl.1 rfl (Nat.le_of_ble_eq_true rfl) dX3_tellLeast_37 ⟨Nat.zero_le _, Nat.zero_le _⟩ ?_
        obtain ⟨y8, e8, h⟩ := ob_s h
        refine MR.callV (q0 := 0) (M_X3_named hG e8) S (cw_X3_named hts q1986 ⟨Nat.le_of_ble_eq_true rfl, Nat.le_of_ble_eq_true rfl⟩) hW0 hK hP rfl rfl rfl hl.1 rfl (Nat.le_of_ble_eq_true rfl) dX3_tellLeast_40 ⟨Nat.zero_le _, Nat.zero_le _⟩ ?_
        obtain ⟨y9, e9, h⟩ := ob_s h
        refine MW.callV (q0 := 0) (M_X3_putSorted hG e9) S (cw_X3_putSorted hts q2092 ⟨Nat.le_of_ble_eq_true rfl, Nat.le_of_ble_eq_true rfl⟩) hW0 hK hP hD hS hA rfl rfl rfl hl.1 rfl (Nat.le_of_ble_eq_true rfl) dX3_tellLeast_43 ⟨Nat.zero_le _, Nat.zero_le _⟩ (fun H locs hP hD hS => ?_)
        have hP : va_P G.2.1 vwCl (mW h0 ad G.2.2 c_code c_now c_read c_status c_tape c_taped c_at c_textSize c_token c_number c_begins c_stops c_bad c_badPlace c_faultPlace c_clauses c_naming c_lineBy c_becomes c_dualLines c_on y9 c_least c_wayFirst c_ways c_acts c_past c_listPoints c_listLines c_listed c_list c_path c_places c_firstPlaces c_px c_py c_pz c_placeMany c_modulus c_drawn c_halvesMany c_halvesFirst c_spreadsMany c_spreadsFirst c_comesTo c_seedNow c_rowThen c_hasImage c_actsThen c_imageRow c_pastThen c_statusThen) H := hP
        have hD : va_D A (mW h0 ad G.2.2 c_code c_now c_read c_status c_tape c_taped c_at c_textSize c_token c_number c_begins c_stops c_bad c_badPlace c_faultPlace c_clauses c_naming c_lineBy c_becomes c_dualLines c_on y9 c_least c_wayFirst c_ways c_acts c_past c_listPoints c_listLines c_listed c_list c_path c_places c_firstPlaces c_px c_py c_pz c_placeMany c_modulus c_drawn c_halvesMany c_halvesFirst c_spreadsMany c_spreadsFirst c_comesTo c_seedNow c_rowThen c_hasImage c_actsThen c_imageRow c_pastThen c_statusThen) := hD
        refine W.eq (g2 := F0 m 46 ls []) rfl ?_
        refine lv_iinc (v := (v4 + 1)) (lv' := [(4, .int (v4 + 1)), (0, .ref h0), (1, .int v1), (2, .int v2)]) hx hb dX3_tellLeast_46 hl (k := 3) rfl rfl (by decide) rfl (fun ls hl => ?_)
        refine lv_goto (tgt := 24) hx hb dX3_tellLeast_49 (by decide) ?_
        exact ih v1 v2 (v4 + 1) c_naming y9 c_least _ h hk52 _ _ hP hD hS _ (lv_sub hl [1, 2, 3, 0] rfl)
  have S_X3_tellLeast_81 : ∀ (n : Nat) (v1 : Int32) (v4 : Int32) (v5 : Int32) (c_naming : (Nat → Int32)) (c_rowNow : (Nat → Int32)) (c_least : (Nat → Int32)) (k112 : (Nat → Int32) → Option ((Nat → Int32) × (Nat → Int32) × (Nat → Int32))), F_X3_tellLeast_81 N v1 v4 c_rowNow n v5 c_least k112 = some ρ → (∀ (z_c_least : (Nat → Int32)) (H : Heap) (locs : List Loc) (ls : Array Slot), k112 z_c_least = some ρ → va_P G.2.1 vwCl (mW h0 ad G.2.2 c_code c_now c_read c_status c_tape c_taped c_at c_textSize c_token c_number c_begins c_stops c_bad c_badPlace c_faultPlace c_clauses c_naming c_lineBy c_becomes c_dualLines c_on c_rowNow z_c_least c_wayFirst c_ways c_acts c_past c_listPoints c_listLines c_listed c_list c_path c_places c_firstPlaces c_px c_py c_pz c_placeMany c_modulus c_drawn c_halvesMany c_halvesFirst c_spreadsMany c_spreadsFirst c_comesTo c_seedNow c_rowThen c_hasImage c_actsThen c_imageRow c_pastThen c_statusThen) H → va_D A (mW h0 ad G.2.2 c_code c_now c_read c_status c_tape c_taped c_at c_textSize c_token c_number c_begins c_stops c_bad c_badPlace c_faultPlace c_clauses c_naming c_lineBy c_becomes c_dualLines c_on c_rowNow z_c_least c_wayFirst c_ways c_acts c_past c_listPoints c_listLines c_listed c_list c_path c_places c_firstPlaces c_px c_py c_pz c_placeMany c_modulus c_drawn c_halvesMany c_halvesFirst c_spreadsMany c_spreadsFirst c_comesTo c_seedNow c_rowThen c_hasImage c_actsThen c_imageRow c_pastThen c_statusThen) → va_S A s.heap H locs → lv_has ls 6 [(0, .ref h0), (1, .int v1)] → W p l e (rmL 3 0 0) s m args below meth c H locs 0 0 Q (F0 m 112 ls [])) → ∀ (H : Heap) (locs : List Loc), va_P G.2.1 vwCl (mW h0 ad G.2.2 c_code c_now c_read c_status c_tape c_taped c_at c_textSize c_token c_number c_begins c_stops c_bad c_badPlace c_faultPlace c_clauses c_naming c_lineBy c_becomes c_dualLines c_on c_rowNow c_least c_wayFirst c_ways c_acts c_past c_listPoints c_listLines c_listed c_list c_path c_places c_firstPlaces c_px c_py c_pz c_placeMany c_modulus c_drawn c_halvesMany c_halvesFirst c_spreadsMany c_spreadsFirst c_comesTo c_seedNow c_rowThen c_hasImage c_actsThen c_imageRow c_pastThen c_statusThen) H → va_D A (mW h0 ad G.2.2 c_code c_now c_read c_status c_tape c_taped c_at c_textSize c_token c_number c_begins c_stops c_bad c_badPlace c_faultPlace c_clauses c_naming c_lineBy c_becomes c_dualLines c_on c_rowNow c_least c_wayFirst c_ways c_acts c_past c_listPoints c_listLines c_listed c_list c_path c_places c_firstPlaces c_px c_py c_pz c_placeMany c_modulus c_drawn c_halvesMany c_halvesFirst c_spreadsMany c_spreadsFirst c_comesTo c_seedNow c_rowThen c_hasImage c_actsThen c_imageRow c_pastThen c_statusThen) → va_S A s.heap H locs → ∀ (ls : Array Slot), lv_has ls 6 [(0, .ref h0), (1, .int v1), (4, .int v4), (5, .int v5)] → W p l e (rmL 3 0 0) s m args below meth c H locs 0 0 Q (F0 m 81 ls []) := by
    intro n
    induction n with
    | zero =>
      intro v1 v4 v5 c_naming c_rowNow c_least k112 h
      exact absurd h (by simp [F_X3_tellLeast_81])
    | succ n ih =>
      intro v1 v4 v5 c_naming c_rowNow c_least k112 h hk112 H locs hP hD hS ls hl
      rw [F_X3_tellLeast_81] at h
      refine lv_iload hx hb dX3_tellLeast_81 (lv_at hl 3 rfl) ?_
      refine lv_iload_n hx hb dX3_tellLeast_83 rfl (lv_at hl 1 rfl) ?_
      refine lv_icmp_ge (tgt := 112) hx hb dX3_tellLeast_84 (by decide) (fun c12 => ?_) (fun c12 => ?_)
      · rw [if_pos c12] at h
        exact hk112 c_least _ _ _ h hP hD hS (lv_sub hl [0, 1] rfl)
      · rw [if_neg c12] at h
        refine lv_iload hx hb dX3_tellLeast_87 (lv_at hl 2 rfl) ?_
        refine lv_if_eq (tgt := 112) hx hb dX3_tellLeast_89 (by decide) (fun c13 => ?_) (fun c13 => ?_)
        · rw [if_pos c13] at h
          exact hk112 c_least _ _ _ h hP hD hS (lv_sub hl [0, 1] rfl)
        · rw [if_neg c13] at h
          refine lv_aload_n hx hb dX3_tellLeast_92 rfl (lv_at hl 0 rfl) ?_
          refine va_get (ci := 2) (v := .ref (ad 22)) (C := RX3) (T := TX3) (N := 52) hx hb hts in_X3 hown hK hP 0 rfl rfl 22 (by decide) (hts _ q1680) (fun _ h9 => h9) rfl dX3_tellLeast_93 ?_
          refine lv_iload hx hb dX3_tellLeast_96 (lv_at hl 3 rfl) ?_
          refine lv_aload_n hx hb dX3_tellLeast_98 rfl (lv_at hl 0 rfl) ?_
          refine va_get (ci := 2) (v := .ref (ad 21)) (C := RX3) (T := TX3) (N := 52) hx hb hts in_X3 hown hK hP 0 rfl rfl 21 (by decide) (hts _ q1679) (fun _ h9 => h9) rfl dX3_tellLeast_99 ?_
          refine lv_iload hx hb dX3_tellLeast_102 (lv_at hl 3 rfl) ?_
          obtain ⟨i14, h⟩ := ckI_s h
          refine va_iald (f := c_rowNow) hx hb hK hP 10 0 rfl rfl i14 dX3_tellLeast_104 ?_
          obtain ⟨i15, h⟩ := ckI_s h
          refine va_iast (f := c_least) hx hb hK hP hD hS 11 0 rfl rfl i15 dX3_tellLeast_105 (fun H locs hP hD hS => ?_)
          have hP : va_P G.2.1 vwCl (mW h0 ad G.2.2 c_code c_now c_read c_status c_tape c_taped c_at c_textSize c_token c_number c_begins c_stops c_bad c_badPlace c_faultPlace c_clauses c_naming c_lineBy c_becomes c_dualLines c_on c_rowNow (upd c_least (Int32.toNatClampNeg v5) (c_rowNow (Int32.toNatClampNeg v5))) c_wayFirst c_ways c_acts c_past c_listPoints c_listLines c_listed c_list c_path c_places c_firstPlaces c_px c_py c_pz c_placeMany c_modulus c_drawn c_halvesMany c_halvesFirst c_spreadsMany c_spreadsFirst c_comesTo c_seedNow c_rowThen c_hasImage c_actsThen c_imageRow c_pastThen c_statusThen) H := hP
          have hD : va_D A (mW h0 ad G.2.2 c_code c_now c_read c_status c_tape c_taped c_at c_textSize c_token c_number c_begins c_stops c_bad c_badPlace c_faultPlace c_clauses c_naming c_lineBy c_becomes c_dualLines c_on c_rowNow (upd c_least (Int32.toNatClampNeg v5) (c_rowNow (Int32.toNatClampNeg v5))) c_wayFirst c_ways c_acts c_past c_listPoints c_listLines c_listed c_list c_path c_places c_firstPlaces c_px c_py c_pz c_placeMany c_modulus c_drawn c_halvesMany c_halvesFirst c_spreadsMany c_spreadsFirst c_comesTo c_seedNow c_rowThen c_hasImage c_actsThen c_imageRow c_pastThen c_statusThen) := hD
          refine lv_iinc (v := (v5 + 1)) (lv' := [(5, .int (v5 + 1)), (0, .ref h0), (1, .int v1), (4, .int v4)]) hx hb dX3_tellLeast_106 hl (k := 3) rfl rfl (by decide) rfl (fun ls hl => ?_)
          refine lv_goto (tgt := 81) hx hb dX3_tellLeast_109 (by decide) ?_
          exact ih v1 v4 (v5 + 1) c_naming c_rowNow (upd c_least (Int32.toNatClampNeg v5) (c_rowNow (Int32.toNatClampNeg v5))) _ h hk112 _ _ hP hD hS _ (lv_sub hl [1, 2, 3, 0] rfl)
  have S_X3_tellLeast_76 : ∀ (s0 : Int32) (v1 : Int32) (c_naming : (Nat → Int32)) (c_rowNow : (Nat → Int32)) (c_least : (Nat → Int32)) (k17 : Int32 → Int32 → (Nat → Int32) → (Nat → Int32) → (Nat → Int32) → Option ((Nat → Int32) × (Nat → Int32) × (Nat → Int32))), F_X3_tellLeast_76 N c_now s0 v1 c_naming c_rowNow c_least k17 = some ρ → (∀ (u2 : Int32) (u3 : Int32) (z_c_naming : (Nat → Int32)) (z_c_rowNow : (Nat → Int32)) (z_c_least : (Nat → Int32)) (H : Heap) (locs : List Loc) (ls : Array Slot), k17 u2 u3 z_c_naming z_c_rowNow z_c_least = some ρ → va_P G.2.1 vwCl (mW h0 ad G.2.2 c_code c_now c_read c_status c_tape c_taped c_at c_textSize c_token c_number c_begins c_stops c_bad c_badPlace c_faultPlace c_clauses z_c_naming c_lineBy c_becomes c_dualLines c_on z_c_rowNow z_c_least c_wayFirst c_ways c_acts c_past c_listPoints c_listLines c_listed c_list c_path c_places c_firstPlaces c_px c_py c_pz c_placeMany c_modulus c_drawn c_halvesMany c_halvesFirst c_spreadsMany c_spreadsFirst c_comesTo c_seedNow c_rowThen c_hasImage c_actsThen c_imageRow c_pastThen c_statusThen) H → va_D A (mW h0 ad G.2.2 c_code c_now c_read c_status c_tape c_taped c_at c_textSize c_token c_number c_begins c_stops c_bad c_badPlace c_faultPlace c_clauses z_c_naming c_lineBy c_becomes c_dualLines c_on z_c_rowNow z_c_least c_wayFirst c_ways c_acts c_past c_listPoints c_listLines c_listed c_list c_path c_places c_firstPlaces c_px c_py c_pz c_placeMany c_modulus c_drawn c_halvesMany c_halvesFirst c_spreadsMany c_spreadsFirst c_comesTo c_seedNow c_rowThen c_hasImage c_actsThen c_imageRow c_pastThen c_statusThen) → va_S A s.heap H locs → lv_has ls 6 [(0, .ref h0), (1, .int v1), (2, .int u2), (3, .int u3)] → W p l e (rmL 3 0 0) s m args below meth c H locs 0 0 Q (F0 m 17 ls [])) → ∀ (H : Heap) (locs : List Loc), va_P G.2.1 vwCl (mW h0 ad G.2.2 c_code c_now c_read c_status c_tape c_taped c_at c_textSize c_token c_number c_begins c_stops c_bad c_badPlace c_faultPlace c_clauses c_naming c_lineBy c_becomes c_dualLines c_on c_rowNow c_least c_wayFirst c_ways c_acts c_past c_listPoints c_listLines c_listed c_list c_path c_places c_firstPlaces c_px c_py c_pz c_placeMany c_modulus c_drawn c_halvesMany c_halvesFirst c_spreadsMany c_spreadsFirst c_comesTo c_seedNow c_rowThen c_hasImage c_actsThen c_imageRow c_pastThen c_statusThen) H → va_D A (mW h0 ad G.2.2 c_code c_now c_read c_status c_tape c_taped c_at c_textSize c_token c_number c_begins c_stops c_bad c_badPlace c_faultPlace c_clauses c_naming c_lineBy c_becomes c_dualLines c_on c_rowNow c_least c_wayFirst c_ways c_acts c_past c_listPoints c_listLines c_listed c_list c_path c_places c_firstPlaces c_px c_py c_pz c_placeMany c_modulus c_drawn c_halvesMany c_halvesFirst c_spreadsMany c_spreadsFirst c_comesTo c_seedNow c_rowThen c_hasImage c_actsThen c_imageRow c_pastThen c_statusThen) → va_S A s.heap H locs → ∀ (ls : Array Slot), lv_has ls 6 [(0, .ref h0), (1, .int v1)] → W p l e (rmL 3 0 0) s m args below meth c H locs 0 0 Q (F0 m 76 ls [.int s0]) := by
    intro s0 v1 c_naming c_rowNow c_least k17 h hk17 H locs hP hD hS ls hl
    rw [F_X3_tellLeast_76] at h
    refine lv_istore (lv' := [(4, .int s0), (0, .ref h0), (1, .int v1)]) hx hb dX3_tellLeast_76 hl (by decide) rfl (fun ls hl => ?_)
    refine lv_iconst (v := 0) hx hb dX3_tellLeast_78 (by decide) ?_
    refine lv_istore (lv' := [(5, .int 0), (4, .int s0), (0, .ref h0), (1, .int v1)]) hx hb dX3_tellLeast_79 hl (by decide) rfl (fun ls hl => ?_)
    refine S_X3_tellLeast_81 N v1 s0 0 c_naming c_rowNow c_least _ h ?_ _ _ hP hD hS _ (lv_sub hl [2, 3, 1, 0] rfl)
    · intro c_least_16 H locs ls h hP hD hS hl
      refine lv_iconst (v := 0) hx hb dX3_tellLeast_112 (by decide) ?_
      refine lv_istore_n (lv' := [(2, .int 0), (0, .ref h0), (1, .int v1)]) hx hb dX3_tellLeast_113 rfl hl (by decide) rfl (fun ls hl => ?_)
      refine lv_aload_n hx hb dX3_tellLeast_114 rfl (lv_at hl 1 rfl) ?_
      refine lv_aload_n hx hb dX3_tellLeast_115 rfl (lv_at hl 1 rfl) ?_
      obtain ⟨y17, e17, h⟩ := ob_s h
      refine MR.callV (q0 := 0) (M_X3_points hG e17) S (cw_X3_points hts q1913 ⟨Nat.le_of_ble_eq_true rfl, Nat.le_of_ble_eq_true rfl⟩) hW0 hK hP rfl rfl rfl hl.1 rfl (Nat.le_of_ble_eq_true rfl) dX3_tellLeast_116 ⟨Nat.zero_le _, Nat.zero_le _⟩ ?_
      obtain ⟨y18, e18, h⟩ := ob_s h
      refine MW.callV (q0 := 0) (M_X3_nextNaming hG e18) S (cw_X3_nextNaming hts q1990 ⟨Nat.le_of_ble_eq_true rfl, Nat.le_of_ble_eq_true rfl⟩) hW0 hK hP hD hS hA rfl rfl rfl hl.1 rfl (Nat.le_of_ble_eq_true rfl) dX3_tellLeast_119 ⟨Nat.zero_le _, Nat.zero_le _⟩ (fun H locs hP hD hS => ?_)
      have hP : va_P G.2.1 vwCl (mW h0 ad G.2.2 c_code c_now c_read c_status c_tape c_taped c_at c_textSize c_token c_number c_begins c_stops c_bad c_badPlace c_faultPlace c_clauses y18.2 c_lineBy c_becomes c_dualLines c_on c_rowNow c_least_16 c_wayFirst c_ways c_acts c_past c_listPoints c_listLines c_listed c_list c_path c_places c_firstPlaces c_px c_py c_pz c_placeMany c_modulus c_drawn c_halvesMany c_halvesFirst c_spreadsMany c_spreadsFirst c_comesTo c_seedNow c_rowThen c_hasImage c_actsThen c_imageRow c_pastThen c_statusThen) H := hP
      have hD : va_D A (mW h0 ad G.2.2 c_code c_now c_read c_status c_tape c_taped c_at c_textSize c_token c_number c_begins c_stops c_bad c_badPlace c_faultPlace c_clauses y18.2 c_lineBy c_becomes c_dualLines c_on c_rowNow c_least_16 c_wayFirst c_ways c_acts c_past c_listPoints c_listLines c_listed c_list c_path c_places c_firstPlaces c_px c_py c_pz c_placeMany c_modulus c_drawn c_halvesMany c_halvesFirst c_spreadsMany c_spreadsFirst c_comesTo c_seedNow c_rowThen c_hasImage c_actsThen c_imageRow c_pastThen c_statusThen) := hD
      refine W.eq (g2 := F0 m 122 ls [.int y18.1]) rfl ?_
      refine lv_istore_n (lv' := [(3, .int y18.1), (2, .int 0), (0, .ref h0), (1, .int v1)]) hx hb dX3_tellLeast_122 rfl hl (by decide) rfl (fun ls hl => ?_)
      refine lv_goto (tgt := 17) hx hb dX3_tellLeast_123 (by decide) ?_
      exact hk17 0 y18.1 y18.2 c_rowNow c_least_16 _ _ _ h hP hD hS (lv_sub hl [2, 3, 1, 0] rfl)
  have S_X3_tellLeast_71 : ∀ (v1 : Int32) (c_naming : (Nat → Int32)) (c_rowNow : (Nat → Int32)) (c_least : (Nat → Int32)) (k17 : Int32 → Int32 → (Nat → Int32) → (Nat → Int32) → (Nat → Int32) → Option ((Nat → Int32) × (Nat → Int32) × (Nat → Int32))), F_X3_tellLeast_71 N c_now v1 c_naming c_rowNow c_least k17 = some ρ → (∀ (u2 : Int32) (u3 : Int32) (z_c_naming : (Nat → Int32)) (z_c_rowNow : (Nat → Int32)) (z_c_least : (Nat → Int32)) (H : Heap) (locs : List Loc) (ls : Array Slot), k17 u2 u3 z_c_naming z_c_rowNow z_c_least = some ρ → va_P G.2.1 vwCl (mW h0 ad G.2.2 c_code c_now c_read c_status c_tape c_taped c_at c_textSize c_token c_number c_begins c_stops c_bad c_badPlace c_faultPlace c_clauses z_c_naming c_lineBy c_becomes c_dualLines c_on z_c_rowNow z_c_least c_wayFirst c_ways c_acts c_past c_listPoints c_listLines c_listed c_list c_path c_places c_firstPlaces c_px c_py c_pz c_placeMany c_modulus c_drawn c_halvesMany c_halvesFirst c_spreadsMany c_spreadsFirst c_comesTo c_seedNow c_rowThen c_hasImage c_actsThen c_imageRow c_pastThen c_statusThen) H → va_D A (mW h0 ad G.2.2 c_code c_now c_read c_status c_tape c_taped c_at c_textSize c_token c_number c_begins c_stops c_bad c_badPlace c_faultPlace c_clauses z_c_naming c_lineBy c_becomes c_dualLines c_on z_c_rowNow z_c_least c_wayFirst c_ways c_acts c_past c_listPoints c_listLines c_listed c_list c_path c_places c_firstPlaces c_px c_py c_pz c_placeMany c_modulus c_drawn c_halvesMany c_halvesFirst c_spreadsMany c_spreadsFirst c_comesTo c_seedNow c_rowThen c_hasImage c_actsThen c_imageRow c_pastThen c_statusThen) → va_S A s.heap H locs → lv_has ls 6 [(0, .ref h0), (1, .int v1), (2, .int u2), (3, .int u3)] → W p l e (rmL 3 0 0) s m args below meth c H locs 0 0 Q (F0 m 17 ls [])) → ∀ (H : Heap) (locs : List Loc), va_P G.2.1 vwCl (mW h0 ad G.2.2 c_code c_now c_read c_status c_tape c_taped c_at c_textSize c_token c_number c_begins c_stops c_bad c_badPlace c_faultPlace c_clauses c_naming c_lineBy c_becomes c_dualLines c_on c_rowNow c_least c_wayFirst c_ways c_acts c_past c_listPoints c_listLines c_listed c_list c_path c_places c_firstPlaces c_px c_py c_pz c_placeMany c_modulus c_drawn c_halvesMany c_halvesFirst c_spreadsMany c_spreadsFirst c_comesTo c_seedNow c_rowThen c_hasImage c_actsThen c_imageRow c_pastThen c_statusThen) H → va_D A (mW h0 ad G.2.2 c_code c_now c_read c_status c_tape c_taped c_at c_textSize c_token c_number c_begins c_stops c_bad c_badPlace c_faultPlace c_clauses c_naming c_lineBy c_becomes c_dualLines c_on c_rowNow c_least c_wayFirst c_ways c_acts c_past c_listPoints c_listLines c_listed c_list c_path c_places c_firstPlaces c_px c_py c_pz c_placeMany c_modulus c_drawn c_halvesMany c_halvesFirst c_spreadsMany c_spreadsFirst c_comesTo c_seedNow c_rowThen c_hasImage c_actsThen c_imageRow c_pastThen c_statusThen) → va_S A s.heap H locs → ∀ (ls : Array Slot), lv_has ls 6 [(0, .ref h0), (1, .int v1)] → W p l e (rmL 3 0 0) s m args below meth c H locs 0 0 Q (F0 m 71 ls []) := by
    intro v1 c_naming c_rowNow c_least k17 h hk17 H locs hP hD hS ls hl
    rw [F_X3_tellLeast_71] at h
    refine lv_iconst (v := 1) hx hb dX3_tellLeast_71 (by decide) ?_
    refine lv_goto (tgt := 76) hx hb dX3_tellLeast_72 (by decide) ?_
    refine S_X3_tellLeast_76 1 v1 c_naming c_rowNow c_least _ h hk17 _ _ hP hD hS _ (lv_sub hl [0, 1] rfl)
  have S_X3_tellLeast_17 : ∀ (n : Nat) (v1 : Int32) (v2 : Int32) (v3 : Int32) (c_naming : (Nat → Int32)) (c_rowNow : (Nat → Int32)) (c_least : (Nat → Int32)), F_X3_tellLeast_17 N v1 c_now n v2 v3 c_naming c_rowNow c_least = some ρ → ∀ (H : Heap) (locs : List Loc), va_P G.2.1 vwCl (mW h0 ad G.2.2 c_code c_now c_read c_status c_tape c_taped c_at c_textSize c_token c_number c_begins c_stops c_bad c_badPlace c_faultPlace c_clauses c_naming c_lineBy c_becomes c_dualLines c_on c_rowNow c_least c_wayFirst c_ways c_acts c_past c_listPoints c_listLines c_listed c_list c_path c_places c_firstPlaces c_px c_py c_pz c_placeMany c_modulus c_drawn c_halvesMany c_halvesFirst c_spreadsMany c_spreadsFirst c_comesTo c_seedNow c_rowThen c_hasImage c_actsThen c_imageRow c_pastThen c_statusThen) H → va_D A (mW h0 ad G.2.2 c_code c_now c_read c_status c_tape c_taped c_at c_textSize c_token c_number c_begins c_stops c_bad c_badPlace c_faultPlace c_clauses c_naming c_lineBy c_becomes c_dualLines c_on c_rowNow c_least c_wayFirst c_ways c_acts c_past c_listPoints c_listLines c_listed c_list c_path c_places c_firstPlaces c_px c_py c_pz c_placeMany c_modulus c_drawn c_halvesMany c_halvesFirst c_spreadsMany c_spreadsFirst c_comesTo c_seedNow c_rowThen c_hasImage c_actsThen c_imageRow c_pastThen c_statusThen) → va_S A s.heap H locs → ∀ (ls : Array Slot), lv_has ls 6 [(0, .ref h0), (1, .int v1), (2, .int v2), (3, .int v3)] → W p l e (rmL 3 0 0) s m args below meth c H locs 0 0 Q (F0 m 17 ls []) := by
    intro n
    induction n with
    | zero =>
      intro v1 v2 v3 c_naming c_rowNow c_least h
      exact absurd h (by simp [F_X3_tellLeast_17])
    | succ n ih =>
      intro v1 v2 v3 c_naming c_rowNow c_least h H locs hP hD hS ls hl
      rw [F_X3_tellLeast_17] at h
      refine lv_iload_n hx hb dX3_tellLeast_17 rfl (lv_at hl 3 rfl) ?_
      refine lv_if_eq (tgt := 126) hx hb dX3_tellLeast_18 (by decide) (fun c4 => ?_) (fun c4 => ?_)
      · rw [if_pos c4] at h
        obtain rfl := Option.some.inj h
        exact hretv rfl dX3_tellLeast_126 rfl hP hD hS
      · rw [if_neg c4] at h
        refine lv_iconst (v := 0) hx hb dX3_tellLeast_21 (by decide) ?_
        refine lv_istore (lv' := [(4, .int 0), (0, .ref h0), (1, .int v1), (2, .int v2), (3, .int v3)]) hx hb dX3_tellLeast_22 hl (by decide) rfl (fun ls hl => ?_)
        refine S_X3_tellLeast_24 N v1 v2 0 c_naming c_rowNow c_least _ h ?_ _ _ hP hD hS _ (lv_sub hl [1, 2, 3, 0] rfl)
        · intro c_rowNow_10 H locs ls h hP hD hS hl
          refine lv_iload_n hx hb dX3_tellLeast_52 rfl (lv_at hl 2 rfl) ?_
          refine lv_if_ne (tgt := 71) hx hb dX3_tellLeast_53 (by decide) (fun c11 => ?_) (fun c11 => ?_)
          · rw [if_neg c11] at h
            refine S_X3_tellLeast_71 v1 c_naming c_rowNow_10 c_least _ h (fun u2 u3 z_c_naming z_c_rowNow z_c_least H locs ls h hP hD hS hl => ih v1 u2 u3 z_c_naming z_c_rowNow z_c_least h H locs hP hD hS ls hl) _ _ hP hD hS _ (lv_sub hl [0, 1] rfl)
          · rw [if_pos c11] at h
            refine lv_aload_n hx hb dX3_tellLeast_56 rfl (lv_at hl 0 rfl) ?_
            refine va_get (ci := 2) (v := .ref (ad 21)) (C := RX3) (T := TX3) (N := 52) hx hb hts in_X3 hown hK hP 0 rfl rfl 21 (by decide) (hts _ q1679) (fun _ h9 => h9) rfl dX3_tellLeast_57 ?_
            refine lv_aload_n hx hb dX3_tellLeast_60 rfl (lv_at hl 0 rfl) ?_
            refine va_get (ci := 2) (v := .ref (ad 22)) (C := RX3) (T := TX3) (N := 52) hx hb hts in_X3 hown hK hP 0 rfl rfl 22 (by decide) (hts _ q1680) (fun _ h9 => h9) rfl dX3_tellLeast_61 ?_
            refine lv_iload_n hx hb dX3_tellLeast_64 rfl (lv_at hl 1 rfl) ?_
            obtain ⟨y19, e19, h⟩ := ob_s h
            refine MR.callS (M_X3_compare hG e19) S (cw_X3_compare hts q2096 ⟨Nat.le_of_ble_eq_true rfl, Nat.le_of_ble_eq_true rfl⟩) hW0 (hP.sub [10, 11] rfl) rfl hl.1 rfl (Nat.le_of_ble_eq_true rfl) dX3_tellLeast_65 ⟨Nat.zero_le _, Nat.zero_le _⟩ ?_
            refine lv_if_ge (tgt := 75) hx hb dX3_tellLeast_68 (by decide) (fun c20 => ?_) (fun c20 => ?_)
            · rw [if_pos c20] at h
              refine lv_iconst (v := 0) hx hb dX3_tellLeast_75 (by decide) ?_
              refine S_X3_tellLeast_76 0 v1 c_naming c_rowNow_10 c_least _ h (fun u2 u3 z_c_naming z_c_rowNow z_c_least H locs ls h hP hD hS hl => ih v1 u2 u3 z_c_naming z_c_rowNow z_c_least h H locs hP hD hS ls hl) _ _ hP hD hS _ (lv_sub hl [0, 1] rfl)
            · rw [if_neg c20] at h
              refine S_X3_tellLeast_71 v1 c_naming c_rowNow_10 c_least _ h (fun u2 u3 z_c_naming z_c_rowNow z_c_least H locs ls h hP hD hS hl => ih v1 u2 u3 z_c_naming z_c_rowNow z_c_least h H locs hP hD hS ls hl) _ _ hP hD hS _ (lv_sub hl [0, 1] rfl)
  refine lv_aload_n hx hb dX3_tellLeast_0 rfl (lv_at hl 0 rfl) ?_
  obtain ⟨y1, e1, h⟩ := ob_s h
  refine MR.callV (q0 := 0) (M_X3_lines hG e1) S (cw_X3_lines hts q1917 ⟨Nat.le_of_ble_eq_true rfl, Nat.le_of_ble_eq_true rfl⟩) hW0 hK hP rfl rfl rfl hl.1 rfl (Nat.le_of_ble_eq_true rfl) dX3_tellLeast_1 ⟨Nat.zero_le _, Nat.zero_le _⟩ ?_
  refine lv_istore_n (lv' := [(1, .int y1), (0, .ref h0)]) hx hb dX3_tellLeast_4 rfl hl (by decide) rfl (fun ls hl => ?_)
  refine lv_iconst (v := 1) hx hb dX3_tellLeast_5 (by decide) ?_
  refine lv_istore_n (lv' := [(2, .int 1), (1, .int y1), (0, .ref h0)]) hx hb dX3_tellLeast_6 rfl hl (by decide) rfl (fun ls hl => ?_)
  refine lv_iconst (v := 1) hx hb dX3_tellLeast_7 (by decide) ?_
  refine lv_istore_n (lv' := [(3, .int 1), (2, .int 1), (1, .int y1), (0, .ref h0)]) hx hb dX3_tellLeast_8 rfl hl (by decide) rfl (fun ls hl => ?_)
  refine lv_aload_n hx hb dX3_tellLeast_9 rfl (lv_at hl 3 rfl) ?_
  refine lv_aload_n hx hb dX3_tellLeast_10 rfl (lv_at hl 3 rfl) ?_
  obtain ⟨y2, e2, h⟩ := ob_s h
  refine MR.callV (q0 := 0) (M_X3_points hG e2) S (cw_X3_points hts q1913 ⟨Nat.le_of_ble_eq_true rfl, Nat.le_of_ble_eq_true rfl⟩) hW0 hK hP rfl rfl rfl hl.1 rfl (Nat.le_of_ble_eq_true rfl) dX3_tellLeast_11 ⟨Nat.zero_le _, Nat.zero_le _⟩ ?_
  obtain ⟨y3, e3, h⟩ := ob_s h
  refine MW.callV (q0 := 0) (M_X3_beginNaming hG e3) S (cw_X3_beginNaming hts q1978 ⟨Nat.le_of_ble_eq_true rfl, Nat.le_of_ble_eq_true rfl⟩) hW0 hK hP hD hS hA rfl rfl rfl hl.1 rfl (Nat.le_of_ble_eq_true rfl) dX3_tellLeast_14 ⟨Nat.zero_le _, Nat.zero_le _⟩ (fun H locs hP hD hS => ?_)
  have hP : va_P G.2.1 vwCl (mW h0 ad G.2.2 c_code c_now c_read c_status c_tape c_taped c_at c_textSize c_token c_number c_begins c_stops c_bad c_badPlace c_faultPlace c_clauses y3 c_lineBy c_becomes c_dualLines c_on c_rowNow c_least c_wayFirst c_ways c_acts c_past c_listPoints c_listLines c_listed c_list c_path c_places c_firstPlaces c_px c_py c_pz c_placeMany c_modulus c_drawn c_halvesMany c_halvesFirst c_spreadsMany c_spreadsFirst c_comesTo c_seedNow c_rowThen c_hasImage c_actsThen c_imageRow c_pastThen c_statusThen) H := hP
  have hD : va_D A (mW h0 ad G.2.2 c_code c_now c_read c_status c_tape c_taped c_at c_textSize c_token c_number c_begins c_stops c_bad c_badPlace c_faultPlace c_clauses y3 c_lineBy c_becomes c_dualLines c_on c_rowNow c_least c_wayFirst c_ways c_acts c_past c_listPoints c_listLines c_listed c_list c_path c_places c_firstPlaces c_px c_py c_pz c_placeMany c_modulus c_drawn c_halvesMany c_halvesFirst c_spreadsMany c_spreadsFirst c_comesTo c_seedNow c_rowThen c_hasImage c_actsThen c_imageRow c_pastThen c_statusThen) := hD
  refine W.eq (g2 := F0 m 17 ls []) rfl ?_
  refine S_X3_tellLeast_17 N y1 1 1 y3 c_rowNow c_least h  _ _ hP hD hS _ (lv_sub hl [3, 2, 1, 0] rfl)
def F_X3_normal (N : Nat) (v1 : Int32) (c_now : (Nat → Int32)) (c_naming : (Nat → Int32)) (c_rowNow : (Nat → Int32)) (c_least : (Nat → Int32)) (c_code : Int32) : Option (Int32 × (Nat → Int32) × (Nat → Int32) × (Nat → Int32) × Int32) := ((F_X3_isLine N v1 c_now).bind fun y1 => (if y1 = 0 then ((F_X3_fail N 1 0).bind fun y6 => (some (y6.1, c_naming, c_rowNow, c_least, y6.2))) else ((F_X3_tellLeast N c_now c_naming c_rowNow c_least).bind fun y3 => (ckI v1 12 (some ((y3.2.2 (Int32.toNatClampNeg v1)), y3.1, y3.2.1, y3.2.2, 0))))))
theorem cw_X3_normal {R : Room} {s : State} {args : Array Value} {own : String} {index lev mc ms : Nat} (hts : ∀ w ∈ lw_all, w.before args s = true) (hl : Cond.methodLink own index yX3_normal ∈ lw_all) (hR : (rmL lev mc ms).frames + 1 ≤ R.frames ∧ 8 + (2 + 11) + (rmL lev mc ms).locals ≤ R.locals) : CallW R s args own RX3 index yX3_normal cX3_normal 2 (some .int) (ws_ yX3_normal cX3_normal 2 (some .int)) (rmL lev mc ms) mc ms 1 := cwV 1 hts (lw_V hl q2085 q2086 q172 q2087) rfl rfl rfl (by decide +kernel) hR
set_option maxHeartbeats 4000000 in
theorem M_X3_normal {l : Launch} {G : GE} (hG : GC G) {N : Nat} {h0 : Nat} {ad : Nat → Nat} {c_read : (Nat → Int32)} {c_status : (Nat → Int32)} {c_tape : (Nat → Int32)} {c_taped : Int32} {c_at : Int32} {c_textSize : Int32} {c_token : Int32} {c_number : Int32} {c_begins : Int32} {c_stops : Int32} {c_bad : Int32} {c_badPlace : Int32} {c_faultPlace : Int32} {c_clauses : Int32} {c_lineBy : (Nat → Int32)} {c_becomes : (Nat → Int32)} {c_dualLines : (Nat → Int32)} {c_on : (Nat → Int32)} {c_wayFirst : (Nat → Int32)} {c_ways : Int32} {c_acts : Int32} {c_past : (Nat → Int32)} {c_listPoints : Int32} {c_listLines : Int32} {c_listed : Int32} {c_list : (Nat → Int32)} {c_path : (Nat → Int32)} {c_places : (Nat → Int32)} {c_firstPlaces : (Nat → Int32)} {c_px : (Nat → Int32)} {c_py : (Nat → Int32)} {c_pz : (Nat → Int32)} {c_placeMany : Int32} {c_modulus : Int32} {c_drawn : Int32} {c_halvesMany : Int32} {c_halvesFirst : Int32} {c_spreadsMany : Int32} {c_spreadsFirst : Int32} {c_comesTo : (Nat → Int32)} {c_seedNow : Int32} {c_rowThen : (Nat → Int32)} {c_hasImage : Int32} {c_actsThen : Int32} {c_imageRow : (Nat → Int32)} {c_pastThen : (Nat → Int32)} {c_statusThen : (Nat → Int32)} {v1 : Int32} {c_now : (Nat → Int32)} {c_naming : (Nat → Int32)} {c_rowNow : (Nat → Int32)} {c_least : (Nat → Int32)} {c_code : Int32} {ρ : (Int32 × (Nat → Int32) × (Nat → Int32) × (Nat → Int32) × Int32)} (h : F_X3_normal N v1 c_now c_naming c_rowNow c_least c_code = some ρ) : MW l G yX3_normal cX3_normal 2 (some .int) 4 (mW h0 ad G.2.2 c_code c_now c_read c_status c_tape c_taped c_at c_textSize c_token c_number c_begins c_stops c_bad c_badPlace c_faultPlace c_clauses c_naming c_lineBy c_becomes c_dualLines c_on c_rowNow c_least c_wayFirst c_ways c_acts c_past c_listPoints c_listLines c_listed c_list c_path c_places c_firstPlaces c_px c_py c_pz c_placeMany c_modulus c_drawn c_halvesMany c_halvesFirst c_spreadsMany c_spreadsFirst c_comesTo c_seedNow c_rowThen c_hasImage c_actsThen c_imageRow c_pastThen c_statusThen) [.ref h0, .int v1] (some (.int ρ.1)) (mW h0 ad G.2.2 ρ.2.2.2.2 c_now c_read c_status c_tape c_taped c_at c_textSize c_token c_number c_begins c_stops c_bad c_badPlace c_faultPlace c_clauses ρ.2.1 c_lineBy c_becomes c_dualLines c_on ρ.2.2.1 ρ.2.2.2.1 c_wayFirst c_ways c_acts c_past c_listPoints c_listLines c_listed c_list c_path c_places c_firstPlaces c_px c_py c_pz c_placeMany c_modulus c_drawn c_halvesMany c_halvesFirst c_spreadsMany c_spreadsFirst c_comesTo c_seedNow c_rowThen c_hasImage c_actsThen c_imageRow c_pastThen c_statusThen) := by
  rw [F_X3_normal] at h
  refine MW.start hG (by decide) (Nat.le_of_ble_eq_true rfl) ?_
  intro p e s m args below meth c Q A S hW0 hK hP hD hA hreti hretv ls hl
  have hS : va_S A s.heap s.heap [] := va_S.rf
  obtain ⟨hx, hb, hml, hown, hts⟩ := id S
  have hl : lv_has ls 2 [(0, .ref h0), (1, .int v1)] := hl
  refine lv_aload_n hx hb dX3_normal_0 rfl (lv_at hl 0 rfl) ?_
  refine lv_iconst (v := 0) hx hb dX3_normal_1 (by decide) ?_
  refine va_put (ci := 2) (v := .int 0) (ty := .int) (C := RX3) (T := TX3) (N := 52) hx hb hts in_X3 tyX3 tyX3_ok nmX3 hown hK hP hD hS 0 rfl rfl 0 (by decide) (hts _ q1658) (fun _ h9 => h9) rfl (by decide +kernel) rfl rfl (Nat.le_of_ble_eq_true rfl) dX3_normal_2 (fun H locs hP hD hS => ?_)
  have hP : va_P G.2.1 vwCl (mW h0 ad G.2.2 0 c_now c_read c_status c_tape c_taped c_at c_textSize c_token c_number c_begins c_stops c_bad c_badPlace c_faultPlace c_clauses c_naming c_lineBy c_becomes c_dualLines c_on c_rowNow c_least c_wayFirst c_ways c_acts c_past c_listPoints c_listLines c_listed c_list c_path c_places c_firstPlaces c_px c_py c_pz c_placeMany c_modulus c_drawn c_halvesMany c_halvesFirst c_spreadsMany c_spreadsFirst c_comesTo c_seedNow c_rowThen c_hasImage c_actsThen c_imageRow c_pastThen c_statusThen) H := hP
  have hD : va_D A (mW h0 ad G.2.2 0 c_now c_read c_status c_tape c_taped c_at c_textSize c_token c_number c_begins c_stops c_bad c_badPlace c_faultPlace c_clauses c_naming c_lineBy c_becomes c_dualLines c_on c_rowNow c_least c_wayFirst c_ways c_acts c_past c_listPoints c_listLines c_listed c_list c_path c_places c_firstPlaces c_px c_py c_pz c_placeMany c_modulus c_drawn c_halvesMany c_halvesFirst c_spreadsMany c_spreadsFirst c_comesTo c_seedNow c_rowThen c_hasImage c_actsThen c_imageRow c_pastThen c_statusThen) := hD
  refine lv_aload_n hx hb dX3_normal_5 rfl (lv_at hl 0 rfl) ?_
  refine lv_iload_n hx hb dX3_normal_6 rfl (lv_at hl 1 rfl) ?_
  obtain ⟨y1, e1, h⟩ := ob_s h
  refine MR.callV (q0 := 0) (M_X3_isLine hG e1) S (cw_X3_isLine hts q2057 ⟨Nat.le_of_ble_eq_true rfl, Nat.le_of_ble_eq_true rfl⟩) hW0 hK hP rfl rfl rfl hl.1 rfl (Nat.le_of_ble_eq_true rfl) dX3_normal_7 ⟨Nat.zero_le _, Nat.zero_le _⟩ ?_
  refine lv_if_ne (tgt := 19) hx hb dX3_normal_10 (by decide) (fun c2 => ?_) (fun c2 => ?_)
  · rw [if_neg c2] at h
    refine lv_aload_n hx hb dX3_normal_19 rfl (lv_at hl 0 rfl) ?_
    obtain ⟨y3, e3, h⟩ := ob_s h
    refine MW.callV (q0 := 0) (M_X3_tellLeast hG e3) S (cw_X3_tellLeast hts q2088 ⟨Nat.le_of_ble_eq_true rfl, Nat.le_of_ble_eq_true rfl⟩) hW0 hK hP hD hS hA rfl rfl rfl hl.1 rfl (Nat.le_of_ble_eq_true rfl) dX3_normal_20 ⟨Nat.zero_le _, Nat.zero_le _⟩ (fun H locs hP hD hS => ?_)
    have hP : va_P G.2.1 vwCl (mW h0 ad G.2.2 0 c_now c_read c_status c_tape c_taped c_at c_textSize c_token c_number c_begins c_stops c_bad c_badPlace c_faultPlace c_clauses y3.1 c_lineBy c_becomes c_dualLines c_on y3.2.1 y3.2.2 c_wayFirst c_ways c_acts c_past c_listPoints c_listLines c_listed c_list c_path c_places c_firstPlaces c_px c_py c_pz c_placeMany c_modulus c_drawn c_halvesMany c_halvesFirst c_spreadsMany c_spreadsFirst c_comesTo c_seedNow c_rowThen c_hasImage c_actsThen c_imageRow c_pastThen c_statusThen) H := hP
    have hD : va_D A (mW h0 ad G.2.2 0 c_now c_read c_status c_tape c_taped c_at c_textSize c_token c_number c_begins c_stops c_bad c_badPlace c_faultPlace c_clauses y3.1 c_lineBy c_becomes c_dualLines c_on y3.2.1 y3.2.2 c_wayFirst c_ways c_acts c_past c_listPoints c_listLines c_listed c_list c_path c_places c_firstPlaces c_px c_py c_pz c_placeMany c_modulus c_drawn c_halvesMany c_halvesFirst c_spreadsMany c_spreadsFirst c_comesTo c_seedNow c_rowThen c_hasImage c_actsThen c_imageRow c_pastThen c_statusThen) := hD
    refine W.eq (g2 := F0 m 23 ls []) rfl ?_
    refine lv_aload_n hx hb dX3_normal_23 rfl (lv_at hl 0 rfl) ?_
    refine va_get (ci := 2) (v := .ref (ad 22)) (C := RX3) (T := TX3) (N := 52) hx hb hts in_X3 hown hK hP 0 rfl rfl 22 (by decide) (hts _ q1680) (fun _ h9 => h9) rfl dX3_normal_24 ?_
    refine lv_iload_n hx hb dX3_normal_27 rfl (lv_at hl 1 rfl) ?_
    obtain ⟨i4, h⟩ := ckI_s h
    refine va_iald (f := y3.2.2) hx hb hK hP 11 0 rfl rfl i4 dX3_normal_28 ?_
    obtain rfl := Option.some.inj h
    exact hreti rfl dX3_normal_29 rfl rfl hP hD hS
  · rw [if_pos c2] at h
    refine lv_aload_n hx hb dX3_normal_13 rfl (lv_at hl 0 rfl) ?_
    refine lv_iconst (v := 1) hx hb dX3_normal_14 (by decide) ?_
    obtain ⟨y6, e6, h⟩ := ob_s h
    refine MW.callV (q0 := 0) (M_X3_fail hG e6) S (cw_X3_fail hts q1827 ⟨Nat.le_of_ble_eq_true rfl, Nat.le_of_ble_eq_true rfl⟩) hW0 hK hP hD hS hA rfl rfl rfl hl.1 rfl (Nat.le_of_ble_eq_true rfl) dX3_normal_15 ⟨Nat.zero_le _, Nat.zero_le _⟩ (fun H locs hP hD hS => ?_)
    have hP : va_P G.2.1 vwCl (mW h0 ad G.2.2 y6.2 c_now c_read c_status c_tape c_taped c_at c_textSize c_token c_number c_begins c_stops c_bad c_badPlace c_faultPlace c_clauses c_naming c_lineBy c_becomes c_dualLines c_on c_rowNow c_least c_wayFirst c_ways c_acts c_past c_listPoints c_listLines c_listed c_list c_path c_places c_firstPlaces c_px c_py c_pz c_placeMany c_modulus c_drawn c_halvesMany c_halvesFirst c_spreadsMany c_spreadsFirst c_comesTo c_seedNow c_rowThen c_hasImage c_actsThen c_imageRow c_pastThen c_statusThen) H := hP
    have hD : va_D A (mW h0 ad G.2.2 y6.2 c_now c_read c_status c_tape c_taped c_at c_textSize c_token c_number c_begins c_stops c_bad c_badPlace c_faultPlace c_clauses c_naming c_lineBy c_becomes c_dualLines c_on c_rowNow c_least c_wayFirst c_ways c_acts c_past c_listPoints c_listLines c_listed c_list c_path c_places c_firstPlaces c_px c_py c_pz c_placeMany c_modulus c_drawn c_halvesMany c_halvesFirst c_spreadsMany c_spreadsFirst c_comesTo c_seedNow c_rowThen c_hasImage c_actsThen c_imageRow c_pastThen c_statusThen) := hD
    refine W.eq (g2 := F0 m 18 ls [.int y6.1]) rfl ?_
    obtain rfl := Option.some.inj h
    exact hreti rfl dX3_normal_18 rfl rfl hP hD hS
def F_X3_tellDual_22 (N : Nat) (c_now : (Nat → Int32)) : Nat → Int32 → Int32 → (Nat → Int32) → Option (Int32 × (Nat → Int32))
  | 0, _, _, _ => none
  | n + 1, v1, v2, c_dualLines => ((F_X3_points N c_now).bind fun y6 => (if y6 ≤ v2 then (some (v1, c_dualLines)) else ((F_X3_linesOn N v2 c_now).bind fun y9 => ((F_X3_bits N y9).bind fun y10 => (if y10 ≤ 4 then ((F_X3_bits N y9).bind fun y12 => (if 2 ≤ y12 then (ckI v1 8 (F_X3_tellDual_22 N c_now n (v1 + 1) (v2 + 1) (upd c_dualLines (Int32.toNatClampNeg v1) y9))) else (F_X3_tellDual_22 N c_now n v1 (v2 + 1) c_dualLines))) else (some ((-1), c_dualLines)))))))
def F_X3_tellDual (N : Nat) (c_now : (Nat → Int32)) (c_dualLines : (Nat → Int32)) : Option (Int32 × (Nat → Int32)) := ((F_X3_lines N c_now).bind fun y1 => (if y1 = 0 then (some ((-1), c_dualLines)) else ((F_X3_lines N c_now).bind fun y4 => (if y4 ≤ 8 then (F_X3_tellDual_22 N c_now N 0 0 c_dualLines) else (some ((-1), c_dualLines))))))
theorem cw_X3_tellDual {R : Room} {s : State} {args : Array Value} {own : String} {index lev mc ms : Nat} (hts : ∀ w ∈ lw_all, w.before args s = true) (hl : Cond.methodLink own index yX3_tellDual ∈ lw_all) (hR : (rmL lev mc ms).frames + 1 ≤ R.frames ∧ 8 + (4 + 11) + (rmL lev mc ms).locals ≤ R.locals) : CallW R s args own RX3 index yX3_tellDual cX3_tellDual 4 (some .int) (ws_ yX3_tellDual cX3_tellDual 4 (some .int)) (rmL lev mc ms) mc ms 0 := cwV 0 hts (lw_V hl q2105 qs121 q172 q2106) rfl rfl rfl (by decide +kernel) hR
set_option maxHeartbeats 4000000 in
theorem M_X3_tellDual {l : Launch} {G : GE} (hG : GC G) {N : Nat} {h0 : Nat} {ad : Nat → Nat} {c_code : Int32} {c_read : (Nat → Int32)} {c_status : (Nat → Int32)} {c_tape : (Nat → Int32)} {c_taped : Int32} {c_at : Int32} {c_textSize : Int32} {c_token : Int32} {c_number : Int32} {c_begins : Int32} {c_stops : Int32} {c_bad : Int32} {c_badPlace : Int32} {c_faultPlace : Int32} {c_clauses : Int32} {c_naming : (Nat → Int32)} {c_lineBy : (Nat → Int32)} {c_becomes : (Nat → Int32)} {c_on : (Nat → Int32)} {c_rowNow : (Nat → Int32)} {c_least : (Nat → Int32)} {c_wayFirst : (Nat → Int32)} {c_ways : Int32} {c_acts : Int32} {c_past : (Nat → Int32)} {c_listPoints : Int32} {c_listLines : Int32} {c_listed : Int32} {c_list : (Nat → Int32)} {c_path : (Nat → Int32)} {c_places : (Nat → Int32)} {c_firstPlaces : (Nat → Int32)} {c_px : (Nat → Int32)} {c_py : (Nat → Int32)} {c_pz : (Nat → Int32)} {c_placeMany : Int32} {c_modulus : Int32} {c_drawn : Int32} {c_halvesMany : Int32} {c_halvesFirst : Int32} {c_spreadsMany : Int32} {c_spreadsFirst : Int32} {c_comesTo : (Nat → Int32)} {c_seedNow : Int32} {c_rowThen : (Nat → Int32)} {c_hasImage : Int32} {c_actsThen : Int32} {c_imageRow : (Nat → Int32)} {c_pastThen : (Nat → Int32)} {c_statusThen : (Nat → Int32)} {c_now : (Nat → Int32)} {c_dualLines : (Nat → Int32)} {ρ : (Int32 × (Nat → Int32))} (h : F_X3_tellDual N c_now c_dualLines = some ρ) : MW l G yX3_tellDual cX3_tellDual 4 (some .int) 3 (mW h0 ad G.2.2 c_code c_now c_read c_status c_tape c_taped c_at c_textSize c_token c_number c_begins c_stops c_bad c_badPlace c_faultPlace c_clauses c_naming c_lineBy c_becomes c_dualLines c_on c_rowNow c_least c_wayFirst c_ways c_acts c_past c_listPoints c_listLines c_listed c_list c_path c_places c_firstPlaces c_px c_py c_pz c_placeMany c_modulus c_drawn c_halvesMany c_halvesFirst c_spreadsMany c_spreadsFirst c_comesTo c_seedNow c_rowThen c_hasImage c_actsThen c_imageRow c_pastThen c_statusThen) [.ref h0] (some (.int ρ.1)) (mW h0 ad G.2.2 c_code c_now c_read c_status c_tape c_taped c_at c_textSize c_token c_number c_begins c_stops c_bad c_badPlace c_faultPlace c_clauses c_naming c_lineBy c_becomes ρ.2 c_on c_rowNow c_least c_wayFirst c_ways c_acts c_past c_listPoints c_listLines c_listed c_list c_path c_places c_firstPlaces c_px c_py c_pz c_placeMany c_modulus c_drawn c_halvesMany c_halvesFirst c_spreadsMany c_spreadsFirst c_comesTo c_seedNow c_rowThen c_hasImage c_actsThen c_imageRow c_pastThen c_statusThen) := by
  rw [F_X3_tellDual] at h
  refine MW.start hG (by decide) (Nat.le_of_ble_eq_true rfl) ?_
  intro p e s m args below meth c Q A S hW0 hK hP hD hA hreti hretv ls hl
  have hS : va_S A s.heap s.heap [] := va_S.rf
  obtain ⟨hx, hb, hml, hown, hts⟩ := id S
  have hl : lv_has ls 4 [(0, .ref h0)] := hl
  have S_X3_tellDual_22 : ∀ (n : Nat) (v1 : Int32) (v2 : Int32) (c_dualLines : (Nat → Int32)), F_X3_tellDual_22 N c_now n v1 v2 c_dualLines = some ρ → ∀ (H : Heap) (locs : List Loc), va_P G.2.1 vwCl (mW h0 ad G.2.2 c_code c_now c_read c_status c_tape c_taped c_at c_textSize c_token c_number c_begins c_stops c_bad c_badPlace c_faultPlace c_clauses c_naming c_lineBy c_becomes c_dualLines c_on c_rowNow c_least c_wayFirst c_ways c_acts c_past c_listPoints c_listLines c_listed c_list c_path c_places c_firstPlaces c_px c_py c_pz c_placeMany c_modulus c_drawn c_halvesMany c_halvesFirst c_spreadsMany c_spreadsFirst c_comesTo c_seedNow c_rowThen c_hasImage c_actsThen c_imageRow c_pastThen c_statusThen) H → va_D A (mW h0 ad G.2.2 c_code c_now c_read c_status c_tape c_taped c_at c_textSize c_token c_number c_begins c_stops c_bad c_badPlace c_faultPlace c_clauses c_naming c_lineBy c_becomes c_dualLines c_on c_rowNow c_least c_wayFirst c_ways c_acts c_past c_listPoints c_listLines c_listed c_list c_path c_places c_firstPlaces c_px c_py c_pz c_placeMany c_modulus c_drawn c_halvesMany c_halvesFirst c_spreadsMany c_spreadsFirst c_comesTo c_seedNow c_rowThen c_hasImage c_actsThen c_imageRow c_pastThen c_statusThen) → va_S A s.heap H locs → ∀ (ls : Array Slot), lv_has ls 4 [(0, .ref h0), (1, .int v1), (2, .int v2)] → W p l e (rmL 3 0 0) s m args below meth c H locs 0 0 Q (F0 m 22 ls []) := by
    intro n
    induction n with
    | zero =>
      intro v1 v2 c_dualLines h
      exact absurd h (by simp [F_X3_tellDual_22])
    | succ n ih =>
      intro v1 v2 c_dualLines h H locs hP hD hS ls hl
      rw [F_X3_tellDual_22] at h
      refine lv_iload_n hx hb dX3_tellDual_22 rfl (lv_at hl 2 rfl) ?_
      refine lv_aload_n hx hb dX3_tellDual_23 rfl (lv_at hl 0 rfl) ?_
      obtain ⟨y6, e6, h⟩ := ob_s h
      refine MR.callV (q0 := 0) (M_X3_points hG e6) S (cw_X3_points hts q1913 ⟨Nat.le_of_ble_eq_true rfl, Nat.le_of_ble_eq_true rfl⟩) hW0 hK hP rfl rfl rfl hl.1 rfl (Nat.le_of_ble_eq_true rfl) dX3_tellDual_24 ⟨Nat.zero_le _, Nat.zero_le _⟩ ?_
      refine lv_icmp_ge (tgt := 73) hx hb dX3_tellDual_27 (by decide) (fun c7 => ?_) (fun c7 => ?_)
      · rw [if_pos c7] at h
        refine lv_iload_n hx hb dX3_tellDual_73 rfl (lv_at hl 1 rfl) ?_
        obtain rfl := Option.some.inj h
        exact hreti rfl dX3_tellDual_74 rfl rfl hP hD hS
      · rw [if_neg c7] at h
        refine lv_aload_n hx hb dX3_tellDual_30 rfl (lv_at hl 0 rfl) ?_
        refine lv_iload_n hx hb dX3_tellDual_31 rfl (lv_at hl 2 rfl) ?_
        obtain ⟨y9, e9, h⟩ := ob_s h
        refine MR.callV (q0 := 0) (M_X3_linesOn hG e9) S (cw_X3_linesOn hts q1937 ⟨Nat.le_of_ble_eq_true rfl, Nat.le_of_ble_eq_true rfl⟩) hW0 hK hP rfl rfl rfl hl.1 rfl (Nat.le_of_ble_eq_true rfl) dX3_tellDual_32 ⟨Nat.zero_le _, Nat.zero_le _⟩ ?_
        refine lv_istore_n (lv' := [(3, .int y9), (0, .ref h0), (1, .int v1), (2, .int v2)]) hx hb dX3_tellDual_35 rfl hl (by decide) rfl (fun ls hl => ?_)
        refine lv_iload_n hx hb dX3_tellDual_36 rfl (lv_at hl 0 rfl) ?_
        obtain ⟨y10, e10, h⟩ := ob_s h
        refine MR.callS (M_X3_bits hG e10) S (cw_X3_bits hts q1896 ⟨Nat.le_of_ble_eq_true rfl, Nat.le_of_ble_eq_true rfl⟩) hW0 vaP0 rfl hl.1 rfl (Nat.le_of_ble_eq_true rfl) dX3_tellDual_37 ⟨Nat.zero_le _, Nat.zero_le _⟩ ?_
        refine lv_iconst (v := 4) hx hb dX3_tellDual_40 (by decide) ?_
        refine lv_icmp_le (tgt := 46) hx hb dX3_tellDual_41 (by decide) (fun c11 => ?_) (fun c11 => ?_)
        · rw [if_pos c11] at h
          refine lv_iload_n hx hb dX3_tellDual_46 rfl (lv_at hl 0 rfl) ?_
          obtain ⟨y12, e12, h⟩ := ob_s h
          refine MR.callS (M_X3_bits hG e12) S (cw_X3_bits hts q1896 ⟨Nat.le_of_ble_eq_true rfl, Nat.le_of_ble_eq_true rfl⟩) hW0 vaP0 rfl hl.1 rfl (Nat.le_of_ble_eq_true rfl) dX3_tellDual_47 ⟨Nat.zero_le _, Nat.zero_le _⟩ ?_
          refine lv_iconst (v := 2) hx hb dX3_tellDual_50 (by decide) ?_
          refine lv_icmp_ge (tgt := 57) hx hb dX3_tellDual_51 (by decide) (fun c13 => ?_) (fun c13 => ?_)
          · rw [if_pos c13] at h
            refine lv_aload_n hx hb dX3_tellDual_57 rfl (lv_at hl 1 rfl) ?_
            refine va_get (ci := 2) (v := .ref (ad 19)) (C := RX3) (T := TX3) (N := 52) hx hb hts in_X3 hown hK hP 0 rfl rfl 19 (by decide) (hts _ q1677) (fun _ h9 => h9) rfl dX3_tellDual_58 ?_
            refine lv_iload_n hx hb dX3_tellDual_61 rfl (lv_at hl 2 rfl) ?_
            refine lv_iload_n hx hb dX3_tellDual_62 rfl (lv_at hl 0 rfl) ?_
            obtain ⟨i14, h⟩ := ckI_s h
            refine va_iast (f := c_dualLines) hx hb hK hP hD hS 8 0 rfl rfl i14 dX3_tellDual_63 (fun H locs hP hD hS => ?_)
            have hP : va_P G.2.1 vwCl (mW h0 ad G.2.2 c_code c_now c_read c_status c_tape c_taped c_at c_textSize c_token c_number c_begins c_stops c_bad c_badPlace c_faultPlace c_clauses c_naming c_lineBy c_becomes (upd c_dualLines (Int32.toNatClampNeg v1) y9) c_on c_rowNow c_least c_wayFirst c_ways c_acts c_past c_listPoints c_listLines c_listed c_list c_path c_places c_firstPlaces c_px c_py c_pz c_placeMany c_modulus c_drawn c_halvesMany c_halvesFirst c_spreadsMany c_spreadsFirst c_comesTo c_seedNow c_rowThen c_hasImage c_actsThen c_imageRow c_pastThen c_statusThen) H := hP
            have hD : va_D A (mW h0 ad G.2.2 c_code c_now c_read c_status c_tape c_taped c_at c_textSize c_token c_number c_begins c_stops c_bad c_badPlace c_faultPlace c_clauses c_naming c_lineBy c_becomes (upd c_dualLines (Int32.toNatClampNeg v1) y9) c_on c_rowNow c_least c_wayFirst c_ways c_acts c_past c_listPoints c_listLines c_listed c_list c_path c_places c_firstPlaces c_px c_py c_pz c_placeMany c_modulus c_drawn c_halvesMany c_halvesFirst c_spreadsMany c_spreadsFirst c_comesTo c_seedNow c_rowThen c_hasImage c_actsThen c_imageRow c_pastThen c_statusThen) := hD
            refine lv_iinc (v := (v1 + 1)) (lv' := [(1, .int (v1 + 1)), (3, .int y9), (0, .ref h0), (2, .int v2)]) hx hb dX3_tellDual_64 hl (k := 2) rfl rfl (by decide) rfl (fun ls hl => ?_)
            refine lv_iinc (v := (v2 + 1)) (lv' := [(2, .int (v2 + 1)), (1, .int (v1 + 1)), (3, .int y9), (0, .ref h0)]) hx hb dX3_tellDual_67 hl (k := 3) rfl rfl (by decide) rfl (fun ls hl => ?_)
            refine lv_goto (tgt := 22) hx hb dX3_tellDual_70 (by decide) ?_
            exact ih (v1 + 1) (v2 + 1) (upd c_dualLines (Int32.toNatClampNeg v1) y9) h _ _ hP hD hS _ (lv_sub hl [3, 1, 0] rfl)
          · rw [if_neg c13] at h
            refine lv_goto (tgt := 67) hx hb dX3_tellDual_54 (by decide) ?_
            refine lv_iinc (v := (v2 + 1)) (lv' := [(2, .int (v2 + 1)), (3, .int y9), (0, .ref h0), (1, .int v1)]) hx hb dX3_tellDual_67 hl (k := 3) rfl rfl (by decide) rfl (fun ls hl => ?_)
            refine lv_goto (tgt := 22) hx hb dX3_tellDual_70 (by decide) ?_
            exact ih v1 (v2 + 1) c_dualLines h _ _ hP hD hS _ (lv_sub hl [2, 3, 0] rfl)
        · rw [if_neg c11] at h
          refine lv_iconst (v := (-1)) hx hb dX3_tellDual_44 (by decide) ?_
          obtain rfl := Option.some.inj h
          exact hreti rfl dX3_tellDual_45 rfl rfl hP hD hS
  refine lv_aload_n hx hb dX3_tellDual_0 rfl (lv_at hl 0 rfl) ?_
  obtain ⟨y1, e1, h⟩ := ob_s h
  refine MR.callV (q0 := 0) (M_X3_lines hG e1) S (cw_X3_lines hts q1917 ⟨Nat.le_of_ble_eq_true rfl, Nat.le_of_ble_eq_true rfl⟩) hW0 hK hP rfl rfl rfl hl.1 rfl (Nat.le_of_ble_eq_true rfl) dX3_tellDual_1 ⟨Nat.zero_le _, Nat.zero_le _⟩ ?_
  refine lv_if_eq (tgt := 16) hx hb dX3_tellDual_4 (by decide) (fun c2 => ?_) (fun c2 => ?_)
  · rw [if_pos c2] at h
    refine lv_iconst (v := (-1)) hx hb dX3_tellDual_16 (by decide) ?_
    obtain rfl := Option.some.inj h
    exact hreti rfl dX3_tellDual_17 rfl rfl hP hD hS
  · rw [if_neg c2] at h
    refine lv_aload_n hx hb dX3_tellDual_7 rfl (lv_at hl 0 rfl) ?_
    obtain ⟨y4, e4, h⟩ := ob_s h
    refine MR.callV (q0 := 0) (M_X3_lines hG e4) S (cw_X3_lines hts q1917 ⟨Nat.le_of_ble_eq_true rfl, Nat.le_of_ble_eq_true rfl⟩) hW0 hK hP rfl rfl rfl hl.1 rfl (Nat.le_of_ble_eq_true rfl) dX3_tellDual_8 ⟨Nat.zero_le _, Nat.zero_le _⟩ ?_
    refine lv_bipush (v := 8) hx hb dX3_tellDual_11 (by decide) ?_
    refine lv_icmp_le (tgt := 18) hx hb dX3_tellDual_13 (by decide) (fun c5 => ?_) (fun c5 => ?_)
    · rw [if_pos c5] at h
      refine lv_iconst (v := 0) hx hb dX3_tellDual_18 (by decide) ?_
      refine lv_istore_n (lv' := [(1, .int 0), (0, .ref h0)]) hx hb dX3_tellDual_19 rfl hl (by decide) rfl (fun ls hl => ?_)
      refine lv_iconst (v := 0) hx hb dX3_tellDual_20 (by decide) ?_
      refine lv_istore_n (lv' := [(2, .int 0), (1, .int 0), (0, .ref h0)]) hx hb dX3_tellDual_21 rfl hl (by decide) rfl (fun ls hl => ?_)
      refine S_X3_tellDual_22 N 0 0 c_dualLines h  _ _ hP hD hS _ (lv_sub hl [2, 1, 0] rfl)
    · rw [if_neg c5] at h
      refine lv_iconst (v := (-1)) hx hb dX3_tellDual_16 (by decide) ?_
      obtain rfl := Option.some.inj h
      exact hreti rfl dX3_tellDual_17 rfl rfl hP hD hS
def F_X3_dual (N : Nat) (v1 : Int32) (c_now : (Nat → Int32)) (c_dualLines : (Nat → Int32)) (c_code : Int32) : Option (Int32 × (Nat → Int32) × Int32) := ((F_X3_tellDual N c_now c_dualLines).bind fun y1 => (if v1 = (-1) then (some (y1.1, y1.2, 0)) else ((F_X3_isIn N v1 0 (y1.1 - (1 : Int32))).bind fun y3 => (if y3 = 0 then ((F_X3_fail N 1 0).bind fun y5 => (some (y5.1, y1.2, y5.2))) else (ckI v1 8 (some ((y1.2 (Int32.toNatClampNeg v1)), y1.2, 0)))))))
theorem cw_X3_dual {R : Room} {s : State} {args : Array Value} {own : String} {index lev mc ms : Nat} (hts : ∀ w ∈ lw_all, w.before args s = true) (hl : Cond.methodLink own index yX3_dual ∈ lw_all) (hR : (rmL lev mc ms).frames + 1 ≤ R.frames ∧ 8 + (3 + 11) + (rmL lev mc ms).locals ≤ R.locals) : CallW R s args own RX3 index yX3_dual cX3_dual 3 (some .int) (ws_ yX3_dual cX3_dual 3 (some .int)) (rmL lev mc ms) mc ms 1 := cwV 1 hts (lw_V hl q2100 q2101 q172 q2102) rfl rfl rfl (by decide +kernel) hR
set_option maxHeartbeats 4000000 in
theorem M_X3_dual {l : Launch} {G : GE} (hG : GC G) {N : Nat} {h0 : Nat} {ad : Nat → Nat} {c_read : (Nat → Int32)} {c_status : (Nat → Int32)} {c_tape : (Nat → Int32)} {c_taped : Int32} {c_at : Int32} {c_textSize : Int32} {c_token : Int32} {c_number : Int32} {c_begins : Int32} {c_stops : Int32} {c_bad : Int32} {c_badPlace : Int32} {c_faultPlace : Int32} {c_clauses : Int32} {c_naming : (Nat → Int32)} {c_lineBy : (Nat → Int32)} {c_becomes : (Nat → Int32)} {c_on : (Nat → Int32)} {c_rowNow : (Nat → Int32)} {c_least : (Nat → Int32)} {c_wayFirst : (Nat → Int32)} {c_ways : Int32} {c_acts : Int32} {c_past : (Nat → Int32)} {c_listPoints : Int32} {c_listLines : Int32} {c_listed : Int32} {c_list : (Nat → Int32)} {c_path : (Nat → Int32)} {c_places : (Nat → Int32)} {c_firstPlaces : (Nat → Int32)} {c_px : (Nat → Int32)} {c_py : (Nat → Int32)} {c_pz : (Nat → Int32)} {c_placeMany : Int32} {c_modulus : Int32} {c_drawn : Int32} {c_halvesMany : Int32} {c_halvesFirst : Int32} {c_spreadsMany : Int32} {c_spreadsFirst : Int32} {c_comesTo : (Nat → Int32)} {c_seedNow : Int32} {c_rowThen : (Nat → Int32)} {c_hasImage : Int32} {c_actsThen : Int32} {c_imageRow : (Nat → Int32)} {c_pastThen : (Nat → Int32)} {c_statusThen : (Nat → Int32)} {v1 : Int32} {c_now : (Nat → Int32)} {c_dualLines : (Nat → Int32)} {c_code : Int32} {ρ : (Int32 × (Nat → Int32) × Int32)} (h : F_X3_dual N v1 c_now c_dualLines c_code = some ρ) : MW l G yX3_dual cX3_dual 3 (some .int) 4 (mW h0 ad G.2.2 c_code c_now c_read c_status c_tape c_taped c_at c_textSize c_token c_number c_begins c_stops c_bad c_badPlace c_faultPlace c_clauses c_naming c_lineBy c_becomes c_dualLines c_on c_rowNow c_least c_wayFirst c_ways c_acts c_past c_listPoints c_listLines c_listed c_list c_path c_places c_firstPlaces c_px c_py c_pz c_placeMany c_modulus c_drawn c_halvesMany c_halvesFirst c_spreadsMany c_spreadsFirst c_comesTo c_seedNow c_rowThen c_hasImage c_actsThen c_imageRow c_pastThen c_statusThen) [.ref h0, .int v1] (some (.int ρ.1)) (mW h0 ad G.2.2 ρ.2.2 c_now c_read c_status c_tape c_taped c_at c_textSize c_token c_number c_begins c_stops c_bad c_badPlace c_faultPlace c_clauses c_naming c_lineBy c_becomes ρ.2.1 c_on c_rowNow c_least c_wayFirst c_ways c_acts c_past c_listPoints c_listLines c_listed c_list c_path c_places c_firstPlaces c_px c_py c_pz c_placeMany c_modulus c_drawn c_halvesMany c_halvesFirst c_spreadsMany c_spreadsFirst c_comesTo c_seedNow c_rowThen c_hasImage c_actsThen c_imageRow c_pastThen c_statusThen) := by
  rw [F_X3_dual] at h
  refine MW.start hG (by decide) (Nat.le_of_ble_eq_true rfl) ?_
  intro p e s m args below meth c Q A S hW0 hK hP hD hA hreti hretv ls hl
  have hS : va_S A s.heap s.heap [] := va_S.rf
  obtain ⟨hx, hb, hml, hown, hts⟩ := id S
  have hl : lv_has ls 3 [(0, .ref h0), (1, .int v1)] := hl
  refine lv_aload_n hx hb dX3_dual_0 rfl (lv_at hl 0 rfl) ?_
  refine lv_iconst (v := 0) hx hb dX3_dual_1 (by decide) ?_
  refine va_put (ci := 2) (v := .int 0) (ty := .int) (C := RX3) (T := TX3) (N := 52) hx hb hts in_X3 tyX3 tyX3_ok nmX3 hown hK hP hD hS 0 rfl rfl 0 (by decide) (hts _ q1658) (fun _ h9 => h9) rfl (by decide +kernel) rfl rfl (Nat.le_of_ble_eq_true rfl) dX3_dual_2 (fun H locs hP hD hS => ?_)
  have hP : va_P G.2.1 vwCl (mW h0 ad G.2.2 0 c_now c_read c_status c_tape c_taped c_at c_textSize c_token c_number c_begins c_stops c_bad c_badPlace c_faultPlace c_clauses c_naming c_lineBy c_becomes c_dualLines c_on c_rowNow c_least c_wayFirst c_ways c_acts c_past c_listPoints c_listLines c_listed c_list c_path c_places c_firstPlaces c_px c_py c_pz c_placeMany c_modulus c_drawn c_halvesMany c_halvesFirst c_spreadsMany c_spreadsFirst c_comesTo c_seedNow c_rowThen c_hasImage c_actsThen c_imageRow c_pastThen c_statusThen) H := hP
  have hD : va_D A (mW h0 ad G.2.2 0 c_now c_read c_status c_tape c_taped c_at c_textSize c_token c_number c_begins c_stops c_bad c_badPlace c_faultPlace c_clauses c_naming c_lineBy c_becomes c_dualLines c_on c_rowNow c_least c_wayFirst c_ways c_acts c_past c_listPoints c_listLines c_listed c_list c_path c_places c_firstPlaces c_px c_py c_pz c_placeMany c_modulus c_drawn c_halvesMany c_halvesFirst c_spreadsMany c_spreadsFirst c_comesTo c_seedNow c_rowThen c_hasImage c_actsThen c_imageRow c_pastThen c_statusThen) := hD
  refine lv_aload_n hx hb dX3_dual_5 rfl (lv_at hl 0 rfl) ?_
  obtain ⟨y1, e1, h⟩ := ob_s h
  refine MW.callV (q0 := 0) (M_X3_tellDual hG e1) S (cw_X3_tellDual hts q2103 ⟨Nat.le_of_ble_eq_true rfl, Nat.le_of_ble_eq_true rfl⟩) hW0 hK hP hD hS hA rfl rfl rfl hl.1 rfl (Nat.le_of_ble_eq_true rfl) dX3_dual_6 ⟨Nat.zero_le _, Nat.zero_le _⟩ (fun H locs hP hD hS => ?_)
  have hP : va_P G.2.1 vwCl (mW h0 ad G.2.2 0 c_now c_read c_status c_tape c_taped c_at c_textSize c_token c_number c_begins c_stops c_bad c_badPlace c_faultPlace c_clauses c_naming c_lineBy c_becomes y1.2 c_on c_rowNow c_least c_wayFirst c_ways c_acts c_past c_listPoints c_listLines c_listed c_list c_path c_places c_firstPlaces c_px c_py c_pz c_placeMany c_modulus c_drawn c_halvesMany c_halvesFirst c_spreadsMany c_spreadsFirst c_comesTo c_seedNow c_rowThen c_hasImage c_actsThen c_imageRow c_pastThen c_statusThen) H := hP
  have hD : va_D A (mW h0 ad G.2.2 0 c_now c_read c_status c_tape c_taped c_at c_textSize c_token c_number c_begins c_stops c_bad c_badPlace c_faultPlace c_clauses c_naming c_lineBy c_becomes y1.2 c_on c_rowNow c_least c_wayFirst c_ways c_acts c_past c_listPoints c_listLines c_listed c_list c_path c_places c_firstPlaces c_px c_py c_pz c_placeMany c_modulus c_drawn c_halvesMany c_halvesFirst c_spreadsMany c_spreadsFirst c_comesTo c_seedNow c_rowThen c_hasImage c_actsThen c_imageRow c_pastThen c_statusThen) := hD
  refine W.eq (g2 := F0 m 9 ls [.int y1.1]) rfl ?_
  refine lv_istore_n (lv' := [(2, .int y1.1), (0, .ref h0), (1, .int v1)]) hx hb dX3_dual_9 rfl hl (by decide) rfl (fun ls hl => ?_)
  refine lv_iload_n hx hb dX3_dual_10 rfl (lv_at hl 2 rfl) ?_
  refine lv_iconst (v := (-1)) hx hb dX3_dual_11 (by decide) ?_
  refine lv_icmp_ne (tgt := 17) hx hb dX3_dual_12 (by decide) (fun c2 => ?_) (fun c2 => ?_)
  · rw [if_neg c2] at h
    refine lv_iload_n hx hb dX3_dual_17 rfl (lv_at hl 2 rfl) ?_
    refine lv_iconst (v := 0) hx hb dX3_dual_18 (by decide) ?_
    refine lv_iload_n hx hb dX3_dual_19 rfl (lv_at hl 0 rfl) ?_
    refine lv_iconst (v := 1) hx hb dX3_dual_20 (by decide) ?_
    refine lv_isub hx hb dX3_dual_21 ?_
    obtain ⟨y3, e3, h⟩ := ob_s h
    refine MR.callS (M_X3_isIn hG e3) S (cw_X3_isIn hts q2061 ⟨Nat.le_of_ble_eq_true rfl, Nat.le_of_ble_eq_true rfl⟩) hW0 vaP0 rfl hl.1 rfl (Nat.le_of_ble_eq_true rfl) dX3_dual_22 ⟨Nat.zero_le _, Nat.zero_le _⟩ ?_
    refine lv_if_eq (tgt := 37) hx hb dX3_dual_25 (by decide) (fun c4 => ?_) (fun c4 => ?_)
    · rw [if_pos c4] at h
      refine lv_aload_n hx hb dX3_dual_37 rfl (lv_at hl 1 rfl) ?_
      refine lv_iconst (v := 1) hx hb dX3_dual_38 (by decide) ?_
      obtain ⟨y5, e5, h⟩ := ob_s h
      refine MW.callV (q0 := 0) (M_X3_fail hG e5) S (cw_X3_fail hts q1827 ⟨Nat.le_of_ble_eq_true rfl, Nat.le_of_ble_eq_true rfl⟩) hW0 hK hP hD hS hA rfl rfl rfl hl.1 rfl (Nat.le_of_ble_eq_true rfl) dX3_dual_39 ⟨Nat.zero_le _, Nat.zero_le _⟩ (fun H locs hP hD hS => ?_)
      have hP : va_P G.2.1 vwCl (mW h0 ad G.2.2 y5.2 c_now c_read c_status c_tape c_taped c_at c_textSize c_token c_number c_begins c_stops c_bad c_badPlace c_faultPlace c_clauses c_naming c_lineBy c_becomes y1.2 c_on c_rowNow c_least c_wayFirst c_ways c_acts c_past c_listPoints c_listLines c_listed c_list c_path c_places c_firstPlaces c_px c_py c_pz c_placeMany c_modulus c_drawn c_halvesMany c_halvesFirst c_spreadsMany c_spreadsFirst c_comesTo c_seedNow c_rowThen c_hasImage c_actsThen c_imageRow c_pastThen c_statusThen) H := hP
      have hD : va_D A (mW h0 ad G.2.2 y5.2 c_now c_read c_status c_tape c_taped c_at c_textSize c_token c_number c_begins c_stops c_bad c_badPlace c_faultPlace c_clauses c_naming c_lineBy c_becomes y1.2 c_on c_rowNow c_least c_wayFirst c_ways c_acts c_past c_listPoints c_listLines c_listed c_list c_path c_places c_firstPlaces c_px c_py c_pz c_placeMany c_modulus c_drawn c_halvesMany c_halvesFirst c_spreadsMany c_spreadsFirst c_comesTo c_seedNow c_rowThen c_hasImage c_actsThen c_imageRow c_pastThen c_statusThen) := hD
      refine W.eq (g2 := F0 m 42 ls [.int y5.1]) rfl ?_
      obtain rfl := Option.some.inj h
      exact hreti rfl dX3_dual_42 rfl rfl hP hD hS
    · rw [if_neg c4] at h
      refine lv_aload_n hx hb dX3_dual_28 rfl (lv_at hl 1 rfl) ?_
      refine va_get (ci := 2) (v := .ref (ad 19)) (C := RX3) (T := TX3) (N := 52) hx hb hts in_X3 hown hK hP 0 rfl rfl 19 (by decide) (hts _ q1677) (fun _ h9 => h9) rfl dX3_dual_29 ?_
      refine lv_iload_n hx hb dX3_dual_32 rfl (lv_at hl 2 rfl) ?_
      obtain ⟨i7, h⟩ := ckI_s h
      refine va_iald (f := y1.2) hx hb hK hP 8 0 rfl rfl i7 dX3_dual_33 ?_
      refine lv_goto (tgt := 42) hx hb dX3_dual_34 (by decide) ?_
      obtain rfl := Option.some.inj h
      exact hreti rfl dX3_dual_42 rfl rfl hP hD hS
  · rw [if_pos c2] at h
    refine lv_iload_n hx hb dX3_dual_15 rfl (lv_at hl 0 rfl) ?_
    obtain rfl := Option.some.inj h
    exact hreti rfl dX3_dual_16 rfl rfl hP hD hS
def F_X3_shelfAt (N : Nat) (v0 : Int32) : Option (Int32) := (some (((30 : Int32) + ((31 : Int32) * v0))))
theorem cw_X3_shelfAt {R : Room} {s : State} {args : Array Value} {own : String} {index lev mc ms : Nat} (hts : ∀ w ∈ lw_all, w.before args s = true) (hl : Cond.methodLink own index yX3_shelfAt ∈ lw_all) (hR : (rmL lev mc ms).frames + 1 ≤ R.frames ∧ 8 + (1 + 11) + (rmL lev mc ms).locals ≤ R.locals) : CallB R s args own index yX3_shelfAt cX3_shelfAt 1 (some .int) (ws_ yX3_shelfAt cX3_shelfAt 1 (some .int)) (rmL lev mc ms) mc ms 1 ∧ (Cond.static yX3_shelfAt).before args s = true := va_cwS 1 hts (lw_S hl q2116 q172 q2117) rfl rfl rfl (by decide +kernel) hR
set_option maxHeartbeats 4000000 in
theorem M_X3_shelfAt {l : Launch} {G : GE} (hG : GC G) {N : Nat} {v0 : Int32} {ρ : (Int32)} (h : F_X3_shelfAt N v0 = some ρ) : MR l G yX3_shelfAt cX3_shelfAt 1 (some .int) 1 [] [.int v0] ρ := by
  rw [F_X3_shelfAt] at h
  refine MR.start (rt := .int) hG (by decide) (Nat.le_of_ble_eq_true rfl) ?_
  intro p e s m args below meth c Q S hW0 hK hP hret ls hl
  obtain ⟨hx, hb, hml, hown, hts⟩ := id S
  have hl : lv_has ls 1 [(0, .int v0)] := hl
  refine lv_bipush (v := 30) hx hb dX3_shelfAt_0 (by decide) ?_
  refine lv_bipush (v := 31) hx hb dX3_shelfAt_2 (by decide) ?_
  refine lv_iload_n hx hb dX3_shelfAt_4 rfl (lv_at hl 0 rfl) ?_
  refine lv_imul hx hb dX3_shelfAt_5 ?_
  refine lv_iadd hx hb dX3_shelfAt_6 ?_
  obtain rfl := Option.some.inj h
  exact hret dX3_shelfAt_7 rfl
def F_X3_hasShelf (N : Nat) (v1 : Int32) (c_now : (Nat → Int32)) : Option (Int32) := ((F_X3_isIn N v1 0 3).bind fun y1 => (if y1 = 0 then (some (0)) else ((F_X3_shelfAt N v1).bind fun y4 => (ckI y4 154 (if (c_now (Int32.toNatClampNeg y4)) = 1 then (some (1)) else (some (0)))))))
theorem cw_X3_hasShelf {R : Room} {s : State} {args : Array Value} {own : String} {index lev mc ms : Nat} (hts : ∀ w ∈ lw_all, w.before args s = true) (hl : Cond.methodLink own index yX3_hasShelf ∈ lw_all) (hR : (rmL lev mc ms).frames + 1 ≤ R.frames ∧ 8 + (2 + 11) + (rmL lev mc ms).locals ≤ R.locals) : CallW R s args own RX3 index yX3_hasShelf cX3_hasShelf 2 (some .boolean) (ws_ yX3_hasShelf cX3_hasShelf 2 (some .boolean)) (rmL lev mc ms) mc ms 1 := cwV 1 hts (lw_V hl q2113 qs122 q172 q2114) rfl rfl rfl (by decide +kernel) hR
set_option maxHeartbeats 4000000 in
theorem M_X3_hasShelf {l : Launch} {G : GE} (hG : GC G) {N : Nat} {h0 : Nat} {ad : Nat → Nat} {c_code : Int32} {c_read : (Nat → Int32)} {c_status : (Nat → Int32)} {c_tape : (Nat → Int32)} {c_taped : Int32} {c_at : Int32} {c_textSize : Int32} {c_token : Int32} {c_number : Int32} {c_begins : Int32} {c_stops : Int32} {c_bad : Int32} {c_badPlace : Int32} {c_faultPlace : Int32} {c_clauses : Int32} {c_naming : (Nat → Int32)} {c_lineBy : (Nat → Int32)} {c_becomes : (Nat → Int32)} {c_dualLines : (Nat → Int32)} {c_on : (Nat → Int32)} {c_rowNow : (Nat → Int32)} {c_least : (Nat → Int32)} {c_wayFirst : (Nat → Int32)} {c_ways : Int32} {c_acts : Int32} {c_past : (Nat → Int32)} {c_listPoints : Int32} {c_listLines : Int32} {c_listed : Int32} {c_list : (Nat → Int32)} {c_path : (Nat → Int32)} {c_places : (Nat → Int32)} {c_firstPlaces : (Nat → Int32)} {c_px : (Nat → Int32)} {c_py : (Nat → Int32)} {c_pz : (Nat → Int32)} {c_placeMany : Int32} {c_modulus : Int32} {c_drawn : Int32} {c_halvesMany : Int32} {c_halvesFirst : Int32} {c_spreadsMany : Int32} {c_spreadsFirst : Int32} {c_comesTo : (Nat → Int32)} {c_seedNow : Int32} {c_rowThen : (Nat → Int32)} {c_hasImage : Int32} {c_actsThen : Int32} {c_imageRow : (Nat → Int32)} {c_pastThen : (Nat → Int32)} {c_statusThen : (Nat → Int32)} {v1 : Int32} {c_now : (Nat → Int32)} {ρ : (Int32)} (h : F_X3_hasShelf N v1 c_now = some ρ) : MR l G yX3_hasShelf cX3_hasShelf 2 (some .boolean) 2 (mW h0 ad G.2.2 c_code c_now c_read c_status c_tape c_taped c_at c_textSize c_token c_number c_begins c_stops c_bad c_badPlace c_faultPlace c_clauses c_naming c_lineBy c_becomes c_dualLines c_on c_rowNow c_least c_wayFirst c_ways c_acts c_past c_listPoints c_listLines c_listed c_list c_path c_places c_firstPlaces c_px c_py c_pz c_placeMany c_modulus c_drawn c_halvesMany c_halvesFirst c_spreadsMany c_spreadsFirst c_comesTo c_seedNow c_rowThen c_hasImage c_actsThen c_imageRow c_pastThen c_statusThen) [.ref h0, .int v1] ρ := by
  rw [F_X3_hasShelf] at h
  refine MR.start (rt := .boolean) hG (by decide) (Nat.le_of_ble_eq_true rfl) ?_
  intro p e s m args below meth c Q S hW0 hK hP hret ls hl
  obtain ⟨hx, hb, hml, hown, hts⟩ := id S
  have hl : lv_has ls 2 [(0, .ref h0), (1, .int v1)] := hl
  refine lv_iload_n hx hb dX3_hasShelf_0 rfl (lv_at hl 1 rfl) ?_
  refine lv_iconst (v := 0) hx hb dX3_hasShelf_1 (by decide) ?_
  refine lv_iconst (v := 3) hx hb dX3_hasShelf_2 (by decide) ?_
  obtain ⟨y1, e1, h⟩ := ob_s h
  refine MR.callS (M_X3_isIn hG e1) S (cw_X3_isIn hts q2061 ⟨Nat.le_of_ble_eq_true rfl, Nat.le_of_ble_eq_true rfl⟩) hW0 vaP0 rfl hl.1 rfl (Nat.le_of_ble_eq_true rfl) dX3_hasShelf_3 ⟨Nat.zero_le _, Nat.zero_le _⟩ ?_
  refine lv_if_eq (tgt := 26) hx hb dX3_hasShelf_6 (by decide) (fun c2 => ?_) (fun c2 => ?_)
  · rw [if_pos c2] at h
    refine lv_iconst (v := 0) hx hb dX3_hasShelf_26 (by decide) ?_
    obtain rfl := Option.some.inj h
    exact hret dX3_hasShelf_27 rfl
  · rw [if_neg c2] at h
    refine lv_aload_n hx hb dX3_hasShelf_9 rfl (lv_at hl 0 rfl) ?_
    refine va_get (ci := 2) (v := .ref (ad 1)) (C := RX3) (T := TX3) (N := 52) hx hb hts in_X3 hown hK hP 0 rfl rfl 1 (by decide) (hts _ q1659) (fun _ h9 => h9) rfl dX3_hasShelf_10 ?_
    refine lv_iload_n hx hb dX3_hasShelf_13 rfl (lv_at hl 1 rfl) ?_
    obtain ⟨y4, e4, h⟩ := ob_s h
    refine MR.callS (M_X3_shelfAt hG e4) S (cw_X3_shelfAt hts q2115 ⟨Nat.le_of_ble_eq_true rfl, Nat.le_of_ble_eq_true rfl⟩) hW0 vaP0 rfl hl.1 rfl (Nat.le_of_ble_eq_true rfl) dX3_hasShelf_14 ⟨Nat.zero_le _, Nat.zero_le _⟩ ?_
    obtain ⟨i5, h⟩ := ckI_s h
    refine va_iald (f := c_now) hx hb hK hP 1 0 rfl rfl i5 dX3_hasShelf_17 ?_
    refine lv_iconst (v := 1) hx hb dX3_hasShelf_18 (by decide) ?_
    refine lv_icmp_ne (tgt := 26) hx hb dX3_hasShelf_19 (by decide) (fun c6 => ?_) (fun c6 => ?_)
    · rw [if_neg c6] at h
      refine lv_iconst (v := 0) hx hb dX3_hasShelf_26 (by decide) ?_
      obtain rfl := Option.some.inj h
      exact hret dX3_hasShelf_27 rfl
    · rw [if_pos c6] at h
      refine lv_iconst (v := 1) hx hb dX3_hasShelf_22 (by decide) ?_
      refine lv_goto (tgt := 27) hx hb dX3_hasShelf_23 (by decide) ?_
      obtain rfl := Option.some.inj h
      exact hret dX3_hasShelf_27 rfl
def F_X3_onShelf (N : Nat) (v1 : Int32) (v2 : Int32) (c_now : (Nat → Int32)) : Option (Int32) := ((F_X3_shelfAt N v1).bind fun y1 => (ckI ((y1 + (1 : Int32)) + v2) 154 (some ((c_now (Int32.toNatClampNeg ((y1 + (1 : Int32)) + v2)))))))
theorem cw_X3_onShelf {R : Room} {s : State} {args : Array Value} {own : String} {index lev mc ms : Nat} (hts : ∀ w ∈ lw_all, w.before args s = true) (hl : Cond.methodLink own index yX3_onShelf ∈ lw_all) (hR : (rmL lev mc ms).frames + 1 ≤ R.frames ∧ 8 + (3 + 11) + (rmL lev mc ms).locals ≤ R.locals) : CallW R s args own RX3 index yX3_onShelf cX3_onShelf 3 (some .int) (ws_ yX3_onShelf cX3_onShelf 3 (some .int)) (rmL lev mc ms) mc ms 2 := cwV 2 hts (lw_V hl q2124 qs124 q172 q2125) rfl rfl rfl (by decide +kernel) hR
set_option maxHeartbeats 4000000 in
theorem M_X3_onShelf {l : Launch} {G : GE} (hG : GC G) {N : Nat} {h0 : Nat} {ad : Nat → Nat} {c_code : Int32} {c_read : (Nat → Int32)} {c_status : (Nat → Int32)} {c_tape : (Nat → Int32)} {c_taped : Int32} {c_at : Int32} {c_textSize : Int32} {c_token : Int32} {c_number : Int32} {c_begins : Int32} {c_stops : Int32} {c_bad : Int32} {c_badPlace : Int32} {c_faultPlace : Int32} {c_clauses : Int32} {c_naming : (Nat → Int32)} {c_lineBy : (Nat → Int32)} {c_becomes : (Nat → Int32)} {c_dualLines : (Nat → Int32)} {c_on : (Nat → Int32)} {c_rowNow : (Nat → Int32)} {c_least : (Nat → Int32)} {c_wayFirst : (Nat → Int32)} {c_ways : Int32} {c_acts : Int32} {c_past : (Nat → Int32)} {c_listPoints : Int32} {c_listLines : Int32} {c_listed : Int32} {c_list : (Nat → Int32)} {c_path : (Nat → Int32)} {c_places : (Nat → Int32)} {c_firstPlaces : (Nat → Int32)} {c_px : (Nat → Int32)} {c_py : (Nat → Int32)} {c_pz : (Nat → Int32)} {c_placeMany : Int32} {c_modulus : Int32} {c_drawn : Int32} {c_halvesMany : Int32} {c_halvesFirst : Int32} {c_spreadsMany : Int32} {c_spreadsFirst : Int32} {c_comesTo : (Nat → Int32)} {c_seedNow : Int32} {c_rowThen : (Nat → Int32)} {c_hasImage : Int32} {c_actsThen : Int32} {c_imageRow : (Nat → Int32)} {c_pastThen : (Nat → Int32)} {c_statusThen : (Nat → Int32)} {v1 : Int32} {v2 : Int32} {c_now : (Nat → Int32)} {ρ : (Int32)} (h : F_X3_onShelf N v1 v2 c_now = some ρ) : MR l G yX3_onShelf cX3_onShelf 3 (some .int) 2 (mW h0 ad G.2.2 c_code c_now c_read c_status c_tape c_taped c_at c_textSize c_token c_number c_begins c_stops c_bad c_badPlace c_faultPlace c_clauses c_naming c_lineBy c_becomes c_dualLines c_on c_rowNow c_least c_wayFirst c_ways c_acts c_past c_listPoints c_listLines c_listed c_list c_path c_places c_firstPlaces c_px c_py c_pz c_placeMany c_modulus c_drawn c_halvesMany c_halvesFirst c_spreadsMany c_spreadsFirst c_comesTo c_seedNow c_rowThen c_hasImage c_actsThen c_imageRow c_pastThen c_statusThen) [.ref h0, .int v1, .int v2] ρ := by
  rw [F_X3_onShelf] at h
  refine MR.start (rt := .int) hG (by decide) (Nat.le_of_ble_eq_true rfl) ?_
  intro p e s m args below meth c Q S hW0 hK hP hret ls hl
  obtain ⟨hx, hb, hml, hown, hts⟩ := id S
  have hl : lv_has ls 3 [(0, .ref h0), (1, .int v1), (2, .int v2)] := hl
  refine lv_aload_n hx hb dX3_onShelf_0 rfl (lv_at hl 0 rfl) ?_
  refine va_get (ci := 2) (v := .ref (ad 1)) (C := RX3) (T := TX3) (N := 52) hx hb hts in_X3 hown hK hP 0 rfl rfl 1 (by decide) (hts _ q1659) (fun _ h9 => h9) rfl dX3_onShelf_1 ?_
  refine lv_iload_n hx hb dX3_onShelf_4 rfl (lv_at hl 1 rfl) ?_
  obtain ⟨y1, e1, h⟩ := ob_s h
  refine MR.callS (M_X3_shelfAt hG e1) S (cw_X3_shelfAt hts q2115 ⟨Nat.le_of_ble_eq_true rfl, Nat.le_of_ble_eq_true rfl⟩) hW0 vaP0 rfl hl.1 rfl (Nat.le_of_ble_eq_true rfl) dX3_onShelf_5 ⟨Nat.zero_le _, Nat.zero_le _⟩ ?_
  refine lv_iconst (v := 1) hx hb dX3_onShelf_8 (by decide) ?_
  refine lv_iadd hx hb dX3_onShelf_9 ?_
  refine lv_iload_n hx hb dX3_onShelf_10 rfl (lv_at hl 2 rfl) ?_
  refine lv_iadd hx hb dX3_onShelf_11 ?_
  obtain ⟨i2, h⟩ := ckI_s h
  refine va_iald (f := c_now) hx hb hK hP 1 0 rfl rfl i2 dX3_onShelf_12 ?_
  obtain rfl := Option.some.inj h
  exact hret dX3_onShelf_13 rfl
def F_X3_likes_54 (N : Nat) (v1 : Int32) (c_now : (Nat → Int32)) (c_naming : (Nat → Int32)) (c_lineBy : (Nat → Int32)) : Nat → Int32 → Int32 → (Int32 → Option (Int32 × (Nat → Int32) × (Nat → Int32))) → Option (Int32 × (Nat → Int32) × (Nat → Int32))
  | 0, _, _, _ => none
  | n + 1, v4, v5, k103 => ((F_X3_lines N c_now).bind fun y13 => (if y13 ≤ v5 then (k103 v4) else (if v4 = 0 then (k103 v4) else ((F_X3_onShelf N v1 ((2 : Int32) + v5) c_now).bind fun y16 => ((F_X3_named N y16 c_naming).bind fun y17 => (ckI y17 256 (if (c_lineBy (Int32.toNatClampNeg y17)) = (-1) then (F_X3_likes_54 N v1 c_now c_naming c_lineBy n 0 (v5 + 1) k103) else (F_X3_likes_54 N v1 c_now c_naming c_lineBy n 1 (v5 + 1) k103))))))))
def F_X3_likes_44 (N : Nat) (v1 : Int32) (c_now : (Nat → Int32)) (c_lineBy : (Nat → Int32)) : Nat → Int32 → Int32 → (Nat → Int32) → Option (Int32 × (Nat → Int32) × (Nat → Int32))
  | 0, _, _, _ => none
  | n + 1, v2, v3, c_naming => (if v3 = 0 then (some (v2, c_naming, c_lineBy)) else (F_X3_likes_54 N v1 c_now c_naming c_lineBy N 1 0 (fun u4_20 => (if u4_20 = 0 then ((F_X3_points N c_now).bind fun y22 => ((F_X3_nextNaming N y22 c_naming).bind fun y23 => (F_X3_likes_44 N v1 c_now c_lineBy n (v2 + (0 : Int32)) y23.1 y23.2))) else ((F_X3_points N c_now).bind fun y24 => ((F_X3_nextNaming N y24 c_naming).bind fun y25 => (F_X3_likes_44 N v1 c_now c_lineBy n (v2 + (1 : Int32)) y25.1 y25.2)))))))
def F_X3_likes (N : Nat) (v1 : Int32) (c_now : (Nat → Int32)) (c_naming : (Nat → Int32)) (c_lineBy : (Nat → Int32)) : Option (Int32 × (Nat → Int32) × (Nat → Int32)) := ((F_X3_onShelf N v1 0 c_now).bind fun y1 => ((F_X3_points N c_now).bind fun y2 => (if y1 = y2 then ((F_X3_onShelf N v1 1 c_now).bind fun y5 => ((F_X3_lines N c_now).bind fun y6 => (if y5 = y6 then ((F_X3_tellLines N c_now c_lineBy).bind fun y8 => ((F_X3_points N c_now).bind fun y9 => ((F_X3_beginNaming N y9 c_naming).bind fun y10 => (F_X3_likes_44 N v1 c_now y8 N 0 1 y10)))) else (some (0, c_naming, c_lineBy))))) else (some (0, c_naming, c_lineBy)))))
theorem cw_X3_likes {R : Room} {s : State} {args : Array Value} {own : String} {index lev mc ms : Nat} (hts : ∀ w ∈ lw_all, w.before args s = true) (hl : Cond.methodLink own index yX3_likes ∈ lw_all) (hR : (rmL lev mc ms).frames + 1 ≤ R.frames ∧ 8 + (6 + 11) + (rmL lev mc ms).locals ≤ R.locals) : CallW R s args own RX3 index yX3_likes cX3_likes 6 (some .int) (ws_ yX3_likes cX3_likes 6 (some .int)) (rmL lev mc ms) mc ms 1 := cwV 1 hts (lw_V hl q2120 qs123 q172 q2121) rfl rfl rfl (by decide +kernel) hR
set_option maxHeartbeats 4000000 in
theorem M_X3_likes {l : Launch} {G : GE} (hG : GC G) {N : Nat} {h0 : Nat} {ad : Nat → Nat} {c_code : Int32} {c_read : (Nat → Int32)} {c_status : (Nat → Int32)} {c_tape : (Nat → Int32)} {c_taped : Int32} {c_at : Int32} {c_textSize : Int32} {c_token : Int32} {c_number : Int32} {c_begins : Int32} {c_stops : Int32} {c_bad : Int32} {c_badPlace : Int32} {c_faultPlace : Int32} {c_clauses : Int32} {c_becomes : (Nat → Int32)} {c_dualLines : (Nat → Int32)} {c_on : (Nat → Int32)} {c_rowNow : (Nat → Int32)} {c_least : (Nat → Int32)} {c_wayFirst : (Nat → Int32)} {c_ways : Int32} {c_acts : Int32} {c_past : (Nat → Int32)} {c_listPoints : Int32} {c_listLines : Int32} {c_listed : Int32} {c_list : (Nat → Int32)} {c_path : (Nat → Int32)} {c_places : (Nat → Int32)} {c_firstPlaces : (Nat → Int32)} {c_px : (Nat → Int32)} {c_py : (Nat → Int32)} {c_pz : (Nat → Int32)} {c_placeMany : Int32} {c_modulus : Int32} {c_drawn : Int32} {c_halvesMany : Int32} {c_halvesFirst : Int32} {c_spreadsMany : Int32} {c_spreadsFirst : Int32} {c_comesTo : (Nat → Int32)} {c_seedNow : Int32} {c_rowThen : (Nat → Int32)} {c_hasImage : Int32} {c_actsThen : Int32} {c_imageRow : (Nat → Int32)} {c_pastThen : (Nat → Int32)} {c_statusThen : (Nat → Int32)} {v1 : Int32} {c_now : (Nat → Int32)} {c_naming : (Nat → Int32)} {c_lineBy : (Nat → Int32)} {ρ : (Int32 × (Nat → Int32) × (Nat → Int32))} (h : F_X3_likes N v1 c_now c_naming c_lineBy = some ρ) : MW l G yX3_likes cX3_likes 6 (some .int) 3 (mW h0 ad G.2.2 c_code c_now c_read c_status c_tape c_taped c_at c_textSize c_token c_number c_begins c_stops c_bad c_badPlace c_faultPlace c_clauses c_naming c_lineBy c_becomes c_dualLines c_on c_rowNow c_least c_wayFirst c_ways c_acts c_past c_listPoints c_listLines c_listed c_list c_path c_places c_firstPlaces c_px c_py c_pz c_placeMany c_modulus c_drawn c_halvesMany c_halvesFirst c_spreadsMany c_spreadsFirst c_comesTo c_seedNow c_rowThen c_hasImage c_actsThen c_imageRow c_pastThen c_statusThen) [.ref h0, .int v1] (some (.int ρ.1)) (mW h0 ad G.2.2 c_code c_now c_read c_status c_tape c_taped c_at c_textSize c_token c_number c_begins c_stops c_bad c_badPlace c_faultPlace c_clauses ρ.2.1 ρ.2.2 c_becomes c_dualLines c_on c_rowNow c_least c_wayFirst c_ways c_acts c_past c_listPoints c_listLines c_listed c_list c_path c_places c_firstPlaces c_px c_py c_pz c_placeMany c_modulus c_drawn c_halvesMany c_halvesFirst c_spreadsMany c_spreadsFirst c_comesTo c_seedNow c_rowThen c_hasImage c_actsThen c_imageRow c_pastThen c_statusThen) := by
  rw [F_X3_likes] at h
  refine MW.start hG (by decide) (Nat.le_of_ble_eq_true rfl) ?_
  intro p e s m args below meth c Q A S hW0 hK hP hD hA hreti hretv ls hl
  have hS : va_S A s.heap s.heap [] := va_S.rf
  obtain ⟨hx, hb, hml, hown, hts⟩ := id S
  have hl : lv_has ls 6 [(0, .ref h0), (1, .int v1)] := hl
  have S_X3_likes_54 : ∀ (n : Nat) (v1 : Int32) (v2 : Int32) (v4 : Int32) (v5 : Int32) (c_naming : (Nat → Int32)) (c_lineBy : (Nat → Int32)) (k103 : Int32 → Option (Int32 × (Nat → Int32) × (Nat → Int32))), F_X3_likes_54 N v1 c_now c_naming c_lineBy n v4 v5 k103 = some ρ → (∀ (u4 : Int32) (H : Heap) (locs : List Loc) (ls : Array Slot), k103 u4 = some ρ → va_P G.2.1 vwCl (mW h0 ad G.2.2 c_code c_now c_read c_status c_tape c_taped c_at c_textSize c_token c_number c_begins c_stops c_bad c_badPlace c_faultPlace c_clauses c_naming c_lineBy c_becomes c_dualLines c_on c_rowNow c_least c_wayFirst c_ways c_acts c_past c_listPoints c_listLines c_listed c_list c_path c_places c_firstPlaces c_px c_py c_pz c_placeMany c_modulus c_drawn c_halvesMany c_halvesFirst c_spreadsMany c_spreadsFirst c_comesTo c_seedNow c_rowThen c_hasImage c_actsThen c_imageRow c_pastThen c_statusThen) H → va_D A (mW h0 ad G.2.2 c_code c_now c_read c_status c_tape c_taped c_at c_textSize c_token c_number c_begins c_stops c_bad c_badPlace c_faultPlace c_clauses c_naming c_lineBy c_becomes c_dualLines c_on c_rowNow c_least c_wayFirst c_ways c_acts c_past c_listPoints c_listLines c_listed c_list c_path c_places c_firstPlaces c_px c_py c_pz c_placeMany c_modulus c_drawn c_halvesMany c_halvesFirst c_spreadsMany c_spreadsFirst c_comesTo c_seedNow c_rowThen c_hasImage c_actsThen c_imageRow c_pastThen c_statusThen) → va_S A s.heap H locs → lv_has ls 6 [(0, .ref h0), (1, .int v1), (2, .int v2), (4, .int u4)] → W p l e (rmL 3 0 0) s m args below meth c H locs 0 0 Q (F0 m 103 ls [])) → ∀ (H : Heap) (locs : List Loc), va_P G.2.1 vwCl (mW h0 ad G.2.2 c_code c_now c_read c_status c_tape c_taped c_at c_textSize c_token c_number c_begins c_stops c_bad c_badPlace c_faultPlace c_clauses c_naming c_lineBy c_becomes c_dualLines c_on c_rowNow c_least c_wayFirst c_ways c_acts c_past c_listPoints c_listLines c_listed c_list c_path c_places c_firstPlaces c_px c_py c_pz c_placeMany c_modulus c_drawn c_halvesMany c_halvesFirst c_spreadsMany c_spreadsFirst c_comesTo c_seedNow c_rowThen c_hasImage c_actsThen c_imageRow c_pastThen c_statusThen) H → va_D A (mW h0 ad G.2.2 c_code c_now c_read c_status c_tape c_taped c_at c_textSize c_token c_number c_begins c_stops c_bad c_badPlace c_faultPlace c_clauses c_naming c_lineBy c_becomes c_dualLines c_on c_rowNow c_least c_wayFirst c_ways c_acts c_past c_listPoints c_listLines c_listed c_list c_path c_places c_firstPlaces c_px c_py c_pz c_placeMany c_modulus c_drawn c_halvesMany c_halvesFirst c_spreadsMany c_spreadsFirst c_comesTo c_seedNow c_rowThen c_hasImage c_actsThen c_imageRow c_pastThen c_statusThen) → va_S A s.heap H locs → ∀ (ls : Array Slot), lv_has ls 6 [(0, .ref h0), (1, .int v1), (2, .int v2), (4, .int v4), (5, .int v5)] → W p l e (rmL 3 0 0) s m args below meth c H locs 0 0 Q (F0 m 54 ls []) := by
    intro n
    induction n with
    | zero =>
      intro v1 v2 v4 v5 c_naming c_lineBy k103 h
      exact absurd h (by simp [F_X3_likes_54])
    | succ n ih =>
      intro v1 v2 v4 v5 c_naming c_lineBy k103 h hk103 H locs hP hD hS ls hl
      rw [F_X3_likes_54] at h
      refine lv_iload hx hb dX3_likes_54 (lv_at hl 4 rfl) ?_
      refine lv_aload_n hx hb dX3_likes_56 rfl (lv_at hl 0 rfl) ?_
      obtain ⟨y13, e13, h⟩ := ob_s h
      refine MR.callV (q0 := 0) (M_X3_lines hG e13) S (cw_X3_lines hts q1917 ⟨Nat.le_of_ble_eq_true rfl, Nat.le_of_ble_eq_true rfl⟩) hW0 hK hP rfl rfl rfl hl.1 rfl (Nat.le_of_ble_eq_true rfl) dX3_likes_57 ⟨Nat.zero_le _, Nat.zero_le _⟩ ?_
      refine lv_icmp_ge (tgt := 103) hx hb dX3_likes_60 (by decide) (fun c14 => ?_) (fun c14 => ?_)
      · rw [if_pos c14] at h
        exact hk103 v4 _ _ _ h hP hD hS (lv_sub hl [0, 1, 2, 3] rfl)
      · rw [if_neg c14] at h
        refine lv_iload hx hb dX3_likes_63 (lv_at hl 3 rfl) ?_
        refine lv_if_eq (tgt := 103) hx hb dX3_likes_65 (by decide) (fun c15 => ?_) (fun c15 => ?_)
        · rw [if_pos c15] at h
          exact hk103 v4 _ _ _ h hP hD hS (lv_sub hl [0, 1, 2, 3] rfl)
        · rw [if_neg c15] at h
          refine lv_aload_n hx hb dX3_likes_68 rfl (lv_at hl 0 rfl) ?_
          refine va_get (ci := 2) (v := .ref (ad 17)) (C := RX3) (T := TX3) (N := 52) hx hb hts in_X3 hown hK hP 0 rfl rfl 17 (by decide) (hts _ q1675) (fun _ h9 => h9) rfl dX3_likes_69 ?_
          refine lv_aload_n hx hb dX3_likes_72 rfl (lv_at hl 0 rfl) ?_
          refine lv_aload_n hx hb dX3_likes_73 rfl (lv_at hl 0 rfl) ?_
          refine lv_iload_n hx hb dX3_likes_74 rfl (lv_at hl 1 rfl) ?_
          refine lv_iconst (v := 2) hx hb dX3_likes_75 (by decide) ?_
          refine lv_iload hx hb dX3_likes_76 (lv_at hl 4 rfl) ?_
          refine lv_iadd hx hb dX3_likes_78 ?_
          obtain ⟨y16, e16, h⟩ := ob_s h
          refine MR.callV (q0 := 0) (M_X3_onShelf hG e16) S (cw_X3_onShelf hts q2122 ⟨Nat.le_of_ble_eq_true rfl, Nat.le_of_ble_eq_true rfl⟩) hW0 hK hP rfl rfl rfl hl.1 rfl (Nat.le_of_ble_eq_true rfl) dX3_likes_79 ⟨Nat.zero_le _, Nat.zero_le _⟩ ?_
          obtain ⟨y17, e17, h⟩ := ob_s h
          refine MR.callV (q0 := 0) (M_X3_named hG e17) S (cw_X3_named hts q1986 ⟨Nat.le_of_ble_eq_true rfl, Nat.le_of_ble_eq_true rfl⟩) hW0 hK hP rfl rfl rfl hl.1 rfl (Nat.le_of_ble_eq_true rfl) dX3_likes_82 ⟨Nat.zero_le _, Nat.zero_le _⟩ ?_
          obtain ⟨i18, h⟩ := ckI_s h
          refine va_iald (f := c_lineBy) hx hb hK hP 6 0 rfl rfl i18 dX3_likes_85 ?_
          refine lv_iconst (v := (-1)) hx hb dX3_likes_86 (by decide) ?_
          refine lv_icmp_eq (tgt := 94) hx hb dX3_likes_87 (by decide) (fun c19 => ?_) (fun c19 => ?_)
          · rw [if_pos c19] at h
            refine lv_iconst (v := 0) hx hb dX3_likes_94 (by decide) ?_
            refine lv_istore (lv' := [(4, .int 0), (0, .ref h0), (1, .int v1), (2, .int v2), (5, .int v5)]) hx hb dX3_likes_95 hl (by decide) rfl (fun ls hl => ?_)
            refine lv_iinc (v := (v5 + 1)) (lv' := [(5, .int (v5 + 1)), (4, .int 0), (0, .ref h0), (1, .int v1), (2, .int v2)]) hx hb dX3_likes_97 hl (k := 4) rfl rfl (by decide) rfl (fun ls hl => ?_)
            refine lv_goto (tgt := 54) hx hb dX3_likes_100 (by decide) ?_
            exact ih v1 v2 0 (v5 + 1) c_naming c_lineBy _ h hk103 _ _ hP hD hS _ (lv_sub hl [2, 3, 4, 1, 0] rfl)
          · rw [if_neg c19] at h
            refine lv_iconst (v := 1) hx hb dX3_likes_90 (by decide) ?_
            refine lv_goto (tgt := 95) hx hb dX3_likes_91 (by decide) ?_
            refine lv_istore (lv' := [(4, .int 1), (0, .ref h0), (1, .int v1), (2, .int v2), (5, .int v5)]) hx hb dX3_likes_95 hl (by decide) rfl (fun ls hl => ?_)
            refine lv_iinc (v := (v5 + 1)) (lv' := [(5, .int (v5 + 1)), (4, .int 1), (0, .ref h0), (1, .int v1), (2, .int v2)]) hx hb dX3_likes_97 hl (k := 4) rfl rfl (by decide) rfl (fun ls hl => ?_)
            refine lv_goto (tgt := 54) hx hb dX3_likes_100 (by decide) ?_
            exact ih v1 v2 1 (v5 + 1) c_naming c_lineBy _ h hk103 _ _ hP hD hS _ (lv_sub hl [2, 3, 4, 1, 0] rfl)
  have S_X3_likes_44 : ∀ (n : Nat) (v1 : Int32) (v2 : Int32) (v3 : Int32) (c_naming : (Nat → Int32)) (c_lineBy : (Nat → Int32)), F_X3_likes_44 N v1 c_now c_lineBy n v2 v3 c_naming = some ρ → ∀ (H : Heap) (locs : List Loc), va_P G.2.1 vwCl (mW h0 ad G.2.2 c_code c_now c_read c_status c_tape c_taped c_at c_textSize c_token c_number c_begins c_stops c_bad c_badPlace c_faultPlace c_clauses c_naming c_lineBy c_becomes c_dualLines c_on c_rowNow c_least c_wayFirst c_ways c_acts c_past c_listPoints c_listLines c_listed c_list c_path c_places c_firstPlaces c_px c_py c_pz c_placeMany c_modulus c_drawn c_halvesMany c_halvesFirst c_spreadsMany c_spreadsFirst c_comesTo c_seedNow c_rowThen c_hasImage c_actsThen c_imageRow c_pastThen c_statusThen) H → va_D A (mW h0 ad G.2.2 c_code c_now c_read c_status c_tape c_taped c_at c_textSize c_token c_number c_begins c_stops c_bad c_badPlace c_faultPlace c_clauses c_naming c_lineBy c_becomes c_dualLines c_on c_rowNow c_least c_wayFirst c_ways c_acts c_past c_listPoints c_listLines c_listed c_list c_path c_places c_firstPlaces c_px c_py c_pz c_placeMany c_modulus c_drawn c_halvesMany c_halvesFirst c_spreadsMany c_spreadsFirst c_comesTo c_seedNow c_rowThen c_hasImage c_actsThen c_imageRow c_pastThen c_statusThen) → va_S A s.heap H locs → ∀ (ls : Array Slot), lv_has ls 6 [(0, .ref h0), (1, .int v1), (2, .int v2), (3, .int v3)] → W p l e (rmL 3 0 0) s m args below meth c H locs 0 0 Q (F0 m 44 ls []) := by
    intro n
    induction n with
    | zero =>
      intro v1 v2 v3 c_naming c_lineBy h
      exact absurd h (by simp [F_X3_likes_44])
    | succ n ih =>
      intro v1 v2 v3 c_naming c_lineBy h H locs hP hD hS ls hl
      rw [F_X3_likes_44] at h
      refine lv_iload_n hx hb dX3_likes_44 rfl (lv_at hl 3 rfl) ?_
      refine lv_if_eq (tgt := 128) hx hb dX3_likes_45 (by decide) (fun c11 => ?_) (fun c11 => ?_)
      · rw [if_pos c11] at h
        refine lv_iload_n hx hb dX3_likes_128 rfl (lv_at hl 2 rfl) ?_
        obtain rfl := Option.some.inj h
        exact hreti rfl dX3_likes_129 rfl rfl hP hD hS
      · rw [if_neg c11] at h
        refine lv_iconst (v := 1) hx hb dX3_likes_48 (by decide) ?_
        refine lv_istore (lv' := [(4, .int 1), (0, .ref h0), (1, .int v1), (2, .int v2), (3, .int v3)]) hx hb dX3_likes_49 hl (by decide) rfl (fun ls hl => ?_)
        refine lv_iconst (v := 0) hx hb dX3_likes_51 (by decide) ?_
        refine lv_istore (lv' := [(5, .int 0), (4, .int 1), (0, .ref h0), (1, .int v1), (2, .int v2), (3, .int v3)]) hx hb dX3_likes_52 hl (by decide) rfl (fun ls hl => ?_)
        refine S_X3_likes_54 N v1 v2 1 0 c_naming c_lineBy _ h ?_ _ _ hP hD hS _ (lv_sub hl [2, 3, 4, 1, 0] rfl)
        · intro u4_20 H locs ls h hP hD hS hl
          refine lv_iload_n hx hb dX3_likes_103 rfl (lv_at hl 2 rfl) ?_
          refine lv_iload hx hb dX3_likes_104 (lv_at hl 3 rfl) ?_
          refine lv_if_eq (tgt := 113) hx hb dX3_likes_106 (by decide) (fun c21 => ?_) (fun c21 => ?_)
          · rw [if_pos c21] at h
            refine lv_iconst (v := 0) hx hb dX3_likes_113 (by decide) ?_
            refine lv_iadd hx hb dX3_likes_114 ?_
            refine lv_istore_n (lv' := [(2, .int (v2 + (0 : Int32))), (0, .ref h0), (1, .int v1), (4, .int u4_20)]) hx hb dX3_likes_115 rfl hl (by decide) rfl (fun ls hl => ?_)
            refine lv_aload_n hx hb dX3_likes_116 rfl (lv_at hl 1 rfl) ?_
            refine lv_aload_n hx hb dX3_likes_117 rfl (lv_at hl 1 rfl) ?_
            obtain ⟨y22, e22, h⟩ := ob_s h
            refine MR.callV (q0 := 0) (M_X3_points hG e22) S (cw_X3_points hts q1913 ⟨Nat.le_of_ble_eq_true rfl, Nat.le_of_ble_eq_true rfl⟩) hW0 hK hP rfl rfl rfl hl.1 rfl (Nat.le_of_ble_eq_true rfl) dX3_likes_118 ⟨Nat.zero_le _, Nat.zero_le _⟩ ?_
            obtain ⟨y23, e23, h⟩ := ob_s h
            refine MW.callV (q0 := 0) (M_X3_nextNaming hG e23) S (cw_X3_nextNaming hts q1990 ⟨Nat.le_of_ble_eq_true rfl, Nat.le_of_ble_eq_true rfl⟩) hW0 hK hP hD hS hA rfl rfl rfl hl.1 rfl (Nat.le_of_ble_eq_true rfl) dX3_likes_121 ⟨Nat.zero_le _, Nat.zero_le _⟩ (fun H locs hP hD hS => ?_)
            have hP : va_P G.2.1 vwCl (mW h0 ad G.2.2 c_code c_now c_read c_status c_tape c_taped c_at c_textSize c_token c_number c_begins c_stops c_bad c_badPlace c_faultPlace c_clauses y23.2 c_lineBy c_becomes c_dualLines c_on c_rowNow c_least c_wayFirst c_ways c_acts c_past c_listPoints c_listLines c_listed c_list c_path c_places c_firstPlaces c_px c_py c_pz c_placeMany c_modulus c_drawn c_halvesMany c_halvesFirst c_spreadsMany c_spreadsFirst c_comesTo c_seedNow c_rowThen c_hasImage c_actsThen c_imageRow c_pastThen c_statusThen) H := hP
            have hD : va_D A (mW h0 ad G.2.2 c_code c_now c_read c_status c_tape c_taped c_at c_textSize c_token c_number c_begins c_stops c_bad c_badPlace c_faultPlace c_clauses y23.2 c_lineBy c_becomes c_dualLines c_on c_rowNow c_least c_wayFirst c_ways c_acts c_past c_listPoints c_listLines c_listed c_list c_path c_places c_firstPlaces c_px c_py c_pz c_placeMany c_modulus c_drawn c_halvesMany c_halvesFirst c_spreadsMany c_spreadsFirst c_comesTo c_seedNow c_rowThen c_hasImage c_actsThen c_imageRow c_pastThen c_statusThen) := hD
            refine W.eq (g2 := F0 m 124 ls [.int y23.1]) rfl ?_
            refine lv_istore_n (lv' := [(3, .int y23.1), (2, .int (v2 + (0 : Int32))), (0, .ref h0), (1, .int v1), (4, .int u4_20)]) hx hb dX3_likes_124 rfl hl (by decide) rfl (fun ls hl => ?_)
            refine lv_goto (tgt := 44) hx hb dX3_likes_125 (by decide) ?_
            exact ih v1 (v2 + (0 : Int32)) y23.1 y23.2 c_lineBy h _ _ hP hD hS _ (lv_sub hl [2, 3, 1, 0] rfl)
          · rw [if_neg c21] at h
            refine lv_iconst (v := 1) hx hb dX3_likes_109 (by decide) ?_
            refine lv_goto (tgt := 114) hx hb dX3_likes_110 (by decide) ?_
            refine lv_iadd hx hb dX3_likes_114 ?_
            refine lv_istore_n (lv' := [(2, .int (v2 + (1 : Int32))), (0, .ref h0), (1, .int v1), (4, .int u4_20)]) hx hb dX3_likes_115 rfl hl (by decide) rfl (fun ls hl => ?_)
            refine lv_aload_n hx hb dX3_likes_116 rfl (lv_at hl 1 rfl) ?_
            refine lv_aload_n hx hb dX3_likes_117 rfl (lv_at hl 1 rfl) ?_
            obtain ⟨y24, e24, h⟩ := ob_s h
            refine MR.callV (q0 := 0) (M_X3_points hG e24) S (cw_X3_points hts q1913 ⟨Nat.le_of_ble_eq_true rfl, Nat.le_of_ble_eq_true rfl⟩) hW0 hK hP rfl rfl rfl hl.1 rfl (Nat.le_of_ble_eq_true rfl) dX3_likes_118 ⟨Nat.zero_le _, Nat.zero_le _⟩ ?_
            obtain ⟨y25, e25, h⟩ := ob_s h
            refine MW.callV (q0 := 0) (M_X3_nextNaming hG e25) S (cw_X3_nextNaming hts q1990 ⟨Nat.le_of_ble_eq_true rfl, Nat.le_of_ble_eq_true rfl⟩) hW0 hK hP hD hS hA rfl rfl rfl hl.1 rfl (Nat.le_of_ble_eq_true rfl) dX3_likes_121 ⟨Nat.zero_le _, Nat.zero_le _⟩ (fun H locs hP hD hS => ?_)
            have hP : va_P G.2.1 vwCl (mW h0 ad G.2.2 c_code c_now c_read c_status c_tape c_taped c_at c_textSize c_token c_number c_begins c_stops c_bad c_badPlace c_faultPlace c_clauses y25.2 c_lineBy c_becomes c_dualLines c_on c_rowNow c_least c_wayFirst c_ways c_acts c_past c_listPoints c_listLines c_listed c_list c_path c_places c_firstPlaces c_px c_py c_pz c_placeMany c_modulus c_drawn c_halvesMany c_halvesFirst c_spreadsMany c_spreadsFirst c_comesTo c_seedNow c_rowThen c_hasImage c_actsThen c_imageRow c_pastThen c_statusThen) H := hP
            have hD : va_D A (mW h0 ad G.2.2 c_code c_now c_read c_status c_tape c_taped c_at c_textSize c_token c_number c_begins c_stops c_bad c_badPlace c_faultPlace c_clauses y25.2 c_lineBy c_becomes c_dualLines c_on c_rowNow c_least c_wayFirst c_ways c_acts c_past c_listPoints c_listLines c_listed c_list c_path c_places c_firstPlaces c_px c_py c_pz c_placeMany c_modulus c_drawn c_halvesMany c_halvesFirst c_spreadsMany c_spreadsFirst c_comesTo c_seedNow c_rowThen c_hasImage c_actsThen c_imageRow c_pastThen c_statusThen) := hD
            refine W.eq (g2 := F0 m 124 ls [.int y25.1]) rfl ?_
            refine lv_istore_n (lv' := [(3, .int y25.1), (2, .int (v2 + (1 : Int32))), (0, .ref h0), (1, .int v1), (4, .int u4_20)]) hx hb dX3_likes_124 rfl hl (by decide) rfl (fun ls hl => ?_)
            refine lv_goto (tgt := 44) hx hb dX3_likes_125 (by decide) ?_
            exact ih v1 (v2 + (1 : Int32)) y25.1 y25.2 c_lineBy h _ _ hP hD hS _ (lv_sub hl [2, 3, 1, 0] rfl)
  refine lv_aload_n hx hb dX3_likes_0 rfl (lv_at hl 0 rfl) ?_
  refine lv_iload_n hx hb dX3_likes_1 rfl (lv_at hl 1 rfl) ?_
  refine lv_iconst (v := 0) hx hb dX3_likes_2 (by decide) ?_
  obtain ⟨y1, e1, h⟩ := ob_s h
  refine MR.callV (q0 := 0) (M_X3_onShelf hG e1) S (cw_X3_onShelf hts q2122 ⟨Nat.le_of_ble_eq_true rfl, Nat.le_of_ble_eq_true rfl⟩) hW0 hK hP rfl rfl rfl hl.1 rfl (Nat.le_of_ble_eq_true rfl) dX3_likes_3 ⟨Nat.zero_le _, Nat.zero_le _⟩ ?_
  refine lv_aload_n hx hb dX3_likes_6 rfl (lv_at hl 0 rfl) ?_
  obtain ⟨y2, e2, h⟩ := ob_s h
  refine MR.callV (q0 := 0) (M_X3_points hG e2) S (cw_X3_points hts q1913 ⟨Nat.le_of_ble_eq_true rfl, Nat.le_of_ble_eq_true rfl⟩) hW0 hK hP rfl rfl rfl hl.1 rfl (Nat.le_of_ble_eq_true rfl) dX3_likes_7 ⟨Nat.zero_le _, Nat.zero_le _⟩ ?_
  refine lv_icmp_ne (tgt := 26) hx hb dX3_likes_10 (by decide) (fun c3 => ?_) (fun c3 => ?_)
  · rw [if_neg c3] at h
    refine lv_iconst (v := 0) hx hb dX3_likes_26 (by decide) ?_
    obtain rfl := Option.some.inj h
    exact hreti rfl dX3_likes_27 rfl rfl hP hD hS
  · rw [if_pos c3] at h
    refine lv_aload_n hx hb dX3_likes_13 rfl (lv_at hl 0 rfl) ?_
    refine lv_iload_n hx hb dX3_likes_14 rfl (lv_at hl 1 rfl) ?_
    refine lv_iconst (v := 1) hx hb dX3_likes_15 (by decide) ?_
    obtain ⟨y5, e5, h⟩ := ob_s h
    refine MR.callV (q0 := 0) (M_X3_onShelf hG e5) S (cw_X3_onShelf hts q2122 ⟨Nat.le_of_ble_eq_true rfl, Nat.le_of_ble_eq_true rfl⟩) hW0 hK hP rfl rfl rfl hl.1 rfl (Nat.le_of_ble_eq_true rfl) dX3_likes_16 ⟨Nat.zero_le _, Nat.zero_le _⟩ ?_
    refine lv_aload_n hx hb dX3_likes_19 rfl (lv_at hl 0 rfl) ?_
    obtain ⟨y6, e6, h⟩ := ob_s h
    refine MR.callV (q0 := 0) (M_X3_lines hG e6) S (cw_X3_lines hts q1917 ⟨Nat.le_of_ble_eq_true rfl, Nat.le_of_ble_eq_true rfl⟩) hW0 hK hP rfl rfl rfl hl.1 rfl (Nat.le_of_ble_eq_true rfl) dX3_likes_20 ⟨Nat.zero_le _, Nat.zero_le _⟩ ?_
    refine lv_icmp_eq (tgt := 28) hx hb dX3_likes_23 (by decide) (fun c7 => ?_) (fun c7 => ?_)
    · rw [if_pos c7] at h
      refine lv_iconst (v := 0) hx hb dX3_likes_28 (by decide) ?_
      refine lv_istore_n (lv' := [(2, .int 0), (0, .ref h0), (1, .int v1)]) hx hb dX3_likes_29 rfl hl (by decide) rfl (fun ls hl => ?_)
      refine lv_aload_n hx hb dX3_likes_30 rfl (lv_at hl 1 rfl) ?_
      obtain ⟨y8, e8, h⟩ := ob_s h
      refine MW.callV (q0 := 0) (M_X3_tellLines hG e8) S (cw_X3_tellLines hts q1974 ⟨Nat.le_of_ble_eq_true rfl, Nat.le_of_ble_eq_true rfl⟩) hW0 hK hP hD hS hA rfl rfl rfl hl.1 rfl (Nat.le_of_ble_eq_true rfl) dX3_likes_31 ⟨Nat.zero_le _, Nat.zero_le _⟩ (fun H locs hP hD hS => ?_)
      have hP : va_P G.2.1 vwCl (mW h0 ad G.2.2 c_code c_now c_read c_status c_tape c_taped c_at c_textSize c_token c_number c_begins c_stops c_bad c_badPlace c_faultPlace c_clauses c_naming y8 c_becomes c_dualLines c_on c_rowNow c_least c_wayFirst c_ways c_acts c_past c_listPoints c_listLines c_listed c_list c_path c_places c_firstPlaces c_px c_py c_pz c_placeMany c_modulus c_drawn c_halvesMany c_halvesFirst c_spreadsMany c_spreadsFirst c_comesTo c_seedNow c_rowThen c_hasImage c_actsThen c_imageRow c_pastThen c_statusThen) H := hP
      have hD : va_D A (mW h0 ad G.2.2 c_code c_now c_read c_status c_tape c_taped c_at c_textSize c_token c_number c_begins c_stops c_bad c_badPlace c_faultPlace c_clauses c_naming y8 c_becomes c_dualLines c_on c_rowNow c_least c_wayFirst c_ways c_acts c_past c_listPoints c_listLines c_listed c_list c_path c_places c_firstPlaces c_px c_py c_pz c_placeMany c_modulus c_drawn c_halvesMany c_halvesFirst c_spreadsMany c_spreadsFirst c_comesTo c_seedNow c_rowThen c_hasImage c_actsThen c_imageRow c_pastThen c_statusThen) := hD
      refine W.eq (g2 := F0 m 34 ls []) rfl ?_
      refine lv_aload_n hx hb dX3_likes_34 rfl (lv_at hl 1 rfl) ?_
      refine lv_aload_n hx hb dX3_likes_35 rfl (lv_at hl 1 rfl) ?_
      obtain ⟨y9, e9, h⟩ := ob_s h
      refine MR.callV (q0 := 0) (M_X3_points hG e9) S (cw_X3_points hts q1913 ⟨Nat.le_of_ble_eq_true rfl, Nat.le_of_ble_eq_true rfl⟩) hW0 hK hP rfl rfl rfl hl.1 rfl (Nat.le_of_ble_eq_true rfl) dX3_likes_36 ⟨Nat.zero_le _, Nat.zero_le _⟩ ?_
      obtain ⟨y10, e10, h⟩ := ob_s h
      refine MW.callV (q0 := 0) (M_X3_beginNaming hG e10) S (cw_X3_beginNaming hts q1978 ⟨Nat.le_of_ble_eq_true rfl, Nat.le_of_ble_eq_true rfl⟩) hW0 hK hP hD hS hA rfl rfl rfl hl.1 rfl (Nat.le_of_ble_eq_true rfl) dX3_likes_39 ⟨Nat.zero_le _, Nat.zero_le _⟩ (fun H locs hP hD hS => ?_)
      have hP : va_P G.2.1 vwCl (mW h0 ad G.2.2 c_code c_now c_read c_status c_tape c_taped c_at c_textSize c_token c_number c_begins c_stops c_bad c_badPlace c_faultPlace c_clauses y10 y8 c_becomes c_dualLines c_on c_rowNow c_least c_wayFirst c_ways c_acts c_past c_listPoints c_listLines c_listed c_list c_path c_places c_firstPlaces c_px c_py c_pz c_placeMany c_modulus c_drawn c_halvesMany c_halvesFirst c_spreadsMany c_spreadsFirst c_comesTo c_seedNow c_rowThen c_hasImage c_actsThen c_imageRow c_pastThen c_statusThen) H := hP
      have hD : va_D A (mW h0 ad G.2.2 c_code c_now c_read c_status c_tape c_taped c_at c_textSize c_token c_number c_begins c_stops c_bad c_badPlace c_faultPlace c_clauses y10 y8 c_becomes c_dualLines c_on c_rowNow c_least c_wayFirst c_ways c_acts c_past c_listPoints c_listLines c_listed c_list c_path c_places c_firstPlaces c_px c_py c_pz c_placeMany c_modulus c_drawn c_halvesMany c_halvesFirst c_spreadsMany c_spreadsFirst c_comesTo c_seedNow c_rowThen c_hasImage c_actsThen c_imageRow c_pastThen c_statusThen) := hD
      refine W.eq (g2 := F0 m 42 ls []) rfl ?_
      refine lv_iconst (v := 1) hx hb dX3_likes_42 (by decide) ?_
      refine lv_istore_n (lv' := [(3, .int 1), (2, .int 0), (0, .ref h0), (1, .int v1)]) hx hb dX3_likes_43 rfl hl (by decide) rfl (fun ls hl => ?_)
      refine S_X3_likes_44 N v1 0 1 y10 y8 h  _ _ hP hD hS _ (lv_sub hl [2, 3, 1, 0] rfl)
    · rw [if_neg c7] at h
      refine lv_iconst (v := 0) hx hb dX3_likes_26 (by decide) ?_
      obtain rfl := Option.some.inj h
      exact hreti rfl dX3_likes_27 rfl rfl hP hD hS
def F_X3_lies_4 (N : Nat) (v1 : Int32) (c_now : (Nat → Int32)) (c_naming : (Nat → Int32)) : Nat → Int32 → Int32 → Option (Int32)
  | 0, _, _ => none
  | n + 1, v2, v3 => ((F_X3_onShelf N v1 1 c_now).bind fun y1 => (if y1 ≤ v3 then (some (1)) else ((F_X3_onShelf N v1 ((2 : Int32) + v3) c_now).bind fun y4 => ((F_X3_named N y4 c_naming).bind fun y5 => ((F_X3_lineOf N y5 c_now).bind fun y6 => (if y6 = (-1) then (some (0)) else (if ((v2 >>> (y6 &&& 31)) &&& (1 : Int32)) = 1 then (some (0)) else (F_X3_lies_4 N v1 c_now c_naming n (v2 ||| ((1 : Int32) <<< (y6 &&& 31))) (v3 + 1)))))))))
def F_X3_lies (N : Nat) (v1 : Int32) (c_now : (Nat → Int32)) (c_naming : (Nat → Int32)) : Option (Int32) := (F_X3_lies_4 N v1 c_now c_naming N 0 0)
theorem cw_X3_lies {R : Room} {s : State} {args : Array Value} {own : String} {index lev mc ms : Nat} (hts : ∀ w ∈ lw_all, w.before args s = true) (hl : Cond.methodLink own index yX3_lies ∈ lw_all) (hR : (rmL lev mc ms).frames + 1 ≤ R.frames ∧ 8 + (5 + 11) + (rmL lev mc ms).locals ≤ R.locals) : CallW R s args own RX3 index yX3_lies cX3_lies 5 (some .boolean) (ws_ yX3_lies cX3_lies 5 (some .boolean)) (rmL lev mc ms) mc ms 1 := cwV 1 hts (lw_V hl q2132 qs126 q172 q2133) rfl rfl rfl (by decide +kernel) hR
set_option maxHeartbeats 4000000 in
theorem M_X3_lies {l : Launch} {G : GE} (hG : GC G) {N : Nat} {h0 : Nat} {ad : Nat → Nat} {c_code : Int32} {c_read : (Nat → Int32)} {c_status : (Nat → Int32)} {c_tape : (Nat → Int32)} {c_taped : Int32} {c_at : Int32} {c_textSize : Int32} {c_token : Int32} {c_number : Int32} {c_begins : Int32} {c_stops : Int32} {c_bad : Int32} {c_badPlace : Int32} {c_faultPlace : Int32} {c_clauses : Int32} {c_lineBy : (Nat → Int32)} {c_becomes : (Nat → Int32)} {c_dualLines : (Nat → Int32)} {c_on : (Nat → Int32)} {c_rowNow : (Nat → Int32)} {c_least : (Nat → Int32)} {c_wayFirst : (Nat → Int32)} {c_ways : Int32} {c_acts : Int32} {c_past : (Nat → Int32)} {c_listPoints : Int32} {c_listLines : Int32} {c_listed : Int32} {c_list : (Nat → Int32)} {c_path : (Nat → Int32)} {c_places : (Nat → Int32)} {c_firstPlaces : (Nat → Int32)} {c_px : (Nat → Int32)} {c_py : (Nat → Int32)} {c_pz : (Nat → Int32)} {c_placeMany : Int32} {c_modulus : Int32} {c_drawn : Int32} {c_halvesMany : Int32} {c_halvesFirst : Int32} {c_spreadsMany : Int32} {c_spreadsFirst : Int32} {c_comesTo : (Nat → Int32)} {c_seedNow : Int32} {c_rowThen : (Nat → Int32)} {c_hasImage : Int32} {c_actsThen : Int32} {c_imageRow : (Nat → Int32)} {c_pastThen : (Nat → Int32)} {c_statusThen : (Nat → Int32)} {v1 : Int32} {c_now : (Nat → Int32)} {c_naming : (Nat → Int32)} {ρ : (Int32)} (h : F_X3_lies N v1 c_now c_naming = some ρ) : MR l G yX3_lies cX3_lies 5 (some .boolean) 3 (mW h0 ad G.2.2 c_code c_now c_read c_status c_tape c_taped c_at c_textSize c_token c_number c_begins c_stops c_bad c_badPlace c_faultPlace c_clauses c_naming c_lineBy c_becomes c_dualLines c_on c_rowNow c_least c_wayFirst c_ways c_acts c_past c_listPoints c_listLines c_listed c_list c_path c_places c_firstPlaces c_px c_py c_pz c_placeMany c_modulus c_drawn c_halvesMany c_halvesFirst c_spreadsMany c_spreadsFirst c_comesTo c_seedNow c_rowThen c_hasImage c_actsThen c_imageRow c_pastThen c_statusThen) [.ref h0, .int v1] ρ := by
  rw [F_X3_lies] at h
  refine MR.start (rt := .boolean) hG (by decide) (Nat.le_of_ble_eq_true rfl) ?_
  intro p e s m args below meth c Q S hW0 hK hP hret ls hl
  obtain ⟨hx, hb, hml, hown, hts⟩ := id S
  have hl : lv_has ls 5 [(0, .ref h0), (1, .int v1)] := hl
  have S_X3_lies_4 : ∀ (n : Nat) (v1 : Int32) (v2 : Int32) (v3 : Int32), F_X3_lies_4 N v1 c_now c_naming n v2 v3 = some ρ → ∀ (ls : Array Slot), lv_has ls 5 [(0, .ref h0), (1, .int v1), (2, .int v2), (3, .int v3)] → W p l e (rmL 3 0 0) s m args below meth c s.heap [] 0 0 Q (F0 m 4 ls []) := by
    intro n
    induction n with
    | zero =>
      intro v1 v2 v3 h
      exact absurd h (by simp [F_X3_lies_4])
    | succ n ih =>
      intro v1 v2 v3 h ls hl
      rw [F_X3_lies_4] at h
      refine lv_iload_n hx hb dX3_lies_4 rfl (lv_at hl 3 rfl) ?_
      refine lv_aload_n hx hb dX3_lies_5 rfl (lv_at hl 0 rfl) ?_
      refine lv_iload_n hx hb dX3_lies_6 rfl (lv_at hl 1 rfl) ?_
      refine lv_iconst (v := 1) hx hb dX3_lies_7 (by decide) ?_
      obtain ⟨y1, e1, h⟩ := ob_s h
      refine MR.callV (q0 := 0) (M_X3_onShelf hG e1) S (cw_X3_onShelf hts q2122 ⟨Nat.le_of_ble_eq_true rfl, Nat.le_of_ble_eq_true rfl⟩) hW0 hK hP rfl rfl rfl hl.1 rfl (Nat.le_of_ble_eq_true rfl) dX3_lies_8 ⟨Nat.zero_le _, Nat.zero_le _⟩ ?_
      refine lv_icmp_ge (tgt := 63) hx hb dX3_lies_11 (by decide) (fun c2 => ?_) (fun c2 => ?_)
      · rw [if_pos c2] at h
        refine lv_iconst (v := 1) hx hb dX3_lies_63 (by decide) ?_
        obtain rfl := Option.some.inj h
        exact hret dX3_lies_64 rfl
      · rw [if_neg c2] at h
        refine lv_aload_n hx hb dX3_lies_14 rfl (lv_at hl 0 rfl) ?_
        refine lv_aload_n hx hb dX3_lies_15 rfl (lv_at hl 0 rfl) ?_
        refine lv_aload_n hx hb dX3_lies_16 rfl (lv_at hl 0 rfl) ?_
        refine lv_iload_n hx hb dX3_lies_17 rfl (lv_at hl 1 rfl) ?_
        refine lv_iconst (v := 2) hx hb dX3_lies_18 (by decide) ?_
        refine lv_iload_n hx hb dX3_lies_19 rfl (lv_at hl 3 rfl) ?_
        refine lv_iadd hx hb dX3_lies_20 ?_
        obtain ⟨y4, e4, h⟩ := ob_s h
        refine MR.callV (q0 := 0) (M_X3_onShelf hG e4) S (cw_X3_onShelf hts q2122 ⟨Nat.le_of_ble_eq_true rfl, Nat.le_of_ble_eq_true rfl⟩) hW0 hK hP rfl rfl rfl hl.1 rfl (Nat.le_of_ble_eq_true rfl) dX3_lies_21 ⟨Nat.zero_le _, Nat.zero_le _⟩ ?_
        obtain ⟨y5, e5, h⟩ := ob_s h
        refine MR.callV (q0 := 0) (M_X3_named hG e5) S (cw_X3_named hts q1986 ⟨Nat.le_of_ble_eq_true rfl, Nat.le_of_ble_eq_true rfl⟩) hW0 hK hP rfl rfl rfl hl.1 rfl (Nat.le_of_ble_eq_true rfl) dX3_lies_24 ⟨Nat.zero_le _, Nat.zero_le _⟩ ?_
        obtain ⟨y6, e6, h⟩ := ob_s h
        refine MR.callV (q0 := 0) (M_X3_lineOf hG e6) S (cw_X3_lineOf hts q1953 ⟨Nat.le_of_ble_eq_true rfl, Nat.le_of_ble_eq_true rfl⟩) hW0 hK hP rfl rfl rfl hl.1 rfl (Nat.le_of_ble_eq_true rfl) dX3_lies_27 ⟨Nat.zero_le _, Nat.zero_le _⟩ ?_
        refine lv_istore (lv' := [(4, .int y6), (0, .ref h0), (1, .int v1), (2, .int v2), (3, .int v3)]) hx hb dX3_lies_30 hl (by decide) rfl (fun ls hl => ?_)
        refine lv_iload hx hb dX3_lies_32 (lv_at hl 0 rfl) ?_
        refine lv_iconst (v := (-1)) hx hb dX3_lies_34 (by decide) ?_
        refine lv_icmp_eq (tgt := 48) hx hb dX3_lies_35 (by decide) (fun c7 => ?_) (fun c7 => ?_)
        · rw [if_pos c7] at h
          refine lv_iconst (v := 0) hx hb dX3_lies_48 (by decide) ?_
          obtain rfl := Option.some.inj h
          exact hret dX3_lies_49 rfl
        · rw [if_neg c7] at h
          refine lv_iload_n hx hb dX3_lies_38 rfl (lv_at hl 3 rfl) ?_
          refine lv_iload hx hb dX3_lies_39 (lv_at hl 0 rfl) ?_
          refine lv_ishr hx hb dX3_lies_41 ?_
          refine lv_iconst (v := 1) hx hb dX3_lies_42 (by decide) ?_
          refine lv_iand hx hb dX3_lies_43 ?_
          refine lv_iconst (v := 1) hx hb dX3_lies_44 (by decide) ?_
          refine lv_icmp_ne (tgt := 50) hx hb dX3_lies_45 (by decide) (fun c9 => ?_) (fun c9 => ?_)
          · rw [if_neg c9] at h
            refine lv_iload_n hx hb dX3_lies_50 rfl (lv_at hl 3 rfl) ?_
            refine lv_iconst (v := 1) hx hb dX3_lies_51 (by decide) ?_
            refine lv_iload hx hb dX3_lies_52 (lv_at hl 0 rfl) ?_
            refine lv_ishl hx hb dX3_lies_54 ?_
            refine lv_ior hx hb dX3_lies_55 ?_
            refine lv_istore_n (lv' := [(2, .int (v2 ||| ((1 : Int32) <<< (y6 &&& 31)))), (4, .int y6), (0, .ref h0), (1, .int v1), (3, .int v3)]) hx hb dX3_lies_56 rfl hl (by decide) rfl (fun ls hl => ?_)
            refine lv_iinc (v := (v3 + 1)) (lv' := [(3, .int (v3 + 1)), (2, .int (v2 ||| ((1 : Int32) <<< (y6 &&& 31)))), (4, .int y6), (0, .ref h0), (1, .int v1)]) hx hb dX3_lies_57 hl (k := 4) rfl rfl (by decide) rfl (fun ls hl => ?_)
            refine lv_goto (tgt := 4) hx hb dX3_lies_60 (by decide) ?_
            exact ih v1 (v2 ||| ((1 : Int32) <<< (y6 &&& 31))) (v3 + 1) h _ (lv_sub hl [3, 4, 1, 0] rfl)
          · rw [if_pos c9] at h
            refine lv_iconst (v := 0) hx hb dX3_lies_48 (by decide) ?_
            obtain rfl := Option.some.inj h
            exact hret dX3_lies_49 rfl
  refine lv_iconst (v := 0) hx hb dX3_lies_0 (by decide) ?_
  refine lv_istore_n (lv' := [(2, .int 0), (0, .ref h0), (1, .int v1)]) hx hb dX3_lies_1 rfl hl (by decide) rfl (fun ls hl => ?_)
  refine lv_iconst (v := 0) hx hb dX3_lies_2 (by decide) ?_
  refine lv_istore_n (lv' := [(3, .int 0), (2, .int 0), (0, .ref h0), (1, .int v1)]) hx hb dX3_lies_3 rfl hl (by decide) rfl (fun ls hl => ?_)
  refine S_X3_lies_4 N v1 0 0 h  _ (lv_sub hl [2, 3, 1, 0] rfl)
def F_X3_tellWays_69 (N : Nat) (rc : Int32 → Int32 → Int32 → (Nat → Int32) → (Nat → Int32) → (Nat → Int32) → Int32 → Option ((Nat → Int32) × (Nat → Int32) × Int32)) (v1 : Int32) (v2 : Int32) (v3 : Int32) (c_now : (Nat → Int32)) : Nat → Int32 → (Nat → Int32) → (Nat → Int32) → Int32 → Option ((Nat → Int32) × (Nat → Int32) × Int32)
  | 0, _, _, _, _ => none
  | n + 1, v4, c_naming, c_wayFirst, c_ways => ((F_X3_points N c_now).bind fun y3 => (if y3 ≤ v4 then (some (c_naming, c_wayFirst, c_ways)) else (if ((v3 >>> (v4 &&& 31)) &&& (1 : Int32)) = 1 then (F_X3_tellWays_69 N rc v1 v2 v3 c_now n (v4 + 1) c_naming c_wayFirst c_ways) else (ckI v2 8 ((rc v1 (v2 + (1 : Int32)) (v3 ||| ((1 : Int32) <<< (v4 &&& 31))) c_now (upd c_naming (Int32.toNatClampNeg v2) v4) c_wayFirst c_ways).bind fun y8 => (F_X3_tellWays_69 N rc v1 v2 v3 c_now n (v4 + 1) y8.1 y8.2.1 y8.2.2))))))
def F_X3_tellWays_22 (N : Nat) (rc : Int32 → Int32 → Int32 → (Nat → Int32) → (Nat → Int32) → (Nat → Int32) → Int32 → Option ((Nat → Int32) × (Nat → Int32) × Int32)) (v2 : Int32) (c_naming : (Nat → Int32)) : Nat → Int32 → (Nat → Int32) → Int32 → Option ((Nat → Int32) × (Nat → Int32) × Int32)
  | 0, _, _, _ => none
  | n + 1, v4, c_wayFirst, c_ways => (if v2 ≤ v4 then (some (c_naming, c_wayFirst, (c_ways + (1 : Int32)))) else (if c_ways = 0 then (ckI v4 8 (ckI v4 8 (F_X3_tellWays_22 N rc v2 c_naming n (v4 + 1) (upd c_wayFirst (Int32.toNatClampNeg v4) (c_naming (Int32.toNatClampNeg v4))) c_ways))) else (some (c_naming, c_wayFirst, (c_ways + (1 : Int32))))))
def F_X3_tellWays (N : Nat) : Nat → (v1 : Int32) → (v2 : Int32) → (v3 : Int32) → (c_now : (Nat → Int32)) → (c_naming : (Nat → Int32)) → (c_wayFirst : (Nat → Int32)) → (c_ways : Int32) → Option ((Nat → Int32) × (Nat → Int32) × Int32)
  | 0, _, _, _, _, _, _, _ => none
  | d + 1, v1, v2, v3, c_now, c_naming, c_wayFirst, c_ways => ((F_X3_onShelf N v1 0 c_now).bind fun y1 => (if v2 = y1 then ((F_X3_lies N v1 c_now c_naming).bind fun y9 => (if y9 = 0 then (some (c_naming, c_wayFirst, c_ways)) else (F_X3_tellWays_22 N (F_X3_tellWays N d) v2 c_naming N 0 c_wayFirst c_ways))) else (F_X3_tellWays_69 N (F_X3_tellWays N d) v1 v2 v3 c_now N 0 c_naming c_wayFirst c_ways)))
theorem cw_X3_tellWays {R : Room} {s : State} {args : Array Value} {own : String} {index lev mc ms : Nat} (hts : ∀ w ∈ lw_all, w.before args s = true) (hl : Cond.methodLink own index yX3_tellWays ∈ lw_all) (hR : (rmL lev mc ms).frames + 1 ≤ R.frames ∧ 8 + (5 + 11) + (rmL lev mc ms).locals ≤ R.locals) : CallW R s args own RX3 index yX3_tellWays cX3_tellWays 5 none (ws_ yX3_tellWays cX3_tellWays 5 none) (rmL lev mc ms) mc ms 3 := cwV 3 hts (lw_V hl q2128 qs125 q172 q2129) rfl rfl rfl (by decide +kernel) hR
set_option maxHeartbeats 4000000 in
theorem M_X3_tellWays {l : Launch} {G : GE} (hG : GC G) {N : Nat} {h0 : Nat} {ad : Nat → Nat} {c_code : Int32} {c_read : (Nat → Int32)} {c_status : (Nat → Int32)} {c_tape : (Nat → Int32)} {c_taped : Int32} {c_at : Int32} {c_textSize : Int32} {c_token : Int32} {c_number : Int32} {c_begins : Int32} {c_stops : Int32} {c_bad : Int32} {c_badPlace : Int32} {c_faultPlace : Int32} {c_clauses : Int32} {c_lineBy : (Nat → Int32)} {c_becomes : (Nat → Int32)} {c_dualLines : (Nat → Int32)} {c_on : (Nat → Int32)} {c_rowNow : (Nat → Int32)} {c_least : (Nat → Int32)} {c_acts : Int32} {c_past : (Nat → Int32)} {c_listPoints : Int32} {c_listLines : Int32} {c_listed : Int32} {c_list : (Nat → Int32)} {c_path : (Nat → Int32)} {c_places : (Nat → Int32)} {c_firstPlaces : (Nat → Int32)} {c_px : (Nat → Int32)} {c_py : (Nat → Int32)} {c_pz : (Nat → Int32)} {c_placeMany : Int32} {c_modulus : Int32} {c_drawn : Int32} {c_halvesMany : Int32} {c_halvesFirst : Int32} {c_spreadsMany : Int32} {c_spreadsFirst : Int32} {c_comesTo : (Nat → Int32)} {c_seedNow : Int32} {c_rowThen : (Nat → Int32)} {c_hasImage : Int32} {c_actsThen : Int32} {c_imageRow : (Nat → Int32)} {c_pastThen : (Nat → Int32)} {c_statusThen : (Nat → Int32)} : ∀ (d : Nat) {v1 : Int32} {v2 : Int32} {v3 : Int32} {c_now : (Nat → Int32)} {c_naming : (Nat → Int32)} {c_wayFirst : (Nat → Int32)} {c_ways : Int32} {ρ : ((Nat → Int32) × (Nat → Int32) × Int32)} (h : F_X3_tellWays N d v1 v2 v3 c_now c_naming c_wayFirst c_ways = some ρ), MW l G yX3_tellWays cX3_tellWays 5 none (4 + d) (mW h0 ad G.2.2 c_code c_now c_read c_status c_tape c_taped c_at c_textSize c_token c_number c_begins c_stops c_bad c_badPlace c_faultPlace c_clauses c_naming c_lineBy c_becomes c_dualLines c_on c_rowNow c_least c_wayFirst c_ways c_acts c_past c_listPoints c_listLines c_listed c_list c_path c_places c_firstPlaces c_px c_py c_pz c_placeMany c_modulus c_drawn c_halvesMany c_halvesFirst c_spreadsMany c_spreadsFirst c_comesTo c_seedNow c_rowThen c_hasImage c_actsThen c_imageRow c_pastThen c_statusThen) [.ref h0, .int v1, .int v2, .int v3] none (mW h0 ad G.2.2 c_code c_now c_read c_status c_tape c_taped c_at c_textSize c_token c_number c_begins c_stops c_bad c_badPlace c_faultPlace c_clauses ρ.1 c_lineBy c_becomes c_dualLines c_on c_rowNow c_least ρ.2.1 ρ.2.2 c_acts c_past c_listPoints c_listLines c_listed c_list c_path c_places c_firstPlaces c_px c_py c_pz c_placeMany c_modulus c_drawn c_halvesMany c_halvesFirst c_spreadsMany c_spreadsFirst c_comesTo c_seedNow c_rowThen c_hasImage c_actsThen c_imageRow c_pastThen c_statusThen) := by
  intro d
  induction d with
  | zero =>
    intro v1 v2 v3 c_now c_naming c_wayFirst c_ways ρ h
    exact absurd h (by simp [F_X3_tellWays])
  | succ d ihd =>
    intro v1 v2 v3 c_now c_naming c_wayFirst c_ways ρ h
    rw [F_X3_tellWays] at h
    refine MW.start hG (by decide) (Nat.le_of_ble_eq_true rfl) ?_
    intro p e s m args below meth c Q A S hW0 hK hP hD hA hreti hretv ls hl
    have hS : va_S A s.heap s.heap [] := va_S.rf
    obtain ⟨hx, hb, hml, hown, hts⟩ := id S
    have hl : lv_has ls 5 [(0, .ref h0), (1, .int v1), (2, .int v2), (3, .int v3)] := hl
    have S_X3_tellWays_69 : ∀ (n : Nat) (v1 : Int32) (v2 : Int32) (v3 : Int32) (v4 : Int32) (c_naming : (Nat → Int32)) (c_wayFirst : (Nat → Int32)) (c_ways : Int32), F_X3_tellWays_69 N (F_X3_tellWays N d) v1 v2 v3 c_now n v4 c_naming c_wayFirst c_ways = some ρ → ∀ (H : Heap) (locs : List Loc), va_P G.2.1 vwCl (mW h0 ad G.2.2 c_code c_now c_read c_status c_tape c_taped c_at c_textSize c_token c_number c_begins c_stops c_bad c_badPlace c_faultPlace c_clauses c_naming c_lineBy c_becomes c_dualLines c_on c_rowNow c_least c_wayFirst c_ways c_acts c_past c_listPoints c_listLines c_listed c_list c_path c_places c_firstPlaces c_px c_py c_pz c_placeMany c_modulus c_drawn c_halvesMany c_halvesFirst c_spreadsMany c_spreadsFirst c_comesTo c_seedNow c_rowThen c_hasImage c_actsThen c_imageRow c_pastThen c_statusThen) H → va_D A (mW h0 ad G.2.2 c_code c_now c_read c_status c_tape c_taped c_at c_textSize c_token c_number c_begins c_stops c_bad c_badPlace c_faultPlace c_clauses c_naming c_lineBy c_becomes c_dualLines c_on c_rowNow c_least c_wayFirst c_ways c_acts c_past c_listPoints c_listLines c_listed c_list c_path c_places c_firstPlaces c_px c_py c_pz c_placeMany c_modulus c_drawn c_halvesMany c_halvesFirst c_spreadsMany c_spreadsFirst c_comesTo c_seedNow c_rowThen c_hasImage c_actsThen c_imageRow c_pastThen c_statusThen) → va_S A s.heap H locs → ∀ (ls : Array Slot), lv_has ls 5 [(0, .ref h0), (1, .int v1), (2, .int v2), (3, .int v3), (4, .int v4)] → W p l e (rmL (4 + (d + 1)) 0 0) s m args below meth c H locs 0 0 Q (F0 m 69 ls []) := by
      intro n
      induction n with
      | zero =>
        intro v1 v2 v3 v4 c_naming c_wayFirst c_ways h
        exact absurd h (by simp [F_X3_tellWays_69])
      | succ n ih =>
        intro v1 v2 v3 v4 c_naming c_wayFirst c_ways h H locs hP hD hS ls hl
        rw [F_X3_tellWays_69] at h
        refine lv_iload hx hb dX3_tellWays_69 (lv_at hl 4 rfl) ?_
        refine lv_aload_n hx hb dX3_tellWays_71 rfl (lv_at hl 0 rfl) ?_
        obtain ⟨y3, e3, h⟩ := ob_s h
        refine MR.callV (q0 := 0) (M_X3_points hG e3) S (cw_X3_points hts q1913 ⟨by dsimp only; omega, by dsimp only; omega⟩) hW0 hK hP rfl rfl rfl hl.1 rfl (Nat.le_of_ble_eq_true rfl) dX3_tellWays_72 ⟨Nat.zero_le _, Nat.zero_le _⟩ ?_
        refine lv_icmp_ge (tgt := 119) hx hb dX3_tellWays_75 (by decide) (fun c4 => ?_) (fun c4 => ?_)
        · rw [if_pos c4] at h
          obtain rfl := Option.some.inj h
          exact hretv rfl dX3_tellWays_119 rfl hP hD hS
        · rw [if_neg c4] at h
          refine lv_iload_n hx hb dX3_tellWays_78 rfl (lv_at hl 3 rfl) ?_
          refine lv_iload hx hb dX3_tellWays_79 (lv_at hl 4 rfl) ?_
          refine lv_ishr hx hb dX3_tellWays_81 ?_
          refine lv_iconst (v := 1) hx hb dX3_tellWays_82 (by decide) ?_
          refine lv_iand hx hb dX3_tellWays_83 ?_
          refine lv_iconst (v := 1) hx hb dX3_tellWays_84 (by decide) ?_
          refine lv_icmp_ne (tgt := 91) hx hb dX3_tellWays_85 (by decide) (fun c6 => ?_) (fun c6 => ?_)
          · rw [if_neg c6] at h
            refine lv_aload_n hx hb dX3_tellWays_91 rfl (lv_at hl 0 rfl) ?_
            refine va_get (ci := 2) (v := .ref (ad 16)) (C := RX3) (T := TX3) (N := 52) hx hb hts in_X3 hown hK hP 0 rfl rfl 16 (by decide) (hts _ q1674) (fun _ h9 => h9) rfl dX3_tellWays_92 ?_
            refine lv_iload_n hx hb dX3_tellWays_95 rfl (lv_at hl 2 rfl) ?_
            refine lv_iload hx hb dX3_tellWays_96 (lv_at hl 4 rfl) ?_
            obtain ⟨i7, h⟩ := ckI_s h
            refine va_iast (f := c_naming) hx hb hK hP hD hS 5 0 rfl rfl i7 dX3_tellWays_98 (fun H locs hP hD hS => ?_)
            have hP : va_P G.2.1 vwCl (mW h0 ad G.2.2 c_code c_now c_read c_status c_tape c_taped c_at c_textSize c_token c_number c_begins c_stops c_bad c_badPlace c_faultPlace c_clauses (upd c_naming (Int32.toNatClampNeg v2) v4) c_lineBy c_becomes c_dualLines c_on c_rowNow c_least c_wayFirst c_ways c_acts c_past c_listPoints c_listLines c_listed c_list c_path c_places c_firstPlaces c_px c_py c_pz c_placeMany c_modulus c_drawn c_halvesMany c_halvesFirst c_spreadsMany c_spreadsFirst c_comesTo c_seedNow c_rowThen c_hasImage c_actsThen c_imageRow c_pastThen c_statusThen) H := hP
            have hD : va_D A (mW h0 ad G.2.2 c_code c_now c_read c_status c_tape c_taped c_at c_textSize c_token c_number c_begins c_stops c_bad c_badPlace c_faultPlace c_clauses (upd c_naming (Int32.toNatClampNeg v2) v4) c_lineBy c_becomes c_dualLines c_on c_rowNow c_least c_wayFirst c_ways c_acts c_past c_listPoints c_listLines c_listed c_list c_path c_places c_firstPlaces c_px c_py c_pz c_placeMany c_modulus c_drawn c_halvesMany c_halvesFirst c_spreadsMany c_spreadsFirst c_comesTo c_seedNow c_rowThen c_hasImage c_actsThen c_imageRow c_pastThen c_statusThen) := hD
            refine lv_aload_n hx hb dX3_tellWays_99 rfl (lv_at hl 0 rfl) ?_
            refine lv_iload_n hx hb dX3_tellWays_100 rfl (lv_at hl 1 rfl) ?_
            refine lv_iload_n hx hb dX3_tellWays_101 rfl (lv_at hl 2 rfl) ?_
            refine lv_iconst (v := 1) hx hb dX3_tellWays_102 (by decide) ?_
            refine lv_iadd hx hb dX3_tellWays_103 ?_
            refine lv_iload_n hx hb dX3_tellWays_104 rfl (lv_at hl 3 rfl) ?_
            refine lv_iconst (v := 1) hx hb dX3_tellWays_105 (by decide) ?_
            refine lv_iload hx hb dX3_tellWays_106 (lv_at hl 4 rfl) ?_
            refine lv_ishl hx hb dX3_tellWays_108 ?_
            refine lv_ior hx hb dX3_tellWays_109 ?_
            obtain ⟨y8, e8, h⟩ := ob_s h
            refine MW.callV (q0 := 0) (ihd e8) S (cw_X3_tellWays hts q2126 ⟨by dsimp only; omega, by dsimp only; omega⟩) hW0 hK hP hD hS hA rfl rfl rfl hl.1 rfl (Nat.le_of_ble_eq_true rfl) dX3_tellWays_110 ⟨Nat.zero_le _, Nat.zero_le _⟩ (fun H locs hP hD hS => ?_)
            have hP : va_P G.2.1 vwCl (mW h0 ad G.2.2 c_code c_now c_read c_status c_tape c_taped c_at c_textSize c_token c_number c_begins c_stops c_bad c_badPlace c_faultPlace c_clauses y8.1 c_lineBy c_becomes c_dualLines c_on c_rowNow c_least y8.2.1 y8.2.2 c_acts c_past c_listPoints c_listLines c_listed c_list c_path c_places c_firstPlaces c_px c_py c_pz c_placeMany c_modulus c_drawn c_halvesMany c_halvesFirst c_spreadsMany c_spreadsFirst c_comesTo c_seedNow c_rowThen c_hasImage c_actsThen c_imageRow c_pastThen c_statusThen) H := hP
            have hD : va_D A (mW h0 ad G.2.2 c_code c_now c_read c_status c_tape c_taped c_at c_textSize c_token c_number c_begins c_stops c_bad c_badPlace c_faultPlace c_clauses y8.1 c_lineBy c_becomes c_dualLines c_on c_rowNow c_least y8.2.1 y8.2.2 c_acts c_past c_listPoints c_listLines c_listed c_list c_path c_places c_firstPlaces c_px c_py c_pz c_placeMany c_modulus c_drawn c_halvesMany c_halvesFirst c_spreadsMany c_spreadsFirst c_comesTo c_seedNow c_rowThen c_hasImage c_actsThen c_imageRow c_pastThen c_statusThen) := hD
            refine W.eq (g2 := F0 m 113 ls []) rfl ?_
            refine lv_iinc (v := (v4 + 1)) (lv' := [(4, .int (v4 + 1)), (0, .ref h0), (1, .int v1), (2, .int v2), (3, .int v3)]) hx hb dX3_tellWays_113 hl (k := 4) rfl rfl (by decide) rfl (fun ls hl => ?_)
            refine lv_goto (tgt := 69) hx hb dX3_tellWays_116 (by decide) ?_
            exact ih v1 v2 v3 (v4 + 1) y8.1 y8.2.1 y8.2.2 h _ _ hP hD hS _ (lv_sub hl [1, 2, 3, 4, 0] rfl)
          · rw [if_pos c6] at h
            refine lv_goto (tgt := 113) hx hb dX3_tellWays_88 (by decide) ?_
            refine lv_iinc (v := (v4 + 1)) (lv' := [(4, .int (v4 + 1)), (0, .ref h0), (1, .int v1), (2, .int v2), (3, .int v3)]) hx hb dX3_tellWays_113 hl (k := 4) rfl rfl (by decide) rfl (fun ls hl => ?_)
            refine lv_goto (tgt := 69) hx hb dX3_tellWays_116 (by decide) ?_
            exact ih v1 v2 v3 (v4 + 1) c_naming c_wayFirst c_ways h _ _ hP hD hS _ (lv_sub hl [1, 2, 3, 4, 0] rfl)
    have S_X3_tellWays_22 : ∀ (n : Nat) (v2 : Int32) (v4 : Int32) (c_naming : (Nat → Int32)) (c_wayFirst : (Nat → Int32)) (c_ways : Int32), F_X3_tellWays_22 N (F_X3_tellWays N d) v2 c_naming n v4 c_wayFirst c_ways = some ρ → ∀ (H : Heap) (locs : List Loc), va_P G.2.1 vwCl (mW h0 ad G.2.2 c_code c_now c_read c_status c_tape c_taped c_at c_textSize c_token c_number c_begins c_stops c_bad c_badPlace c_faultPlace c_clauses c_naming c_lineBy c_becomes c_dualLines c_on c_rowNow c_least c_wayFirst c_ways c_acts c_past c_listPoints c_listLines c_listed c_list c_path c_places c_firstPlaces c_px c_py c_pz c_placeMany c_modulus c_drawn c_halvesMany c_halvesFirst c_spreadsMany c_spreadsFirst c_comesTo c_seedNow c_rowThen c_hasImage c_actsThen c_imageRow c_pastThen c_statusThen) H → va_D A (mW h0 ad G.2.2 c_code c_now c_read c_status c_tape c_taped c_at c_textSize c_token c_number c_begins c_stops c_bad c_badPlace c_faultPlace c_clauses c_naming c_lineBy c_becomes c_dualLines c_on c_rowNow c_least c_wayFirst c_ways c_acts c_past c_listPoints c_listLines c_listed c_list c_path c_places c_firstPlaces c_px c_py c_pz c_placeMany c_modulus c_drawn c_halvesMany c_halvesFirst c_spreadsMany c_spreadsFirst c_comesTo c_seedNow c_rowThen c_hasImage c_actsThen c_imageRow c_pastThen c_statusThen) → va_S A s.heap H locs → ∀ (ls : Array Slot), lv_has ls 5 [(0, .ref h0), (2, .int v2), (4, .int v4)] → W p l e (rmL (4 + (d + 1)) 0 0) s m args below meth c H locs 0 0 Q (F0 m 22 ls []) := by
      intro n
      induction n with
      | zero =>
        intro v2 v4 c_naming c_wayFirst c_ways h
        exact absurd h (by simp [F_X3_tellWays_22])
      | succ n ih =>
        intro v2 v4 c_naming c_wayFirst c_ways h H locs hP hD hS ls hl
        rw [F_X3_tellWays_22] at h
        refine lv_iload hx hb dX3_tellWays_22 (lv_at hl 2 rfl) ?_
        refine lv_iload_n hx hb dX3_tellWays_24 rfl (lv_at hl 1 rfl) ?_
        refine lv_icmp_ge (tgt := 55) hx hb dX3_tellWays_25 (by decide) (fun c11 => ?_) (fun c11 => ?_)
        · rw [if_pos c11] at h
          refine lv_aload_n hx hb dX3_tellWays_55 rfl (lv_at hl 0 rfl) ?_
          refine lv_dup hx hb dX3_tellWays_56 rfl ?_
          refine va_get (ci := 2) (v := .int c_ways) (C := RX3) (T := TX3) (N := 52) hx hb hts in_X3 hown hK hP 0 rfl rfl 24 (by decide) (hts _ q1682) (fun _ h9 => h9) rfl dX3_tellWays_57 ?_
          refine lv_iconst (v := 1) hx hb dX3_tellWays_60 (by decide) ?_
          refine lv_iadd hx hb dX3_tellWays_61 ?_
          refine va_put (ci := 2) (v := .int (c_ways + (1 : Int32))) (ty := .int) (C := RX3) (T := TX3) (N := 52) hx hb hts in_X3 tyX3 tyX3_ok nmX3 hown hK hP hD hS 0 rfl rfl 24 (by decide) (hts _ q1682) (fun _ h9 => h9) rfl (by decide +kernel) rfl rfl (Nat.le_of_ble_eq_true rfl) dX3_tellWays_62 (fun H locs hP hD hS => ?_)
          have hP : va_P G.2.1 vwCl (mW h0 ad G.2.2 c_code c_now c_read c_status c_tape c_taped c_at c_textSize c_token c_number c_begins c_stops c_bad c_badPlace c_faultPlace c_clauses c_naming c_lineBy c_becomes c_dualLines c_on c_rowNow c_least c_wayFirst (c_ways + (1 : Int32)) c_acts c_past c_listPoints c_listLines c_listed c_list c_path c_places c_firstPlaces c_px c_py c_pz c_placeMany c_modulus c_drawn c_halvesMany c_halvesFirst c_spreadsMany c_spreadsFirst c_comesTo c_seedNow c_rowThen c_hasImage c_actsThen c_imageRow c_pastThen c_statusThen) H := hP
          have hD : va_D A (mW h0 ad G.2.2 c_code c_now c_read c_status c_tape c_taped c_at c_textSize c_token c_number c_begins c_stops c_bad c_badPlace c_faultPlace c_clauses c_naming c_lineBy c_becomes c_dualLines c_on c_rowNow c_least c_wayFirst (c_ways + (1 : Int32)) c_acts c_past c_listPoints c_listLines c_listed c_list c_path c_places c_firstPlaces c_px c_py c_pz c_placeMany c_modulus c_drawn c_halvesMany c_halvesFirst c_spreadsMany c_spreadsFirst c_comesTo c_seedNow c_rowThen c_hasImage c_actsThen c_imageRow c_pastThen c_statusThen) := hD
          obtain rfl := Option.some.inj h
          exact hretv rfl dX3_tellWays_65 rfl hP hD hS
        · rw [if_neg c11] at h
          refine lv_aload_n hx hb dX3_tellWays_28 rfl (lv_at hl 0 rfl) ?_
          refine va_get (ci := 2) (v := .int c_ways) (C := RX3) (T := TX3) (N := 52) hx hb hts in_X3 hown hK hP 0 rfl rfl 24 (by decide) (hts _ q1682) (fun _ h9 => h9) rfl dX3_tellWays_29 ?_
          refine lv_if_ne (tgt := 55) hx hb dX3_tellWays_32 (by decide) (fun c13 => ?_) (fun c13 => ?_)
          · rw [if_neg c13] at h
            refine lv_aload_n hx hb dX3_tellWays_55 rfl (lv_at hl 0 rfl) ?_
            refine lv_dup hx hb dX3_tellWays_56 rfl ?_
            refine va_get (ci := 2) (v := .int c_ways) (C := RX3) (T := TX3) (N := 52) hx hb hts in_X3 hown hK hP 0 rfl rfl 24 (by decide) (hts _ q1682) (fun _ h9 => h9) rfl dX3_tellWays_57 ?_
            refine lv_iconst (v := 1) hx hb dX3_tellWays_60 (by decide) ?_
            refine lv_iadd hx hb dX3_tellWays_61 ?_
            refine va_put (ci := 2) (v := .int (c_ways + (1 : Int32))) (ty := .int) (C := RX3) (T := TX3) (N := 52) hx hb hts in_X3 tyX3 tyX3_ok nmX3 hown hK hP hD hS 0 rfl rfl 24 (by decide) (hts _ q1682) (fun _ h9 => h9) rfl (by decide +kernel) rfl rfl (Nat.le_of_ble_eq_true rfl) dX3_tellWays_62 (fun H locs hP hD hS => ?_)
            have hP : va_P G.2.1 vwCl (mW h0 ad G.2.2 c_code c_now c_read c_status c_tape c_taped c_at c_textSize c_token c_number c_begins c_stops c_bad c_badPlace c_faultPlace c_clauses c_naming c_lineBy c_becomes c_dualLines c_on c_rowNow c_least c_wayFirst (c_ways + (1 : Int32)) c_acts c_past c_listPoints c_listLines c_listed c_list c_path c_places c_firstPlaces c_px c_py c_pz c_placeMany c_modulus c_drawn c_halvesMany c_halvesFirst c_spreadsMany c_spreadsFirst c_comesTo c_seedNow c_rowThen c_hasImage c_actsThen c_imageRow c_pastThen c_statusThen) H := hP
            have hD : va_D A (mW h0 ad G.2.2 c_code c_now c_read c_status c_tape c_taped c_at c_textSize c_token c_number c_begins c_stops c_bad c_badPlace c_faultPlace c_clauses c_naming c_lineBy c_becomes c_dualLines c_on c_rowNow c_least c_wayFirst (c_ways + (1 : Int32)) c_acts c_past c_listPoints c_listLines c_listed c_list c_path c_places c_firstPlaces c_px c_py c_pz c_placeMany c_modulus c_drawn c_halvesMany c_halvesFirst c_spreadsMany c_spreadsFirst c_comesTo c_seedNow c_rowThen c_hasImage c_actsThen c_imageRow c_pastThen c_statusThen) := hD
            obtain rfl := Option.some.inj h
            exact hretv rfl dX3_tellWays_65 rfl hP hD hS
          · rw [if_pos c13] at h
            refine lv_aload_n hx hb dX3_tellWays_35 rfl (lv_at hl 0 rfl) ?_
            refine va_get (ci := 2) (v := .ref (ad 23)) (C := RX3) (T := TX3) (N := 52) hx hb hts in_X3 hown hK hP 0 rfl rfl 23 (by decide) (hts _ q1681) (fun _ h9 => h9) rfl dX3_tellWays_36 ?_
            refine lv_iload hx hb dX3_tellWays_39 (lv_at hl 2 rfl) ?_
            refine lv_aload_n hx hb dX3_tellWays_41 rfl (lv_at hl 0 rfl) ?_
            refine va_get (ci := 2) (v := .ref (ad 16)) (C := RX3) (T := TX3) (N := 52) hx hb hts in_X3 hown hK hP 0 rfl rfl 16 (by decide) (hts _ q1674) (fun _ h9 => h9) rfl dX3_tellWays_42 ?_
            refine lv_iload hx hb dX3_tellWays_45 (lv_at hl 2 rfl) ?_
            obtain ⟨i15, h⟩ := ckI_s h
            refine va_iald (f := c_naming) hx hb hK hP 5 0 rfl rfl i15 dX3_tellWays_47 ?_
            obtain ⟨i16, h⟩ := ckI_s h
            refine va_iast (f := c_wayFirst) hx hb hK hP hD hS 12 0 rfl rfl i16 dX3_tellWays_48 (fun H locs hP hD hS => ?_)
            have hP : va_P G.2.1 vwCl (mW h0 ad G.2.2 c_code c_now c_read c_status c_tape c_taped c_at c_textSize c_token c_number c_begins c_stops c_bad c_badPlace c_faultPlace c_clauses c_naming c_lineBy c_becomes c_dualLines c_on c_rowNow c_least (upd c_wayFirst (Int32.toNatClampNeg v4) (c_naming (Int32.toNatClampNeg v4))) c_ways c_acts c_past c_listPoints c_listLines c_listed c_list c_path c_places c_firstPlaces c_px c_py c_pz c_placeMany c_modulus c_drawn c_halvesMany c_halvesFirst c_spreadsMany c_spreadsFirst c_comesTo c_seedNow c_rowThen c_hasImage c_actsThen c_imageRow c_pastThen c_statusThen) H := hP
            have hD : va_D A (mW h0 ad G.2.2 c_code c_now c_read c_status c_tape c_taped c_at c_textSize c_token c_number c_begins c_stops c_bad c_badPlace c_faultPlace c_clauses c_naming c_lineBy c_becomes c_dualLines c_on c_rowNow c_least (upd c_wayFirst (Int32.toNatClampNeg v4) (c_naming (Int32.toNatClampNeg v4))) c_ways c_acts c_past c_listPoints c_listLines c_listed c_list c_path c_places c_firstPlaces c_px c_py c_pz c_placeMany c_modulus c_drawn c_halvesMany c_halvesFirst c_spreadsMany c_spreadsFirst c_comesTo c_seedNow c_rowThen c_hasImage c_actsThen c_imageRow c_pastThen c_statusThen) := hD
            refine lv_iinc (v := (v4 + 1)) (lv' := [(4, .int (v4 + 1)), (0, .ref h0), (2, .int v2)]) hx hb dX3_tellWays_49 hl (k := 2) rfl rfl (by decide) rfl (fun ls hl => ?_)
            refine lv_goto (tgt := 22) hx hb dX3_tellWays_52 (by decide) ?_
            exact ih v2 (v4 + 1) c_naming (upd c_wayFirst (Int32.toNatClampNeg v4) (c_naming (Int32.toNatClampNeg v4))) c_ways h _ _ hP hD hS _ (lv_sub hl [1, 2, 0] rfl)
    refine lv_iload_n hx hb dX3_tellWays_0 rfl (lv_at hl 2 rfl) ?_
    refine lv_aload_n hx hb dX3_tellWays_1 rfl (lv_at hl 0 rfl) ?_
    refine lv_iload_n hx hb dX3_tellWays_2 rfl (lv_at hl 1 rfl) ?_
    refine lv_iconst (v := 0) hx hb dX3_tellWays_3 (by decide) ?_
    obtain ⟨y1, e1, h⟩ := ob_s h
    refine MR.callV (q0 := 0) (M_X3_onShelf hG e1) S (cw_X3_onShelf hts q2122 ⟨by dsimp only; omega, by dsimp only; omega⟩) hW0 hK hP rfl rfl rfl hl.1 rfl (Nat.le_of_ble_eq_true rfl) dX3_tellWays_4 ⟨Nat.zero_le _, Nat.zero_le _⟩ ?_
    refine lv_icmp_ne (tgt := 66) hx hb dX3_tellWays_7 (by decide) (fun c2 => ?_) (fun c2 => ?_)
    · rw [if_neg c2] at h
      refine lv_iconst (v := 0) hx hb dX3_tellWays_66 (by decide) ?_
      refine lv_istore (lv' := [(4, .int 0), (0, .ref h0), (1, .int v1), (2, .int v2), (3, .int v3)]) hx hb dX3_tellWays_67 hl (by decide) rfl (fun ls hl => ?_)
      refine S_X3_tellWays_69 N v1 v2 v3 0 c_naming c_wayFirst c_ways h  _ _ hP hD hS _ (lv_sub hl [1, 2, 3, 4, 0] rfl)
    · rw [if_pos c2] at h
      refine lv_aload_n hx hb dX3_tellWays_10 rfl (lv_at hl 0 rfl) ?_
      refine lv_iload_n hx hb dX3_tellWays_11 rfl (lv_at hl 1 rfl) ?_
      obtain ⟨y9, e9, h⟩ := ob_s h
      refine MR.callV (q0 := 0) (M_X3_lies hG e9) S (cw_X3_lies hts q2130 ⟨by dsimp only; omega, by dsimp only; omega⟩) hW0 hK hP rfl rfl rfl hl.1 rfl (Nat.le_of_ble_eq_true rfl) dX3_tellWays_12 ⟨Nat.zero_le _, Nat.zero_le _⟩ ?_
      refine lv_if_ne (tgt := 19) hx hb dX3_tellWays_15 (by decide) (fun c10 => ?_) (fun c10 => ?_)
      · rw [if_neg c10] at h
        refine lv_iconst (v := 0) hx hb dX3_tellWays_19 (by decide) ?_
        refine lv_istore (lv' := [(4, .int 0), (0, .ref h0), (1, .int v1), (2, .int v2), (3, .int v3)]) hx hb dX3_tellWays_20 hl (by decide) rfl (fun ls hl => ?_)
        refine S_X3_tellWays_22 N v2 0 c_naming c_wayFirst c_ways h  _ _ hP hD hS _ (lv_sub hl [1, 3, 0] rfl)
      · rw [if_pos c10] at h
        obtain rfl := Option.some.inj h
        exact hretv rfl dX3_tellWays_18 rfl hP hD hS
def F_X3_shelf (N : Nat) (v1 : Int32) (v2 : Int32) (c_now : (Nat → Int32)) (c_naming : (Nat → Int32)) (c_lineBy : (Nat → Int32)) (c_wayFirst : (Nat → Int32)) (c_code : Int32) (c_ways : Int32) : Option (Int32 × (Nat → Int32) × (Nat → Int32) × (Nat → Int32) × Int32 × Int32) := ((F_X3_hasShelf N v1 c_now).bind fun y1 => (if y1 = 0 then ((F_X3_fail N 1 0).bind fun y3 => (some (y3.1, c_naming, c_lineBy, c_wayFirst, y3.2, c_ways))) else ((F_X3_isIn N v2 0 3).bind fun y5 => (if y5 = 0 then ((F_X3_fail N 1 0).bind fun y18 => (some (y18.1, c_naming, c_lineBy, c_wayFirst, y18.2, c_ways))) else (if v2 = 0 then ((F_X3_likes N v1 c_now c_naming c_lineBy).bind fun y16 => (some (y16.1, y16.2.1, y16.2.2, c_wayFirst, 0, c_ways))) else (if v2 ≤ 1 then ((F_X3_tellWays N 16 v1 0 0 c_now c_naming c_wayFirst 0).bind fun y9 => (some (y9.2.2, y9.1, c_lineBy, y9.2.1, 0, y9.2.2))) else (if v2 = 2 then ((F_X3_onShelf N v1 0 c_now).bind fun y14 => (some (y14, c_naming, c_lineBy, c_wayFirst, 0, c_ways))) else ((F_X3_onShelf N v1 1 c_now).bind fun y12 => (some (y12, c_naming, c_lineBy, c_wayFirst, 0, c_ways))))))))))
theorem cw_X3_shelf {R : Room} {s : State} {args : Array Value} {own : String} {index lev mc ms : Nat} (hts : ∀ w ∈ lw_all, w.before args s = true) (hl : Cond.methodLink own index yX3_shelf ∈ lw_all) (hR : (rmL lev mc ms).frames + 1 ≤ R.frames ∧ 8 + (3 + 11) + (rmL lev mc ms).locals ≤ R.locals) : CallW R s args own RX3 index yX3_shelf cX3_shelf 3 (some .int) (ws_ yX3_shelf cX3_shelf 3 (some .int)) (rmL lev mc ms) mc ms 2 := cwV 2 hts (lw_V hl q2108 q2109 q172 q2110) rfl rfl rfl (by decide +kernel) hR
set_option maxHeartbeats 4000000 in
theorem M_X3_shelf {l : Launch} {G : GE} (hG : GC G) {N : Nat} {h0 : Nat} {ad : Nat → Nat} {c_read : (Nat → Int32)} {c_status : (Nat → Int32)} {c_tape : (Nat → Int32)} {c_taped : Int32} {c_at : Int32} {c_textSize : Int32} {c_token : Int32} {c_number : Int32} {c_begins : Int32} {c_stops : Int32} {c_bad : Int32} {c_badPlace : Int32} {c_faultPlace : Int32} {c_clauses : Int32} {c_becomes : (Nat → Int32)} {c_dualLines : (Nat → Int32)} {c_on : (Nat → Int32)} {c_rowNow : (Nat → Int32)} {c_least : (Nat → Int32)} {c_acts : Int32} {c_past : (Nat → Int32)} {c_listPoints : Int32} {c_listLines : Int32} {c_listed : Int32} {c_list : (Nat → Int32)} {c_path : (Nat → Int32)} {c_places : (Nat → Int32)} {c_firstPlaces : (Nat → Int32)} {c_px : (Nat → Int32)} {c_py : (Nat → Int32)} {c_pz : (Nat → Int32)} {c_placeMany : Int32} {c_modulus : Int32} {c_drawn : Int32} {c_halvesMany : Int32} {c_halvesFirst : Int32} {c_spreadsMany : Int32} {c_spreadsFirst : Int32} {c_comesTo : (Nat → Int32)} {c_seedNow : Int32} {c_rowThen : (Nat → Int32)} {c_hasImage : Int32} {c_actsThen : Int32} {c_imageRow : (Nat → Int32)} {c_pastThen : (Nat → Int32)} {c_statusThen : (Nat → Int32)} {v1 : Int32} {v2 : Int32} {c_now : (Nat → Int32)} {c_naming : (Nat → Int32)} {c_lineBy : (Nat → Int32)} {c_wayFirst : (Nat → Int32)} {c_code : Int32} {c_ways : Int32} {ρ : (Int32 × (Nat → Int32) × (Nat → Int32) × (Nat → Int32) × Int32 × Int32)} (h : F_X3_shelf N v1 v2 c_now c_naming c_lineBy c_wayFirst c_code c_ways = some ρ) : MW l G yX3_shelf cX3_shelf 3 (some .int) 21 (mW h0 ad G.2.2 c_code c_now c_read c_status c_tape c_taped c_at c_textSize c_token c_number c_begins c_stops c_bad c_badPlace c_faultPlace c_clauses c_naming c_lineBy c_becomes c_dualLines c_on c_rowNow c_least c_wayFirst c_ways c_acts c_past c_listPoints c_listLines c_listed c_list c_path c_places c_firstPlaces c_px c_py c_pz c_placeMany c_modulus c_drawn c_halvesMany c_halvesFirst c_spreadsMany c_spreadsFirst c_comesTo c_seedNow c_rowThen c_hasImage c_actsThen c_imageRow c_pastThen c_statusThen) [.ref h0, .int v1, .int v2] (some (.int ρ.1)) (mW h0 ad G.2.2 ρ.2.2.2.2.1 c_now c_read c_status c_tape c_taped c_at c_textSize c_token c_number c_begins c_stops c_bad c_badPlace c_faultPlace c_clauses ρ.2.1 ρ.2.2.1 c_becomes c_dualLines c_on c_rowNow c_least ρ.2.2.2.1 ρ.2.2.2.2.2 c_acts c_past c_listPoints c_listLines c_listed c_list c_path c_places c_firstPlaces c_px c_py c_pz c_placeMany c_modulus c_drawn c_halvesMany c_halvesFirst c_spreadsMany c_spreadsFirst c_comesTo c_seedNow c_rowThen c_hasImage c_actsThen c_imageRow c_pastThen c_statusThen) := by
  rw [F_X3_shelf] at h
  refine MW.start hG (by decide) (Nat.le_of_ble_eq_true rfl) ?_
  intro p e s m args below meth c Q A S hW0 hK hP hD hA hreti hretv ls hl
  have hS : va_S A s.heap s.heap [] := va_S.rf
  obtain ⟨hx, hb, hml, hown, hts⟩ := id S
  have hl : lv_has ls 3 [(0, .ref h0), (1, .int v1), (2, .int v2)] := hl
  refine lv_aload_n hx hb dX3_shelf_0 rfl (lv_at hl 0 rfl) ?_
  refine lv_iconst (v := 0) hx hb dX3_shelf_1 (by decide) ?_
  refine va_put (ci := 2) (v := .int 0) (ty := .int) (C := RX3) (T := TX3) (N := 52) hx hb hts in_X3 tyX3 tyX3_ok nmX3 hown hK hP hD hS 0 rfl rfl 0 (by decide) (hts _ q1658) (fun _ h9 => h9) rfl (by decide +kernel) rfl rfl (Nat.le_of_ble_eq_true rfl) dX3_shelf_2 (fun H locs hP hD hS => ?_)
  have hP : va_P G.2.1 vwCl (mW h0 ad G.2.2 0 c_now c_read c_status c_tape c_taped c_at c_textSize c_token c_number c_begins c_stops c_bad c_badPlace c_faultPlace c_clauses c_naming c_lineBy c_becomes c_dualLines c_on c_rowNow c_least c_wayFirst c_ways c_acts c_past c_listPoints c_listLines c_listed c_list c_path c_places c_firstPlaces c_px c_py c_pz c_placeMany c_modulus c_drawn c_halvesMany c_halvesFirst c_spreadsMany c_spreadsFirst c_comesTo c_seedNow c_rowThen c_hasImage c_actsThen c_imageRow c_pastThen c_statusThen) H := hP
  have hD : va_D A (mW h0 ad G.2.2 0 c_now c_read c_status c_tape c_taped c_at c_textSize c_token c_number c_begins c_stops c_bad c_badPlace c_faultPlace c_clauses c_naming c_lineBy c_becomes c_dualLines c_on c_rowNow c_least c_wayFirst c_ways c_acts c_past c_listPoints c_listLines c_listed c_list c_path c_places c_firstPlaces c_px c_py c_pz c_placeMany c_modulus c_drawn c_halvesMany c_halvesFirst c_spreadsMany c_spreadsFirst c_comesTo c_seedNow c_rowThen c_hasImage c_actsThen c_imageRow c_pastThen c_statusThen) := hD
  refine lv_aload_n hx hb dX3_shelf_5 rfl (lv_at hl 0 rfl) ?_
  refine lv_iload_n hx hb dX3_shelf_6 rfl (lv_at hl 1 rfl) ?_
  obtain ⟨y1, e1, h⟩ := ob_s h
  refine MR.callV (q0 := 0) (M_X3_hasShelf hG e1) S (cw_X3_hasShelf hts q2111 ⟨Nat.le_of_ble_eq_true rfl, Nat.le_of_ble_eq_true rfl⟩) hW0 hK hP rfl rfl rfl hl.1 rfl (Nat.le_of_ble_eq_true rfl) dX3_shelf_7 ⟨Nat.zero_le _, Nat.zero_le _⟩ ?_
  refine lv_if_eq (tgt := 22) hx hb dX3_shelf_10 (by decide) (fun c2 => ?_) (fun c2 => ?_)
  · rw [if_pos c2] at h
    refine lv_aload_n hx hb dX3_shelf_22 rfl (lv_at hl 0 rfl) ?_
    refine lv_iconst (v := 1) hx hb dX3_shelf_23 (by decide) ?_
    obtain ⟨y3, e3, h⟩ := ob_s h
    refine MW.callV (q0 := 0) (M_X3_fail hG e3) S (cw_X3_fail hts q1827 ⟨Nat.le_of_ble_eq_true rfl, Nat.le_of_ble_eq_true rfl⟩) hW0 hK hP hD hS hA rfl rfl rfl hl.1 rfl (Nat.le_of_ble_eq_true rfl) dX3_shelf_24 ⟨Nat.zero_le _, Nat.zero_le _⟩ (fun H locs hP hD hS => ?_)
    have hP : va_P G.2.1 vwCl (mW h0 ad G.2.2 y3.2 c_now c_read c_status c_tape c_taped c_at c_textSize c_token c_number c_begins c_stops c_bad c_badPlace c_faultPlace c_clauses c_naming c_lineBy c_becomes c_dualLines c_on c_rowNow c_least c_wayFirst c_ways c_acts c_past c_listPoints c_listLines c_listed c_list c_path c_places c_firstPlaces c_px c_py c_pz c_placeMany c_modulus c_drawn c_halvesMany c_halvesFirst c_spreadsMany c_spreadsFirst c_comesTo c_seedNow c_rowThen c_hasImage c_actsThen c_imageRow c_pastThen c_statusThen) H := hP
    have hD : va_D A (mW h0 ad G.2.2 y3.2 c_now c_read c_status c_tape c_taped c_at c_textSize c_token c_number c_begins c_stops c_bad c_badPlace c_faultPlace c_clauses c_naming c_lineBy c_becomes c_dualLines c_on c_rowNow c_least c_wayFirst c_ways c_acts c_past c_listPoints c_listLines c_listed c_list c_path c_places c_firstPlaces c_px c_py c_pz c_placeMany c_modulus c_drawn c_halvesMany c_halvesFirst c_spreadsMany c_spreadsFirst c_comesTo c_seedNow c_rowThen c_hasImage c_actsThen c_imageRow c_pastThen c_statusThen) := hD
    refine W.eq (g2 := F0 m 27 ls [.int y3.1]) rfl ?_
    obtain rfl := Option.some.inj h
    exact hreti rfl dX3_shelf_27 rfl rfl hP hD hS
  · rw [if_neg c2] at h
    refine lv_iload_n hx hb dX3_shelf_13 rfl (lv_at hl 2 rfl) ?_
    refine lv_iconst (v := 0) hx hb dX3_shelf_14 (by decide) ?_
    refine lv_iconst (v := 3) hx hb dX3_shelf_15 (by decide) ?_
    obtain ⟨y5, e5, h⟩ := ob_s h
    refine MR.callS (M_X3_isIn hG e5) S (cw_X3_isIn hts q2061 ⟨Nat.le_of_ble_eq_true rfl, Nat.le_of_ble_eq_true rfl⟩) hW0 vaP0 rfl hl.1 rfl (Nat.le_of_ble_eq_true rfl) dX3_shelf_16 ⟨Nat.zero_le _, Nat.zero_le _⟩ ?_
    refine lv_if_ne (tgt := 28) hx hb dX3_shelf_19 (by decide) (fun c6 => ?_) (fun c6 => ?_)
    · rw [if_neg c6] at h
      refine lv_iload_n hx hb dX3_shelf_28 rfl (lv_at hl 2 rfl) ?_
      refine lv_if_ne (tgt := 38) hx hb dX3_shelf_29 (by decide) (fun c7 => ?_) (fun c7 => ?_)
      · rw [if_neg c7] at h
        refine lv_iload_n hx hb dX3_shelf_38 rfl (lv_at hl 2 rfl) ?_
        refine lv_iconst (v := 1) hx hb dX3_shelf_39 (by decide) ?_
        refine lv_icmp_le (tgt := 59) hx hb dX3_shelf_40 (by decide) (fun c8 => ?_) (fun c8 => ?_)
        · rw [if_pos c8] at h
          refine lv_aload_n hx hb dX3_shelf_59 rfl (lv_at hl 0 rfl) ?_
          refine lv_iconst (v := 0) hx hb dX3_shelf_60 (by decide) ?_
          refine va_put (ci := 2) (v := .int 0) (ty := .int) (C := RX3) (T := TX3) (N := 52) hx hb hts in_X3 tyX3 tyX3_ok nmX3 hown hK hP hD hS 0 rfl rfl 24 (by decide) (hts _ q1682) (fun _ h9 => h9) rfl (by decide +kernel) rfl rfl (Nat.le_of_ble_eq_true rfl) dX3_shelf_61 (fun H locs hP hD hS => ?_)
          have hP : va_P G.2.1 vwCl (mW h0 ad G.2.2 0 c_now c_read c_status c_tape c_taped c_at c_textSize c_token c_number c_begins c_stops c_bad c_badPlace c_faultPlace c_clauses c_naming c_lineBy c_becomes c_dualLines c_on c_rowNow c_least c_wayFirst 0 c_acts c_past c_listPoints c_listLines c_listed c_list c_path c_places c_firstPlaces c_px c_py c_pz c_placeMany c_modulus c_drawn c_halvesMany c_halvesFirst c_spreadsMany c_spreadsFirst c_comesTo c_seedNow c_rowThen c_hasImage c_actsThen c_imageRow c_pastThen c_statusThen) H := hP
          have hD : va_D A (mW h0 ad G.2.2 0 c_now c_read c_status c_tape c_taped c_at c_textSize c_token c_number c_begins c_stops c_bad c_badPlace c_faultPlace c_clauses c_naming c_lineBy c_becomes c_dualLines c_on c_rowNow c_least c_wayFirst 0 c_acts c_past c_listPoints c_listLines c_listed c_list c_path c_places c_firstPlaces c_px c_py c_pz c_placeMany c_modulus c_drawn c_halvesMany c_halvesFirst c_spreadsMany c_spreadsFirst c_comesTo c_seedNow c_rowThen c_hasImage c_actsThen c_imageRow c_pastThen c_statusThen) := hD
          refine lv_aload_n hx hb dX3_shelf_64 rfl (lv_at hl 0 rfl) ?_
          refine lv_iload_n hx hb dX3_shelf_65 rfl (lv_at hl 1 rfl) ?_
          refine lv_iconst (v := 0) hx hb dX3_shelf_66 (by decide) ?_
          refine lv_iconst (v := 0) hx hb dX3_shelf_67 (by decide) ?_
          obtain ⟨y9, e9, h⟩ := ob_s h
          refine MW.callV (q0 := 0) (M_X3_tellWays hG 16 e9) S (cw_X3_tellWays hts q2126 ⟨Nat.le_of_ble_eq_true rfl, Nat.le_of_ble_eq_true rfl⟩) hW0 hK hP hD hS hA rfl rfl rfl hl.1 rfl (Nat.le_of_ble_eq_true rfl) dX3_shelf_68 ⟨Nat.zero_le _, Nat.zero_le _⟩ (fun H locs hP hD hS => ?_)
          have hP : va_P G.2.1 vwCl (mW h0 ad G.2.2 0 c_now c_read c_status c_tape c_taped c_at c_textSize c_token c_number c_begins c_stops c_bad c_badPlace c_faultPlace c_clauses y9.1 c_lineBy c_becomes c_dualLines c_on c_rowNow c_least y9.2.1 y9.2.2 c_acts c_past c_listPoints c_listLines c_listed c_list c_path c_places c_firstPlaces c_px c_py c_pz c_placeMany c_modulus c_drawn c_halvesMany c_halvesFirst c_spreadsMany c_spreadsFirst c_comesTo c_seedNow c_rowThen c_hasImage c_actsThen c_imageRow c_pastThen c_statusThen) H := hP
          have hD : va_D A (mW h0 ad G.2.2 0 c_now c_read c_status c_tape c_taped c_at c_textSize c_token c_number c_begins c_stops c_bad c_badPlace c_faultPlace c_clauses y9.1 c_lineBy c_becomes c_dualLines c_on c_rowNow c_least y9.2.1 y9.2.2 c_acts c_past c_listPoints c_listLines c_listed c_list c_path c_places c_firstPlaces c_px c_py c_pz c_placeMany c_modulus c_drawn c_halvesMany c_halvesFirst c_spreadsMany c_spreadsFirst c_comesTo c_seedNow c_rowThen c_hasImage c_actsThen c_imageRow c_pastThen c_statusThen) := hD
          refine W.eq (g2 := F0 m 71 ls []) rfl ?_
          refine lv_aload_n hx hb dX3_shelf_71 rfl (lv_at hl 0 rfl) ?_
          refine va_get (ci := 2) (v := .int y9.2.2) (C := RX3) (T := TX3) (N := 52) hx hb hts in_X3 hown hK hP 0 rfl rfl 24 (by decide) (hts _ q1682) (fun _ h9 => h9) rfl dX3_shelf_72 ?_
          obtain rfl := Option.some.inj h
          exact hreti rfl dX3_shelf_75 rfl rfl hP hD hS
        · rw [if_neg c8] at h
          refine lv_aload_n hx hb dX3_shelf_43 rfl (lv_at hl 0 rfl) ?_
          refine lv_iload_n hx hb dX3_shelf_44 rfl (lv_at hl 1 rfl) ?_
          refine lv_iload_n hx hb dX3_shelf_45 rfl (lv_at hl 2 rfl) ?_
          refine lv_iconst (v := 2) hx hb dX3_shelf_46 (by decide) ?_
          refine lv_icmp_ne (tgt := 54) hx hb dX3_shelf_47 (by decide) (fun c11 => ?_) (fun c11 => ?_)
          · rw [if_neg c11] at h
            refine lv_iconst (v := 1) hx hb dX3_shelf_54 (by decide) ?_
            obtain ⟨y12, e12, h⟩ := ob_s h
            refine MR.callV (q0 := 0) (M_X3_onShelf hG e12) S (cw_X3_onShelf hts q2122 ⟨Nat.le_of_ble_eq_true rfl, Nat.le_of_ble_eq_true rfl⟩) hW0 hK hP rfl rfl rfl hl.1 rfl (Nat.le_of_ble_eq_true rfl) dX3_shelf_55 ⟨Nat.zero_le _, Nat.zero_le _⟩ ?_
            obtain rfl := Option.some.inj h
            exact hreti rfl dX3_shelf_58 rfl rfl hP hD hS
          · rw [if_pos c11] at h
            refine lv_iconst (v := 0) hx hb dX3_shelf_50 (by decide) ?_
            refine lv_goto (tgt := 55) hx hb dX3_shelf_51 (by decide) ?_
            obtain ⟨y14, e14, h⟩ := ob_s h
            refine MR.callV (q0 := 0) (M_X3_onShelf hG e14) S (cw_X3_onShelf hts q2122 ⟨Nat.le_of_ble_eq_true rfl, Nat.le_of_ble_eq_true rfl⟩) hW0 hK hP rfl rfl rfl hl.1 rfl (Nat.le_of_ble_eq_true rfl) dX3_shelf_55 ⟨Nat.zero_le _, Nat.zero_le _⟩ ?_
            obtain rfl := Option.some.inj h
            exact hreti rfl dX3_shelf_58 rfl rfl hP hD hS
      · rw [if_pos c7] at h
        refine lv_aload_n hx hb dX3_shelf_32 rfl (lv_at hl 0 rfl) ?_
        refine lv_iload_n hx hb dX3_shelf_33 rfl (lv_at hl 1 rfl) ?_
        obtain ⟨y16, e16, h⟩ := ob_s h
        refine MW.callV (q0 := 0) (M_X3_likes hG e16) S (cw_X3_likes hts q2118 ⟨Nat.le_of_ble_eq_true rfl, Nat.le_of_ble_eq_true rfl⟩) hW0 hK hP hD hS hA rfl rfl rfl hl.1 rfl (Nat.le_of_ble_eq_true rfl) dX3_shelf_34 ⟨Nat.zero_le _, Nat.zero_le _⟩ (fun H locs hP hD hS => ?_)
        have hP : va_P G.2.1 vwCl (mW h0 ad G.2.2 0 c_now c_read c_status c_tape c_taped c_at c_textSize c_token c_number c_begins c_stops c_bad c_badPlace c_faultPlace c_clauses y16.2.1 y16.2.2 c_becomes c_dualLines c_on c_rowNow c_least c_wayFirst c_ways c_acts c_past c_listPoints c_listLines c_listed c_list c_path c_places c_firstPlaces c_px c_py c_pz c_placeMany c_modulus c_drawn c_halvesMany c_halvesFirst c_spreadsMany c_spreadsFirst c_comesTo c_seedNow c_rowThen c_hasImage c_actsThen c_imageRow c_pastThen c_statusThen) H := hP
        have hD : va_D A (mW h0 ad G.2.2 0 c_now c_read c_status c_tape c_taped c_at c_textSize c_token c_number c_begins c_stops c_bad c_badPlace c_faultPlace c_clauses y16.2.1 y16.2.2 c_becomes c_dualLines c_on c_rowNow c_least c_wayFirst c_ways c_acts c_past c_listPoints c_listLines c_listed c_list c_path c_places c_firstPlaces c_px c_py c_pz c_placeMany c_modulus c_drawn c_halvesMany c_halvesFirst c_spreadsMany c_spreadsFirst c_comesTo c_seedNow c_rowThen c_hasImage c_actsThen c_imageRow c_pastThen c_statusThen) := hD
        refine W.eq (g2 := F0 m 37 ls [.int y16.1]) rfl ?_
        obtain rfl := Option.some.inj h
        exact hreti rfl dX3_shelf_37 rfl rfl hP hD hS
    · rw [if_pos c6] at h
      refine lv_aload_n hx hb dX3_shelf_22 rfl (lv_at hl 0 rfl) ?_
      refine lv_iconst (v := 1) hx hb dX3_shelf_23 (by decide) ?_
      obtain ⟨y18, e18, h⟩ := ob_s h
      refine MW.callV (q0 := 0) (M_X3_fail hG e18) S (cw_X3_fail hts q1827 ⟨Nat.le_of_ble_eq_true rfl, Nat.le_of_ble_eq_true rfl⟩) hW0 hK hP hD hS hA rfl rfl rfl hl.1 rfl (Nat.le_of_ble_eq_true rfl) dX3_shelf_24 ⟨Nat.zero_le _, Nat.zero_le _⟩ (fun H locs hP hD hS => ?_)
      have hP : va_P G.2.1 vwCl (mW h0 ad G.2.2 y18.2 c_now c_read c_status c_tape c_taped c_at c_textSize c_token c_number c_begins c_stops c_bad c_badPlace c_faultPlace c_clauses c_naming c_lineBy c_becomes c_dualLines c_on c_rowNow c_least c_wayFirst c_ways c_acts c_past c_listPoints c_listLines c_listed c_list c_path c_places c_firstPlaces c_px c_py c_pz c_placeMany c_modulus c_drawn c_halvesMany c_halvesFirst c_spreadsMany c_spreadsFirst c_comesTo c_seedNow c_rowThen c_hasImage c_actsThen c_imageRow c_pastThen c_statusThen) H := hP
      have hD : va_D A (mW h0 ad G.2.2 y18.2 c_now c_read c_status c_tape c_taped c_at c_textSize c_token c_number c_begins c_stops c_bad c_badPlace c_faultPlace c_clauses c_naming c_lineBy c_becomes c_dualLines c_on c_rowNow c_least c_wayFirst c_ways c_acts c_past c_listPoints c_listLines c_listed c_list c_path c_places c_firstPlaces c_px c_py c_pz c_placeMany c_modulus c_drawn c_halvesMany c_halvesFirst c_spreadsMany c_spreadsFirst c_comesTo c_seedNow c_rowThen c_hasImage c_actsThen c_imageRow c_pastThen c_statusThen) := hD
      refine W.eq (g2 := F0 m 27 ls [.int y18.1]) rfl ?_
      obtain rfl := Option.some.inj h
      exact hreti rfl dX3_shelf_27 rfl rfl hP hD hS
def F_X3_way (N : Nat) (v1 : Int32) (v2 : Int32) (c_now : (Nat → Int32)) (c_naming : (Nat → Int32)) (c_wayFirst : (Nat → Int32)) (c_code : Int32) (c_ways : Int32) : Option (Int32 × (Nat → Int32) × (Nat → Int32) × Int32 × Int32) := ((F_X3_hasShelf N v1 c_now).bind fun y1 => (if y1 = 0 then ((F_X3_fail N 1 0).bind fun y3 => (some (y3.1, c_naming, c_wayFirst, y3.2, c_ways))) else ((F_X3_onShelf N v1 0 c_now).bind fun y5 => ((F_X3_isIn N v2 0 (y5 - (1 : Int32))).bind fun y6 => (if y6 = 0 then ((F_X3_fail N 1 0).bind fun y13 => (some (y13.1, c_naming, c_wayFirst, y13.2, c_ways))) else ((F_X3_tellWays N 16 v1 0 0 c_now c_naming c_wayFirst 0).bind fun y8 => (if y8.2.2 = 0 then (some ((-1), y8.1, y8.2.1, 0, y8.2.2)) else (ckI v2 8 (some ((y8.2.1 (Int32.toNatClampNeg v2)), y8.1, y8.2.1, 0, y8.2.2))))))))))
theorem cw_X3_way {R : Room} {s : State} {args : Array Value} {own : String} {index lev mc ms : Nat} (hts : ∀ w ∈ lw_all, w.before args s = true) (hl : Cond.methodLink own index yX3_way ∈ lw_all) (hR : (rmL lev mc ms).frames + 1 ≤ R.frames ∧ 8 + (3 + 11) + (rmL lev mc ms).locals ≤ R.locals) : CallW R s args own RX3 index yX3_way cX3_way 3 (some .int) (ws_ yX3_way cX3_way 3 (some .int)) (rmL lev mc ms) mc ms 2 := cwV 2 hts (lw_V hl q2135 q2136 q172 q2137) rfl rfl rfl (by decide +kernel) hR
set_option maxHeartbeats 4000000 in
theorem M_X3_way {l : Launch} {G : GE} (hG : GC G) {N : Nat} {h0 : Nat} {ad : Nat → Nat} {c_read : (Nat → Int32)} {c_status : (Nat → Int32)} {c_tape : (Nat → Int32)} {c_taped : Int32} {c_at : Int32} {c_textSize : Int32} {c_token : Int32} {c_number : Int32} {c_begins : Int32} {c_stops : Int32} {c_bad : Int32} {c_badPlace : Int32} {c_faultPlace : Int32} {c_clauses : Int32} {c_lineBy : (Nat → Int32)} {c_becomes : (Nat → Int32)} {c_dualLines : (Nat → Int32)} {c_on : (Nat → Int32)} {c_rowNow : (Nat → Int32)} {c_least : (Nat → Int32)} {c_acts : Int32} {c_past : (Nat → Int32)} {c_listPoints : Int32} {c_listLines : Int32} {c_listed : Int32} {c_list : (Nat → Int32)} {c_path : (Nat → Int32)} {c_places : (Nat → Int32)} {c_firstPlaces : (Nat → Int32)} {c_px : (Nat → Int32)} {c_py : (Nat → Int32)} {c_pz : (Nat → Int32)} {c_placeMany : Int32} {c_modulus : Int32} {c_drawn : Int32} {c_halvesMany : Int32} {c_halvesFirst : Int32} {c_spreadsMany : Int32} {c_spreadsFirst : Int32} {c_comesTo : (Nat → Int32)} {c_seedNow : Int32} {c_rowThen : (Nat → Int32)} {c_hasImage : Int32} {c_actsThen : Int32} {c_imageRow : (Nat → Int32)} {c_pastThen : (Nat → Int32)} {c_statusThen : (Nat → Int32)} {v1 : Int32} {v2 : Int32} {c_now : (Nat → Int32)} {c_naming : (Nat → Int32)} {c_wayFirst : (Nat → Int32)} {c_code : Int32} {c_ways : Int32} {ρ : (Int32 × (Nat → Int32) × (Nat → Int32) × Int32 × Int32)} (h : F_X3_way N v1 v2 c_now c_naming c_wayFirst c_code c_ways = some ρ) : MW l G yX3_way cX3_way 3 (some .int) 21 (mW h0 ad G.2.2 c_code c_now c_read c_status c_tape c_taped c_at c_textSize c_token c_number c_begins c_stops c_bad c_badPlace c_faultPlace c_clauses c_naming c_lineBy c_becomes c_dualLines c_on c_rowNow c_least c_wayFirst c_ways c_acts c_past c_listPoints c_listLines c_listed c_list c_path c_places c_firstPlaces c_px c_py c_pz c_placeMany c_modulus c_drawn c_halvesMany c_halvesFirst c_spreadsMany c_spreadsFirst c_comesTo c_seedNow c_rowThen c_hasImage c_actsThen c_imageRow c_pastThen c_statusThen) [.ref h0, .int v1, .int v2] (some (.int ρ.1)) (mW h0 ad G.2.2 ρ.2.2.2.1 c_now c_read c_status c_tape c_taped c_at c_textSize c_token c_number c_begins c_stops c_bad c_badPlace c_faultPlace c_clauses ρ.2.1 c_lineBy c_becomes c_dualLines c_on c_rowNow c_least ρ.2.2.1 ρ.2.2.2.2 c_acts c_past c_listPoints c_listLines c_listed c_list c_path c_places c_firstPlaces c_px c_py c_pz c_placeMany c_modulus c_drawn c_halvesMany c_halvesFirst c_spreadsMany c_spreadsFirst c_comesTo c_seedNow c_rowThen c_hasImage c_actsThen c_imageRow c_pastThen c_statusThen) := by
  rw [F_X3_way] at h
  refine MW.start hG (by decide) (Nat.le_of_ble_eq_true rfl) ?_
  intro p e s m args below meth c Q A S hW0 hK hP hD hA hreti hretv ls hl
  have hS : va_S A s.heap s.heap [] := va_S.rf
  obtain ⟨hx, hb, hml, hown, hts⟩ := id S
  have hl : lv_has ls 3 [(0, .ref h0), (1, .int v1), (2, .int v2)] := hl
  refine lv_aload_n hx hb dX3_way_0 rfl (lv_at hl 0 rfl) ?_
  refine lv_iconst (v := 0) hx hb dX3_way_1 (by decide) ?_
  refine va_put (ci := 2) (v := .int 0) (ty := .int) (C := RX3) (T := TX3) (N := 52) hx hb hts in_X3 tyX3 tyX3_ok nmX3 hown hK hP hD hS 0 rfl rfl 0 (by decide) (hts _ q1658) (fun _ h9 => h9) rfl (by decide +kernel) rfl rfl (Nat.le_of_ble_eq_true rfl) dX3_way_2 (fun H locs hP hD hS => ?_)
  have hP : va_P G.2.1 vwCl (mW h0 ad G.2.2 0 c_now c_read c_status c_tape c_taped c_at c_textSize c_token c_number c_begins c_stops c_bad c_badPlace c_faultPlace c_clauses c_naming c_lineBy c_becomes c_dualLines c_on c_rowNow c_least c_wayFirst c_ways c_acts c_past c_listPoints c_listLines c_listed c_list c_path c_places c_firstPlaces c_px c_py c_pz c_placeMany c_modulus c_drawn c_halvesMany c_halvesFirst c_spreadsMany c_spreadsFirst c_comesTo c_seedNow c_rowThen c_hasImage c_actsThen c_imageRow c_pastThen c_statusThen) H := hP
  have hD : va_D A (mW h0 ad G.2.2 0 c_now c_read c_status c_tape c_taped c_at c_textSize c_token c_number c_begins c_stops c_bad c_badPlace c_faultPlace c_clauses c_naming c_lineBy c_becomes c_dualLines c_on c_rowNow c_least c_wayFirst c_ways c_acts c_past c_listPoints c_listLines c_listed c_list c_path c_places c_firstPlaces c_px c_py c_pz c_placeMany c_modulus c_drawn c_halvesMany c_halvesFirst c_spreadsMany c_spreadsFirst c_comesTo c_seedNow c_rowThen c_hasImage c_actsThen c_imageRow c_pastThen c_statusThen) := hD
  refine lv_aload_n hx hb dX3_way_5 rfl (lv_at hl 0 rfl) ?_
  refine lv_iload_n hx hb dX3_way_6 rfl (lv_at hl 1 rfl) ?_
  obtain ⟨y1, e1, h⟩ := ob_s h
  refine MR.callV (q0 := 0) (M_X3_hasShelf hG e1) S (cw_X3_hasShelf hts q2111 ⟨Nat.le_of_ble_eq_true rfl, Nat.le_of_ble_eq_true rfl⟩) hW0 hK hP rfl rfl rfl hl.1 rfl (Nat.le_of_ble_eq_true rfl) dX3_way_7 ⟨Nat.zero_le _, Nat.zero_le _⟩ ?_
  refine lv_if_eq (tgt := 29) hx hb dX3_way_10 (by decide) (fun c2 => ?_) (fun c2 => ?_)
  · rw [if_pos c2] at h
    refine lv_aload_n hx hb dX3_way_29 rfl (lv_at hl 0 rfl) ?_
    refine lv_iconst (v := 1) hx hb dX3_way_30 (by decide) ?_
    obtain ⟨y3, e3, h⟩ := ob_s h
    refine MW.callV (q0 := 0) (M_X3_fail hG e3) S (cw_X3_fail hts q1827 ⟨Nat.le_of_ble_eq_true rfl, Nat.le_of_ble_eq_true rfl⟩) hW0 hK hP hD hS hA rfl rfl rfl hl.1 rfl (Nat.le_of_ble_eq_true rfl) dX3_way_31 ⟨Nat.zero_le _, Nat.zero_le _⟩ (fun H locs hP hD hS => ?_)
    have hP : va_P G.2.1 vwCl (mW h0 ad G.2.2 y3.2 c_now c_read c_status c_tape c_taped c_at c_textSize c_token c_number c_begins c_stops c_bad c_badPlace c_faultPlace c_clauses c_naming c_lineBy c_becomes c_dualLines c_on c_rowNow c_least c_wayFirst c_ways c_acts c_past c_listPoints c_listLines c_listed c_list c_path c_places c_firstPlaces c_px c_py c_pz c_placeMany c_modulus c_drawn c_halvesMany c_halvesFirst c_spreadsMany c_spreadsFirst c_comesTo c_seedNow c_rowThen c_hasImage c_actsThen c_imageRow c_pastThen c_statusThen) H := hP
    have hD : va_D A (mW h0 ad G.2.2 y3.2 c_now c_read c_status c_tape c_taped c_at c_textSize c_token c_number c_begins c_stops c_bad c_badPlace c_faultPlace c_clauses c_naming c_lineBy c_becomes c_dualLines c_on c_rowNow c_least c_wayFirst c_ways c_acts c_past c_listPoints c_listLines c_listed c_list c_path c_places c_firstPlaces c_px c_py c_pz c_placeMany c_modulus c_drawn c_halvesMany c_halvesFirst c_spreadsMany c_spreadsFirst c_comesTo c_seedNow c_rowThen c_hasImage c_actsThen c_imageRow c_pastThen c_statusThen) := hD
    refine W.eq (g2 := F0 m 34 ls [.int y3.1]) rfl ?_
    obtain rfl := Option.some.inj h
    exact hreti rfl dX3_way_34 rfl rfl hP hD hS
  · rw [if_neg c2] at h
    refine lv_iload_n hx hb dX3_way_13 rfl (lv_at hl 2 rfl) ?_
    refine lv_iconst (v := 0) hx hb dX3_way_14 (by decide) ?_
    refine lv_aload_n hx hb dX3_way_15 rfl (lv_at hl 0 rfl) ?_
    refine lv_iload_n hx hb dX3_way_16 rfl (lv_at hl 1 rfl) ?_
    refine lv_iconst (v := 0) hx hb dX3_way_17 (by decide) ?_
    obtain ⟨y5, e5, h⟩ := ob_s h
    refine MR.callV (q0 := 0) (M_X3_onShelf hG e5) S (cw_X3_onShelf hts q2122 ⟨Nat.le_of_ble_eq_true rfl, Nat.le_of_ble_eq_true rfl⟩) hW0 hK hP rfl rfl rfl hl.1 rfl (Nat.le_of_ble_eq_true rfl) dX3_way_18 ⟨Nat.zero_le _, Nat.zero_le _⟩ ?_
    refine lv_iconst (v := 1) hx hb dX3_way_21 (by decide) ?_
    refine lv_isub hx hb dX3_way_22 ?_
    obtain ⟨y6, e6, h⟩ := ob_s h
    refine MR.callS (M_X3_isIn hG e6) S (cw_X3_isIn hts q2061 ⟨Nat.le_of_ble_eq_true rfl, Nat.le_of_ble_eq_true rfl⟩) hW0 vaP0 rfl hl.1 rfl (Nat.le_of_ble_eq_true rfl) dX3_way_23 ⟨Nat.zero_le _, Nat.zero_le _⟩ ?_
    refine lv_if_ne (tgt := 35) hx hb dX3_way_26 (by decide) (fun c7 => ?_) (fun c7 => ?_)
    · rw [if_neg c7] at h
      refine lv_aload_n hx hb dX3_way_35 rfl (lv_at hl 0 rfl) ?_
      refine lv_iconst (v := 0) hx hb dX3_way_36 (by decide) ?_
      refine va_put (ci := 2) (v := .int 0) (ty := .int) (C := RX3) (T := TX3) (N := 52) hx hb hts in_X3 tyX3 tyX3_ok nmX3 hown hK hP hD hS 0 rfl rfl 24 (by decide) (hts _ q1682) (fun _ h9 => h9) rfl (by decide +kernel) rfl rfl (Nat.le_of_ble_eq_true rfl) dX3_way_37 (fun H locs hP hD hS => ?_)
      have hP : va_P G.2.1 vwCl (mW h0 ad G.2.2 0 c_now c_read c_status c_tape c_taped c_at c_textSize c_token c_number c_begins c_stops c_bad c_badPlace c_faultPlace c_clauses c_naming c_lineBy c_becomes c_dualLines c_on c_rowNow c_least c_wayFirst 0 c_acts c_past c_listPoints c_listLines c_listed c_list c_path c_places c_firstPlaces c_px c_py c_pz c_placeMany c_modulus c_drawn c_halvesMany c_halvesFirst c_spreadsMany c_spreadsFirst c_comesTo c_seedNow c_rowThen c_hasImage c_actsThen c_imageRow c_pastThen c_statusThen) H := hP
      have hD : va_D A (mW h0 ad G.2.2 0 c_now c_read c_status c_tape c_taped c_at c_textSize c_token c_number c_begins c_stops c_bad c_badPlace c_faultPlace c_clauses c_naming c_lineBy c_becomes c_dualLines c_on c_rowNow c_least c_wayFirst 0 c_acts c_past c_listPoints c_listLines c_listed c_list c_path c_places c_firstPlaces c_px c_py c_pz c_placeMany c_modulus c_drawn c_halvesMany c_halvesFirst c_spreadsMany c_spreadsFirst c_comesTo c_seedNow c_rowThen c_hasImage c_actsThen c_imageRow c_pastThen c_statusThen) := hD
      refine lv_aload_n hx hb dX3_way_40 rfl (lv_at hl 0 rfl) ?_
      refine lv_iload_n hx hb dX3_way_41 rfl (lv_at hl 1 rfl) ?_
      refine lv_iconst (v := 0) hx hb dX3_way_42 (by decide) ?_
      refine lv_iconst (v := 0) hx hb dX3_way_43 (by decide) ?_
      obtain ⟨y8, e8, h⟩ := ob_s h
      refine MW.callV (q0 := 0) (M_X3_tellWays hG 16 e8) S (cw_X3_tellWays hts q2126 ⟨Nat.le_of_ble_eq_true rfl, Nat.le_of_ble_eq_true rfl⟩) hW0 hK hP hD hS hA rfl rfl rfl hl.1 rfl (Nat.le_of_ble_eq_true rfl) dX3_way_44 ⟨Nat.zero_le _, Nat.zero_le _⟩ (fun H locs hP hD hS => ?_)
      have hP : va_P G.2.1 vwCl (mW h0 ad G.2.2 0 c_now c_read c_status c_tape c_taped c_at c_textSize c_token c_number c_begins c_stops c_bad c_badPlace c_faultPlace c_clauses y8.1 c_lineBy c_becomes c_dualLines c_on c_rowNow c_least y8.2.1 y8.2.2 c_acts c_past c_listPoints c_listLines c_listed c_list c_path c_places c_firstPlaces c_px c_py c_pz c_placeMany c_modulus c_drawn c_halvesMany c_halvesFirst c_spreadsMany c_spreadsFirst c_comesTo c_seedNow c_rowThen c_hasImage c_actsThen c_imageRow c_pastThen c_statusThen) H := hP
      have hD : va_D A (mW h0 ad G.2.2 0 c_now c_read c_status c_tape c_taped c_at c_textSize c_token c_number c_begins c_stops c_bad c_badPlace c_faultPlace c_clauses y8.1 c_lineBy c_becomes c_dualLines c_on c_rowNow c_least y8.2.1 y8.2.2 c_acts c_past c_listPoints c_listLines c_listed c_list c_path c_places c_firstPlaces c_px c_py c_pz c_placeMany c_modulus c_drawn c_halvesMany c_halvesFirst c_spreadsMany c_spreadsFirst c_comesTo c_seedNow c_rowThen c_hasImage c_actsThen c_imageRow c_pastThen c_statusThen) := hD
      refine W.eq (g2 := F0 m 47 ls []) rfl ?_
      refine lv_aload_n hx hb dX3_way_47 rfl (lv_at hl 0 rfl) ?_
      refine va_get (ci := 2) (v := .int y8.2.2) (C := RX3) (T := TX3) (N := 52) hx hb hts in_X3 hown hK hP 0 rfl rfl 24 (by decide) (hts _ q1682) (fun _ h9 => h9) rfl dX3_way_48 ?_
      refine lv_if_ne (tgt := 58) hx hb dX3_way_51 (by decide) (fun c9 => ?_) (fun c9 => ?_)
      · rw [if_neg c9] at h
        refine lv_aload_n hx hb dX3_way_58 rfl (lv_at hl 0 rfl) ?_
        refine va_get (ci := 2) (v := .ref (ad 23)) (C := RX3) (T := TX3) (N := 52) hx hb hts in_X3 hown hK hP 0 rfl rfl 23 (by decide) (hts _ q1681) (fun _ h9 => h9) rfl dX3_way_59 ?_
        refine lv_iload_n hx hb dX3_way_62 rfl (lv_at hl 2 rfl) ?_
        obtain ⟨i10, h⟩ := ckI_s h
        refine va_iald (f := y8.2.1) hx hb hK hP 12 0 rfl rfl i10 dX3_way_63 ?_
        obtain rfl := Option.some.inj h
        exact hreti rfl dX3_way_64 rfl rfl hP hD hS
      · rw [if_pos c9] at h
        refine lv_iconst (v := (-1)) hx hb dX3_way_54 (by decide) ?_
        refine lv_goto (tgt := 64) hx hb dX3_way_55 (by decide) ?_
        obtain rfl := Option.some.inj h
        exact hreti rfl dX3_way_64 rfl rfl hP hD hS
    · rw [if_pos c7] at h
      refine lv_aload_n hx hb dX3_way_29 rfl (lv_at hl 0 rfl) ?_
      refine lv_iconst (v := 1) hx hb dX3_way_30 (by decide) ?_
      obtain ⟨y13, e13, h⟩ := ob_s h
      refine MW.callV (q0 := 0) (M_X3_fail hG e13) S (cw_X3_fail hts q1827 ⟨Nat.le_of_ble_eq_true rfl, Nat.le_of_ble_eq_true rfl⟩) hW0 hK hP hD hS hA rfl rfl rfl hl.1 rfl (Nat.le_of_ble_eq_true rfl) dX3_way_31 ⟨Nat.zero_le _, Nat.zero_le _⟩ (fun H locs hP hD hS => ?_)
      have hP : va_P G.2.1 vwCl (mW h0 ad G.2.2 y13.2 c_now c_read c_status c_tape c_taped c_at c_textSize c_token c_number c_begins c_stops c_bad c_badPlace c_faultPlace c_clauses c_naming c_lineBy c_becomes c_dualLines c_on c_rowNow c_least c_wayFirst c_ways c_acts c_past c_listPoints c_listLines c_listed c_list c_path c_places c_firstPlaces c_px c_py c_pz c_placeMany c_modulus c_drawn c_halvesMany c_halvesFirst c_spreadsMany c_spreadsFirst c_comesTo c_seedNow c_rowThen c_hasImage c_actsThen c_imageRow c_pastThen c_statusThen) H := hP
      have hD : va_D A (mW h0 ad G.2.2 y13.2 c_now c_read c_status c_tape c_taped c_at c_textSize c_token c_number c_begins c_stops c_bad c_badPlace c_faultPlace c_clauses c_naming c_lineBy c_becomes c_dualLines c_on c_rowNow c_least c_wayFirst c_ways c_acts c_past c_listPoints c_listLines c_listed c_list c_path c_places c_firstPlaces c_px c_py c_pz c_placeMany c_modulus c_drawn c_halvesMany c_halvesFirst c_spreadsMany c_spreadsFirst c_comesTo c_seedNow c_rowThen c_hasImage c_actsThen c_imageRow c_pastThen c_statusThen) := hD
      refine W.eq (g2 := F0 m 34 ls [.int y13.1]) rfl ?_
      obtain rfl := Option.some.inj h
      exact hreti rfl dX3_way_34 rfl rfl hP hD hS
def F_X3_canAdd (N : Nat) (v1 : Int32) (c_now : (Nat → Int32)) : Option (Int32) := ((F_X3_points N c_now).bind fun y1 => ((F_X3_isIn N v1 0 (((1 : Int32) <<< (y1 &&& 31)) - (1 : Int32))).bind fun y2 => (if y2 = 0 then (some (0)) else ((F_X3_bits N v1).bind fun y5 => ((F_X3_isIn N y5 2 4).bind fun y6 => (if y6 = 0 then (some (0)) else ((F_X3_sharesTwo N 154 v1 c_now).bind fun y9 => (if y9 = 0 then ((F_X3_lines N c_now).bind fun y12 => (if 12 ≤ y12 then (some (0)) else (some (1)))) else (some (0))))))))))
theorem cw_X3_canAdd {R : Room} {s : State} {args : Array Value} {own : String} {index lev mc ms : Nat} (hts : ∀ w ∈ lw_all, w.before args s = true) (hl : Cond.methodLink own index yX3_canAdd ∈ lw_all) (hR : (rmL lev mc ms).frames + 1 ≤ R.frames ∧ 8 + (2 + 11) + (rmL lev mc ms).locals ≤ R.locals) : CallW R s args own RX3 index yX3_canAdd cX3_canAdd 2 (some .boolean) (ws_ yX3_canAdd cX3_canAdd 2 (some .boolean)) (rmL lev mc ms) mc ms 1 := cwV 1 hts (lw_V hl q2144 qs127 q172 q2145) rfl rfl rfl (by decide +kernel) hR
set_option maxHeartbeats 4000000 in
theorem M_X3_canAdd {l : Launch} {G : GE} (hG : GC G) {N : Nat} {h0 : Nat} {ad : Nat → Nat} {c_code : Int32} {c_read : (Nat → Int32)} {c_status : (Nat → Int32)} {c_tape : (Nat → Int32)} {c_taped : Int32} {c_at : Int32} {c_textSize : Int32} {c_token : Int32} {c_number : Int32} {c_begins : Int32} {c_stops : Int32} {c_bad : Int32} {c_badPlace : Int32} {c_faultPlace : Int32} {c_clauses : Int32} {c_naming : (Nat → Int32)} {c_lineBy : (Nat → Int32)} {c_becomes : (Nat → Int32)} {c_dualLines : (Nat → Int32)} {c_on : (Nat → Int32)} {c_rowNow : (Nat → Int32)} {c_least : (Nat → Int32)} {c_wayFirst : (Nat → Int32)} {c_ways : Int32} {c_acts : Int32} {c_past : (Nat → Int32)} {c_listPoints : Int32} {c_listLines : Int32} {c_listed : Int32} {c_list : (Nat → Int32)} {c_path : (Nat → Int32)} {c_places : (Nat → Int32)} {c_firstPlaces : (Nat → Int32)} {c_px : (Nat → Int32)} {c_py : (Nat → Int32)} {c_pz : (Nat → Int32)} {c_placeMany : Int32} {c_modulus : Int32} {c_drawn : Int32} {c_halvesMany : Int32} {c_halvesFirst : Int32} {c_spreadsMany : Int32} {c_spreadsFirst : Int32} {c_comesTo : (Nat → Int32)} {c_seedNow : Int32} {c_rowThen : (Nat → Int32)} {c_hasImage : Int32} {c_actsThen : Int32} {c_imageRow : (Nat → Int32)} {c_pastThen : (Nat → Int32)} {c_statusThen : (Nat → Int32)} {v1 : Int32} {c_now : (Nat → Int32)} {ρ : (Int32)} (h : F_X3_canAdd N v1 c_now = some ρ) : MR l G yX3_canAdd cX3_canAdd 2 (some .boolean) 4 (mW h0 ad G.2.2 c_code c_now c_read c_status c_tape c_taped c_at c_textSize c_token c_number c_begins c_stops c_bad c_badPlace c_faultPlace c_clauses c_naming c_lineBy c_becomes c_dualLines c_on c_rowNow c_least c_wayFirst c_ways c_acts c_past c_listPoints c_listLines c_listed c_list c_path c_places c_firstPlaces c_px c_py c_pz c_placeMany c_modulus c_drawn c_halvesMany c_halvesFirst c_spreadsMany c_spreadsFirst c_comesTo c_seedNow c_rowThen c_hasImage c_actsThen c_imageRow c_pastThen c_statusThen) [.ref h0, .int v1] ρ := by
  rw [F_X3_canAdd] at h
  refine MR.start (rt := .boolean) hG (by decide) (Nat.le_of_ble_eq_true rfl) ?_
  intro p e s m args below meth c Q S hW0 hK hP hret ls hl
  obtain ⟨hx, hb, hml, hown, hts⟩ := id S
  have hl : lv_has ls 2 [(0, .ref h0), (1, .int v1)] := hl
  refine lv_iload_n hx hb dX3_canAdd_0 rfl (lv_at hl 1 rfl) ?_
  refine lv_iconst (v := 0) hx hb dX3_canAdd_1 (by decide) ?_
  refine lv_iconst (v := 1) hx hb dX3_canAdd_2 (by decide) ?_
  refine lv_aload_n hx hb dX3_canAdd_3 rfl (lv_at hl 0 rfl) ?_
  obtain ⟨y1, e1, h⟩ := ob_s h
  refine MR.callV (q0 := 0) (M_X3_points hG e1) S (cw_X3_points hts q1913 ⟨Nat.le_of_ble_eq_true rfl, Nat.le_of_ble_eq_true rfl⟩) hW0 hK hP rfl rfl rfl hl.1 rfl (Nat.le_of_ble_eq_true rfl) dX3_canAdd_4 ⟨Nat.zero_le _, Nat.zero_le _⟩ ?_
  refine lv_ishl hx hb dX3_canAdd_7 ?_
  refine lv_iconst (v := 1) hx hb dX3_canAdd_8 (by decide) ?_
  refine lv_isub hx hb dX3_canAdd_9 ?_
  obtain ⟨y2, e2, h⟩ := ob_s h
  refine MR.callS (M_X3_isIn hG e2) S (cw_X3_isIn hts q2061 ⟨Nat.le_of_ble_eq_true rfl, Nat.le_of_ble_eq_true rfl⟩) hW0 vaP0 rfl hl.1 rfl (Nat.le_of_ble_eq_true rfl) dX3_canAdd_10 ⟨Nat.zero_le _, Nat.zero_le _⟩ ?_
  refine lv_if_eq (tgt := 52) hx hb dX3_canAdd_13 (by decide) (fun c3 => ?_) (fun c3 => ?_)
  · rw [if_pos c3] at h
    refine lv_iconst (v := 0) hx hb dX3_canAdd_52 (by decide) ?_
    obtain rfl := Option.some.inj h
    exact hret dX3_canAdd_53 rfl
  · rw [if_neg c3] at h
    refine lv_iload_n hx hb dX3_canAdd_16 rfl (lv_at hl 1 rfl) ?_
    obtain ⟨y5, e5, h⟩ := ob_s h
    refine MR.callS (M_X3_bits hG e5) S (cw_X3_bits hts q1896 ⟨Nat.le_of_ble_eq_true rfl, Nat.le_of_ble_eq_true rfl⟩) hW0 vaP0 rfl hl.1 rfl (Nat.le_of_ble_eq_true rfl) dX3_canAdd_17 ⟨Nat.zero_le _, Nat.zero_le _⟩ ?_
    refine lv_iconst (v := 2) hx hb dX3_canAdd_20 (by decide) ?_
    refine lv_iconst (v := 4) hx hb dX3_canAdd_21 (by decide) ?_
    obtain ⟨y6, e6, h⟩ := ob_s h
    refine MR.callS (M_X3_isIn hG e6) S (cw_X3_isIn hts q2061 ⟨Nat.le_of_ble_eq_true rfl, Nat.le_of_ble_eq_true rfl⟩) hW0 vaP0 rfl hl.1 rfl (Nat.le_of_ble_eq_true rfl) dX3_canAdd_22 ⟨Nat.zero_le _, Nat.zero_le _⟩ ?_
    refine lv_if_eq (tgt := 52) hx hb dX3_canAdd_25 (by decide) (fun c7 => ?_) (fun c7 => ?_)
    · rw [if_pos c7] at h
      refine lv_iconst (v := 0) hx hb dX3_canAdd_52 (by decide) ?_
      obtain rfl := Option.some.inj h
      exact hret dX3_canAdd_53 rfl
    · rw [if_neg c7] at h
      refine lv_aload_n hx hb dX3_canAdd_28 rfl (lv_at hl 0 rfl) ?_
      refine va_get (ci := 2) (v := .ref (ad 1)) (C := RX3) (T := TX3) (N := 52) hx hb hts in_X3 hown hK hP 0 rfl rfl 1 (by decide) (hts _ q1659) (fun _ h9 => h9) rfl dX3_canAdd_29 ?_
      refine lv_iload_n hx hb dX3_canAdd_32 rfl (lv_at hl 1 rfl) ?_
      obtain ⟨y9, e9, h⟩ := ob_s h
      refine MR.callS (M_X3_sharesTwo hG e9) S (cw_X3_sharesTwo hts q1893 ⟨Nat.le_of_ble_eq_true rfl, Nat.le_of_ble_eq_true rfl⟩) hW0 (hP.sub [1] rfl) rfl hl.1 rfl (Nat.le_of_ble_eq_true rfl) dX3_canAdd_33 ⟨Nat.zero_le _, Nat.zero_le _⟩ ?_
      refine lv_if_ne (tgt := 52) hx hb dX3_canAdd_36 (by decide) (fun c10 => ?_) (fun c10 => ?_)
      · rw [if_neg c10] at h
        refine lv_iconst (v := 0) hx hb dX3_canAdd_52 (by decide) ?_
        obtain rfl := Option.some.inj h
        exact hret dX3_canAdd_53 rfl
      · rw [if_pos c10] at h
        refine lv_aload_n hx hb dX3_canAdd_39 rfl (lv_at hl 0 rfl) ?_
        obtain ⟨y12, e12, h⟩ := ob_s h
        refine MR.callV (q0 := 0) (M_X3_lines hG e12) S (cw_X3_lines hts q1917 ⟨Nat.le_of_ble_eq_true rfl, Nat.le_of_ble_eq_true rfl⟩) hW0 hK hP rfl rfl rfl hl.1 rfl (Nat.le_of_ble_eq_true rfl) dX3_canAdd_40 ⟨Nat.zero_le _, Nat.zero_le _⟩ ?_
        refine lv_bipush (v := 12) hx hb dX3_canAdd_43 (by decide) ?_
        refine lv_icmp_ge (tgt := 52) hx hb dX3_canAdd_45 (by decide) (fun c13 => ?_) (fun c13 => ?_)
        · rw [if_pos c13] at h
          refine lv_iconst (v := 0) hx hb dX3_canAdd_52 (by decide) ?_
          obtain rfl := Option.some.inj h
          exact hret dX3_canAdd_53 rfl
        · rw [if_neg c13] at h
          refine lv_iconst (v := 1) hx hb dX3_canAdd_48 (by decide) ?_
          refine lv_goto (tgt := 53) hx hb dX3_canAdd_49 (by decide) ?_
          obtain rfl := Option.some.inj h
          exact hret dX3_canAdd_53 rfl
def F_X3_refuse (N : Nat) (c_status : (Nat → Int32)) : Option (Int32 × (Nat → Int32)) := (ckI 1 2 (ckI 1 2 (some ((-1), (upd c_status (Int32.toNatClampNeg 1) ((c_status (Int32.toNatClampNeg 1)) + (1 : Int32)))))))
theorem cw_X3_refuse {R : Room} {s : State} {args : Array Value} {own : String} {index lev mc ms : Nat} (hts : ∀ w ∈ lw_all, w.before args s = true) (hl : Cond.methodLink own index yX3_refuse ∈ lw_all) (hR : (rmL lev mc ms).frames + 1 ≤ R.frames ∧ 8 + (1 + 11) + (rmL lev mc ms).locals ≤ R.locals) : CallW R s args own RX3 index yX3_refuse cX3_refuse 1 (some .int) (ws_ yX3_refuse cX3_refuse 1 (some .int)) (rmL lev mc ms) mc ms 0 := cwV 0 hts (lw_V hl q2148 qs128 q172 q2149) rfl rfl rfl (by decide +kernel) hR
set_option maxHeartbeats 4000000 in
theorem M_X3_refuse {l : Launch} {G : GE} (hG : GC G) {N : Nat} {h0 : Nat} {ad : Nat → Nat} {c_code : Int32} {c_now : (Nat → Int32)} {c_read : (Nat → Int32)} {c_tape : (Nat → Int32)} {c_taped : Int32} {c_at : Int32} {c_textSize : Int32} {c_token : Int32} {c_number : Int32} {c_begins : Int32} {c_stops : Int32} {c_bad : Int32} {c_badPlace : Int32} {c_faultPlace : Int32} {c_clauses : Int32} {c_naming : (Nat → Int32)} {c_lineBy : (Nat → Int32)} {c_becomes : (Nat → Int32)} {c_dualLines : (Nat → Int32)} {c_on : (Nat → Int32)} {c_rowNow : (Nat → Int32)} {c_least : (Nat → Int32)} {c_wayFirst : (Nat → Int32)} {c_ways : Int32} {c_acts : Int32} {c_past : (Nat → Int32)} {c_listPoints : Int32} {c_listLines : Int32} {c_listed : Int32} {c_list : (Nat → Int32)} {c_path : (Nat → Int32)} {c_places : (Nat → Int32)} {c_firstPlaces : (Nat → Int32)} {c_px : (Nat → Int32)} {c_py : (Nat → Int32)} {c_pz : (Nat → Int32)} {c_placeMany : Int32} {c_modulus : Int32} {c_drawn : Int32} {c_halvesMany : Int32} {c_halvesFirst : Int32} {c_spreadsMany : Int32} {c_spreadsFirst : Int32} {c_comesTo : (Nat → Int32)} {c_seedNow : Int32} {c_rowThen : (Nat → Int32)} {c_hasImage : Int32} {c_actsThen : Int32} {c_imageRow : (Nat → Int32)} {c_pastThen : (Nat → Int32)} {c_statusThen : (Nat → Int32)} {c_status : (Nat → Int32)} {ρ : (Int32 × (Nat → Int32))} (h : F_X3_refuse N c_status = some ρ) : MW l G yX3_refuse cX3_refuse 1 (some .int) 1 (mW h0 ad G.2.2 c_code c_now c_read c_status c_tape c_taped c_at c_textSize c_token c_number c_begins c_stops c_bad c_badPlace c_faultPlace c_clauses c_naming c_lineBy c_becomes c_dualLines c_on c_rowNow c_least c_wayFirst c_ways c_acts c_past c_listPoints c_listLines c_listed c_list c_path c_places c_firstPlaces c_px c_py c_pz c_placeMany c_modulus c_drawn c_halvesMany c_halvesFirst c_spreadsMany c_spreadsFirst c_comesTo c_seedNow c_rowThen c_hasImage c_actsThen c_imageRow c_pastThen c_statusThen) [.ref h0] (some (.int ρ.1)) (mW h0 ad G.2.2 c_code c_now c_read ρ.2 c_tape c_taped c_at c_textSize c_token c_number c_begins c_stops c_bad c_badPlace c_faultPlace c_clauses c_naming c_lineBy c_becomes c_dualLines c_on c_rowNow c_least c_wayFirst c_ways c_acts c_past c_listPoints c_listLines c_listed c_list c_path c_places c_firstPlaces c_px c_py c_pz c_placeMany c_modulus c_drawn c_halvesMany c_halvesFirst c_spreadsMany c_spreadsFirst c_comesTo c_seedNow c_rowThen c_hasImage c_actsThen c_imageRow c_pastThen c_statusThen) := by
  rw [F_X3_refuse] at h
  refine MW.start hG (by decide) (Nat.le_of_ble_eq_true rfl) ?_
  intro p e s m args below meth c Q A S hW0 hK hP hD hA hreti hretv ls hl
  have hS : va_S A s.heap s.heap [] := va_S.rf
  obtain ⟨hx, hb, hml, hown, hts⟩ := id S
  have hl : lv_has ls 1 [(0, .ref h0)] := hl
  refine lv_aload_n hx hb dX3_refuse_0 rfl (lv_at hl 0 rfl) ?_
  refine va_get (ci := 2) (v := .ref (ad 3)) (C := RX3) (T := TX3) (N := 52) hx hb hts in_X3 hown hK hP 0 rfl rfl 3 (by decide) (hts _ q1661) (fun _ h9 => h9) rfl dX3_refuse_1 ?_
  refine lv_iconst (v := 1) hx hb dX3_refuse_4 (by decide) ?_
  refine lv_dup2_11 hx hb dX3_refuse_5 rfl rfl ?_
  obtain ⟨i1, h⟩ := ckI_s h
  refine va_iald (f := c_status) hx hb hK hP 3 0 rfl rfl i1 dX3_refuse_6 ?_
  refine lv_iconst (v := 1) hx hb dX3_refuse_7 (by decide) ?_
  refine lv_iadd hx hb dX3_refuse_8 ?_
  obtain ⟨i2, h⟩ := ckI_s h
  refine va_iast (f := c_status) hx hb hK hP hD hS 3 0 rfl rfl i2 dX3_refuse_9 (fun H locs hP hD hS => ?_)
  have hP : va_P G.2.1 vwCl (mW h0 ad G.2.2 c_code c_now c_read (upd c_status (Int32.toNatClampNeg 1) ((c_status (Int32.toNatClampNeg 1)) + (1 : Int32))) c_tape c_taped c_at c_textSize c_token c_number c_begins c_stops c_bad c_badPlace c_faultPlace c_clauses c_naming c_lineBy c_becomes c_dualLines c_on c_rowNow c_least c_wayFirst c_ways c_acts c_past c_listPoints c_listLines c_listed c_list c_path c_places c_firstPlaces c_px c_py c_pz c_placeMany c_modulus c_drawn c_halvesMany c_halvesFirst c_spreadsMany c_spreadsFirst c_comesTo c_seedNow c_rowThen c_hasImage c_actsThen c_imageRow c_pastThen c_statusThen) H := hP
  have hD : va_D A (mW h0 ad G.2.2 c_code c_now c_read (upd c_status (Int32.toNatClampNeg 1) ((c_status (Int32.toNatClampNeg 1)) + (1 : Int32))) c_tape c_taped c_at c_textSize c_token c_number c_begins c_stops c_bad c_badPlace c_faultPlace c_clauses c_naming c_lineBy c_becomes c_dualLines c_on c_rowNow c_least c_wayFirst c_ways c_acts c_past c_listPoints c_listLines c_listed c_list c_path c_places c_firstPlaces c_px c_py c_pz c_placeMany c_modulus c_drawn c_halvesMany c_halvesFirst c_spreadsMany c_spreadsFirst c_comesTo c_seedNow c_rowThen c_hasImage c_actsThen c_imageRow c_pastThen c_statusThen) := hD
  refine lv_iconst (v := (-1)) hx hb dX3_refuse_10 (by decide) ?_
  obtain rfl := Option.some.inj h
  exact hreti rfl dX3_refuse_11 rfl rfl hP hD hS
def F_X3_keep_56 (N : Nat) (c_now : (Nat → Int32)) : Nat → Int32 → (Nat → Int32) → Int32 → Option ((Nat → Int32) × Int32)
  | 0, _, _, _ => none
  | n + 1, v1, c_past, c_acts => (if 154 ≤ v1 then (some (c_past, (c_acts + (1 : Int32)))) else (ckI v1 154 (ckI (((154 : Int32) * c_acts) + v1) 6160 (F_X3_keep_56 N c_now n (v1 + 1) (upd c_past (Int32.toNatClampNeg (((154 : Int32) * c_acts) + v1)) (c_now (Int32.toNatClampNeg v1))) c_acts))))
def F_X3_keep_54 (N : Nat) (c_now : (Nat → Int32)) (c_past : (Nat → Int32)) (c_acts : Int32) : Option ((Nat → Int32) × Int32) := (F_X3_keep_56 N c_now N 0 c_past c_acts)
def F_X3_keep_13 (N : Nat) : Nat → Int32 → (Nat → Int32) → ((Nat → Int32) → Option ((Nat → Int32) × Int32)) → Option ((Nat → Int32) × Int32)
  | 0, _, _, _ => none
  | n + 1, v1, c_past, k44 => (if (Int32.ofNat 6160) ≤ v1 then (k44 c_past) else (ckI v1 6160 (ckI (v1 - (154 : Int32)) 6160 (F_X3_keep_13 N n (v1 + 1) (upd c_past (Int32.toNatClampNeg (v1 - (154 : Int32))) (c_past (Int32.toNatClampNeg v1))) k44))))
def F_X3_keep (N : Nat) (c_now : (Nat → Int32)) (c_past : (Nat → Int32)) (c_acts : Int32) : Option ((Nat → Int32) × Int32) := (if c_acts = 40 then (F_X3_keep_13 N N 154 c_past (fun c_past_9 => (F_X3_keep_54 N c_now c_past_9 (c_acts - (1 : Int32))))) else (F_X3_keep_54 N c_now c_past c_acts))
theorem cw_X3_keep {R : Room} {s : State} {args : Array Value} {own : String} {index lev mc ms : Nat} (hts : ∀ w ∈ lw_all, w.before args s = true) (hl : Cond.methodLink own index yX3_keep ∈ lw_all) (hR : (rmL lev mc ms).frames + 1 ≤ R.frames ∧ 8 + (2 + 11) + (rmL lev mc ms).locals ≤ R.locals) : CallW R s args own RX3 index yX3_keep cX3_keep 2 none (ws_ yX3_keep cX3_keep 2 none) (rmL lev mc ms) mc ms 0 := cwV 0 hts (lw_V hl q2152 qs129 q172 q2153) rfl rfl rfl (by decide +kernel) hR
set_option maxHeartbeats 4000000 in
theorem M_X3_keep {l : Launch} {G : GE} (hG : GC G) {N : Nat} {h0 : Nat} {ad : Nat → Nat} {c_code : Int32} {c_read : (Nat → Int32)} {c_status : (Nat → Int32)} {c_tape : (Nat → Int32)} {c_taped : Int32} {c_at : Int32} {c_textSize : Int32} {c_token : Int32} {c_number : Int32} {c_begins : Int32} {c_stops : Int32} {c_bad : Int32} {c_badPlace : Int32} {c_faultPlace : Int32} {c_clauses : Int32} {c_naming : (Nat → Int32)} {c_lineBy : (Nat → Int32)} {c_becomes : (Nat → Int32)} {c_dualLines : (Nat → Int32)} {c_on : (Nat → Int32)} {c_rowNow : (Nat → Int32)} {c_least : (Nat → Int32)} {c_wayFirst : (Nat → Int32)} {c_ways : Int32} {c_listPoints : Int32} {c_listLines : Int32} {c_listed : Int32} {c_list : (Nat → Int32)} {c_path : (Nat → Int32)} {c_places : (Nat → Int32)} {c_firstPlaces : (Nat → Int32)} {c_px : (Nat → Int32)} {c_py : (Nat → Int32)} {c_pz : (Nat → Int32)} {c_placeMany : Int32} {c_modulus : Int32} {c_drawn : Int32} {c_halvesMany : Int32} {c_halvesFirst : Int32} {c_spreadsMany : Int32} {c_spreadsFirst : Int32} {c_comesTo : (Nat → Int32)} {c_seedNow : Int32} {c_rowThen : (Nat → Int32)} {c_hasImage : Int32} {c_actsThen : Int32} {c_imageRow : (Nat → Int32)} {c_pastThen : (Nat → Int32)} {c_statusThen : (Nat → Int32)} {c_now : (Nat → Int32)} {c_past : (Nat → Int32)} {c_acts : Int32} {ρ : ((Nat → Int32) × Int32)} (h : F_X3_keep N c_now c_past c_acts = some ρ) : MW l G yX3_keep cX3_keep 2 none 1 (mW h0 ad G.2.2 c_code c_now c_read c_status c_tape c_taped c_at c_textSize c_token c_number c_begins c_stops c_bad c_badPlace c_faultPlace c_clauses c_naming c_lineBy c_becomes c_dualLines c_on c_rowNow c_least c_wayFirst c_ways c_acts c_past c_listPoints c_listLines c_listed c_list c_path c_places c_firstPlaces c_px c_py c_pz c_placeMany c_modulus c_drawn c_halvesMany c_halvesFirst c_spreadsMany c_spreadsFirst c_comesTo c_seedNow c_rowThen c_hasImage c_actsThen c_imageRow c_pastThen c_statusThen) [.ref h0] none (mW h0 ad G.2.2 c_code c_now c_read c_status c_tape c_taped c_at c_textSize c_token c_number c_begins c_stops c_bad c_badPlace c_faultPlace c_clauses c_naming c_lineBy c_becomes c_dualLines c_on c_rowNow c_least c_wayFirst c_ways ρ.2 ρ.1 c_listPoints c_listLines c_listed c_list c_path c_places c_firstPlaces c_px c_py c_pz c_placeMany c_modulus c_drawn c_halvesMany c_halvesFirst c_spreadsMany c_spreadsFirst c_comesTo c_seedNow c_rowThen c_hasImage c_actsThen c_imageRow c_pastThen c_statusThen) := by
  rw [F_X3_keep] at h
  refine MW.start hG (by decide) (Nat.le_of_ble_eq_true rfl) ?_
  intro p e s m args below meth c Q A S hW0 hK hP hD hA hreti hretv ls hl
  have hS : va_S A s.heap s.heap [] := va_S.rf
  obtain ⟨hx, hb, hml, hown, hts⟩ := id S
  have hl : lv_has ls 2 [(0, .ref h0)] := hl
  have S_X3_keep_56 : ∀ (n : Nat) (v1 : Int32) (c_past : (Nat → Int32)) (c_acts : Int32), F_X3_keep_56 N c_now n v1 c_past c_acts = some ρ → ∀ (H : Heap) (locs : List Loc), va_P G.2.1 vwCl (mW h0 ad G.2.2 c_code c_now c_read c_status c_tape c_taped c_at c_textSize c_token c_number c_begins c_stops c_bad c_badPlace c_faultPlace c_clauses c_naming c_lineBy c_becomes c_dualLines c_on c_rowNow c_least c_wayFirst c_ways c_acts c_past c_listPoints c_listLines c_listed c_list c_path c_places c_firstPlaces c_px c_py c_pz c_placeMany c_modulus c_drawn c_halvesMany c_halvesFirst c_spreadsMany c_spreadsFirst c_comesTo c_seedNow c_rowThen c_hasImage c_actsThen c_imageRow c_pastThen c_statusThen) H → va_D A (mW h0 ad G.2.2 c_code c_now c_read c_status c_tape c_taped c_at c_textSize c_token c_number c_begins c_stops c_bad c_badPlace c_faultPlace c_clauses c_naming c_lineBy c_becomes c_dualLines c_on c_rowNow c_least c_wayFirst c_ways c_acts c_past c_listPoints c_listLines c_listed c_list c_path c_places c_firstPlaces c_px c_py c_pz c_placeMany c_modulus c_drawn c_halvesMany c_halvesFirst c_spreadsMany c_spreadsFirst c_comesTo c_seedNow c_rowThen c_hasImage c_actsThen c_imageRow c_pastThen c_statusThen) → va_S A s.heap H locs → ∀ (ls : Array Slot), lv_has ls 2 [(0, .ref h0), (1, .int v1)] → W p l e (rmL 1 0 0) s m args below meth c H locs 0 0 Q (F0 m 56 ls []) := by
    intro n
    induction n with
    | zero =>
      intro v1 c_past c_acts h
      exact absurd h (by simp [F_X3_keep_56])
    | succ n ih =>
      intro v1 c_past c_acts h H locs hP hD hS ls hl
      rw [F_X3_keep_56] at h
      refine lv_iload_n hx hb dX3_keep_56 rfl (lv_at hl 1 rfl) ?_
      refine lv_sipush (v := 154) hx hb dX3_keep_57 (by decide) ?_
      refine lv_icmp_ge (tgt := 90) hx hb dX3_keep_60 (by decide) (fun c2 => ?_) (fun c2 => ?_)
      · rw [if_pos c2] at h
        refine lv_aload_n hx hb dX3_keep_90 rfl (lv_at hl 0 rfl) ?_
        refine lv_dup hx hb dX3_keep_91 rfl ?_
        refine va_get (ci := 2) (v := .int c_acts) (C := RX3) (T := TX3) (N := 52) hx hb hts in_X3 hown hK hP 0 rfl rfl 25 (by decide) (hts _ q1683) (fun _ h9 => h9) rfl dX3_keep_92 ?_
        refine lv_iconst (v := 1) hx hb dX3_keep_95 (by decide) ?_
        refine lv_iadd hx hb dX3_keep_96 ?_
        refine va_put (ci := 2) (v := .int (c_acts + (1 : Int32))) (ty := .int) (C := RX3) (T := TX3) (N := 52) hx hb hts in_X3 tyX3 tyX3_ok nmX3 hown hK hP hD hS 0 rfl rfl 25 (by decide) (hts _ q1683) (fun _ h9 => h9) rfl (by decide +kernel) rfl rfl (Nat.le_of_ble_eq_true rfl) dX3_keep_97 (fun H locs hP hD hS => ?_)
        have hP : va_P G.2.1 vwCl (mW h0 ad G.2.2 c_code c_now c_read c_status c_tape c_taped c_at c_textSize c_token c_number c_begins c_stops c_bad c_badPlace c_faultPlace c_clauses c_naming c_lineBy c_becomes c_dualLines c_on c_rowNow c_least c_wayFirst c_ways (c_acts + (1 : Int32)) c_past c_listPoints c_listLines c_listed c_list c_path c_places c_firstPlaces c_px c_py c_pz c_placeMany c_modulus c_drawn c_halvesMany c_halvesFirst c_spreadsMany c_spreadsFirst c_comesTo c_seedNow c_rowThen c_hasImage c_actsThen c_imageRow c_pastThen c_statusThen) H := hP
        have hD : va_D A (mW h0 ad G.2.2 c_code c_now c_read c_status c_tape c_taped c_at c_textSize c_token c_number c_begins c_stops c_bad c_badPlace c_faultPlace c_clauses c_naming c_lineBy c_becomes c_dualLines c_on c_rowNow c_least c_wayFirst c_ways (c_acts + (1 : Int32)) c_past c_listPoints c_listLines c_listed c_list c_path c_places c_firstPlaces c_px c_py c_pz c_placeMany c_modulus c_drawn c_halvesMany c_halvesFirst c_spreadsMany c_spreadsFirst c_comesTo c_seedNow c_rowThen c_hasImage c_actsThen c_imageRow c_pastThen c_statusThen) := hD
        obtain rfl := Option.some.inj h
        exact hretv rfl dX3_keep_100 rfl hP hD hS
      · rw [if_neg c2] at h
        refine lv_aload_n hx hb dX3_keep_63 rfl (lv_at hl 0 rfl) ?_
        refine va_get (ci := 2) (v := .ref (ad 26)) (C := RX3) (T := TX3) (N := 52) hx hb hts in_X3 hown hK hP 0 rfl rfl 26 (by decide) (hts _ q1684) (fun _ h9 => h9) rfl dX3_keep_64 ?_
        refine lv_sipush (v := 154) hx hb dX3_keep_67 (by decide) ?_
        refine lv_aload_n hx hb dX3_keep_70 rfl (lv_at hl 0 rfl) ?_
        refine va_get (ci := 2) (v := .int c_acts) (C := RX3) (T := TX3) (N := 52) hx hb hts in_X3 hown hK hP 0 rfl rfl 25 (by decide) (hts _ q1683) (fun _ h9 => h9) rfl dX3_keep_71 ?_
        refine lv_imul hx hb dX3_keep_74 ?_
        refine lv_iload_n hx hb dX3_keep_75 rfl (lv_at hl 1 rfl) ?_
        refine lv_iadd hx hb dX3_keep_76 ?_
        refine lv_aload_n hx hb dX3_keep_77 rfl (lv_at hl 0 rfl) ?_
        refine va_get (ci := 2) (v := .ref (ad 1)) (C := RX3) (T := TX3) (N := 52) hx hb hts in_X3 hown hK hP 0 rfl rfl 1 (by decide) (hts _ q1659) (fun _ h9 => h9) rfl dX3_keep_78 ?_
        refine lv_iload_n hx hb dX3_keep_81 rfl (lv_at hl 1 rfl) ?_
        obtain ⟨i4, h⟩ := ckI_s h
        refine va_iald (f := c_now) hx hb hK hP 1 0 rfl rfl i4 dX3_keep_82 ?_
        obtain ⟨i5, h⟩ := ckI_s h
        refine va_iast (f := c_past) hx hb hK hP hD hS 13 0 rfl rfl i5 dX3_keep_83 (fun H locs hP hD hS => ?_)
        have hP : va_P G.2.1 vwCl (mW h0 ad G.2.2 c_code c_now c_read c_status c_tape c_taped c_at c_textSize c_token c_number c_begins c_stops c_bad c_badPlace c_faultPlace c_clauses c_naming c_lineBy c_becomes c_dualLines c_on c_rowNow c_least c_wayFirst c_ways c_acts (upd c_past (Int32.toNatClampNeg (((154 : Int32) * c_acts) + v1)) (c_now (Int32.toNatClampNeg v1))) c_listPoints c_listLines c_listed c_list c_path c_places c_firstPlaces c_px c_py c_pz c_placeMany c_modulus c_drawn c_halvesMany c_halvesFirst c_spreadsMany c_spreadsFirst c_comesTo c_seedNow c_rowThen c_hasImage c_actsThen c_imageRow c_pastThen c_statusThen) H := hP
        have hD : va_D A (mW h0 ad G.2.2 c_code c_now c_read c_status c_tape c_taped c_at c_textSize c_token c_number c_begins c_stops c_bad c_badPlace c_faultPlace c_clauses c_naming c_lineBy c_becomes c_dualLines c_on c_rowNow c_least c_wayFirst c_ways c_acts (upd c_past (Int32.toNatClampNeg (((154 : Int32) * c_acts) + v1)) (c_now (Int32.toNatClampNeg v1))) c_listPoints c_listLines c_listed c_list c_path c_places c_firstPlaces c_px c_py c_pz c_placeMany c_modulus c_drawn c_halvesMany c_halvesFirst c_spreadsMany c_spreadsFirst c_comesTo c_seedNow c_rowThen c_hasImage c_actsThen c_imageRow c_pastThen c_statusThen) := hD
        refine lv_iinc (v := (v1 + 1)) (lv' := [(1, .int (v1 + 1)), (0, .ref h0)]) hx hb dX3_keep_84 hl (k := 1) rfl rfl (by decide) rfl (fun ls hl => ?_)
        refine lv_goto (tgt := 56) hx hb dX3_keep_87 (by decide) ?_
        exact ih (v1 + 1) (upd c_past (Int32.toNatClampNeg (((154 : Int32) * c_acts) + v1)) (c_now (Int32.toNatClampNeg v1))) c_acts h _ _ hP hD hS _ (lv_sub hl [1, 0] rfl)
  have S_X3_keep_54 : ∀ (c_past : (Nat → Int32)) (c_acts : Int32), F_X3_keep_54 N c_now c_past c_acts = some ρ → ∀ (H : Heap) (locs : List Loc), va_P G.2.1 vwCl (mW h0 ad G.2.2 c_code c_now c_read c_status c_tape c_taped c_at c_textSize c_token c_number c_begins c_stops c_bad c_badPlace c_faultPlace c_clauses c_naming c_lineBy c_becomes c_dualLines c_on c_rowNow c_least c_wayFirst c_ways c_acts c_past c_listPoints c_listLines c_listed c_list c_path c_places c_firstPlaces c_px c_py c_pz c_placeMany c_modulus c_drawn c_halvesMany c_halvesFirst c_spreadsMany c_spreadsFirst c_comesTo c_seedNow c_rowThen c_hasImage c_actsThen c_imageRow c_pastThen c_statusThen) H → va_D A (mW h0 ad G.2.2 c_code c_now c_read c_status c_tape c_taped c_at c_textSize c_token c_number c_begins c_stops c_bad c_badPlace c_faultPlace c_clauses c_naming c_lineBy c_becomes c_dualLines c_on c_rowNow c_least c_wayFirst c_ways c_acts c_past c_listPoints c_listLines c_listed c_list c_path c_places c_firstPlaces c_px c_py c_pz c_placeMany c_modulus c_drawn c_halvesMany c_halvesFirst c_spreadsMany c_spreadsFirst c_comesTo c_seedNow c_rowThen c_hasImage c_actsThen c_imageRow c_pastThen c_statusThen) → va_S A s.heap H locs → ∀ (ls : Array Slot), lv_has ls 2 [(0, .ref h0)] → W p l e (rmL 1 0 0) s m args below meth c H locs 0 0 Q (F0 m 54 ls []) := by
    intro c_past c_acts h H locs hP hD hS ls hl
    rw [F_X3_keep_54] at h
    refine lv_iconst (v := 0) hx hb dX3_keep_54 (by decide) ?_
    refine lv_istore_n (lv' := [(1, .int 0), (0, .ref h0)]) hx hb dX3_keep_55 rfl hl (by decide) rfl (fun ls hl => ?_)
    refine S_X3_keep_56 N 0 c_past c_acts h  _ _ hP hD hS _ (lv_sub hl [1, 0] rfl)
  have S_X3_keep_13 : ∀ (n : Nat) (v1 : Int32) (c_past : (Nat → Int32)) (c_acts : Int32) (k44 : (Nat → Int32) → Option ((Nat → Int32) × Int32)), F_X3_keep_13 N n v1 c_past k44 = some ρ → (∀ (z_c_past : (Nat → Int32)) (H : Heap) (locs : List Loc) (ls : Array Slot), k44 z_c_past = some ρ → va_P G.2.1 vwCl (mW h0 ad G.2.2 c_code c_now c_read c_status c_tape c_taped c_at c_textSize c_token c_number c_begins c_stops c_bad c_badPlace c_faultPlace c_clauses c_naming c_lineBy c_becomes c_dualLines c_on c_rowNow c_least c_wayFirst c_ways c_acts z_c_past c_listPoints c_listLines c_listed c_list c_path c_places c_firstPlaces c_px c_py c_pz c_placeMany c_modulus c_drawn c_halvesMany c_halvesFirst c_spreadsMany c_spreadsFirst c_comesTo c_seedNow c_rowThen c_hasImage c_actsThen c_imageRow c_pastThen c_statusThen) H → va_D A (mW h0 ad G.2.2 c_code c_now c_read c_status c_tape c_taped c_at c_textSize c_token c_number c_begins c_stops c_bad c_badPlace c_faultPlace c_clauses c_naming c_lineBy c_becomes c_dualLines c_on c_rowNow c_least c_wayFirst c_ways c_acts z_c_past c_listPoints c_listLines c_listed c_list c_path c_places c_firstPlaces c_px c_py c_pz c_placeMany c_modulus c_drawn c_halvesMany c_halvesFirst c_spreadsMany c_spreadsFirst c_comesTo c_seedNow c_rowThen c_hasImage c_actsThen c_imageRow c_pastThen c_statusThen) → va_S A s.heap H locs → lv_has ls 2 [(0, .ref h0)] → W p l e (rmL 1 0 0) s m args below meth c H locs 0 0 Q (F0 m 44 ls [])) → ∀ (H : Heap) (locs : List Loc), va_P G.2.1 vwCl (mW h0 ad G.2.2 c_code c_now c_read c_status c_tape c_taped c_at c_textSize c_token c_number c_begins c_stops c_bad c_badPlace c_faultPlace c_clauses c_naming c_lineBy c_becomes c_dualLines c_on c_rowNow c_least c_wayFirst c_ways c_acts c_past c_listPoints c_listLines c_listed c_list c_path c_places c_firstPlaces c_px c_py c_pz c_placeMany c_modulus c_drawn c_halvesMany c_halvesFirst c_spreadsMany c_spreadsFirst c_comesTo c_seedNow c_rowThen c_hasImage c_actsThen c_imageRow c_pastThen c_statusThen) H → va_D A (mW h0 ad G.2.2 c_code c_now c_read c_status c_tape c_taped c_at c_textSize c_token c_number c_begins c_stops c_bad c_badPlace c_faultPlace c_clauses c_naming c_lineBy c_becomes c_dualLines c_on c_rowNow c_least c_wayFirst c_ways c_acts c_past c_listPoints c_listLines c_listed c_list c_path c_places c_firstPlaces c_px c_py c_pz c_placeMany c_modulus c_drawn c_halvesMany c_halvesFirst c_spreadsMany c_spreadsFirst c_comesTo c_seedNow c_rowThen c_hasImage c_actsThen c_imageRow c_pastThen c_statusThen) → va_S A s.heap H locs → ∀ (ls : Array Slot), lv_has ls 2 [(0, .ref h0), (1, .int v1)] → W p l e (rmL 1 0 0) s m args below meth c H locs 0 0 Q (F0 m 13 ls []) := by
    intro n
    induction n with
    | zero =>
      intro v1 c_past c_acts k44 h
      exact absurd h (by simp [F_X3_keep_13])
    | succ n ih =>
      intro v1 c_past c_acts k44 h hk44 H locs hP hD hS ls hl
      rw [F_X3_keep_13] at h
      refine lv_iload_n hx hb dX3_keep_13 rfl (lv_at hl 1 rfl) ?_
      refine lv_aload_n hx hb dX3_keep_14 rfl (lv_at hl 0 rfl) ?_
      refine va_get (ci := 2) (v := .ref (ad 26)) (C := RX3) (T := TX3) (N := 52) hx hb hts in_X3 hown hK hP 0 rfl rfl 26 (by decide) (hts _ q1684) (fun _ h9 => h9) rfl dX3_keep_15 ?_
      refine va_alen (v := (Int32.ofNat 6160)) hx hb hK hP 13 0 rfl rfl rfl dX3_keep_18 ?_
      refine lv_icmp_ge (tgt := 44) hx hb dX3_keep_19 (by decide) (fun c6 => ?_) (fun c6 => ?_)
      · rw [if_pos c6] at h
        exact hk44 c_past _ _ _ h hP hD hS (lv_sub hl [0] rfl)
      · rw [if_neg c6] at h
        refine lv_aload_n hx hb dX3_keep_22 rfl (lv_at hl 0 rfl) ?_
        refine va_get (ci := 2) (v := .ref (ad 26)) (C := RX3) (T := TX3) (N := 52) hx hb hts in_X3 hown hK hP 0 rfl rfl 26 (by decide) (hts _ q1684) (fun _ h9 => h9) rfl dX3_keep_23 ?_
        refine lv_iload_n hx hb dX3_keep_26 rfl (lv_at hl 1 rfl) ?_
        refine lv_sipush (v := 154) hx hb dX3_keep_27 (by decide) ?_
        refine lv_isub hx hb dX3_keep_30 ?_
        refine lv_aload_n hx hb dX3_keep_31 rfl (lv_at hl 0 rfl) ?_
        refine va_get (ci := 2) (v := .ref (ad 26)) (C := RX3) (T := TX3) (N := 52) hx hb hts in_X3 hown hK hP 0 rfl rfl 26 (by decide) (hts _ q1684) (fun _ h9 => h9) rfl dX3_keep_32 ?_
        refine lv_iload_n hx hb dX3_keep_35 rfl (lv_at hl 1 rfl) ?_
        obtain ⟨i7, h⟩ := ckI_s h
        refine va_iald (f := c_past) hx hb hK hP 13 0 rfl rfl i7 dX3_keep_36 ?_
        obtain ⟨i8, h⟩ := ckI_s h
        refine va_iast (f := c_past) hx hb hK hP hD hS 13 0 rfl rfl i8 dX3_keep_37 (fun H locs hP hD hS => ?_)
        have hP : va_P G.2.1 vwCl (mW h0 ad G.2.2 c_code c_now c_read c_status c_tape c_taped c_at c_textSize c_token c_number c_begins c_stops c_bad c_badPlace c_faultPlace c_clauses c_naming c_lineBy c_becomes c_dualLines c_on c_rowNow c_least c_wayFirst c_ways c_acts (upd c_past (Int32.toNatClampNeg (v1 - (154 : Int32))) (c_past (Int32.toNatClampNeg v1))) c_listPoints c_listLines c_listed c_list c_path c_places c_firstPlaces c_px c_py c_pz c_placeMany c_modulus c_drawn c_halvesMany c_halvesFirst c_spreadsMany c_spreadsFirst c_comesTo c_seedNow c_rowThen c_hasImage c_actsThen c_imageRow c_pastThen c_statusThen) H := hP
        have hD : va_D A (mW h0 ad G.2.2 c_code c_now c_read c_status c_tape c_taped c_at c_textSize c_token c_number c_begins c_stops c_bad c_badPlace c_faultPlace c_clauses c_naming c_lineBy c_becomes c_dualLines c_on c_rowNow c_least c_wayFirst c_ways c_acts (upd c_past (Int32.toNatClampNeg (v1 - (154 : Int32))) (c_past (Int32.toNatClampNeg v1))) c_listPoints c_listLines c_listed c_list c_path c_places c_firstPlaces c_px c_py c_pz c_placeMany c_modulus c_drawn c_halvesMany c_halvesFirst c_spreadsMany c_spreadsFirst c_comesTo c_seedNow c_rowThen c_hasImage c_actsThen c_imageRow c_pastThen c_statusThen) := hD
        refine lv_iinc (v := (v1 + 1)) (lv' := [(1, .int (v1 + 1)), (0, .ref h0)]) hx hb dX3_keep_38 hl (k := 1) rfl rfl (by decide) rfl (fun ls hl => ?_)
        refine lv_goto (tgt := 13) hx hb dX3_keep_41 (by decide) ?_
        exact ih (v1 + 1) (upd c_past (Int32.toNatClampNeg (v1 - (154 : Int32))) (c_past (Int32.toNatClampNeg v1))) c_acts _ h hk44 _ _ hP hD hS _ (lv_sub hl [1, 0] rfl)
  refine lv_aload_n hx hb dX3_keep_0 rfl (lv_at hl 0 rfl) ?_
  refine va_get (ci := 2) (v := .int c_acts) (C := RX3) (T := TX3) (N := 52) hx hb hts in_X3 hown hK hP 0 rfl rfl 25 (by decide) (hts _ q1683) (fun _ h9 => h9) rfl dX3_keep_1 ?_
  refine lv_bipush (v := 40) hx hb dX3_keep_4 (by decide) ?_
  refine lv_icmp_ne (tgt := 54) hx hb dX3_keep_6 (by decide) (fun c1 => ?_) (fun c1 => ?_)
  · rw [if_neg c1] at h
    refine S_X3_keep_54 c_past c_acts h  _ _ hP hD hS _ (lv_sub hl [0] rfl)
  · rw [if_pos c1] at h
    refine lv_sipush (v := 154) hx hb dX3_keep_9 (by decide) ?_
    refine lv_istore_n (lv' := [(1, .int 154), (0, .ref h0)]) hx hb dX3_keep_12 rfl hl (by decide) rfl (fun ls hl => ?_)
    refine S_X3_keep_13 N 154 c_past c_acts _ h ?_ _ _ hP hD hS _ (lv_sub hl [1, 0] rfl)
    · intro c_past_9 H locs ls h hP hD hS hl
      refine lv_aload_n hx hb dX3_keep_44 rfl (lv_at hl 0 rfl) ?_
      refine lv_dup hx hb dX3_keep_45 rfl ?_
      refine va_get (ci := 2) (v := .int c_acts) (C := RX3) (T := TX3) (N := 52) hx hb hts in_X3 hown hK hP 0 rfl rfl 25 (by decide) (hts _ q1683) (fun _ h9 => h9) rfl dX3_keep_46 ?_
      refine lv_iconst (v := 1) hx hb dX3_keep_49 (by decide) ?_
      refine lv_isub hx hb dX3_keep_50 ?_
      refine va_put (ci := 2) (v := .int (c_acts - (1 : Int32))) (ty := .int) (C := RX3) (T := TX3) (N := 52) hx hb hts in_X3 tyX3 tyX3_ok nmX3 hown hK hP hD hS 0 rfl rfl 25 (by decide) (hts _ q1683) (fun _ h9 => h9) rfl (by decide +kernel) rfl rfl (Nat.le_of_ble_eq_true rfl) dX3_keep_51 (fun H locs hP hD hS => ?_)
      have hP : va_P G.2.1 vwCl (mW h0 ad G.2.2 c_code c_now c_read c_status c_tape c_taped c_at c_textSize c_token c_number c_begins c_stops c_bad c_badPlace c_faultPlace c_clauses c_naming c_lineBy c_becomes c_dualLines c_on c_rowNow c_least c_wayFirst c_ways (c_acts - (1 : Int32)) c_past_9 c_listPoints c_listLines c_listed c_list c_path c_places c_firstPlaces c_px c_py c_pz c_placeMany c_modulus c_drawn c_halvesMany c_halvesFirst c_spreadsMany c_spreadsFirst c_comesTo c_seedNow c_rowThen c_hasImage c_actsThen c_imageRow c_pastThen c_statusThen) H := hP
      have hD : va_D A (mW h0 ad G.2.2 c_code c_now c_read c_status c_tape c_taped c_at c_textSize c_token c_number c_begins c_stops c_bad c_badPlace c_faultPlace c_clauses c_naming c_lineBy c_becomes c_dualLines c_on c_rowNow c_least c_wayFirst c_ways (c_acts - (1 : Int32)) c_past_9 c_listPoints c_listLines c_listed c_list c_path c_places c_firstPlaces c_px c_py c_pz c_placeMany c_modulus c_drawn c_halvesMany c_halvesFirst c_spreadsMany c_spreadsFirst c_comesTo c_seedNow c_rowThen c_hasImage c_actsThen c_imageRow c_pastThen c_statusThen) := hD
      refine S_X3_keep_54 c_past_9 (c_acts - (1 : Int32)) h  _ _ hP hD hS _ (lv_sub hl [0] rfl)
def F_X3_addNow (N : Nat) (v1 : Int32) (c_now : (Nat → Int32)) : Option ((Nat → Int32)) := (ckI 1 154 (ckI ((2 : Int32) + (c_now (Int32.toNatClampNeg 1))) 154 (ckI 1 154 (ckI 1 154 (some ((upd (upd c_now (Int32.toNatClampNeg ((2 : Int32) + (c_now (Int32.toNatClampNeg 1)))) v1) (Int32.toNatClampNeg 1) (((upd c_now (Int32.toNatClampNeg ((2 : Int32) + (c_now (Int32.toNatClampNeg 1)))) v1) (Int32.toNatClampNeg 1)) + (1 : Int32)))))))))
theorem cw_X3_addNow {R : Room} {s : State} {args : Array Value} {own : String} {index lev mc ms : Nat} (hts : ∀ w ∈ lw_all, w.before args s = true) (hl : Cond.methodLink own index yX3_addNow ∈ lw_all) (hR : (rmL lev mc ms).frames + 1 ≤ R.frames ∧ 8 + (2 + 11) + (rmL lev mc ms).locals ≤ R.locals) : CallW R s args own RX3 index yX3_addNow cX3_addNow 2 none (ws_ yX3_addNow cX3_addNow 2 none) (rmL lev mc ms) mc ms 1 := cwV 1 hts (lw_V hl q2156 qs130 q172 q2157) rfl rfl rfl (by decide +kernel) hR
set_option maxHeartbeats 4000000 in
theorem M_X3_addNow {l : Launch} {G : GE} (hG : GC G) {N : Nat} {h0 : Nat} {ad : Nat → Nat} {c_code : Int32} {c_read : (Nat → Int32)} {c_status : (Nat → Int32)} {c_tape : (Nat → Int32)} {c_taped : Int32} {c_at : Int32} {c_textSize : Int32} {c_token : Int32} {c_number : Int32} {c_begins : Int32} {c_stops : Int32} {c_bad : Int32} {c_badPlace : Int32} {c_faultPlace : Int32} {c_clauses : Int32} {c_naming : (Nat → Int32)} {c_lineBy : (Nat → Int32)} {c_becomes : (Nat → Int32)} {c_dualLines : (Nat → Int32)} {c_on : (Nat → Int32)} {c_rowNow : (Nat → Int32)} {c_least : (Nat → Int32)} {c_wayFirst : (Nat → Int32)} {c_ways : Int32} {c_acts : Int32} {c_past : (Nat → Int32)} {c_listPoints : Int32} {c_listLines : Int32} {c_listed : Int32} {c_list : (Nat → Int32)} {c_path : (Nat → Int32)} {c_places : (Nat → Int32)} {c_firstPlaces : (Nat → Int32)} {c_px : (Nat → Int32)} {c_py : (Nat → Int32)} {c_pz : (Nat → Int32)} {c_placeMany : Int32} {c_modulus : Int32} {c_drawn : Int32} {c_halvesMany : Int32} {c_halvesFirst : Int32} {c_spreadsMany : Int32} {c_spreadsFirst : Int32} {c_comesTo : (Nat → Int32)} {c_seedNow : Int32} {c_rowThen : (Nat → Int32)} {c_hasImage : Int32} {c_actsThen : Int32} {c_imageRow : (Nat → Int32)} {c_pastThen : (Nat → Int32)} {c_statusThen : (Nat → Int32)} {v1 : Int32} {c_now : (Nat → Int32)} {ρ : ((Nat → Int32))} (h : F_X3_addNow N v1 c_now = some ρ) : MW l G yX3_addNow cX3_addNow 2 none 1 (mW h0 ad G.2.2 c_code c_now c_read c_status c_tape c_taped c_at c_textSize c_token c_number c_begins c_stops c_bad c_badPlace c_faultPlace c_clauses c_naming c_lineBy c_becomes c_dualLines c_on c_rowNow c_least c_wayFirst c_ways c_acts c_past c_listPoints c_listLines c_listed c_list c_path c_places c_firstPlaces c_px c_py c_pz c_placeMany c_modulus c_drawn c_halvesMany c_halvesFirst c_spreadsMany c_spreadsFirst c_comesTo c_seedNow c_rowThen c_hasImage c_actsThen c_imageRow c_pastThen c_statusThen) [.ref h0, .int v1] none (mW h0 ad G.2.2 c_code ρ c_read c_status c_tape c_taped c_at c_textSize c_token c_number c_begins c_stops c_bad c_badPlace c_faultPlace c_clauses c_naming c_lineBy c_becomes c_dualLines c_on c_rowNow c_least c_wayFirst c_ways c_acts c_past c_listPoints c_listLines c_listed c_list c_path c_places c_firstPlaces c_px c_py c_pz c_placeMany c_modulus c_drawn c_halvesMany c_halvesFirst c_spreadsMany c_spreadsFirst c_comesTo c_seedNow c_rowThen c_hasImage c_actsThen c_imageRow c_pastThen c_statusThen) := by
  rw [F_X3_addNow] at h
  refine MW.start hG (by decide) (Nat.le_of_ble_eq_true rfl) ?_
  intro p e s m args below meth c Q A S hW0 hK hP hD hA hreti hretv ls hl
  have hS : va_S A s.heap s.heap [] := va_S.rf
  obtain ⟨hx, hb, hml, hown, hts⟩ := id S
  have hl : lv_has ls 2 [(0, .ref h0), (1, .int v1)] := hl
  refine lv_aload_n hx hb dX3_addNow_0 rfl (lv_at hl 0 rfl) ?_
  refine va_get (ci := 2) (v := .ref (ad 1)) (C := RX3) (T := TX3) (N := 52) hx hb hts in_X3 hown hK hP 0 rfl rfl 1 (by decide) (hts _ q1659) (fun _ h9 => h9) rfl dX3_addNow_1 ?_
  refine lv_iconst (v := 2) hx hb dX3_addNow_4 (by decide) ?_
  refine lv_aload_n hx hb dX3_addNow_5 rfl (lv_at hl 0 rfl) ?_
  refine va_get (ci := 2) (v := .ref (ad 1)) (C := RX3) (T := TX3) (N := 52) hx hb hts in_X3 hown hK hP 0 rfl rfl 1 (by decide) (hts _ q1659) (fun _ h9 => h9) rfl dX3_addNow_6 ?_
  refine lv_iconst (v := 1) hx hb dX3_addNow_9 (by decide) ?_
  obtain ⟨i1, h⟩ := ckI_s h
  refine va_iald (f := c_now) hx hb hK hP 1 0 rfl rfl i1 dX3_addNow_10 ?_
  refine lv_iadd hx hb dX3_addNow_11 ?_
  refine lv_iload_n hx hb dX3_addNow_12 rfl (lv_at hl 1 rfl) ?_
  obtain ⟨i2, h⟩ := ckI_s h
  refine va_iast (f := c_now) hx hb hK hP hD hS 1 0 rfl rfl i2 dX3_addNow_13 (fun H locs hP hD hS => ?_)
  have hP : va_P G.2.1 vwCl (mW h0 ad G.2.2 c_code (upd c_now (Int32.toNatClampNeg ((2 : Int32) + (c_now (Int32.toNatClampNeg 1)))) v1) c_read c_status c_tape c_taped c_at c_textSize c_token c_number c_begins c_stops c_bad c_badPlace c_faultPlace c_clauses c_naming c_lineBy c_becomes c_dualLines c_on c_rowNow c_least c_wayFirst c_ways c_acts c_past c_listPoints c_listLines c_listed c_list c_path c_places c_firstPlaces c_px c_py c_pz c_placeMany c_modulus c_drawn c_halvesMany c_halvesFirst c_spreadsMany c_spreadsFirst c_comesTo c_seedNow c_rowThen c_hasImage c_actsThen c_imageRow c_pastThen c_statusThen) H := hP
  have hD : va_D A (mW h0 ad G.2.2 c_code (upd c_now (Int32.toNatClampNeg ((2 : Int32) + (c_now (Int32.toNatClampNeg 1)))) v1) c_read c_status c_tape c_taped c_at c_textSize c_token c_number c_begins c_stops c_bad c_badPlace c_faultPlace c_clauses c_naming c_lineBy c_becomes c_dualLines c_on c_rowNow c_least c_wayFirst c_ways c_acts c_past c_listPoints c_listLines c_listed c_list c_path c_places c_firstPlaces c_px c_py c_pz c_placeMany c_modulus c_drawn c_halvesMany c_halvesFirst c_spreadsMany c_spreadsFirst c_comesTo c_seedNow c_rowThen c_hasImage c_actsThen c_imageRow c_pastThen c_statusThen) := hD
  refine lv_aload_n hx hb dX3_addNow_14 rfl (lv_at hl 0 rfl) ?_
  refine va_get (ci := 2) (v := .ref (ad 1)) (C := RX3) (T := TX3) (N := 52) hx hb hts in_X3 hown hK hP 0 rfl rfl 1 (by decide) (hts _ q1659) (fun _ h9 => h9) rfl dX3_addNow_15 ?_
  refine lv_iconst (v := 1) hx hb dX3_addNow_18 (by decide) ?_
  refine lv_dup2_11 hx hb dX3_addNow_19 rfl rfl ?_
  obtain ⟨i3, h⟩ := ckI_s h
  refine va_iald (f := (upd c_now (Int32.toNatClampNeg ((2 : Int32) + (c_now (Int32.toNatClampNeg 1)))) v1)) hx hb hK hP 1 0 rfl rfl i3 dX3_addNow_20 ?_
  refine lv_iconst (v := 1) hx hb dX3_addNow_21 (by decide) ?_
  refine lv_iadd hx hb dX3_addNow_22 ?_
  obtain ⟨i4, h⟩ := ckI_s h
  refine va_iast (f := (upd c_now (Int32.toNatClampNeg ((2 : Int32) + (c_now (Int32.toNatClampNeg 1)))) v1)) hx hb hK hP hD hS 1 0 rfl rfl i4 dX3_addNow_23 (fun H locs hP hD hS => ?_)
  have hP : va_P G.2.1 vwCl (mW h0 ad G.2.2 c_code (upd (upd c_now (Int32.toNatClampNeg ((2 : Int32) + (c_now (Int32.toNatClampNeg 1)))) v1) (Int32.toNatClampNeg 1) (((upd c_now (Int32.toNatClampNeg ((2 : Int32) + (c_now (Int32.toNatClampNeg 1)))) v1) (Int32.toNatClampNeg 1)) + (1 : Int32))) c_read c_status c_tape c_taped c_at c_textSize c_token c_number c_begins c_stops c_bad c_badPlace c_faultPlace c_clauses c_naming c_lineBy c_becomes c_dualLines c_on c_rowNow c_least c_wayFirst c_ways c_acts c_past c_listPoints c_listLines c_listed c_list c_path c_places c_firstPlaces c_px c_py c_pz c_placeMany c_modulus c_drawn c_halvesMany c_halvesFirst c_spreadsMany c_spreadsFirst c_comesTo c_seedNow c_rowThen c_hasImage c_actsThen c_imageRow c_pastThen c_statusThen) H := hP
  have hD : va_D A (mW h0 ad G.2.2 c_code (upd (upd c_now (Int32.toNatClampNeg ((2 : Int32) + (c_now (Int32.toNatClampNeg 1)))) v1) (Int32.toNatClampNeg 1) (((upd c_now (Int32.toNatClampNeg ((2 : Int32) + (c_now (Int32.toNatClampNeg 1)))) v1) (Int32.toNatClampNeg 1)) + (1 : Int32))) c_read c_status c_tape c_taped c_at c_textSize c_token c_number c_begins c_stops c_bad c_badPlace c_faultPlace c_clauses c_naming c_lineBy c_becomes c_dualLines c_on c_rowNow c_least c_wayFirst c_ways c_acts c_past c_listPoints c_listLines c_listed c_list c_path c_places c_firstPlaces c_px c_py c_pz c_placeMany c_modulus c_drawn c_halvesMany c_halvesFirst c_spreadsMany c_spreadsFirst c_comesTo c_seedNow c_rowThen c_hasImage c_actsThen c_imageRow c_pastThen c_statusThen) := hD
  obtain rfl := Option.some.inj h
  exact hretv rfl dX3_addNow_24 rfl hP hD hS
def F_X3_add (N : Nat) (v1 : Int32) (c_now : (Nat → Int32)) (c_status : (Nat → Int32)) (c_past : (Nat → Int32)) (c_code : Int32) (c_acts : Int32) : Option (Int32 × (Nat → Int32) × (Nat → Int32) × (Nat → Int32) × Int32 × Int32) := ((F_X3_canAdd N v1 c_now).bind fun y1 => (if y1 = 0 then ((F_X3_refuse N c_status).bind fun y7 => (some (y7.1, c_now, y7.2, c_past, 0, c_acts))) else ((F_X3_keep N c_now c_past c_acts).bind fun y3 => ((F_X3_addNow N v1 c_now).bind fun y4 => ((F_X3_lines N y4).bind fun y5 => (some ((y5 - (1 : Int32)), y4, c_status, y3.1, 0, y3.2)))))))
theorem cw_X3_add {R : Room} {s : State} {args : Array Value} {own : String} {index lev mc ms : Nat} (hts : ∀ w ∈ lw_all, w.before args s = true) (hl : Cond.methodLink own index yX3_add ∈ lw_all) (hR : (rmL lev mc ms).frames + 1 ≤ R.frames ∧ 8 + (2 + 11) + (rmL lev mc ms).locals ≤ R.locals) : CallW R s args own RX3 index yX3_add cX3_add 2 (some .int) (ws_ yX3_add cX3_add 2 (some .int)) (rmL lev mc ms) mc ms 1 := cwV 1 hts (lw_V hl q2139 q2140 q172 q2141) rfl rfl rfl (by decide +kernel) hR
set_option maxHeartbeats 4000000 in
theorem M_X3_add {l : Launch} {G : GE} (hG : GC G) {N : Nat} {h0 : Nat} {ad : Nat → Nat} {c_read : (Nat → Int32)} {c_tape : (Nat → Int32)} {c_taped : Int32} {c_at : Int32} {c_textSize : Int32} {c_token : Int32} {c_number : Int32} {c_begins : Int32} {c_stops : Int32} {c_bad : Int32} {c_badPlace : Int32} {c_faultPlace : Int32} {c_clauses : Int32} {c_naming : (Nat → Int32)} {c_lineBy : (Nat → Int32)} {c_becomes : (Nat → Int32)} {c_dualLines : (Nat → Int32)} {c_on : (Nat → Int32)} {c_rowNow : (Nat → Int32)} {c_least : (Nat → Int32)} {c_wayFirst : (Nat → Int32)} {c_ways : Int32} {c_listPoints : Int32} {c_listLines : Int32} {c_listed : Int32} {c_list : (Nat → Int32)} {c_path : (Nat → Int32)} {c_places : (Nat → Int32)} {c_firstPlaces : (Nat → Int32)} {c_px : (Nat → Int32)} {c_py : (Nat → Int32)} {c_pz : (Nat → Int32)} {c_placeMany : Int32} {c_modulus : Int32} {c_drawn : Int32} {c_halvesMany : Int32} {c_halvesFirst : Int32} {c_spreadsMany : Int32} {c_spreadsFirst : Int32} {c_comesTo : (Nat → Int32)} {c_seedNow : Int32} {c_rowThen : (Nat → Int32)} {c_hasImage : Int32} {c_actsThen : Int32} {c_imageRow : (Nat → Int32)} {c_pastThen : (Nat → Int32)} {c_statusThen : (Nat → Int32)} {v1 : Int32} {c_now : (Nat → Int32)} {c_status : (Nat → Int32)} {c_past : (Nat → Int32)} {c_code : Int32} {c_acts : Int32} {ρ : (Int32 × (Nat → Int32) × (Nat → Int32) × (Nat → Int32) × Int32 × Int32)} (h : F_X3_add N v1 c_now c_status c_past c_code c_acts = some ρ) : MW l G yX3_add cX3_add 2 (some .int) 5 (mW h0 ad G.2.2 c_code c_now c_read c_status c_tape c_taped c_at c_textSize c_token c_number c_begins c_stops c_bad c_badPlace c_faultPlace c_clauses c_naming c_lineBy c_becomes c_dualLines c_on c_rowNow c_least c_wayFirst c_ways c_acts c_past c_listPoints c_listLines c_listed c_list c_path c_places c_firstPlaces c_px c_py c_pz c_placeMany c_modulus c_drawn c_halvesMany c_halvesFirst c_spreadsMany c_spreadsFirst c_comesTo c_seedNow c_rowThen c_hasImage c_actsThen c_imageRow c_pastThen c_statusThen) [.ref h0, .int v1] (some (.int ρ.1)) (mW h0 ad G.2.2 ρ.2.2.2.2.1 ρ.2.1 c_read ρ.2.2.1 c_tape c_taped c_at c_textSize c_token c_number c_begins c_stops c_bad c_badPlace c_faultPlace c_clauses c_naming c_lineBy c_becomes c_dualLines c_on c_rowNow c_least c_wayFirst c_ways ρ.2.2.2.2.2 ρ.2.2.2.1 c_listPoints c_listLines c_listed c_list c_path c_places c_firstPlaces c_px c_py c_pz c_placeMany c_modulus c_drawn c_halvesMany c_halvesFirst c_spreadsMany c_spreadsFirst c_comesTo c_seedNow c_rowThen c_hasImage c_actsThen c_imageRow c_pastThen c_statusThen) := by
  rw [F_X3_add] at h
  refine MW.start hG (by decide) (Nat.le_of_ble_eq_true rfl) ?_
  intro p e s m args below meth c Q A S hW0 hK hP hD hA hreti hretv ls hl
  have hS : va_S A s.heap s.heap [] := va_S.rf
  obtain ⟨hx, hb, hml, hown, hts⟩ := id S
  have hl : lv_has ls 2 [(0, .ref h0), (1, .int v1)] := hl
  refine lv_aload_n hx hb dX3_add_0 rfl (lv_at hl 0 rfl) ?_
  refine lv_iconst (v := 0) hx hb dX3_add_1 (by decide) ?_
  refine va_put (ci := 2) (v := .int 0) (ty := .int) (C := RX3) (T := TX3) (N := 52) hx hb hts in_X3 tyX3 tyX3_ok nmX3 hown hK hP hD hS 0 rfl rfl 0 (by decide) (hts _ q1658) (fun _ h9 => h9) rfl (by decide +kernel) rfl rfl (Nat.le_of_ble_eq_true rfl) dX3_add_2 (fun H locs hP hD hS => ?_)
  have hP : va_P G.2.1 vwCl (mW h0 ad G.2.2 0 c_now c_read c_status c_tape c_taped c_at c_textSize c_token c_number c_begins c_stops c_bad c_badPlace c_faultPlace c_clauses c_naming c_lineBy c_becomes c_dualLines c_on c_rowNow c_least c_wayFirst c_ways c_acts c_past c_listPoints c_listLines c_listed c_list c_path c_places c_firstPlaces c_px c_py c_pz c_placeMany c_modulus c_drawn c_halvesMany c_halvesFirst c_spreadsMany c_spreadsFirst c_comesTo c_seedNow c_rowThen c_hasImage c_actsThen c_imageRow c_pastThen c_statusThen) H := hP
  have hD : va_D A (mW h0 ad G.2.2 0 c_now c_read c_status c_tape c_taped c_at c_textSize c_token c_number c_begins c_stops c_bad c_badPlace c_faultPlace c_clauses c_naming c_lineBy c_becomes c_dualLines c_on c_rowNow c_least c_wayFirst c_ways c_acts c_past c_listPoints c_listLines c_listed c_list c_path c_places c_firstPlaces c_px c_py c_pz c_placeMany c_modulus c_drawn c_halvesMany c_halvesFirst c_spreadsMany c_spreadsFirst c_comesTo c_seedNow c_rowThen c_hasImage c_actsThen c_imageRow c_pastThen c_statusThen) := hD
  refine lv_aload_n hx hb dX3_add_5 rfl (lv_at hl 0 rfl) ?_
  refine lv_iload_n hx hb dX3_add_6 rfl (lv_at hl 1 rfl) ?_
  obtain ⟨y1, e1, h⟩ := ob_s h
  refine MR.callV (q0 := 0) (M_X3_canAdd hG e1) S (cw_X3_canAdd hts q2142 ⟨Nat.le_of_ble_eq_true rfl, Nat.le_of_ble_eq_true rfl⟩) hW0 hK hP rfl rfl rfl hl.1 rfl (Nat.le_of_ble_eq_true rfl) dX3_add_7 ⟨Nat.zero_le _, Nat.zero_le _⟩ ?_
  refine lv_if_ne (tgt := 18) hx hb dX3_add_10 (by decide) (fun c2 => ?_) (fun c2 => ?_)
  · rw [if_neg c2] at h
    refine lv_aload_n hx hb dX3_add_18 rfl (lv_at hl 0 rfl) ?_
    obtain ⟨y3, e3, h⟩ := ob_s h
    refine MW.callV (q0 := 0) (M_X3_keep hG e3) S (cw_X3_keep hts q2150 ⟨Nat.le_of_ble_eq_true rfl, Nat.le_of_ble_eq_true rfl⟩) hW0 hK hP hD hS hA rfl rfl rfl hl.1 rfl (Nat.le_of_ble_eq_true rfl) dX3_add_19 ⟨Nat.zero_le _, Nat.zero_le _⟩ (fun H locs hP hD hS => ?_)
    have hP : va_P G.2.1 vwCl (mW h0 ad G.2.2 0 c_now c_read c_status c_tape c_taped c_at c_textSize c_token c_number c_begins c_stops c_bad c_badPlace c_faultPlace c_clauses c_naming c_lineBy c_becomes c_dualLines c_on c_rowNow c_least c_wayFirst c_ways y3.2 y3.1 c_listPoints c_listLines c_listed c_list c_path c_places c_firstPlaces c_px c_py c_pz c_placeMany c_modulus c_drawn c_halvesMany c_halvesFirst c_spreadsMany c_spreadsFirst c_comesTo c_seedNow c_rowThen c_hasImage c_actsThen c_imageRow c_pastThen c_statusThen) H := hP
    have hD : va_D A (mW h0 ad G.2.2 0 c_now c_read c_status c_tape c_taped c_at c_textSize c_token c_number c_begins c_stops c_bad c_badPlace c_faultPlace c_clauses c_naming c_lineBy c_becomes c_dualLines c_on c_rowNow c_least c_wayFirst c_ways y3.2 y3.1 c_listPoints c_listLines c_listed c_list c_path c_places c_firstPlaces c_px c_py c_pz c_placeMany c_modulus c_drawn c_halvesMany c_halvesFirst c_spreadsMany c_spreadsFirst c_comesTo c_seedNow c_rowThen c_hasImage c_actsThen c_imageRow c_pastThen c_statusThen) := hD
    refine W.eq (g2 := F0 m 22 ls []) rfl ?_
    refine lv_aload_n hx hb dX3_add_22 rfl (lv_at hl 0 rfl) ?_
    refine lv_iload_n hx hb dX3_add_23 rfl (lv_at hl 1 rfl) ?_
    obtain ⟨y4, e4, h⟩ := ob_s h
    refine MW.callV (q0 := 0) (M_X3_addNow hG e4) S (cw_X3_addNow hts q2154 ⟨Nat.le_of_ble_eq_true rfl, Nat.le_of_ble_eq_true rfl⟩) hW0 hK hP hD hS hA rfl rfl rfl hl.1 rfl (Nat.le_of_ble_eq_true rfl) dX3_add_24 ⟨Nat.zero_le _, Nat.zero_le _⟩ (fun H locs hP hD hS => ?_)
    have hP : va_P G.2.1 vwCl (mW h0 ad G.2.2 0 y4 c_read c_status c_tape c_taped c_at c_textSize c_token c_number c_begins c_stops c_bad c_badPlace c_faultPlace c_clauses c_naming c_lineBy c_becomes c_dualLines c_on c_rowNow c_least c_wayFirst c_ways y3.2 y3.1 c_listPoints c_listLines c_listed c_list c_path c_places c_firstPlaces c_px c_py c_pz c_placeMany c_modulus c_drawn c_halvesMany c_halvesFirst c_spreadsMany c_spreadsFirst c_comesTo c_seedNow c_rowThen c_hasImage c_actsThen c_imageRow c_pastThen c_statusThen) H := hP
    have hD : va_D A (mW h0 ad G.2.2 0 y4 c_read c_status c_tape c_taped c_at c_textSize c_token c_number c_begins c_stops c_bad c_badPlace c_faultPlace c_clauses c_naming c_lineBy c_becomes c_dualLines c_on c_rowNow c_least c_wayFirst c_ways y3.2 y3.1 c_listPoints c_listLines c_listed c_list c_path c_places c_firstPlaces c_px c_py c_pz c_placeMany c_modulus c_drawn c_halvesMany c_halvesFirst c_spreadsMany c_spreadsFirst c_comesTo c_seedNow c_rowThen c_hasImage c_actsThen c_imageRow c_pastThen c_statusThen) := hD
    refine W.eq (g2 := F0 m 27 ls []) rfl ?_
    refine lv_aload_n hx hb dX3_add_27 rfl (lv_at hl 0 rfl) ?_
    obtain ⟨y5, e5, h⟩ := ob_s h
    refine MR.callV (q0 := 0) (M_X3_lines hG e5) S (cw_X3_lines hts q1917 ⟨Nat.le_of_ble_eq_true rfl, Nat.le_of_ble_eq_true rfl⟩) hW0 hK hP rfl rfl rfl hl.1 rfl (Nat.le_of_ble_eq_true rfl) dX3_add_28 ⟨Nat.zero_le _, Nat.zero_le _⟩ ?_
    refine lv_iconst (v := 1) hx hb dX3_add_31 (by decide) ?_
    refine lv_isub hx hb dX3_add_32 ?_
    obtain rfl := Option.some.inj h
    exact hreti rfl dX3_add_33 rfl rfl hP hD hS
  · rw [if_pos c2] at h
    refine lv_aload_n hx hb dX3_add_13 rfl (lv_at hl 0 rfl) ?_
    obtain ⟨y7, e7, h⟩ := ob_s h
    refine MW.callV (q0 := 0) (M_X3_refuse hG e7) S (cw_X3_refuse hts q2146 ⟨Nat.le_of_ble_eq_true rfl, Nat.le_of_ble_eq_true rfl⟩) hW0 hK hP hD hS hA rfl rfl rfl hl.1 rfl (Nat.le_of_ble_eq_true rfl) dX3_add_14 ⟨Nat.zero_le _, Nat.zero_le _⟩ (fun H locs hP hD hS => ?_)
    have hP : va_P G.2.1 vwCl (mW h0 ad G.2.2 0 c_now c_read y7.2 c_tape c_taped c_at c_textSize c_token c_number c_begins c_stops c_bad c_badPlace c_faultPlace c_clauses c_naming c_lineBy c_becomes c_dualLines c_on c_rowNow c_least c_wayFirst c_ways c_acts c_past c_listPoints c_listLines c_listed c_list c_path c_places c_firstPlaces c_px c_py c_pz c_placeMany c_modulus c_drawn c_halvesMany c_halvesFirst c_spreadsMany c_spreadsFirst c_comesTo c_seedNow c_rowThen c_hasImage c_actsThen c_imageRow c_pastThen c_statusThen) H := hP
    have hD : va_D A (mW h0 ad G.2.2 0 c_now c_read y7.2 c_tape c_taped c_at c_textSize c_token c_number c_begins c_stops c_bad c_badPlace c_faultPlace c_clauses c_naming c_lineBy c_becomes c_dualLines c_on c_rowNow c_least c_wayFirst c_ways c_acts c_past c_listPoints c_listLines c_listed c_list c_path c_places c_firstPlaces c_px c_py c_pz c_placeMany c_modulus c_drawn c_halvesMany c_halvesFirst c_spreadsMany c_spreadsFirst c_comesTo c_seedNow c_rowThen c_hasImage c_actsThen c_imageRow c_pastThen c_statusThen) := hD
    refine W.eq (g2 := F0 m 17 ls [.int y7.1]) rfl ?_
    obtain rfl := Option.some.inj h
    exact hreti rfl dX3_add_17 rfl rfl hP hD hS
def F_X3_dropNow_10 (N : Nat) : Nat → Int32 → (Nat → Int32) → ((Nat → Int32) → Option (Int32 × (Nat → Int32))) → Option (Int32 × (Nat → Int32))
  | 0, _, _, _ => none
  | n + 1, v3, c_now, k42 => ((F_X3_lines N c_now).bind fun y2 => (if y2 ≤ v3 then (k42 c_now) else (ckI ((2 : Int32) + v3) 154 (ckI (((2 : Int32) + v3) - (1 : Int32)) 154 (F_X3_dropNow_10 N n (v3 + 1) (upd c_now (Int32.toNatClampNeg (((2 : Int32) + v3) - (1 : Int32))) (c_now (Int32.toNatClampNeg ((2 : Int32) + v3)))) k42)))))
def F_X3_dropNow (N : Nat) (v1 : Int32) (c_now : (Nat → Int32)) : Option (Int32 × (Nat → Int32)) := ((F_X3_lineAt N v1 c_now).bind fun y1 => (F_X3_dropNow_10 N N (v1 + (1 : Int32)) c_now (fun c_now_6 => (ckI 1 154 (ckI 1 154 (ckI 1 154 (ckI ((2 : Int32) + ((upd c_now_6 (Int32.toNatClampNeg 1) ((c_now_6 (Int32.toNatClampNeg 1)) - (1 : Int32))) (Int32.toNatClampNeg 1))) 154 (some (y1, (upd (upd c_now_6 (Int32.toNatClampNeg 1) ((c_now_6 (Int32.toNatClampNeg 1)) - (1 : Int32))) (Int32.toNatClampNeg ((2 : Int32) + ((upd c_now_6 (Int32.toNatClampNeg 1) ((c_now_6 (Int32.toNatClampNeg 1)) - (1 : Int32))) (Int32.toNatClampNeg 1)))) 0))))))))))
theorem cw_X3_dropNow {R : Room} {s : State} {args : Array Value} {own : String} {index lev mc ms : Nat} (hts : ∀ w ∈ lw_all, w.before args s = true) (hl : Cond.methodLink own index yX3_dropNow ∈ lw_all) (hR : (rmL lev mc ms).frames + 1 ≤ R.frames ∧ 8 + (4 + 11) + (rmL lev mc ms).locals ≤ R.locals) : CallW R s args own RX3 index yX3_dropNow cX3_dropNow 4 (some .int) (ws_ yX3_dropNow cX3_dropNow 4 (some .int)) (rmL lev mc ms) mc ms 1 := cwV 1 hts (lw_V hl q2164 qs131 q172 q2165) rfl rfl rfl (by decide +kernel) hR
set_option maxHeartbeats 4000000 in
theorem M_X3_dropNow {l : Launch} {G : GE} (hG : GC G) {N : Nat} {h0 : Nat} {ad : Nat → Nat} {c_code : Int32} {c_read : (Nat → Int32)} {c_status : (Nat → Int32)} {c_tape : (Nat → Int32)} {c_taped : Int32} {c_at : Int32} {c_textSize : Int32} {c_token : Int32} {c_number : Int32} {c_begins : Int32} {c_stops : Int32} {c_bad : Int32} {c_badPlace : Int32} {c_faultPlace : Int32} {c_clauses : Int32} {c_naming : (Nat → Int32)} {c_lineBy : (Nat → Int32)} {c_becomes : (Nat → Int32)} {c_dualLines : (Nat → Int32)} {c_on : (Nat → Int32)} {c_rowNow : (Nat → Int32)} {c_least : (Nat → Int32)} {c_wayFirst : (Nat → Int32)} {c_ways : Int32} {c_acts : Int32} {c_past : (Nat → Int32)} {c_listPoints : Int32} {c_listLines : Int32} {c_listed : Int32} {c_list : (Nat → Int32)} {c_path : (Nat → Int32)} {c_places : (Nat → Int32)} {c_firstPlaces : (Nat → Int32)} {c_px : (Nat → Int32)} {c_py : (Nat → Int32)} {c_pz : (Nat → Int32)} {c_placeMany : Int32} {c_modulus : Int32} {c_drawn : Int32} {c_halvesMany : Int32} {c_halvesFirst : Int32} {c_spreadsMany : Int32} {c_spreadsFirst : Int32} {c_comesTo : (Nat → Int32)} {c_seedNow : Int32} {c_rowThen : (Nat → Int32)} {c_hasImage : Int32} {c_actsThen : Int32} {c_imageRow : (Nat → Int32)} {c_pastThen : (Nat → Int32)} {c_statusThen : (Nat → Int32)} {v1 : Int32} {c_now : (Nat → Int32)} {ρ : (Int32 × (Nat → Int32))} (h : F_X3_dropNow N v1 c_now = some ρ) : MW l G yX3_dropNow cX3_dropNow 4 (some .int) 2 (mW h0 ad G.2.2 c_code c_now c_read c_status c_tape c_taped c_at c_textSize c_token c_number c_begins c_stops c_bad c_badPlace c_faultPlace c_clauses c_naming c_lineBy c_becomes c_dualLines c_on c_rowNow c_least c_wayFirst c_ways c_acts c_past c_listPoints c_listLines c_listed c_list c_path c_places c_firstPlaces c_px c_py c_pz c_placeMany c_modulus c_drawn c_halvesMany c_halvesFirst c_spreadsMany c_spreadsFirst c_comesTo c_seedNow c_rowThen c_hasImage c_actsThen c_imageRow c_pastThen c_statusThen) [.ref h0, .int v1] (some (.int ρ.1)) (mW h0 ad G.2.2 c_code ρ.2 c_read c_status c_tape c_taped c_at c_textSize c_token c_number c_begins c_stops c_bad c_badPlace c_faultPlace c_clauses c_naming c_lineBy c_becomes c_dualLines c_on c_rowNow c_least c_wayFirst c_ways c_acts c_past c_listPoints c_listLines c_listed c_list c_path c_places c_firstPlaces c_px c_py c_pz c_placeMany c_modulus c_drawn c_halvesMany c_halvesFirst c_spreadsMany c_spreadsFirst c_comesTo c_seedNow c_rowThen c_hasImage c_actsThen c_imageRow c_pastThen c_statusThen) := by
  rw [F_X3_dropNow] at h
  refine MW.start hG (by decide) (Nat.le_of_ble_eq_true rfl) ?_
  intro p e s m args below meth c Q A S hW0 hK hP hD hA hreti hretv ls hl
  have hS : va_S A s.heap s.heap [] := va_S.rf
  obtain ⟨hx, hb, hml, hown, hts⟩ := id S
  have hl : lv_has ls 4 [(0, .ref h0), (1, .int v1)] := hl
  have S_X3_dropNow_10 : ∀ (n : Nat) (v2 : Int32) (v3 : Int32) (c_now : (Nat → Int32)) (k42 : (Nat → Int32) → Option (Int32 × (Nat → Int32))), F_X3_dropNow_10 N n v3 c_now k42 = some ρ → (∀ (z_c_now : (Nat → Int32)) (H : Heap) (locs : List Loc) (ls : Array Slot), k42 z_c_now = some ρ → va_P G.2.1 vwCl (mW h0 ad G.2.2 c_code z_c_now c_read c_status c_tape c_taped c_at c_textSize c_token c_number c_begins c_stops c_bad c_badPlace c_faultPlace c_clauses c_naming c_lineBy c_becomes c_dualLines c_on c_rowNow c_least c_wayFirst c_ways c_acts c_past c_listPoints c_listLines c_listed c_list c_path c_places c_firstPlaces c_px c_py c_pz c_placeMany c_modulus c_drawn c_halvesMany c_halvesFirst c_spreadsMany c_spreadsFirst c_comesTo c_seedNow c_rowThen c_hasImage c_actsThen c_imageRow c_pastThen c_statusThen) H → va_D A (mW h0 ad G.2.2 c_code z_c_now c_read c_status c_tape c_taped c_at c_textSize c_token c_number c_begins c_stops c_bad c_badPlace c_faultPlace c_clauses c_naming c_lineBy c_becomes c_dualLines c_on c_rowNow c_least c_wayFirst c_ways c_acts c_past c_listPoints c_listLines c_listed c_list c_path c_places c_firstPlaces c_px c_py c_pz c_placeMany c_modulus c_drawn c_halvesMany c_halvesFirst c_spreadsMany c_spreadsFirst c_comesTo c_seedNow c_rowThen c_hasImage c_actsThen c_imageRow c_pastThen c_statusThen) → va_S A s.heap H locs → lv_has ls 4 [(0, .ref h0), (2, .int v2)] → W p l e (rmL 2 0 0) s m args below meth c H locs 0 0 Q (F0 m 42 ls [])) → ∀ (H : Heap) (locs : List Loc), va_P G.2.1 vwCl (mW h0 ad G.2.2 c_code c_now c_read c_status c_tape c_taped c_at c_textSize c_token c_number c_begins c_stops c_bad c_badPlace c_faultPlace c_clauses c_naming c_lineBy c_becomes c_dualLines c_on c_rowNow c_least c_wayFirst c_ways c_acts c_past c_listPoints c_listLines c_listed c_list c_path c_places c_firstPlaces c_px c_py c_pz c_placeMany c_modulus c_drawn c_halvesMany c_halvesFirst c_spreadsMany c_spreadsFirst c_comesTo c_seedNow c_rowThen c_hasImage c_actsThen c_imageRow c_pastThen c_statusThen) H → va_D A (mW h0 ad G.2.2 c_code c_now c_read c_status c_tape c_taped c_at c_textSize c_token c_number c_begins c_stops c_bad c_badPlace c_faultPlace c_clauses c_naming c_lineBy c_becomes c_dualLines c_on c_rowNow c_least c_wayFirst c_ways c_acts c_past c_listPoints c_listLines c_listed c_list c_path c_places c_firstPlaces c_px c_py c_pz c_placeMany c_modulus c_drawn c_halvesMany c_halvesFirst c_spreadsMany c_spreadsFirst c_comesTo c_seedNow c_rowThen c_hasImage c_actsThen c_imageRow c_pastThen c_statusThen) → va_S A s.heap H locs → ∀ (ls : Array Slot), lv_has ls 4 [(0, .ref h0), (2, .int v2), (3, .int v3)] → W p l e (rmL 2 0 0) s m args below meth c H locs 0 0 Q (F0 m 10 ls []) := by
    intro n
    induction n with
    | zero =>
      intro v2 v3 c_now k42 h
      exact absurd h (by simp [F_X3_dropNow_10])
    | succ n ih =>
      intro v2 v3 c_now k42 h hk42 H locs hP hD hS ls hl
      rw [F_X3_dropNow_10] at h
      refine lv_iload_n hx hb dX3_dropNow_10 rfl (lv_at hl 2 rfl) ?_
      refine lv_aload_n hx hb dX3_dropNow_11 rfl (lv_at hl 0 rfl) ?_
      obtain ⟨y2, e2, h⟩ := ob_s h
      refine MR.callV (q0 := 0) (M_X3_lines hG e2) S (cw_X3_lines hts q1917 ⟨Nat.le_of_ble_eq_true rfl, Nat.le_of_ble_eq_true rfl⟩) hW0 hK hP rfl rfl rfl hl.1 rfl (Nat.le_of_ble_eq_true rfl) dX3_dropNow_12 ⟨Nat.zero_le _, Nat.zero_le _⟩ ?_
      refine lv_icmp_ge (tgt := 42) hx hb dX3_dropNow_15 (by decide) (fun c3 => ?_) (fun c3 => ?_)
      · rw [if_pos c3] at h
        exact hk42 c_now _ _ _ h hP hD hS (lv_sub hl [0, 1] rfl)
      · rw [if_neg c3] at h
        refine lv_aload_n hx hb dX3_dropNow_18 rfl (lv_at hl 0 rfl) ?_
        refine va_get (ci := 2) (v := .ref (ad 1)) (C := RX3) (T := TX3) (N := 52) hx hb hts in_X3 hown hK hP 0 rfl rfl 1 (by decide) (hts _ q1659) (fun _ h9 => h9) rfl dX3_dropNow_19 ?_
        refine lv_iconst (v := 2) hx hb dX3_dropNow_22 (by decide) ?_
        refine lv_iload_n hx hb dX3_dropNow_23 rfl (lv_at hl 2 rfl) ?_
        refine lv_iadd hx hb dX3_dropNow_24 ?_
        refine lv_iconst (v := 1) hx hb dX3_dropNow_25 (by decide) ?_
        refine lv_isub hx hb dX3_dropNow_26 ?_
        refine lv_aload_n hx hb dX3_dropNow_27 rfl (lv_at hl 0 rfl) ?_
        refine va_get (ci := 2) (v := .ref (ad 1)) (C := RX3) (T := TX3) (N := 52) hx hb hts in_X3 hown hK hP 0 rfl rfl 1 (by decide) (hts _ q1659) (fun _ h9 => h9) rfl dX3_dropNow_28 ?_
        refine lv_iconst (v := 2) hx hb dX3_dropNow_31 (by decide) ?_
        refine lv_iload_n hx hb dX3_dropNow_32 rfl (lv_at hl 2 rfl) ?_
        refine lv_iadd hx hb dX3_dropNow_33 ?_
        obtain ⟨i4, h⟩ := ckI_s h
        refine va_iald (f := c_now) hx hb hK hP 1 0 rfl rfl i4 dX3_dropNow_34 ?_
        obtain ⟨i5, h⟩ := ckI_s h
        refine va_iast (f := c_now) hx hb hK hP hD hS 1 0 rfl rfl i5 dX3_dropNow_35 (fun H locs hP hD hS => ?_)
        have hP : va_P G.2.1 vwCl (mW h0 ad G.2.2 c_code (upd c_now (Int32.toNatClampNeg (((2 : Int32) + v3) - (1 : Int32))) (c_now (Int32.toNatClampNeg ((2 : Int32) + v3)))) c_read c_status c_tape c_taped c_at c_textSize c_token c_number c_begins c_stops c_bad c_badPlace c_faultPlace c_clauses c_naming c_lineBy c_becomes c_dualLines c_on c_rowNow c_least c_wayFirst c_ways c_acts c_past c_listPoints c_listLines c_listed c_list c_path c_places c_firstPlaces c_px c_py c_pz c_placeMany c_modulus c_drawn c_halvesMany c_halvesFirst c_spreadsMany c_spreadsFirst c_comesTo c_seedNow c_rowThen c_hasImage c_actsThen c_imageRow c_pastThen c_statusThen) H := hP
        have hD : va_D A (mW h0 ad G.2.2 c_code (upd c_now (Int32.toNatClampNeg (((2 : Int32) + v3) - (1 : Int32))) (c_now (Int32.toNatClampNeg ((2 : Int32) + v3)))) c_read c_status c_tape c_taped c_at c_textSize c_token c_number c_begins c_stops c_bad c_badPlace c_faultPlace c_clauses c_naming c_lineBy c_becomes c_dualLines c_on c_rowNow c_least c_wayFirst c_ways c_acts c_past c_listPoints c_listLines c_listed c_list c_path c_places c_firstPlaces c_px c_py c_pz c_placeMany c_modulus c_drawn c_halvesMany c_halvesFirst c_spreadsMany c_spreadsFirst c_comesTo c_seedNow c_rowThen c_hasImage c_actsThen c_imageRow c_pastThen c_statusThen) := hD
        refine lv_iinc (v := (v3 + 1)) (lv' := [(3, .int (v3 + 1)), (0, .ref h0), (2, .int v2)]) hx hb dX3_dropNow_36 hl (k := 2) rfl rfl (by decide) rfl (fun ls hl => ?_)
        refine lv_goto (tgt := 10) hx hb dX3_dropNow_39 (by decide) ?_
        exact ih v2 (v3 + 1) (upd c_now (Int32.toNatClampNeg (((2 : Int32) + v3) - (1 : Int32))) (c_now (Int32.toNatClampNeg ((2 : Int32) + v3)))) _ h hk42 _ _ hP hD hS _ (lv_sub hl [1, 2, 0] rfl)
  refine lv_aload_n hx hb dX3_dropNow_0 rfl (lv_at hl 0 rfl) ?_
  refine lv_iload_n hx hb dX3_dropNow_1 rfl (lv_at hl 1 rfl) ?_
  obtain ⟨y1, e1, h⟩ := ob_s h
  refine MR.callV (q0 := 0) (M_X3_lineAt hG e1) S (cw_X3_lineAt hts q1925 ⟨Nat.le_of_ble_eq_true rfl, Nat.le_of_ble_eq_true rfl⟩) hW0 hK hP rfl rfl rfl hl.1 rfl (Nat.le_of_ble_eq_true rfl) dX3_dropNow_2 ⟨Nat.zero_le _, Nat.zero_le _⟩ ?_
  refine lv_istore_n (lv' := [(2, .int y1), (0, .ref h0), (1, .int v1)]) hx hb dX3_dropNow_5 rfl hl (by decide) rfl (fun ls hl => ?_)
  refine lv_iload_n hx hb dX3_dropNow_6 rfl (lv_at hl 2 rfl) ?_
  refine lv_iconst (v := 1) hx hb dX3_dropNow_7 (by decide) ?_
  refine lv_iadd hx hb dX3_dropNow_8 ?_
  refine lv_istore_n (lv' := [(3, .int (v1 + (1 : Int32))), (2, .int y1), (0, .ref h0), (1, .int v1)]) hx hb dX3_dropNow_9 rfl hl (by decide) rfl (fun ls hl => ?_)
  refine S_X3_dropNow_10 N y1 (v1 + (1 : Int32)) c_now _ h ?_ _ _ hP hD hS _ (lv_sub hl [2, 1, 0] rfl)
  · intro c_now_6 H locs ls h hP hD hS hl
    refine lv_aload_n hx hb dX3_dropNow_42 rfl (lv_at hl 0 rfl) ?_
    refine va_get (ci := 2) (v := .ref (ad 1)) (C := RX3) (T := TX3) (N := 52) hx hb hts in_X3 hown hK hP 0 rfl rfl 1 (by decide) (hts _ q1659) (fun _ h9 => h9) rfl dX3_dropNow_43 ?_
    refine lv_iconst (v := 1) hx hb dX3_dropNow_46 (by decide) ?_
    refine lv_dup2_11 hx hb dX3_dropNow_47 rfl rfl ?_
    obtain ⟨i7, h⟩ := ckI_s h
    refine va_iald (f := c_now_6) hx hb hK hP 1 0 rfl rfl i7 dX3_dropNow_48 ?_
    refine lv_iconst (v := 1) hx hb dX3_dropNow_49 (by decide) ?_
    refine lv_isub hx hb dX3_dropNow_50 ?_
    obtain ⟨i8, h⟩ := ckI_s h
    refine va_iast (f := c_now_6) hx hb hK hP hD hS 1 0 rfl rfl i8 dX3_dropNow_51 (fun H locs hP hD hS => ?_)
    have hP : va_P G.2.1 vwCl (mW h0 ad G.2.2 c_code (upd c_now_6 (Int32.toNatClampNeg 1) ((c_now_6 (Int32.toNatClampNeg 1)) - (1 : Int32))) c_read c_status c_tape c_taped c_at c_textSize c_token c_number c_begins c_stops c_bad c_badPlace c_faultPlace c_clauses c_naming c_lineBy c_becomes c_dualLines c_on c_rowNow c_least c_wayFirst c_ways c_acts c_past c_listPoints c_listLines c_listed c_list c_path c_places c_firstPlaces c_px c_py c_pz c_placeMany c_modulus c_drawn c_halvesMany c_halvesFirst c_spreadsMany c_spreadsFirst c_comesTo c_seedNow c_rowThen c_hasImage c_actsThen c_imageRow c_pastThen c_statusThen) H := hP
    have hD : va_D A (mW h0 ad G.2.2 c_code (upd c_now_6 (Int32.toNatClampNeg 1) ((c_now_6 (Int32.toNatClampNeg 1)) - (1 : Int32))) c_read c_status c_tape c_taped c_at c_textSize c_token c_number c_begins c_stops c_bad c_badPlace c_faultPlace c_clauses c_naming c_lineBy c_becomes c_dualLines c_on c_rowNow c_least c_wayFirst c_ways c_acts c_past c_listPoints c_listLines c_listed c_list c_path c_places c_firstPlaces c_px c_py c_pz c_placeMany c_modulus c_drawn c_halvesMany c_halvesFirst c_spreadsMany c_spreadsFirst c_comesTo c_seedNow c_rowThen c_hasImage c_actsThen c_imageRow c_pastThen c_statusThen) := hD
    refine lv_aload_n hx hb dX3_dropNow_52 rfl (lv_at hl 0 rfl) ?_
    refine va_get (ci := 2) (v := .ref (ad 1)) (C := RX3) (T := TX3) (N := 52) hx hb hts in_X3 hown hK hP 0 rfl rfl 1 (by decide) (hts _ q1659) (fun _ h9 => h9) rfl dX3_dropNow_53 ?_
    refine lv_iconst (v := 2) hx hb dX3_dropNow_56 (by decide) ?_
    refine lv_aload_n hx hb dX3_dropNow_57 rfl (lv_at hl 0 rfl) ?_
    refine va_get (ci := 2) (v := .ref (ad 1)) (C := RX3) (T := TX3) (N := 52) hx hb hts in_X3 hown hK hP 0 rfl rfl 1 (by decide) (hts _ q1659) (fun _ h9 => h9) rfl dX3_dropNow_58 ?_
    refine lv_iconst (v := 1) hx hb dX3_dropNow_61 (by decide) ?_
    obtain ⟨i9, h⟩ := ckI_s h
    refine va_iald (f := (upd c_now_6 (Int32.toNatClampNeg 1) ((c_now_6 (Int32.toNatClampNeg 1)) - (1 : Int32)))) hx hb hK hP 1 0 rfl rfl i9 dX3_dropNow_62 ?_
    refine lv_iadd hx hb dX3_dropNow_63 ?_
    refine lv_iconst (v := 0) hx hb dX3_dropNow_64 (by decide) ?_
    obtain ⟨i10, h⟩ := ckI_s h
    refine va_iast (f := (upd c_now_6 (Int32.toNatClampNeg 1) ((c_now_6 (Int32.toNatClampNeg 1)) - (1 : Int32)))) hx hb hK hP hD hS 1 0 rfl rfl i10 dX3_dropNow_65 (fun H locs hP hD hS => ?_)
    have hP : va_P G.2.1 vwCl (mW h0 ad G.2.2 c_code (upd (upd c_now_6 (Int32.toNatClampNeg 1) ((c_now_6 (Int32.toNatClampNeg 1)) - (1 : Int32))) (Int32.toNatClampNeg ((2 : Int32) + ((upd c_now_6 (Int32.toNatClampNeg 1) ((c_now_6 (Int32.toNatClampNeg 1)) - (1 : Int32))) (Int32.toNatClampNeg 1)))) 0) c_read c_status c_tape c_taped c_at c_textSize c_token c_number c_begins c_stops c_bad c_badPlace c_faultPlace c_clauses c_naming c_lineBy c_becomes c_dualLines c_on c_rowNow c_least c_wayFirst c_ways c_acts c_past c_listPoints c_listLines c_listed c_list c_path c_places c_firstPlaces c_px c_py c_pz c_placeMany c_modulus c_drawn c_halvesMany c_halvesFirst c_spreadsMany c_spreadsFirst c_comesTo c_seedNow c_rowThen c_hasImage c_actsThen c_imageRow c_pastThen c_statusThen) H := hP
    have hD : va_D A (mW h0 ad G.2.2 c_code (upd (upd c_now_6 (Int32.toNatClampNeg 1) ((c_now_6 (Int32.toNatClampNeg 1)) - (1 : Int32))) (Int32.toNatClampNeg ((2 : Int32) + ((upd c_now_6 (Int32.toNatClampNeg 1) ((c_now_6 (Int32.toNatClampNeg 1)) - (1 : Int32))) (Int32.toNatClampNeg 1)))) 0) c_read c_status c_tape c_taped c_at c_textSize c_token c_number c_begins c_stops c_bad c_badPlace c_faultPlace c_clauses c_naming c_lineBy c_becomes c_dualLines c_on c_rowNow c_least c_wayFirst c_ways c_acts c_past c_listPoints c_listLines c_listed c_list c_path c_places c_firstPlaces c_px c_py c_pz c_placeMany c_modulus c_drawn c_halvesMany c_halvesFirst c_spreadsMany c_spreadsFirst c_comesTo c_seedNow c_rowThen c_hasImage c_actsThen c_imageRow c_pastThen c_statusThen) := hD
    refine lv_iload_n hx hb dX3_dropNow_66 rfl (lv_at hl 1 rfl) ?_
    obtain rfl := Option.some.inj h
    exact hreti rfl dX3_dropNow_67 rfl rfl hP hD hS
def F_X3_drop (N : Nat) (v1 : Int32) (c_now : (Nat → Int32)) (c_status : (Nat → Int32)) (c_past : (Nat → Int32)) (c_code : Int32) (c_acts : Int32) : Option (Int32 × (Nat → Int32) × (Nat → Int32) × (Nat → Int32) × Int32 × Int32) := ((F_X3_isLine N v1 c_now).bind fun y1 => (if y1 = 0 then ((F_X3_refuse N c_status).bind fun y6 => (some (y6.1, c_now, y6.2, c_past, 0, c_acts))) else ((F_X3_keep N c_now c_past c_acts).bind fun y3 => ((F_X3_dropNow N v1 c_now).bind fun y4 => (some (y4.1, y4.2, c_status, y3.1, 0, y3.2))))))
theorem cw_X3_drop {R : Room} {s : State} {args : Array Value} {own : String} {index lev mc ms : Nat} (hts : ∀ w ∈ lw_all, w.before args s = true) (hl : Cond.methodLink own index yX3_drop ∈ lw_all) (hR : (rmL lev mc ms).frames + 1 ≤ R.frames ∧ 8 + (2 + 11) + (rmL lev mc ms).locals ≤ R.locals) : CallW R s args own RX3 index yX3_drop cX3_drop 2 (some .int) (ws_ yX3_drop cX3_drop 2 (some .int)) (rmL lev mc ms) mc ms 1 := cwV 1 hts (lw_V hl q2159 q2160 q172 q2161) rfl rfl rfl (by decide +kernel) hR
set_option maxHeartbeats 4000000 in
theorem M_X3_drop {l : Launch} {G : GE} (hG : GC G) {N : Nat} {h0 : Nat} {ad : Nat → Nat} {c_read : (Nat → Int32)} {c_tape : (Nat → Int32)} {c_taped : Int32} {c_at : Int32} {c_textSize : Int32} {c_token : Int32} {c_number : Int32} {c_begins : Int32} {c_stops : Int32} {c_bad : Int32} {c_badPlace : Int32} {c_faultPlace : Int32} {c_clauses : Int32} {c_naming : (Nat → Int32)} {c_lineBy : (Nat → Int32)} {c_becomes : (Nat → Int32)} {c_dualLines : (Nat → Int32)} {c_on : (Nat → Int32)} {c_rowNow : (Nat → Int32)} {c_least : (Nat → Int32)} {c_wayFirst : (Nat → Int32)} {c_ways : Int32} {c_listPoints : Int32} {c_listLines : Int32} {c_listed : Int32} {c_list : (Nat → Int32)} {c_path : (Nat → Int32)} {c_places : (Nat → Int32)} {c_firstPlaces : (Nat → Int32)} {c_px : (Nat → Int32)} {c_py : (Nat → Int32)} {c_pz : (Nat → Int32)} {c_placeMany : Int32} {c_modulus : Int32} {c_drawn : Int32} {c_halvesMany : Int32} {c_halvesFirst : Int32} {c_spreadsMany : Int32} {c_spreadsFirst : Int32} {c_comesTo : (Nat → Int32)} {c_seedNow : Int32} {c_rowThen : (Nat → Int32)} {c_hasImage : Int32} {c_actsThen : Int32} {c_imageRow : (Nat → Int32)} {c_pastThen : (Nat → Int32)} {c_statusThen : (Nat → Int32)} {v1 : Int32} {c_now : (Nat → Int32)} {c_status : (Nat → Int32)} {c_past : (Nat → Int32)} {c_code : Int32} {c_acts : Int32} {ρ : (Int32 × (Nat → Int32) × (Nat → Int32) × (Nat → Int32) × Int32 × Int32)} (h : F_X3_drop N v1 c_now c_status c_past c_code c_acts = some ρ) : MW l G yX3_drop cX3_drop 2 (some .int) 3 (mW h0 ad G.2.2 c_code c_now c_read c_status c_tape c_taped c_at c_textSize c_token c_number c_begins c_stops c_bad c_badPlace c_faultPlace c_clauses c_naming c_lineBy c_becomes c_dualLines c_on c_rowNow c_least c_wayFirst c_ways c_acts c_past c_listPoints c_listLines c_listed c_list c_path c_places c_firstPlaces c_px c_py c_pz c_placeMany c_modulus c_drawn c_halvesMany c_halvesFirst c_spreadsMany c_spreadsFirst c_comesTo c_seedNow c_rowThen c_hasImage c_actsThen c_imageRow c_pastThen c_statusThen) [.ref h0, .int v1] (some (.int ρ.1)) (mW h0 ad G.2.2 ρ.2.2.2.2.1 ρ.2.1 c_read ρ.2.2.1 c_tape c_taped c_at c_textSize c_token c_number c_begins c_stops c_bad c_badPlace c_faultPlace c_clauses c_naming c_lineBy c_becomes c_dualLines c_on c_rowNow c_least c_wayFirst c_ways ρ.2.2.2.2.2 ρ.2.2.2.1 c_listPoints c_listLines c_listed c_list c_path c_places c_firstPlaces c_px c_py c_pz c_placeMany c_modulus c_drawn c_halvesMany c_halvesFirst c_spreadsMany c_spreadsFirst c_comesTo c_seedNow c_rowThen c_hasImage c_actsThen c_imageRow c_pastThen c_statusThen) := by
  rw [F_X3_drop] at h
  refine MW.start hG (by decide) (Nat.le_of_ble_eq_true rfl) ?_
  intro p e s m args below meth c Q A S hW0 hK hP hD hA hreti hretv ls hl
  have hS : va_S A s.heap s.heap [] := va_S.rf
  obtain ⟨hx, hb, hml, hown, hts⟩ := id S
  have hl : lv_has ls 2 [(0, .ref h0), (1, .int v1)] := hl
  refine lv_aload_n hx hb dX3_drop_0 rfl (lv_at hl 0 rfl) ?_
  refine lv_iconst (v := 0) hx hb dX3_drop_1 (by decide) ?_
  refine va_put (ci := 2) (v := .int 0) (ty := .int) (C := RX3) (T := TX3) (N := 52) hx hb hts in_X3 tyX3 tyX3_ok nmX3 hown hK hP hD hS 0 rfl rfl 0 (by decide) (hts _ q1658) (fun _ h9 => h9) rfl (by decide +kernel) rfl rfl (Nat.le_of_ble_eq_true rfl) dX3_drop_2 (fun H locs hP hD hS => ?_)
  have hP : va_P G.2.1 vwCl (mW h0 ad G.2.2 0 c_now c_read c_status c_tape c_taped c_at c_textSize c_token c_number c_begins c_stops c_bad c_badPlace c_faultPlace c_clauses c_naming c_lineBy c_becomes c_dualLines c_on c_rowNow c_least c_wayFirst c_ways c_acts c_past c_listPoints c_listLines c_listed c_list c_path c_places c_firstPlaces c_px c_py c_pz c_placeMany c_modulus c_drawn c_halvesMany c_halvesFirst c_spreadsMany c_spreadsFirst c_comesTo c_seedNow c_rowThen c_hasImage c_actsThen c_imageRow c_pastThen c_statusThen) H := hP
  have hD : va_D A (mW h0 ad G.2.2 0 c_now c_read c_status c_tape c_taped c_at c_textSize c_token c_number c_begins c_stops c_bad c_badPlace c_faultPlace c_clauses c_naming c_lineBy c_becomes c_dualLines c_on c_rowNow c_least c_wayFirst c_ways c_acts c_past c_listPoints c_listLines c_listed c_list c_path c_places c_firstPlaces c_px c_py c_pz c_placeMany c_modulus c_drawn c_halvesMany c_halvesFirst c_spreadsMany c_spreadsFirst c_comesTo c_seedNow c_rowThen c_hasImage c_actsThen c_imageRow c_pastThen c_statusThen) := hD
  refine lv_aload_n hx hb dX3_drop_5 rfl (lv_at hl 0 rfl) ?_
  refine lv_iload_n hx hb dX3_drop_6 rfl (lv_at hl 1 rfl) ?_
  obtain ⟨y1, e1, h⟩ := ob_s h
  refine MR.callV (q0 := 0) (M_X3_isLine hG e1) S (cw_X3_isLine hts q2057 ⟨Nat.le_of_ble_eq_true rfl, Nat.le_of_ble_eq_true rfl⟩) hW0 hK hP rfl rfl rfl hl.1 rfl (Nat.le_of_ble_eq_true rfl) dX3_drop_7 ⟨Nat.zero_le _, Nat.zero_le _⟩ ?_
  refine lv_if_ne (tgt := 18) hx hb dX3_drop_10 (by decide) (fun c2 => ?_) (fun c2 => ?_)
  · rw [if_neg c2] at h
    refine lv_aload_n hx hb dX3_drop_18 rfl (lv_at hl 0 rfl) ?_
    obtain ⟨y3, e3, h⟩ := ob_s h
    refine MW.callV (q0 := 0) (M_X3_keep hG e3) S (cw_X3_keep hts q2150 ⟨Nat.le_of_ble_eq_true rfl, Nat.le_of_ble_eq_true rfl⟩) hW0 hK hP hD hS hA rfl rfl rfl hl.1 rfl (Nat.le_of_ble_eq_true rfl) dX3_drop_19 ⟨Nat.zero_le _, Nat.zero_le _⟩ (fun H locs hP hD hS => ?_)
    have hP : va_P G.2.1 vwCl (mW h0 ad G.2.2 0 c_now c_read c_status c_tape c_taped c_at c_textSize c_token c_number c_begins c_stops c_bad c_badPlace c_faultPlace c_clauses c_naming c_lineBy c_becomes c_dualLines c_on c_rowNow c_least c_wayFirst c_ways y3.2 y3.1 c_listPoints c_listLines c_listed c_list c_path c_places c_firstPlaces c_px c_py c_pz c_placeMany c_modulus c_drawn c_halvesMany c_halvesFirst c_spreadsMany c_spreadsFirst c_comesTo c_seedNow c_rowThen c_hasImage c_actsThen c_imageRow c_pastThen c_statusThen) H := hP
    have hD : va_D A (mW h0 ad G.2.2 0 c_now c_read c_status c_tape c_taped c_at c_textSize c_token c_number c_begins c_stops c_bad c_badPlace c_faultPlace c_clauses c_naming c_lineBy c_becomes c_dualLines c_on c_rowNow c_least c_wayFirst c_ways y3.2 y3.1 c_listPoints c_listLines c_listed c_list c_path c_places c_firstPlaces c_px c_py c_pz c_placeMany c_modulus c_drawn c_halvesMany c_halvesFirst c_spreadsMany c_spreadsFirst c_comesTo c_seedNow c_rowThen c_hasImage c_actsThen c_imageRow c_pastThen c_statusThen) := hD
    refine W.eq (g2 := F0 m 22 ls []) rfl ?_
    refine lv_aload_n hx hb dX3_drop_22 rfl (lv_at hl 0 rfl) ?_
    refine lv_iload_n hx hb dX3_drop_23 rfl (lv_at hl 1 rfl) ?_
    obtain ⟨y4, e4, h⟩ := ob_s h
    refine MW.callV (q0 := 0) (M_X3_dropNow hG e4) S (cw_X3_dropNow hts q2162 ⟨Nat.le_of_ble_eq_true rfl, Nat.le_of_ble_eq_true rfl⟩) hW0 hK hP hD hS hA rfl rfl rfl hl.1 rfl (Nat.le_of_ble_eq_true rfl) dX3_drop_24 ⟨Nat.zero_le _, Nat.zero_le _⟩ (fun H locs hP hD hS => ?_)
    have hP : va_P G.2.1 vwCl (mW h0 ad G.2.2 0 y4.2 c_read c_status c_tape c_taped c_at c_textSize c_token c_number c_begins c_stops c_bad c_badPlace c_faultPlace c_clauses c_naming c_lineBy c_becomes c_dualLines c_on c_rowNow c_least c_wayFirst c_ways y3.2 y3.1 c_listPoints c_listLines c_listed c_list c_path c_places c_firstPlaces c_px c_py c_pz c_placeMany c_modulus c_drawn c_halvesMany c_halvesFirst c_spreadsMany c_spreadsFirst c_comesTo c_seedNow c_rowThen c_hasImage c_actsThen c_imageRow c_pastThen c_statusThen) H := hP
    have hD : va_D A (mW h0 ad G.2.2 0 y4.2 c_read c_status c_tape c_taped c_at c_textSize c_token c_number c_begins c_stops c_bad c_badPlace c_faultPlace c_clauses c_naming c_lineBy c_becomes c_dualLines c_on c_rowNow c_least c_wayFirst c_ways y3.2 y3.1 c_listPoints c_listLines c_listed c_list c_path c_places c_firstPlaces c_px c_py c_pz c_placeMany c_modulus c_drawn c_halvesMany c_halvesFirst c_spreadsMany c_spreadsFirst c_comesTo c_seedNow c_rowThen c_hasImage c_actsThen c_imageRow c_pastThen c_statusThen) := hD
    refine W.eq (g2 := F0 m 27 ls [.int y4.1]) rfl ?_
    obtain rfl := Option.some.inj h
    exact hreti rfl dX3_drop_27 rfl rfl hP hD hS
  · rw [if_pos c2] at h
    refine lv_aload_n hx hb dX3_drop_13 rfl (lv_at hl 0 rfl) ?_
    obtain ⟨y6, e6, h⟩ := ob_s h
    refine MW.callV (q0 := 0) (M_X3_refuse hG e6) S (cw_X3_refuse hts q2146 ⟨Nat.le_of_ble_eq_true rfl, Nat.le_of_ble_eq_true rfl⟩) hW0 hK hP hD hS hA rfl rfl rfl hl.1 rfl (Nat.le_of_ble_eq_true rfl) dX3_drop_14 ⟨Nat.zero_le _, Nat.zero_le _⟩ (fun H locs hP hD hS => ?_)
    have hP : va_P G.2.1 vwCl (mW h0 ad G.2.2 0 c_now c_read y6.2 c_tape c_taped c_at c_textSize c_token c_number c_begins c_stops c_bad c_badPlace c_faultPlace c_clauses c_naming c_lineBy c_becomes c_dualLines c_on c_rowNow c_least c_wayFirst c_ways c_acts c_past c_listPoints c_listLines c_listed c_list c_path c_places c_firstPlaces c_px c_py c_pz c_placeMany c_modulus c_drawn c_halvesMany c_halvesFirst c_spreadsMany c_spreadsFirst c_comesTo c_seedNow c_rowThen c_hasImage c_actsThen c_imageRow c_pastThen c_statusThen) H := hP
    have hD : va_D A (mW h0 ad G.2.2 0 c_now c_read y6.2 c_tape c_taped c_at c_textSize c_token c_number c_begins c_stops c_bad c_badPlace c_faultPlace c_clauses c_naming c_lineBy c_becomes c_dualLines c_on c_rowNow c_least c_wayFirst c_ways c_acts c_past c_listPoints c_listLines c_listed c_list c_path c_places c_firstPlaces c_px c_py c_pz c_placeMany c_modulus c_drawn c_halvesMany c_halvesFirst c_spreadsMany c_spreadsFirst c_comesTo c_seedNow c_rowThen c_hasImage c_actsThen c_imageRow c_pastThen c_statusThen) := hD
    refine W.eq (g2 := F0 m 17 ls [.int y6.1]) rfl ?_
    obtain rfl := Option.some.inj h
    exact hreti rfl dX3_drop_17 rfl rfl hP hD hS
def F_X3_refused (N : Nat) (c_status : (Nat → Int32)) : Option (Int32 × (Nat → Int32)) := ((F_X3_refuse N c_status).bind fun y1 => (if y1.1 < 0 then (some (0, y1.2)) else (some (1, y1.2))))
theorem cw_X3_refused {R : Room} {s : State} {args : Array Value} {own : String} {index lev mc ms : Nat} (hts : ∀ w ∈ lw_all, w.before args s = true) (hl : Cond.methodLink own index yX3_refused ∈ lw_all) (hR : (rmL lev mc ms).frames + 1 ≤ R.frames ∧ 8 + (1 + 11) + (rmL lev mc ms).locals ≤ R.locals) : CallW R s args own RX3 index yX3_refused cX3_refused 1 (some .boolean) (ws_ yX3_refused cX3_refused 1 (some .boolean)) (rmL lev mc ms) mc ms 0 := cwV 0 hts (lw_V hl q2172 qs132 q172 q2173) rfl rfl rfl (by decide +kernel) hR
set_option maxHeartbeats 4000000 in
theorem M_X3_refused {l : Launch} {G : GE} (hG : GC G) {N : Nat} {h0 : Nat} {ad : Nat → Nat} {c_code : Int32} {c_now : (Nat → Int32)} {c_read : (Nat → Int32)} {c_tape : (Nat → Int32)} {c_taped : Int32} {c_at : Int32} {c_textSize : Int32} {c_token : Int32} {c_number : Int32} {c_begins : Int32} {c_stops : Int32} {c_bad : Int32} {c_badPlace : Int32} {c_faultPlace : Int32} {c_clauses : Int32} {c_naming : (Nat → Int32)} {c_lineBy : (Nat → Int32)} {c_becomes : (Nat → Int32)} {c_dualLines : (Nat → Int32)} {c_on : (Nat → Int32)} {c_rowNow : (Nat → Int32)} {c_least : (Nat → Int32)} {c_wayFirst : (Nat → Int32)} {c_ways : Int32} {c_acts : Int32} {c_past : (Nat → Int32)} {c_listPoints : Int32} {c_listLines : Int32} {c_listed : Int32} {c_list : (Nat → Int32)} {c_path : (Nat → Int32)} {c_places : (Nat → Int32)} {c_firstPlaces : (Nat → Int32)} {c_px : (Nat → Int32)} {c_py : (Nat → Int32)} {c_pz : (Nat → Int32)} {c_placeMany : Int32} {c_modulus : Int32} {c_drawn : Int32} {c_halvesMany : Int32} {c_halvesFirst : Int32} {c_spreadsMany : Int32} {c_spreadsFirst : Int32} {c_comesTo : (Nat → Int32)} {c_seedNow : Int32} {c_rowThen : (Nat → Int32)} {c_hasImage : Int32} {c_actsThen : Int32} {c_imageRow : (Nat → Int32)} {c_pastThen : (Nat → Int32)} {c_statusThen : (Nat → Int32)} {c_status : (Nat → Int32)} {ρ : (Int32 × (Nat → Int32))} (h : F_X3_refused N c_status = some ρ) : MW l G yX3_refused cX3_refused 1 (some .boolean) 2 (mW h0 ad G.2.2 c_code c_now c_read c_status c_tape c_taped c_at c_textSize c_token c_number c_begins c_stops c_bad c_badPlace c_faultPlace c_clauses c_naming c_lineBy c_becomes c_dualLines c_on c_rowNow c_least c_wayFirst c_ways c_acts c_past c_listPoints c_listLines c_listed c_list c_path c_places c_firstPlaces c_px c_py c_pz c_placeMany c_modulus c_drawn c_halvesMany c_halvesFirst c_spreadsMany c_spreadsFirst c_comesTo c_seedNow c_rowThen c_hasImage c_actsThen c_imageRow c_pastThen c_statusThen) [.ref h0] (some (.int ρ.1)) (mW h0 ad G.2.2 c_code c_now c_read ρ.2 c_tape c_taped c_at c_textSize c_token c_number c_begins c_stops c_bad c_badPlace c_faultPlace c_clauses c_naming c_lineBy c_becomes c_dualLines c_on c_rowNow c_least c_wayFirst c_ways c_acts c_past c_listPoints c_listLines c_listed c_list c_path c_places c_firstPlaces c_px c_py c_pz c_placeMany c_modulus c_drawn c_halvesMany c_halvesFirst c_spreadsMany c_spreadsFirst c_comesTo c_seedNow c_rowThen c_hasImage c_actsThen c_imageRow c_pastThen c_statusThen) := by
  rw [F_X3_refused] at h
  refine MW.start hG (by decide) (Nat.le_of_ble_eq_true rfl) ?_
  intro p e s m args below meth c Q A S hW0 hK hP hD hA hreti hretv ls hl
  have hS : va_S A s.heap s.heap [] := va_S.rf
  obtain ⟨hx, hb, hml, hown, hts⟩ := id S
  have hl : lv_has ls 1 [(0, .ref h0)] := hl
  refine lv_aload_n hx hb dX3_refused_0 rfl (lv_at hl 0 rfl) ?_
  obtain ⟨y1, e1, h⟩ := ob_s h
  refine MW.callV (q0 := 0) (M_X3_refuse hG e1) S (cw_X3_refuse hts q2146 ⟨Nat.le_of_ble_eq_true rfl, Nat.le_of_ble_eq_true rfl⟩) hW0 hK hP hD hS hA rfl rfl rfl hl.1 rfl (Nat.le_of_ble_eq_true rfl) dX3_refused_1 ⟨Nat.zero_le _, Nat.zero_le _⟩ (fun H locs hP hD hS => ?_)
  have hP : va_P G.2.1 vwCl (mW h0 ad G.2.2 c_code c_now c_read y1.2 c_tape c_taped c_at c_textSize c_token c_number c_begins c_stops c_bad c_badPlace c_faultPlace c_clauses c_naming c_lineBy c_becomes c_dualLines c_on c_rowNow c_least c_wayFirst c_ways c_acts c_past c_listPoints c_listLines c_listed c_list c_path c_places c_firstPlaces c_px c_py c_pz c_placeMany c_modulus c_drawn c_halvesMany c_halvesFirst c_spreadsMany c_spreadsFirst c_comesTo c_seedNow c_rowThen c_hasImage c_actsThen c_imageRow c_pastThen c_statusThen) H := hP
  have hD : va_D A (mW h0 ad G.2.2 c_code c_now c_read y1.2 c_tape c_taped c_at c_textSize c_token c_number c_begins c_stops c_bad c_badPlace c_faultPlace c_clauses c_naming c_lineBy c_becomes c_dualLines c_on c_rowNow c_least c_wayFirst c_ways c_acts c_past c_listPoints c_listLines c_listed c_list c_path c_places c_firstPlaces c_px c_py c_pz c_placeMany c_modulus c_drawn c_halvesMany c_halvesFirst c_spreadsMany c_spreadsFirst c_comesTo c_seedNow c_rowThen c_hasImage c_actsThen c_imageRow c_pastThen c_statusThen) := hD
  refine W.eq (g2 := F0 m 4 ls [.int y1.1]) rfl ?_
  refine lv_if_lt (tgt := 11) hx hb dX3_refused_4 (by decide) (fun c2 => ?_) (fun c2 => ?_)
  · rw [if_pos c2] at h
    refine lv_iconst (v := 0) hx hb dX3_refused_11 (by decide) ?_
    obtain rfl := Option.some.inj h
    exact hreti rfl dX3_refused_12 rfl rfl hP hD hS
  · rw [if_neg c2] at h
    refine lv_iconst (v := 1) hx hb dX3_refused_7 (by decide) ?_
    refine lv_goto (tgt := 12) hx hb dX3_refused_8 (by decide) ?_
    obtain rfl := Option.some.inj h
    exact hreti rfl dX3_refused_12 rfl rfl hP hD hS
def F_X3_swapAt (N : Nat) (v1 : Int32) (v2 : Int32) (c_now : (Nat → Int32)) : Option ((Nat → Int32)) := (ckI v1 154 (ckI v2 154 (ckI v1 154 (ckI v2 154 (some ((upd (upd c_now (Int32.toNatClampNeg v1) (c_now (Int32.toNatClampNeg v2))) (Int32.toNatClampNeg v2) (c_now (Int32.toNatClampNeg v1)))))))))
theorem cw_X3_swapAt {R : Room} {s : State} {args : Array Value} {own : String} {index lev mc ms : Nat} (hts : ∀ w ∈ lw_all, w.before args s = true) (hl : Cond.methodLink own index yX3_swapAt ∈ lw_all) (hR : (rmL lev mc ms).frames + 1 ≤ R.frames ∧ 8 + (4 + 11) + (rmL lev mc ms).locals ≤ R.locals) : CallW R s args own RX3 index yX3_swapAt cX3_swapAt 4 none (ws_ yX3_swapAt cX3_swapAt 4 none) (rmL lev mc ms) mc ms 2 := cwV 2 hts (lw_V hl q2176 qs133 q172 q2177) rfl rfl rfl (by decide +kernel) hR
set_option maxHeartbeats 4000000 in
theorem M_X3_swapAt {l : Launch} {G : GE} (hG : GC G) {N : Nat} {h0 : Nat} {ad : Nat → Nat} {c_code : Int32} {c_read : (Nat → Int32)} {c_status : (Nat → Int32)} {c_tape : (Nat → Int32)} {c_taped : Int32} {c_at : Int32} {c_textSize : Int32} {c_token : Int32} {c_number : Int32} {c_begins : Int32} {c_stops : Int32} {c_bad : Int32} {c_badPlace : Int32} {c_faultPlace : Int32} {c_clauses : Int32} {c_naming : (Nat → Int32)} {c_lineBy : (Nat → Int32)} {c_becomes : (Nat → Int32)} {c_dualLines : (Nat → Int32)} {c_on : (Nat → Int32)} {c_rowNow : (Nat → Int32)} {c_least : (Nat → Int32)} {c_wayFirst : (Nat → Int32)} {c_ways : Int32} {c_acts : Int32} {c_past : (Nat → Int32)} {c_listPoints : Int32} {c_listLines : Int32} {c_listed : Int32} {c_list : (Nat → Int32)} {c_path : (Nat → Int32)} {c_places : (Nat → Int32)} {c_firstPlaces : (Nat → Int32)} {c_px : (Nat → Int32)} {c_py : (Nat → Int32)} {c_pz : (Nat → Int32)} {c_placeMany : Int32} {c_modulus : Int32} {c_drawn : Int32} {c_halvesMany : Int32} {c_halvesFirst : Int32} {c_spreadsMany : Int32} {c_spreadsFirst : Int32} {c_comesTo : (Nat → Int32)} {c_seedNow : Int32} {c_rowThen : (Nat → Int32)} {c_hasImage : Int32} {c_actsThen : Int32} {c_imageRow : (Nat → Int32)} {c_pastThen : (Nat → Int32)} {c_statusThen : (Nat → Int32)} {v1 : Int32} {v2 : Int32} {c_now : (Nat → Int32)} {ρ : ((Nat → Int32))} (h : F_X3_swapAt N v1 v2 c_now = some ρ) : MW l G yX3_swapAt cX3_swapAt 4 none 1 (mW h0 ad G.2.2 c_code c_now c_read c_status c_tape c_taped c_at c_textSize c_token c_number c_begins c_stops c_bad c_badPlace c_faultPlace c_clauses c_naming c_lineBy c_becomes c_dualLines c_on c_rowNow c_least c_wayFirst c_ways c_acts c_past c_listPoints c_listLines c_listed c_list c_path c_places c_firstPlaces c_px c_py c_pz c_placeMany c_modulus c_drawn c_halvesMany c_halvesFirst c_spreadsMany c_spreadsFirst c_comesTo c_seedNow c_rowThen c_hasImage c_actsThen c_imageRow c_pastThen c_statusThen) [.ref h0, .int v1, .int v2] none (mW h0 ad G.2.2 c_code ρ c_read c_status c_tape c_taped c_at c_textSize c_token c_number c_begins c_stops c_bad c_badPlace c_faultPlace c_clauses c_naming c_lineBy c_becomes c_dualLines c_on c_rowNow c_least c_wayFirst c_ways c_acts c_past c_listPoints c_listLines c_listed c_list c_path c_places c_firstPlaces c_px c_py c_pz c_placeMany c_modulus c_drawn c_halvesMany c_halvesFirst c_spreadsMany c_spreadsFirst c_comesTo c_seedNow c_rowThen c_hasImage c_actsThen c_imageRow c_pastThen c_statusThen) := by
  rw [F_X3_swapAt] at h
  refine MW.start hG (by decide) (Nat.le_of_ble_eq_true rfl) ?_
  intro p e s m args below meth c Q A S hW0 hK hP hD hA hreti hretv ls hl
  have hS : va_S A s.heap s.heap [] := va_S.rf
  obtain ⟨hx, hb, hml, hown, hts⟩ := id S
  have hl : lv_has ls 4 [(0, .ref h0), (1, .int v1), (2, .int v2)] := hl
  refine lv_aload_n hx hb dX3_swapAt_0 rfl (lv_at hl 0 rfl) ?_
  refine va_get (ci := 2) (v := .ref (ad 1)) (C := RX3) (T := TX3) (N := 52) hx hb hts in_X3 hown hK hP 0 rfl rfl 1 (by decide) (hts _ q1659) (fun _ h9 => h9) rfl dX3_swapAt_1 ?_
  refine lv_iload_n hx hb dX3_swapAt_4 rfl (lv_at hl 1 rfl) ?_
  obtain ⟨i1, h⟩ := ckI_s h
  refine va_iald (f := c_now) hx hb hK hP 1 0 rfl rfl i1 dX3_swapAt_5 ?_
  refine lv_istore_n (lv' := [(3, .int (c_now (Int32.toNatClampNeg v1))), (0, .ref h0), (1, .int v1), (2, .int v2)]) hx hb dX3_swapAt_6 rfl hl (by decide) rfl (fun ls hl => ?_)
  refine lv_aload_n hx hb dX3_swapAt_7 rfl (lv_at hl 1 rfl) ?_
  refine va_get (ci := 2) (v := .ref (ad 1)) (C := RX3) (T := TX3) (N := 52) hx hb hts in_X3 hown hK hP 0 rfl rfl 1 (by decide) (hts _ q1659) (fun _ h9 => h9) rfl dX3_swapAt_8 ?_
  refine lv_iload_n hx hb dX3_swapAt_11 rfl (lv_at hl 2 rfl) ?_
  refine lv_aload_n hx hb dX3_swapAt_12 rfl (lv_at hl 1 rfl) ?_
  refine va_get (ci := 2) (v := .ref (ad 1)) (C := RX3) (T := TX3) (N := 52) hx hb hts in_X3 hown hK hP 0 rfl rfl 1 (by decide) (hts _ q1659) (fun _ h9 => h9) rfl dX3_swapAt_13 ?_
  refine lv_iload_n hx hb dX3_swapAt_16 rfl (lv_at hl 3 rfl) ?_
  obtain ⟨i2, h⟩ := ckI_s h
  refine va_iald (f := c_now) hx hb hK hP 1 0 rfl rfl i2 dX3_swapAt_17 ?_
  obtain ⟨i3, h⟩ := ckI_s h
  refine va_iast (f := c_now) hx hb hK hP hD hS 1 0 rfl rfl i3 dX3_swapAt_18 (fun H locs hP hD hS => ?_)
  have hP : va_P G.2.1 vwCl (mW h0 ad G.2.2 c_code (upd c_now (Int32.toNatClampNeg v1) (c_now (Int32.toNatClampNeg v2))) c_read c_status c_tape c_taped c_at c_textSize c_token c_number c_begins c_stops c_bad c_badPlace c_faultPlace c_clauses c_naming c_lineBy c_becomes c_dualLines c_on c_rowNow c_least c_wayFirst c_ways c_acts c_past c_listPoints c_listLines c_listed c_list c_path c_places c_firstPlaces c_px c_py c_pz c_placeMany c_modulus c_drawn c_halvesMany c_halvesFirst c_spreadsMany c_spreadsFirst c_comesTo c_seedNow c_rowThen c_hasImage c_actsThen c_imageRow c_pastThen c_statusThen) H := hP
  have hD : va_D A (mW h0 ad G.2.2 c_code (upd c_now (Int32.toNatClampNeg v1) (c_now (Int32.toNatClampNeg v2))) c_read c_status c_tape c_taped c_at c_textSize c_token c_number c_begins c_stops c_bad c_badPlace c_faultPlace c_clauses c_naming c_lineBy c_becomes c_dualLines c_on c_rowNow c_least c_wayFirst c_ways c_acts c_past c_listPoints c_listLines c_listed c_list c_path c_places c_firstPlaces c_px c_py c_pz c_placeMany c_modulus c_drawn c_halvesMany c_halvesFirst c_spreadsMany c_spreadsFirst c_comesTo c_seedNow c_rowThen c_hasImage c_actsThen c_imageRow c_pastThen c_statusThen) := hD
  refine lv_aload_n hx hb dX3_swapAt_19 rfl (lv_at hl 1 rfl) ?_
  refine va_get (ci := 2) (v := .ref (ad 1)) (C := RX3) (T := TX3) (N := 52) hx hb hts in_X3 hown hK hP 0 rfl rfl 1 (by decide) (hts _ q1659) (fun _ h9 => h9) rfl dX3_swapAt_20 ?_
  refine lv_iload_n hx hb dX3_swapAt_23 rfl (lv_at hl 3 rfl) ?_
  refine lv_iload_n hx hb dX3_swapAt_24 rfl (lv_at hl 0 rfl) ?_
  obtain ⟨i4, h⟩ := ckI_s h
  refine va_iast (f := (upd c_now (Int32.toNatClampNeg v1) (c_now (Int32.toNatClampNeg v2)))) hx hb hK hP hD hS 1 0 rfl rfl i4 dX3_swapAt_25 (fun H locs hP hD hS => ?_)
  have hP : va_P G.2.1 vwCl (mW h0 ad G.2.2 c_code (upd (upd c_now (Int32.toNatClampNeg v1) (c_now (Int32.toNatClampNeg v2))) (Int32.toNatClampNeg v2) (c_now (Int32.toNatClampNeg v1))) c_read c_status c_tape c_taped c_at c_textSize c_token c_number c_begins c_stops c_bad c_badPlace c_faultPlace c_clauses c_naming c_lineBy c_becomes c_dualLines c_on c_rowNow c_least c_wayFirst c_ways c_acts c_past c_listPoints c_listLines c_listed c_list c_path c_places c_firstPlaces c_px c_py c_pz c_placeMany c_modulus c_drawn c_halvesMany c_halvesFirst c_spreadsMany c_spreadsFirst c_comesTo c_seedNow c_rowThen c_hasImage c_actsThen c_imageRow c_pastThen c_statusThen) H := hP
  have hD : va_D A (mW h0 ad G.2.2 c_code (upd (upd c_now (Int32.toNatClampNeg v1) (c_now (Int32.toNatClampNeg v2))) (Int32.toNatClampNeg v2) (c_now (Int32.toNatClampNeg v1))) c_read c_status c_tape c_taped c_at c_textSize c_token c_number c_begins c_stops c_bad c_badPlace c_faultPlace c_clauses c_naming c_lineBy c_becomes c_dualLines c_on c_rowNow c_least c_wayFirst c_ways c_acts c_past c_listPoints c_listLines c_listed c_list c_path c_places c_firstPlaces c_px c_py c_pz c_placeMany c_modulus c_drawn c_halvesMany c_halvesFirst c_spreadsMany c_spreadsFirst c_comesTo c_seedNow c_rowThen c_hasImage c_actsThen c_imageRow c_pastThen c_statusThen) := hD
  obtain rfl := Option.some.inj h
  exact hretv rfl dX3_swapAt_26 rfl hP hD hS
def F_X3_swap_51 (N : Nat) (c_naming : (Nat → Int32)) : Nat → Int32 → (Nat → Int32) → ((Nat → Int32) → Option (Int32 × (Nat → Int32) × (Nat → Int32) × (Nat → Int32) × (Nat → Int32) × Int32 × Int32)) → Option (Int32 × (Nat → Int32) × (Nat → Int32) × (Nat → Int32) × (Nat → Int32) × Int32 × Int32)
  | 0, _, _, _ => none
  | n + 1, v3, c_now, k82 => ((F_X3_lines N c_now).bind fun y16 => (if y16 ≤ v3 then (k82 c_now) else ((F_X3_lineAt N v3 c_now).bind fun y18 => ((F_X3_named N y18 c_naming).bind fun y19 => (ckI ((2 : Int32) + v3) 154 (F_X3_swap_51 N c_naming n (v3 + 1) (upd c_now (Int32.toNatClampNeg ((2 : Int32) + v3)) y19) k82))))))
def F_X3_swap (N : Nat) (v1 : Int32) (v2 : Int32) (c_now : (Nat → Int32)) (c_status : (Nat → Int32)) (c_naming : (Nat → Int32)) (c_past : (Nat → Int32)) (c_code : Int32) (c_acts : Int32) : Option (Int32 × (Nat → Int32) × (Nat → Int32) × (Nat → Int32) × (Nat → Int32) × Int32 × Int32) := ((F_X3_isPoint N v1 c_now).bind fun y1 => (if y1 = 0 then ((F_X3_refused N c_status).bind fun y3 => (ckP (y3.1 &&& 1 = y3.1) ((some (y3.1, c_now, y3.2, c_naming, c_past, 0, c_acts))))) else ((F_X3_isPoint N v2 c_now).bind fun y6 => (if y6 = 0 then ((F_X3_refused N c_status).bind fun y8 => (ckP (y8.1 &&& 1 = y8.1) ((some (y8.1, c_now, y8.2, c_naming, c_past, 0, c_acts))))) else (if v1 = v2 then ((F_X3_refused N c_status).bind fun y25 => (ckP (y25.1 &&& 1 = y25.1) ((some (y25.1, c_now, y25.2, c_naming, c_past, 0, c_acts))))) else ((F_X3_keep N c_now c_past c_acts).bind fun y12 => ((F_X3_points N c_now).bind fun y13 => ((F_X3_beginNaming N y13 c_naming).bind fun y14 => ((F_X3_exchange N v1 v2 y14).bind fun y15 => (F_X3_swap_51 N y15 N 0 c_now (fun c_now_21 => ((F_X3_swapAt N ((14 : Int32) + v1) ((14 : Int32) + v2) c_now_21).bind fun y22 => ((F_X3_swapAt N ((22 : Int32) + v1) ((22 : Int32) + v2) y22).bind fun y23 => (some (1, y23, c_status, y15, y12.1, 0, y12.2)))))))))))))))
theorem cw_X3_swap {R : Room} {s : State} {args : Array Value} {own : String} {index lev mc ms : Nat} (hts : ∀ w ∈ lw_all, w.before args s = true) (hl : Cond.methodLink own index yX3_swap ∈ lw_all) (hR : (rmL lev mc ms).frames + 1 ≤ R.frames ∧ 8 + (4 + 11) + (rmL lev mc ms).locals ≤ R.locals) : CallW R s args own RX3 index yX3_swap cX3_swap 4 (some .boolean) (ws_ yX3_swap cX3_swap 4 (some .boolean)) (rmL lev mc ms) mc ms 2 := cwV 2 hts (lw_V hl q2167 q2168 q172 q2169) rfl rfl rfl (by decide +kernel) hR
set_option maxHeartbeats 4000000 in
theorem M_X3_swap {l : Launch} {G : GE} (hG : GC G) {N : Nat} {h0 : Nat} {ad : Nat → Nat} {c_read : (Nat → Int32)} {c_tape : (Nat → Int32)} {c_taped : Int32} {c_at : Int32} {c_textSize : Int32} {c_token : Int32} {c_number : Int32} {c_begins : Int32} {c_stops : Int32} {c_bad : Int32} {c_badPlace : Int32} {c_faultPlace : Int32} {c_clauses : Int32} {c_lineBy : (Nat → Int32)} {c_becomes : (Nat → Int32)} {c_dualLines : (Nat → Int32)} {c_on : (Nat → Int32)} {c_rowNow : (Nat → Int32)} {c_least : (Nat → Int32)} {c_wayFirst : (Nat → Int32)} {c_ways : Int32} {c_listPoints : Int32} {c_listLines : Int32} {c_listed : Int32} {c_list : (Nat → Int32)} {c_path : (Nat → Int32)} {c_places : (Nat → Int32)} {c_firstPlaces : (Nat → Int32)} {c_px : (Nat → Int32)} {c_py : (Nat → Int32)} {c_pz : (Nat → Int32)} {c_placeMany : Int32} {c_modulus : Int32} {c_drawn : Int32} {c_halvesMany : Int32} {c_halvesFirst : Int32} {c_spreadsMany : Int32} {c_spreadsFirst : Int32} {c_comesTo : (Nat → Int32)} {c_seedNow : Int32} {c_rowThen : (Nat → Int32)} {c_hasImage : Int32} {c_actsThen : Int32} {c_imageRow : (Nat → Int32)} {c_pastThen : (Nat → Int32)} {c_statusThen : (Nat → Int32)} {v1 : Int32} {v2 : Int32} {c_now : (Nat → Int32)} {c_status : (Nat → Int32)} {c_naming : (Nat → Int32)} {c_past : (Nat → Int32)} {c_code : Int32} {c_acts : Int32} {ρ : (Int32 × (Nat → Int32) × (Nat → Int32) × (Nat → Int32) × (Nat → Int32) × Int32 × Int32)} (h : F_X3_swap N v1 v2 c_now c_status c_naming c_past c_code c_acts = some ρ) : MW l G yX3_swap cX3_swap 4 (some .boolean) 3 (mW h0 ad G.2.2 c_code c_now c_read c_status c_tape c_taped c_at c_textSize c_token c_number c_begins c_stops c_bad c_badPlace c_faultPlace c_clauses c_naming c_lineBy c_becomes c_dualLines c_on c_rowNow c_least c_wayFirst c_ways c_acts c_past c_listPoints c_listLines c_listed c_list c_path c_places c_firstPlaces c_px c_py c_pz c_placeMany c_modulus c_drawn c_halvesMany c_halvesFirst c_spreadsMany c_spreadsFirst c_comesTo c_seedNow c_rowThen c_hasImage c_actsThen c_imageRow c_pastThen c_statusThen) [.ref h0, .int v1, .int v2] (some (.int ρ.1)) (mW h0 ad G.2.2 ρ.2.2.2.2.2.1 ρ.2.1 c_read ρ.2.2.1 c_tape c_taped c_at c_textSize c_token c_number c_begins c_stops c_bad c_badPlace c_faultPlace c_clauses ρ.2.2.2.1 c_lineBy c_becomes c_dualLines c_on c_rowNow c_least c_wayFirst c_ways ρ.2.2.2.2.2.2 ρ.2.2.2.2.1 c_listPoints c_listLines c_listed c_list c_path c_places c_firstPlaces c_px c_py c_pz c_placeMany c_modulus c_drawn c_halvesMany c_halvesFirst c_spreadsMany c_spreadsFirst c_comesTo c_seedNow c_rowThen c_hasImage c_actsThen c_imageRow c_pastThen c_statusThen) := by
  rw [F_X3_swap] at h
  refine MW.start hG (by decide) (Nat.le_of_ble_eq_true rfl) ?_
  intro p e s m args below meth c Q A S hW0 hK hP hD hA hreti hretv ls hl
  have hS : va_S A s.heap s.heap [] := va_S.rf
  obtain ⟨hx, hb, hml, hown, hts⟩ := id S
  have hl : lv_has ls 4 [(0, .ref h0), (1, .int v1), (2, .int v2)] := hl
  have S_X3_swap_51 : ∀ (n : Nat) (v1 : Int32) (v2 : Int32) (v3 : Int32) (c_now : (Nat → Int32)) (c_status : (Nat → Int32)) (c_naming : (Nat → Int32)) (c_past : (Nat → Int32)) (c_code : Int32) (c_acts : Int32) (k82 : (Nat → Int32) → Option (Int32 × (Nat → Int32) × (Nat → Int32) × (Nat → Int32) × (Nat → Int32) × Int32 × Int32)), F_X3_swap_51 N c_naming n v3 c_now k82 = some ρ → (∀ (z_c_now : (Nat → Int32)) (H : Heap) (locs : List Loc) (ls : Array Slot), k82 z_c_now = some ρ → va_P G.2.1 vwCl (mW h0 ad G.2.2 c_code z_c_now c_read c_status c_tape c_taped c_at c_textSize c_token c_number c_begins c_stops c_bad c_badPlace c_faultPlace c_clauses c_naming c_lineBy c_becomes c_dualLines c_on c_rowNow c_least c_wayFirst c_ways c_acts c_past c_listPoints c_listLines c_listed c_list c_path c_places c_firstPlaces c_px c_py c_pz c_placeMany c_modulus c_drawn c_halvesMany c_halvesFirst c_spreadsMany c_spreadsFirst c_comesTo c_seedNow c_rowThen c_hasImage c_actsThen c_imageRow c_pastThen c_statusThen) H → va_D A (mW h0 ad G.2.2 c_code z_c_now c_read c_status c_tape c_taped c_at c_textSize c_token c_number c_begins c_stops c_bad c_badPlace c_faultPlace c_clauses c_naming c_lineBy c_becomes c_dualLines c_on c_rowNow c_least c_wayFirst c_ways c_acts c_past c_listPoints c_listLines c_listed c_list c_path c_places c_firstPlaces c_px c_py c_pz c_placeMany c_modulus c_drawn c_halvesMany c_halvesFirst c_spreadsMany c_spreadsFirst c_comesTo c_seedNow c_rowThen c_hasImage c_actsThen c_imageRow c_pastThen c_statusThen) → va_S A s.heap H locs → lv_has ls 4 [(0, .ref h0), (1, .int v1), (2, .int v2)] → W p l e (rmL 3 0 0) s m args below meth c H locs 0 0 Q (F0 m 82 ls [])) → ∀ (H : Heap) (locs : List Loc), va_P G.2.1 vwCl (mW h0 ad G.2.2 c_code c_now c_read c_status c_tape c_taped c_at c_textSize c_token c_number c_begins c_stops c_bad c_badPlace c_faultPlace c_clauses c_naming c_lineBy c_becomes c_dualLines c_on c_rowNow c_least c_wayFirst c_ways c_acts c_past c_listPoints c_listLines c_listed c_list c_path c_places c_firstPlaces c_px c_py c_pz c_placeMany c_modulus c_drawn c_halvesMany c_halvesFirst c_spreadsMany c_spreadsFirst c_comesTo c_seedNow c_rowThen c_hasImage c_actsThen c_imageRow c_pastThen c_statusThen) H → va_D A (mW h0 ad G.2.2 c_code c_now c_read c_status c_tape c_taped c_at c_textSize c_token c_number c_begins c_stops c_bad c_badPlace c_faultPlace c_clauses c_naming c_lineBy c_becomes c_dualLines c_on c_rowNow c_least c_wayFirst c_ways c_acts c_past c_listPoints c_listLines c_listed c_list c_path c_places c_firstPlaces c_px c_py c_pz c_placeMany c_modulus c_drawn c_halvesMany c_halvesFirst c_spreadsMany c_spreadsFirst c_comesTo c_seedNow c_rowThen c_hasImage c_actsThen c_imageRow c_pastThen c_statusThen) → va_S A s.heap H locs → ∀ (ls : Array Slot), lv_has ls 4 [(0, .ref h0), (1, .int v1), (2, .int v2), (3, .int v3)] → W p l e (rmL 3 0 0) s m args below meth c H locs 0 0 Q (F0 m 51 ls []) := by
    intro n
    induction n with
    | zero =>
      intro v1 v2 v3 c_now c_status c_naming c_past c_code c_acts k82 h
      exact absurd h (by simp [F_X3_swap_51])
    | succ n ih =>
      intro v1 v2 v3 c_now c_status c_naming c_past c_code c_acts k82 h hk82 H locs hP hD hS ls hl
      rw [F_X3_swap_51] at h
      refine lv_iload_n hx hb dX3_swap_51 rfl (lv_at hl 3 rfl) ?_
      refine lv_aload_n hx hb dX3_swap_52 rfl (lv_at hl 0 rfl) ?_
      obtain ⟨y16, e16, h⟩ := ob_s h
      refine MR.callV (q0 := 0) (M_X3_lines hG e16) S (cw_X3_lines hts q1917 ⟨Nat.le_of_ble_eq_true rfl, Nat.le_of_ble_eq_true rfl⟩) hW0 hK hP rfl rfl rfl hl.1 rfl (Nat.le_of_ble_eq_true rfl) dX3_swap_53 ⟨Nat.zero_le _, Nat.zero_le _⟩ ?_
      refine lv_icmp_ge (tgt := 82) hx hb dX3_swap_56 (by decide) (fun c17 => ?_) (fun c17 => ?_)
      · rw [if_pos c17] at h
        exact hk82 c_now _ _ _ h hP hD hS (lv_sub hl [0, 1, 2] rfl)
      · rw [if_neg c17] at h
        refine lv_aload_n hx hb dX3_swap_59 rfl (lv_at hl 0 rfl) ?_
        refine va_get (ci := 2) (v := .ref (ad 1)) (C := RX3) (T := TX3) (N := 52) hx hb hts in_X3 hown hK hP 0 rfl rfl 1 (by decide) (hts _ q1659) (fun _ h9 => h9) rfl dX3_swap_60 ?_
        refine lv_iconst (v := 2) hx hb dX3_swap_63 (by decide) ?_
        refine lv_iload_n hx hb dX3_swap_64 rfl (lv_at hl 3 rfl) ?_
        refine lv_iadd hx hb dX3_swap_65 ?_
        refine lv_aload_n hx hb dX3_swap_66 rfl (lv_at hl 0 rfl) ?_
        refine lv_aload_n hx hb dX3_swap_67 rfl (lv_at hl 0 rfl) ?_
        refine lv_iload_n hx hb dX3_swap_68 rfl (lv_at hl 3 rfl) ?_
        obtain ⟨y18, e18, h⟩ := ob_s h
        refine MR.callV (q0 := 0) (M_X3_lineAt hG e18) S (cw_X3_lineAt hts q1925 ⟨Nat.le_of_ble_eq_true rfl, Nat.le_of_ble_eq_true rfl⟩) hW0 hK hP rfl rfl rfl hl.1 rfl (Nat.le_of_ble_eq_true rfl) dX3_swap_69 ⟨Nat.zero_le _, Nat.zero_le _⟩ ?_
        obtain ⟨y19, e19, h⟩ := ob_s h
        refine MR.callV (q0 := 0) (M_X3_named hG e19) S (cw_X3_named hts q1986 ⟨Nat.le_of_ble_eq_true rfl, Nat.le_of_ble_eq_true rfl⟩) hW0 hK hP rfl rfl rfl hl.1 rfl (Nat.le_of_ble_eq_true rfl) dX3_swap_72 ⟨Nat.zero_le _, Nat.zero_le _⟩ ?_
        obtain ⟨i20, h⟩ := ckI_s h
        refine va_iast (f := c_now) hx hb hK hP hD hS 1 0 rfl rfl i20 dX3_swap_75 (fun H locs hP hD hS => ?_)
        have hP : va_P G.2.1 vwCl (mW h0 ad G.2.2 c_code (upd c_now (Int32.toNatClampNeg ((2 : Int32) + v3)) y19) c_read c_status c_tape c_taped c_at c_textSize c_token c_number c_begins c_stops c_bad c_badPlace c_faultPlace c_clauses c_naming c_lineBy c_becomes c_dualLines c_on c_rowNow c_least c_wayFirst c_ways c_acts c_past c_listPoints c_listLines c_listed c_list c_path c_places c_firstPlaces c_px c_py c_pz c_placeMany c_modulus c_drawn c_halvesMany c_halvesFirst c_spreadsMany c_spreadsFirst c_comesTo c_seedNow c_rowThen c_hasImage c_actsThen c_imageRow c_pastThen c_statusThen) H := hP
        have hD : va_D A (mW h0 ad G.2.2 c_code (upd c_now (Int32.toNatClampNeg ((2 : Int32) + v3)) y19) c_read c_status c_tape c_taped c_at c_textSize c_token c_number c_begins c_stops c_bad c_badPlace c_faultPlace c_clauses c_naming c_lineBy c_becomes c_dualLines c_on c_rowNow c_least c_wayFirst c_ways c_acts c_past c_listPoints c_listLines c_listed c_list c_path c_places c_firstPlaces c_px c_py c_pz c_placeMany c_modulus c_drawn c_halvesMany c_halvesFirst c_spreadsMany c_spreadsFirst c_comesTo c_seedNow c_rowThen c_hasImage c_actsThen c_imageRow c_pastThen c_statusThen) := hD
        refine lv_iinc (v := (v3 + 1)) (lv' := [(3, .int (v3 + 1)), (0, .ref h0), (1, .int v1), (2, .int v2)]) hx hb dX3_swap_76 hl (k := 3) rfl rfl (by decide) rfl (fun ls hl => ?_)
        refine lv_goto (tgt := 51) hx hb dX3_swap_79 (by decide) ?_
        exact ih v1 v2 (v3 + 1) (upd c_now (Int32.toNatClampNeg ((2 : Int32) + v3)) y19) c_status c_naming c_past c_code c_acts _ h hk82 _ _ hP hD hS _ (lv_sub hl [1, 2, 3, 0] rfl)
  refine lv_aload_n hx hb dX3_swap_0 rfl (lv_at hl 0 rfl) ?_
  refine lv_iconst (v := 0) hx hb dX3_swap_1 (by decide) ?_
  refine va_put (ci := 2) (v := .int 0) (ty := .int) (C := RX3) (T := TX3) (N := 52) hx hb hts in_X3 tyX3 tyX3_ok nmX3 hown hK hP hD hS 0 rfl rfl 0 (by decide) (hts _ q1658) (fun _ h9 => h9) rfl (by decide +kernel) rfl rfl (Nat.le_of_ble_eq_true rfl) dX3_swap_2 (fun H locs hP hD hS => ?_)
  have hP : va_P G.2.1 vwCl (mW h0 ad G.2.2 0 c_now c_read c_status c_tape c_taped c_at c_textSize c_token c_number c_begins c_stops c_bad c_badPlace c_faultPlace c_clauses c_naming c_lineBy c_becomes c_dualLines c_on c_rowNow c_least c_wayFirst c_ways c_acts c_past c_listPoints c_listLines c_listed c_list c_path c_places c_firstPlaces c_px c_py c_pz c_placeMany c_modulus c_drawn c_halvesMany c_halvesFirst c_spreadsMany c_spreadsFirst c_comesTo c_seedNow c_rowThen c_hasImage c_actsThen c_imageRow c_pastThen c_statusThen) H := hP
  have hD : va_D A (mW h0 ad G.2.2 0 c_now c_read c_status c_tape c_taped c_at c_textSize c_token c_number c_begins c_stops c_bad c_badPlace c_faultPlace c_clauses c_naming c_lineBy c_becomes c_dualLines c_on c_rowNow c_least c_wayFirst c_ways c_acts c_past c_listPoints c_listLines c_listed c_list c_path c_places c_firstPlaces c_px c_py c_pz c_placeMany c_modulus c_drawn c_halvesMany c_halvesFirst c_spreadsMany c_spreadsFirst c_comesTo c_seedNow c_rowThen c_hasImage c_actsThen c_imageRow c_pastThen c_statusThen) := hD
  refine lv_aload_n hx hb dX3_swap_5 rfl (lv_at hl 0 rfl) ?_
  refine lv_iload_n hx hb dX3_swap_6 rfl (lv_at hl 1 rfl) ?_
  obtain ⟨y1, e1, h⟩ := ob_s h
  refine MR.callV (q0 := 0) (M_X3_isPoint hG e1) S (cw_X3_isPoint hts q2068 ⟨Nat.le_of_ble_eq_true rfl, Nat.le_of_ble_eq_true rfl⟩) hW0 hK hP rfl rfl rfl hl.1 rfl (Nat.le_of_ble_eq_true rfl) dX3_swap_7 ⟨Nat.zero_le _, Nat.zero_le _⟩ ?_
  refine lv_if_eq (tgt := 26) hx hb dX3_swap_10 (by decide) (fun c2 => ?_) (fun c2 => ?_)
  · rw [if_pos c2] at h
    refine lv_aload_n hx hb dX3_swap_26 rfl (lv_at hl 0 rfl) ?_
    obtain ⟨y3, e3, h⟩ := ob_s h
    refine MW.callV (q0 := 0) (M_X3_refused hG e3) S (cw_X3_refused hts q2170 ⟨Nat.le_of_ble_eq_true rfl, Nat.le_of_ble_eq_true rfl⟩) hW0 hK hP hD hS hA rfl rfl rfl hl.1 rfl (Nat.le_of_ble_eq_true rfl) dX3_swap_27 ⟨Nat.zero_le _, Nat.zero_le _⟩ (fun H locs hP hD hS => ?_)
    have hP : va_P G.2.1 vwCl (mW h0 ad G.2.2 0 c_now c_read y3.2 c_tape c_taped c_at c_textSize c_token c_number c_begins c_stops c_bad c_badPlace c_faultPlace c_clauses c_naming c_lineBy c_becomes c_dualLines c_on c_rowNow c_least c_wayFirst c_ways c_acts c_past c_listPoints c_listLines c_listed c_list c_path c_places c_firstPlaces c_px c_py c_pz c_placeMany c_modulus c_drawn c_halvesMany c_halvesFirst c_spreadsMany c_spreadsFirst c_comesTo c_seedNow c_rowThen c_hasImage c_actsThen c_imageRow c_pastThen c_statusThen) H := hP
    have hD : va_D A (mW h0 ad G.2.2 0 c_now c_read y3.2 c_tape c_taped c_at c_textSize c_token c_number c_begins c_stops c_bad c_badPlace c_faultPlace c_clauses c_naming c_lineBy c_becomes c_dualLines c_on c_rowNow c_least c_wayFirst c_ways c_acts c_past c_listPoints c_listLines c_listed c_list c_path c_places c_firstPlaces c_px c_py c_pz c_placeMany c_modulus c_drawn c_halvesMany c_halvesFirst c_spreadsMany c_spreadsFirst c_comesTo c_seedNow c_rowThen c_hasImage c_actsThen c_imageRow c_pastThen c_statusThen) := hD
    refine W.eq (g2 := F0 m 30 ls [.int y3.1]) rfl ?_
    obtain ⟨i5, h⟩ := ckP_s h
    obtain rfl := Option.some.inj h
    exact hreti rfl dX3_swap_30 (nz_of i5) rfl hP hD hS
  · rw [if_neg c2] at h
    refine lv_aload_n hx hb dX3_swap_13 rfl (lv_at hl 0 rfl) ?_
    refine lv_iload_n hx hb dX3_swap_14 rfl (lv_at hl 2 rfl) ?_
    obtain ⟨y6, e6, h⟩ := ob_s h
    refine MR.callV (q0 := 0) (M_X3_isPoint hG e6) S (cw_X3_isPoint hts q2068 ⟨Nat.le_of_ble_eq_true rfl, Nat.le_of_ble_eq_true rfl⟩) hW0 hK hP rfl rfl rfl hl.1 rfl (Nat.le_of_ble_eq_true rfl) dX3_swap_15 ⟨Nat.zero_le _, Nat.zero_le _⟩ ?_
    refine lv_if_eq (tgt := 26) hx hb dX3_swap_18 (by decide) (fun c7 => ?_) (fun c7 => ?_)
    · rw [if_pos c7] at h
      refine lv_aload_n hx hb dX3_swap_26 rfl (lv_at hl 0 rfl) ?_
      obtain ⟨y8, e8, h⟩ := ob_s h
      refine MW.callV (q0 := 0) (M_X3_refused hG e8) S (cw_X3_refused hts q2170 ⟨Nat.le_of_ble_eq_true rfl, Nat.le_of_ble_eq_true rfl⟩) hW0 hK hP hD hS hA rfl rfl rfl hl.1 rfl (Nat.le_of_ble_eq_true rfl) dX3_swap_27 ⟨Nat.zero_le _, Nat.zero_le _⟩ (fun H locs hP hD hS => ?_)
      have hP : va_P G.2.1 vwCl (mW h0 ad G.2.2 0 c_now c_read y8.2 c_tape c_taped c_at c_textSize c_token c_number c_begins c_stops c_bad c_badPlace c_faultPlace c_clauses c_naming c_lineBy c_becomes c_dualLines c_on c_rowNow c_least c_wayFirst c_ways c_acts c_past c_listPoints c_listLines c_listed c_list c_path c_places c_firstPlaces c_px c_py c_pz c_placeMany c_modulus c_drawn c_halvesMany c_halvesFirst c_spreadsMany c_spreadsFirst c_comesTo c_seedNow c_rowThen c_hasImage c_actsThen c_imageRow c_pastThen c_statusThen) H := hP
      have hD : va_D A (mW h0 ad G.2.2 0 c_now c_read y8.2 c_tape c_taped c_at c_textSize c_token c_number c_begins c_stops c_bad c_badPlace c_faultPlace c_clauses c_naming c_lineBy c_becomes c_dualLines c_on c_rowNow c_least c_wayFirst c_ways c_acts c_past c_listPoints c_listLines c_listed c_list c_path c_places c_firstPlaces c_px c_py c_pz c_placeMany c_modulus c_drawn c_halvesMany c_halvesFirst c_spreadsMany c_spreadsFirst c_comesTo c_seedNow c_rowThen c_hasImage c_actsThen c_imageRow c_pastThen c_statusThen) := hD
      refine W.eq (g2 := F0 m 30 ls [.int y8.1]) rfl ?_
      obtain ⟨i10, h⟩ := ckP_s h
      obtain rfl := Option.some.inj h
      exact hreti rfl dX3_swap_30 (nz_of i10) rfl hP hD hS
    · rw [if_neg c7] at h
      refine lv_iload_n hx hb dX3_swap_21 rfl (lv_at hl 1 rfl) ?_
      refine lv_iload_n hx hb dX3_swap_22 rfl (lv_at hl 2 rfl) ?_
      refine lv_icmp_ne (tgt := 31) hx hb dX3_swap_23 (by decide) (fun c11 => ?_) (fun c11 => ?_)
      · rw [if_neg c11] at h
        refine lv_aload_n hx hb dX3_swap_31 rfl (lv_at hl 0 rfl) ?_
        obtain ⟨y12, e12, h⟩ := ob_s h
        refine MW.callV (q0 := 0) (M_X3_keep hG e12) S (cw_X3_keep hts q2150 ⟨Nat.le_of_ble_eq_true rfl, Nat.le_of_ble_eq_true rfl⟩) hW0 hK hP hD hS hA rfl rfl rfl hl.1 rfl (Nat.le_of_ble_eq_true rfl) dX3_swap_32 ⟨Nat.zero_le _, Nat.zero_le _⟩ (fun H locs hP hD hS => ?_)
        have hP : va_P G.2.1 vwCl (mW h0 ad G.2.2 0 c_now c_read c_status c_tape c_taped c_at c_textSize c_token c_number c_begins c_stops c_bad c_badPlace c_faultPlace c_clauses c_naming c_lineBy c_becomes c_dualLines c_on c_rowNow c_least c_wayFirst c_ways y12.2 y12.1 c_listPoints c_listLines c_listed c_list c_path c_places c_firstPlaces c_px c_py c_pz c_placeMany c_modulus c_drawn c_halvesMany c_halvesFirst c_spreadsMany c_spreadsFirst c_comesTo c_seedNow c_rowThen c_hasImage c_actsThen c_imageRow c_pastThen c_statusThen) H := hP
        have hD : va_D A (mW h0 ad G.2.2 0 c_now c_read c_status c_tape c_taped c_at c_textSize c_token c_number c_begins c_stops c_bad c_badPlace c_faultPlace c_clauses c_naming c_lineBy c_becomes c_dualLines c_on c_rowNow c_least c_wayFirst c_ways y12.2 y12.1 c_listPoints c_listLines c_listed c_list c_path c_places c_firstPlaces c_px c_py c_pz c_placeMany c_modulus c_drawn c_halvesMany c_halvesFirst c_spreadsMany c_spreadsFirst c_comesTo c_seedNow c_rowThen c_hasImage c_actsThen c_imageRow c_pastThen c_statusThen) := hD
        refine W.eq (g2 := F0 m 35 ls []) rfl ?_
        refine lv_aload_n hx hb dX3_swap_35 rfl (lv_at hl 0 rfl) ?_
        refine lv_aload_n hx hb dX3_swap_36 rfl (lv_at hl 0 rfl) ?_
        obtain ⟨y13, e13, h⟩ := ob_s h
        refine MR.callV (q0 := 0) (M_X3_points hG e13) S (cw_X3_points hts q1913 ⟨Nat.le_of_ble_eq_true rfl, Nat.le_of_ble_eq_true rfl⟩) hW0 hK hP rfl rfl rfl hl.1 rfl (Nat.le_of_ble_eq_true rfl) dX3_swap_37 ⟨Nat.zero_le _, Nat.zero_le _⟩ ?_
        obtain ⟨y14, e14, h⟩ := ob_s h
        refine MW.callV (q0 := 0) (M_X3_beginNaming hG e14) S (cw_X3_beginNaming hts q1978 ⟨Nat.le_of_ble_eq_true rfl, Nat.le_of_ble_eq_true rfl⟩) hW0 hK hP hD hS hA rfl rfl rfl hl.1 rfl (Nat.le_of_ble_eq_true rfl) dX3_swap_40 ⟨Nat.zero_le _, Nat.zero_le _⟩ (fun H locs hP hD hS => ?_)
        have hP : va_P G.2.1 vwCl (mW h0 ad G.2.2 0 c_now c_read c_status c_tape c_taped c_at c_textSize c_token c_number c_begins c_stops c_bad c_badPlace c_faultPlace c_clauses y14 c_lineBy c_becomes c_dualLines c_on c_rowNow c_least c_wayFirst c_ways y12.2 y12.1 c_listPoints c_listLines c_listed c_list c_path c_places c_firstPlaces c_px c_py c_pz c_placeMany c_modulus c_drawn c_halvesMany c_halvesFirst c_spreadsMany c_spreadsFirst c_comesTo c_seedNow c_rowThen c_hasImage c_actsThen c_imageRow c_pastThen c_statusThen) H := hP
        have hD : va_D A (mW h0 ad G.2.2 0 c_now c_read c_status c_tape c_taped c_at c_textSize c_token c_number c_begins c_stops c_bad c_badPlace c_faultPlace c_clauses y14 c_lineBy c_becomes c_dualLines c_on c_rowNow c_least c_wayFirst c_ways y12.2 y12.1 c_listPoints c_listLines c_listed c_list c_path c_places c_firstPlaces c_px c_py c_pz c_placeMany c_modulus c_drawn c_halvesMany c_halvesFirst c_spreadsMany c_spreadsFirst c_comesTo c_seedNow c_rowThen c_hasImage c_actsThen c_imageRow c_pastThen c_statusThen) := hD
        refine W.eq (g2 := F0 m 43 ls []) rfl ?_
        refine lv_aload_n hx hb dX3_swap_43 rfl (lv_at hl 0 rfl) ?_
        refine lv_iload_n hx hb dX3_swap_44 rfl (lv_at hl 1 rfl) ?_
        refine lv_iload_n hx hb dX3_swap_45 rfl (lv_at hl 2 rfl) ?_
        obtain ⟨y15, e15, h⟩ := ob_s h
        refine MW.callV (q0 := 0) (M_X3_exchange hG e15) S (cw_X3_exchange hts q1994 ⟨Nat.le_of_ble_eq_true rfl, Nat.le_of_ble_eq_true rfl⟩) hW0 hK hP hD hS hA rfl rfl rfl hl.1 rfl (Nat.le_of_ble_eq_true rfl) dX3_swap_46 ⟨Nat.zero_le _, Nat.zero_le _⟩ (fun H locs hP hD hS => ?_)
        have hP : va_P G.2.1 vwCl (mW h0 ad G.2.2 0 c_now c_read c_status c_tape c_taped c_at c_textSize c_token c_number c_begins c_stops c_bad c_badPlace c_faultPlace c_clauses y15 c_lineBy c_becomes c_dualLines c_on c_rowNow c_least c_wayFirst c_ways y12.2 y12.1 c_listPoints c_listLines c_listed c_list c_path c_places c_firstPlaces c_px c_py c_pz c_placeMany c_modulus c_drawn c_halvesMany c_halvesFirst c_spreadsMany c_spreadsFirst c_comesTo c_seedNow c_rowThen c_hasImage c_actsThen c_imageRow c_pastThen c_statusThen) H := hP
        have hD : va_D A (mW h0 ad G.2.2 0 c_now c_read c_status c_tape c_taped c_at c_textSize c_token c_number c_begins c_stops c_bad c_badPlace c_faultPlace c_clauses y15 c_lineBy c_becomes c_dualLines c_on c_rowNow c_least c_wayFirst c_ways y12.2 y12.1 c_listPoints c_listLines c_listed c_list c_path c_places c_firstPlaces c_px c_py c_pz c_placeMany c_modulus c_drawn c_halvesMany c_halvesFirst c_spreadsMany c_spreadsFirst c_comesTo c_seedNow c_rowThen c_hasImage c_actsThen c_imageRow c_pastThen c_statusThen) := hD
        refine W.eq (g2 := F0 m 49 ls []) rfl ?_
        refine lv_iconst (v := 0) hx hb dX3_swap_49 (by decide) ?_
        refine lv_istore_n (lv' := [(3, .int 0), (0, .ref h0), (1, .int v1), (2, .int v2)]) hx hb dX3_swap_50 rfl hl (by decide) rfl (fun ls hl => ?_)
        refine S_X3_swap_51 N v1 v2 0 c_now c_status y15 y12.1 0 y12.2 _ h ?_ _ _ hP hD hS _ (lv_sub hl [1, 2, 3, 0] rfl)
        · intro c_now_21 H locs ls h hP hD hS hl
          refine lv_aload_n hx hb dX3_swap_82 rfl (lv_at hl 0 rfl) ?_
          refine lv_bipush (v := 14) hx hb dX3_swap_83 (by decide) ?_
          refine lv_iload_n hx hb dX3_swap_85 rfl (lv_at hl 1 rfl) ?_
          refine lv_iadd hx hb dX3_swap_86 ?_
          refine lv_bipush (v := 14) hx hb dX3_swap_87 (by decide) ?_
          refine lv_iload_n hx hb dX3_swap_89 rfl (lv_at hl 2 rfl) ?_
          refine lv_iadd hx hb dX3_swap_90 ?_
          obtain ⟨y22, e22, h⟩ := ob_s h
          refine MW.callV (q0 := 0) (M_X3_swapAt hG e22) S (cw_X3_swapAt hts q2174 ⟨Nat.le_of_ble_eq_true rfl, Nat.le_of_ble_eq_true rfl⟩) hW0 hK hP hD hS hA rfl rfl rfl hl.1 rfl (Nat.le_of_ble_eq_true rfl) dX3_swap_91 ⟨Nat.zero_le _, Nat.zero_le _⟩ (fun H locs hP hD hS => ?_)
          have hP : va_P G.2.1 vwCl (mW h0 ad G.2.2 0 y22 c_read c_status c_tape c_taped c_at c_textSize c_token c_number c_begins c_stops c_bad c_badPlace c_faultPlace c_clauses y15 c_lineBy c_becomes c_dualLines c_on c_rowNow c_least c_wayFirst c_ways y12.2 y12.1 c_listPoints c_listLines c_listed c_list c_path c_places c_firstPlaces c_px c_py c_pz c_placeMany c_modulus c_drawn c_halvesMany c_halvesFirst c_spreadsMany c_spreadsFirst c_comesTo c_seedNow c_rowThen c_hasImage c_actsThen c_imageRow c_pastThen c_statusThen) H := hP
          have hD : va_D A (mW h0 ad G.2.2 0 y22 c_read c_status c_tape c_taped c_at c_textSize c_token c_number c_begins c_stops c_bad c_badPlace c_faultPlace c_clauses y15 c_lineBy c_becomes c_dualLines c_on c_rowNow c_least c_wayFirst c_ways y12.2 y12.1 c_listPoints c_listLines c_listed c_list c_path c_places c_firstPlaces c_px c_py c_pz c_placeMany c_modulus c_drawn c_halvesMany c_halvesFirst c_spreadsMany c_spreadsFirst c_comesTo c_seedNow c_rowThen c_hasImage c_actsThen c_imageRow c_pastThen c_statusThen) := hD
          refine W.eq (g2 := F0 m 94 ls []) rfl ?_
          refine lv_aload_n hx hb dX3_swap_94 rfl (lv_at hl 0 rfl) ?_
          refine lv_bipush (v := 22) hx hb dX3_swap_95 (by decide) ?_
          refine lv_iload_n hx hb dX3_swap_97 rfl (lv_at hl 1 rfl) ?_
          refine lv_iadd hx hb dX3_swap_98 ?_
          refine lv_bipush (v := 22) hx hb dX3_swap_99 (by decide) ?_
          refine lv_iload_n hx hb dX3_swap_101 rfl (lv_at hl 2 rfl) ?_
          refine lv_iadd hx hb dX3_swap_102 ?_
          obtain ⟨y23, e23, h⟩ := ob_s h
          refine MW.callV (q0 := 0) (M_X3_swapAt hG e23) S (cw_X3_swapAt hts q2174 ⟨Nat.le_of_ble_eq_true rfl, Nat.le_of_ble_eq_true rfl⟩) hW0 hK hP hD hS hA rfl rfl rfl hl.1 rfl (Nat.le_of_ble_eq_true rfl) dX3_swap_103 ⟨Nat.zero_le _, Nat.zero_le _⟩ (fun H locs hP hD hS => ?_)
          have hP : va_P G.2.1 vwCl (mW h0 ad G.2.2 0 y23 c_read c_status c_tape c_taped c_at c_textSize c_token c_number c_begins c_stops c_bad c_badPlace c_faultPlace c_clauses y15 c_lineBy c_becomes c_dualLines c_on c_rowNow c_least c_wayFirst c_ways y12.2 y12.1 c_listPoints c_listLines c_listed c_list c_path c_places c_firstPlaces c_px c_py c_pz c_placeMany c_modulus c_drawn c_halvesMany c_halvesFirst c_spreadsMany c_spreadsFirst c_comesTo c_seedNow c_rowThen c_hasImage c_actsThen c_imageRow c_pastThen c_statusThen) H := hP
          have hD : va_D A (mW h0 ad G.2.2 0 y23 c_read c_status c_tape c_taped c_at c_textSize c_token c_number c_begins c_stops c_bad c_badPlace c_faultPlace c_clauses y15 c_lineBy c_becomes c_dualLines c_on c_rowNow c_least c_wayFirst c_ways y12.2 y12.1 c_listPoints c_listLines c_listed c_list c_path c_places c_firstPlaces c_px c_py c_pz c_placeMany c_modulus c_drawn c_halvesMany c_halvesFirst c_spreadsMany c_spreadsFirst c_comesTo c_seedNow c_rowThen c_hasImage c_actsThen c_imageRow c_pastThen c_statusThen) := hD
          refine W.eq (g2 := F0 m 106 ls []) rfl ?_
          refine lv_iconst (v := 1) hx hb dX3_swap_106 (by decide) ?_
          obtain rfl := Option.some.inj h
          exact hreti rfl dX3_swap_107 rfl rfl hP hD hS
      · rw [if_pos c11] at h
        refine lv_aload_n hx hb dX3_swap_26 rfl (lv_at hl 0 rfl) ?_
        obtain ⟨y25, e25, h⟩ := ob_s h
        refine MW.callV (q0 := 0) (M_X3_refused hG e25) S (cw_X3_refused hts q2170 ⟨Nat.le_of_ble_eq_true rfl, Nat.le_of_ble_eq_true rfl⟩) hW0 hK hP hD hS hA rfl rfl rfl hl.1 rfl (Nat.le_of_ble_eq_true rfl) dX3_swap_27 ⟨Nat.zero_le _, Nat.zero_le _⟩ (fun H locs hP hD hS => ?_)
        have hP : va_P G.2.1 vwCl (mW h0 ad G.2.2 0 c_now c_read y25.2 c_tape c_taped c_at c_textSize c_token c_number c_begins c_stops c_bad c_badPlace c_faultPlace c_clauses c_naming c_lineBy c_becomes c_dualLines c_on c_rowNow c_least c_wayFirst c_ways c_acts c_past c_listPoints c_listLines c_listed c_list c_path c_places c_firstPlaces c_px c_py c_pz c_placeMany c_modulus c_drawn c_halvesMany c_halvesFirst c_spreadsMany c_spreadsFirst c_comesTo c_seedNow c_rowThen c_hasImage c_actsThen c_imageRow c_pastThen c_statusThen) H := hP
        have hD : va_D A (mW h0 ad G.2.2 0 c_now c_read y25.2 c_tape c_taped c_at c_textSize c_token c_number c_begins c_stops c_bad c_badPlace c_faultPlace c_clauses c_naming c_lineBy c_becomes c_dualLines c_on c_rowNow c_least c_wayFirst c_ways c_acts c_past c_listPoints c_listLines c_listed c_list c_path c_places c_firstPlaces c_px c_py c_pz c_placeMany c_modulus c_drawn c_halvesMany c_halvesFirst c_spreadsMany c_spreadsFirst c_comesTo c_seedNow c_rowThen c_hasImage c_actsThen c_imageRow c_pastThen c_statusThen) := hD
        refine W.eq (g2 := F0 m 30 ls [.int y25.1]) rfl ?_
        obtain ⟨i27, h⟩ := ckP_s h
        obtain rfl := Option.some.inj h
        exact hreti rfl dX3_swap_30 (nz_of i27) rfl hP hD hS
def F_X3_turn_31 (N : Nat) : Nat → Int32 → (Nat → Int32) → ((Nat → Int32) → Option (Int32 × (Nat → Int32) × (Nat → Int32) × (Nat → Int32) × (Nat → Int32) × Int32 × Int32)) → Option (Int32 × (Nat → Int32) × (Nat → Int32) × (Nat → Int32) × (Nat → Int32) × Int32 × Int32)
  | 0, _, _, _ => none
  | n + 1, v3, c_now, k50 => (if 30 ≤ v3 then (k50 c_now) else (ckI v3 154 (F_X3_turn_31 N n (v3 + 1) (upd c_now (Int32.toNatClampNeg v3) 0) k50)))
def F_X3_turn_59 (N : Nat) (v1 : Int32) (c_status : (Nat → Int32)) (c_dualLines : (Nat → Int32)) (c_past : (Nat → Int32)) (c_code : Int32) (c_acts : Int32) : Nat → Int32 → (Nat → Int32) → Option (Int32 × (Nat → Int32) × (Nat → Int32) × (Nat → Int32) × (Nat → Int32) × Int32 × Int32)
  | 0, _, _ => none
  | n + 1, v3, c_now => (if v1 ≤ v3 then (some (v1, c_now, c_status, c_dualLines, c_past, c_code, c_acts)) else (ckI v3 8 ((F_X3_addNow N (c_dualLines (Int32.toNatClampNeg v3)) c_now).bind fun y12 => (F_X3_turn_59 N v1 c_status c_dualLines c_past c_code c_acts n (v3 + 1) y12))))
def F_X3_turn (N : Nat) (c_now : (Nat → Int32)) (c_status : (Nat → Int32)) (c_dualLines : (Nat → Int32)) (c_past : (Nat → Int32)) (c_code : Int32) (c_acts : Int32) : Option (Int32 × (Nat → Int32) × (Nat → Int32) × (Nat → Int32) × (Nat → Int32) × Int32 × Int32) := ((F_X3_tellDual N c_now c_dualLines).bind fun y1 => (if y1.1 = (-1) then ((F_X3_refuse N c_status).bind fun y13 => (some (y13.1, c_now, y13.2, y1.2, c_past, 0, c_acts))) else ((F_X3_keep N c_now c_past c_acts).bind fun y3 => ((F_X3_lines N c_now).bind fun y4 => (F_X3_turn_31 N N 0 c_now (fun c_now_7 => (ckI 0 154 (F_X3_turn_59 N y1.1 c_status y1.2 y3.1 0 y3.2 N 0 (upd c_now_7 (Int32.toNatClampNeg 0) y4)))))))))
theorem cw_X3_turn {R : Room} {s : State} {args : Array Value} {own : String} {index lev mc ms : Nat} (hts : ∀ w ∈ lw_all, w.before args s = true) (hl : Cond.methodLink own index yX3_turn ∈ lw_all) (hR : (rmL lev mc ms).frames + 1 ≤ R.frames ∧ 8 + (4 + 11) + (rmL lev mc ms).locals ≤ R.locals) : CallW R s args own RX3 index yX3_turn cX3_turn 4 (some .int) (ws_ yX3_turn cX3_turn 4 (some .int)) (rmL lev mc ms) mc ms 0 := cwV 0 hts (lw_V hl q2179 q2180 q172 q2181) rfl rfl rfl (by decide +kernel) hR
set_option maxHeartbeats 4000000 in
theorem M_X3_turn {l : Launch} {G : GE} (hG : GC G) {N : Nat} {h0 : Nat} {ad : Nat → Nat} {c_read : (Nat → Int32)} {c_tape : (Nat → Int32)} {c_taped : Int32} {c_at : Int32} {c_textSize : Int32} {c_token : Int32} {c_number : Int32} {c_begins : Int32} {c_stops : Int32} {c_bad : Int32} {c_badPlace : Int32} {c_faultPlace : Int32} {c_clauses : Int32} {c_naming : (Nat → Int32)} {c_lineBy : (Nat → Int32)} {c_becomes : (Nat → Int32)} {c_on : (Nat → Int32)} {c_rowNow : (Nat → Int32)} {c_least : (Nat → Int32)} {c_wayFirst : (Nat → Int32)} {c_ways : Int32} {c_listPoints : Int32} {c_listLines : Int32} {c_listed : Int32} {c_list : (Nat → Int32)} {c_path : (Nat → Int32)} {c_places : (Nat → Int32)} {c_firstPlaces : (Nat → Int32)} {c_px : (Nat → Int32)} {c_py : (Nat → Int32)} {c_pz : (Nat → Int32)} {c_placeMany : Int32} {c_modulus : Int32} {c_drawn : Int32} {c_halvesMany : Int32} {c_halvesFirst : Int32} {c_spreadsMany : Int32} {c_spreadsFirst : Int32} {c_comesTo : (Nat → Int32)} {c_seedNow : Int32} {c_rowThen : (Nat → Int32)} {c_hasImage : Int32} {c_actsThen : Int32} {c_imageRow : (Nat → Int32)} {c_pastThen : (Nat → Int32)} {c_statusThen : (Nat → Int32)} {c_now : (Nat → Int32)} {c_status : (Nat → Int32)} {c_dualLines : (Nat → Int32)} {c_past : (Nat → Int32)} {c_code : Int32} {c_acts : Int32} {ρ : (Int32 × (Nat → Int32) × (Nat → Int32) × (Nat → Int32) × (Nat → Int32) × Int32 × Int32)} (h : F_X3_turn N c_now c_status c_dualLines c_past c_code c_acts = some ρ) : MW l G yX3_turn cX3_turn 4 (some .int) 4 (mW h0 ad G.2.2 c_code c_now c_read c_status c_tape c_taped c_at c_textSize c_token c_number c_begins c_stops c_bad c_badPlace c_faultPlace c_clauses c_naming c_lineBy c_becomes c_dualLines c_on c_rowNow c_least c_wayFirst c_ways c_acts c_past c_listPoints c_listLines c_listed c_list c_path c_places c_firstPlaces c_px c_py c_pz c_placeMany c_modulus c_drawn c_halvesMany c_halvesFirst c_spreadsMany c_spreadsFirst c_comesTo c_seedNow c_rowThen c_hasImage c_actsThen c_imageRow c_pastThen c_statusThen) [.ref h0] (some (.int ρ.1)) (mW h0 ad G.2.2 ρ.2.2.2.2.2.1 ρ.2.1 c_read ρ.2.2.1 c_tape c_taped c_at c_textSize c_token c_number c_begins c_stops c_bad c_badPlace c_faultPlace c_clauses c_naming c_lineBy c_becomes ρ.2.2.2.1 c_on c_rowNow c_least c_wayFirst c_ways ρ.2.2.2.2.2.2 ρ.2.2.2.2.1 c_listPoints c_listLines c_listed c_list c_path c_places c_firstPlaces c_px c_py c_pz c_placeMany c_modulus c_drawn c_halvesMany c_halvesFirst c_spreadsMany c_spreadsFirst c_comesTo c_seedNow c_rowThen c_hasImage c_actsThen c_imageRow c_pastThen c_statusThen) := by
  rw [F_X3_turn] at h
  refine MW.start hG (by decide) (Nat.le_of_ble_eq_true rfl) ?_
  intro p e s m args below meth c Q A S hW0 hK hP hD hA hreti hretv ls hl
  have hS : va_S A s.heap s.heap [] := va_S.rf
  obtain ⟨hx, hb, hml, hown, hts⟩ := id S
  have hl : lv_has ls 4 [(0, .ref h0)] := hl
  have S_X3_turn_31 : ∀ (n : Nat) (v1 : Int32) (v2 : Int32) (v3 : Int32) (c_now : (Nat → Int32)) (c_status : (Nat → Int32)) (c_dualLines : (Nat → Int32)) (c_past : (Nat → Int32)) (c_code : Int32) (c_acts : Int32) (k50 : (Nat → Int32) → Option (Int32 × (Nat → Int32) × (Nat → Int32) × (Nat → Int32) × (Nat → Int32) × Int32 × Int32)), F_X3_turn_31 N n v3 c_now k50 = some ρ → (∀ (z_c_now : (Nat → Int32)) (H : Heap) (locs : List Loc) (ls : Array Slot), k50 z_c_now = some ρ → va_P G.2.1 vwCl (mW h0 ad G.2.2 c_code z_c_now c_read c_status c_tape c_taped c_at c_textSize c_token c_number c_begins c_stops c_bad c_badPlace c_faultPlace c_clauses c_naming c_lineBy c_becomes c_dualLines c_on c_rowNow c_least c_wayFirst c_ways c_acts c_past c_listPoints c_listLines c_listed c_list c_path c_places c_firstPlaces c_px c_py c_pz c_placeMany c_modulus c_drawn c_halvesMany c_halvesFirst c_spreadsMany c_spreadsFirst c_comesTo c_seedNow c_rowThen c_hasImage c_actsThen c_imageRow c_pastThen c_statusThen) H → va_D A (mW h0 ad G.2.2 c_code z_c_now c_read c_status c_tape c_taped c_at c_textSize c_token c_number c_begins c_stops c_bad c_badPlace c_faultPlace c_clauses c_naming c_lineBy c_becomes c_dualLines c_on c_rowNow c_least c_wayFirst c_ways c_acts c_past c_listPoints c_listLines c_listed c_list c_path c_places c_firstPlaces c_px c_py c_pz c_placeMany c_modulus c_drawn c_halvesMany c_halvesFirst c_spreadsMany c_spreadsFirst c_comesTo c_seedNow c_rowThen c_hasImage c_actsThen c_imageRow c_pastThen c_statusThen) → va_S A s.heap H locs → lv_has ls 4 [(0, .ref h0), (1, .int v1), (2, .int v2)] → W p l e (rmL 4 0 0) s m args below meth c H locs 0 0 Q (F0 m 50 ls [])) → ∀ (H : Heap) (locs : List Loc), va_P G.2.1 vwCl (mW h0 ad G.2.2 c_code c_now c_read c_status c_tape c_taped c_at c_textSize c_token c_number c_begins c_stops c_bad c_badPlace c_faultPlace c_clauses c_naming c_lineBy c_becomes c_dualLines c_on c_rowNow c_least c_wayFirst c_ways c_acts c_past c_listPoints c_listLines c_listed c_list c_path c_places c_firstPlaces c_px c_py c_pz c_placeMany c_modulus c_drawn c_halvesMany c_halvesFirst c_spreadsMany c_spreadsFirst c_comesTo c_seedNow c_rowThen c_hasImage c_actsThen c_imageRow c_pastThen c_statusThen) H → va_D A (mW h0 ad G.2.2 c_code c_now c_read c_status c_tape c_taped c_at c_textSize c_token c_number c_begins c_stops c_bad c_badPlace c_faultPlace c_clauses c_naming c_lineBy c_becomes c_dualLines c_on c_rowNow c_least c_wayFirst c_ways c_acts c_past c_listPoints c_listLines c_listed c_list c_path c_places c_firstPlaces c_px c_py c_pz c_placeMany c_modulus c_drawn c_halvesMany c_halvesFirst c_spreadsMany c_spreadsFirst c_comesTo c_seedNow c_rowThen c_hasImage c_actsThen c_imageRow c_pastThen c_statusThen) → va_S A s.heap H locs → ∀ (ls : Array Slot), lv_has ls 4 [(0, .ref h0), (1, .int v1), (2, .int v2), (3, .int v3)] → W p l e (rmL 4 0 0) s m args below meth c H locs 0 0 Q (F0 m 31 ls []) := by
    intro n
    induction n with
    | zero =>
      intro v1 v2 v3 c_now c_status c_dualLines c_past c_code c_acts k50 h
      exact absurd h (by simp [F_X3_turn_31])
    | succ n ih =>
      intro v1 v2 v3 c_now c_status c_dualLines c_past c_code c_acts k50 h hk50 H locs hP hD hS ls hl
      rw [F_X3_turn_31] at h
      refine lv_iload_n hx hb dX3_turn_31 rfl (lv_at hl 3 rfl) ?_
      refine lv_bipush (v := 30) hx hb dX3_turn_32 (by decide) ?_
      refine lv_icmp_ge (tgt := 50) hx hb dX3_turn_34 (by decide) (fun c5 => ?_) (fun c5 => ?_)
      · rw [if_pos c5] at h
        exact hk50 c_now _ _ _ h hP hD hS (lv_sub hl [0, 1, 2] rfl)
      · rw [if_neg c5] at h
        refine lv_aload_n hx hb dX3_turn_37 rfl (lv_at hl 0 rfl) ?_
        refine va_get (ci := 2) (v := .ref (ad 1)) (C := RX3) (T := TX3) (N := 52) hx hb hts in_X3 hown hK hP 0 rfl rfl 1 (by decide) (hts _ q1659) (fun _ h9 => h9) rfl dX3_turn_38 ?_
        refine lv_iload_n hx hb dX3_turn_41 rfl (lv_at hl 3 rfl) ?_
        refine lv_iconst (v := 0) hx hb dX3_turn_42 (by decide) ?_
        obtain ⟨i6, h⟩ := ckI_s h
        refine va_iast (f := c_now) hx hb hK hP hD hS 1 0 rfl rfl i6 dX3_turn_43 (fun H locs hP hD hS => ?_)
        have hP : va_P G.2.1 vwCl (mW h0 ad G.2.2 c_code (upd c_now (Int32.toNatClampNeg v3) 0) c_read c_status c_tape c_taped c_at c_textSize c_token c_number c_begins c_stops c_bad c_badPlace c_faultPlace c_clauses c_naming c_lineBy c_becomes c_dualLines c_on c_rowNow c_least c_wayFirst c_ways c_acts c_past c_listPoints c_listLines c_listed c_list c_path c_places c_firstPlaces c_px c_py c_pz c_placeMany c_modulus c_drawn c_halvesMany c_halvesFirst c_spreadsMany c_spreadsFirst c_comesTo c_seedNow c_rowThen c_hasImage c_actsThen c_imageRow c_pastThen c_statusThen) H := hP
        have hD : va_D A (mW h0 ad G.2.2 c_code (upd c_now (Int32.toNatClampNeg v3) 0) c_read c_status c_tape c_taped c_at c_textSize c_token c_number c_begins c_stops c_bad c_badPlace c_faultPlace c_clauses c_naming c_lineBy c_becomes c_dualLines c_on c_rowNow c_least c_wayFirst c_ways c_acts c_past c_listPoints c_listLines c_listed c_list c_path c_places c_firstPlaces c_px c_py c_pz c_placeMany c_modulus c_drawn c_halvesMany c_halvesFirst c_spreadsMany c_spreadsFirst c_comesTo c_seedNow c_rowThen c_hasImage c_actsThen c_imageRow c_pastThen c_statusThen) := hD
        refine lv_iinc (v := (v3 + 1)) (lv' := [(3, .int (v3 + 1)), (0, .ref h0), (1, .int v1), (2, .int v2)]) hx hb dX3_turn_44 hl (k := 3) rfl rfl (by decide) rfl (fun ls hl => ?_)
        refine lv_goto (tgt := 31) hx hb dX3_turn_47 (by decide) ?_
        exact ih v1 v2 (v3 + 1) (upd c_now (Int32.toNatClampNeg v3) 0) c_status c_dualLines c_past c_code c_acts _ h hk50 _ _ hP hD hS _ (lv_sub hl [1, 2, 3, 0] rfl)
  have S_X3_turn_59 : ∀ (n : Nat) (v1 : Int32) (v3 : Int32) (c_now : (Nat → Int32)) (c_status : (Nat → Int32)) (c_dualLines : (Nat → Int32)) (c_past : (Nat → Int32)) (c_code : Int32) (c_acts : Int32), F_X3_turn_59 N v1 c_status c_dualLines c_past c_code c_acts n v3 c_now = some ρ → ∀ (H : Heap) (locs : List Loc), va_P G.2.1 vwCl (mW h0 ad G.2.2 c_code c_now c_read c_status c_tape c_taped c_at c_textSize c_token c_number c_begins c_stops c_bad c_badPlace c_faultPlace c_clauses c_naming c_lineBy c_becomes c_dualLines c_on c_rowNow c_least c_wayFirst c_ways c_acts c_past c_listPoints c_listLines c_listed c_list c_path c_places c_firstPlaces c_px c_py c_pz c_placeMany c_modulus c_drawn c_halvesMany c_halvesFirst c_spreadsMany c_spreadsFirst c_comesTo c_seedNow c_rowThen c_hasImage c_actsThen c_imageRow c_pastThen c_statusThen) H → va_D A (mW h0 ad G.2.2 c_code c_now c_read c_status c_tape c_taped c_at c_textSize c_token c_number c_begins c_stops c_bad c_badPlace c_faultPlace c_clauses c_naming c_lineBy c_becomes c_dualLines c_on c_rowNow c_least c_wayFirst c_ways c_acts c_past c_listPoints c_listLines c_listed c_list c_path c_places c_firstPlaces c_px c_py c_pz c_placeMany c_modulus c_drawn c_halvesMany c_halvesFirst c_spreadsMany c_spreadsFirst c_comesTo c_seedNow c_rowThen c_hasImage c_actsThen c_imageRow c_pastThen c_statusThen) → va_S A s.heap H locs → ∀ (ls : Array Slot), lv_has ls 4 [(0, .ref h0), (1, .int v1), (3, .int v3)] → W p l e (rmL 4 0 0) s m args below meth c H locs 0 0 Q (F0 m 59 ls []) := by
    intro n
    induction n with
    | zero =>
      intro v1 v3 c_now c_status c_dualLines c_past c_code c_acts h
      exact absurd h (by simp [F_X3_turn_59])
    | succ n ih =>
      intro v1 v3 c_now c_status c_dualLines c_past c_code c_acts h H locs hP hD hS ls hl
      rw [F_X3_turn_59] at h
      refine lv_iload_n hx hb dX3_turn_59 rfl (lv_at hl 2 rfl) ?_
      refine lv_iload_n hx hb dX3_turn_60 rfl (lv_at hl 1 rfl) ?_
      refine lv_icmp_ge (tgt := 80) hx hb dX3_turn_61 (by decide) (fun c9 => ?_) (fun c9 => ?_)
      · rw [if_pos c9] at h
        refine lv_iload_n hx hb dX3_turn_80 rfl (lv_at hl 1 rfl) ?_
        obtain rfl := Option.some.inj h
        exact hreti rfl dX3_turn_81 rfl rfl hP hD hS
      · rw [if_neg c9] at h
        refine lv_aload_n hx hb dX3_turn_64 rfl (lv_at hl 0 rfl) ?_
        refine lv_aload_n hx hb dX3_turn_65 rfl (lv_at hl 0 rfl) ?_
        refine va_get (ci := 2) (v := .ref (ad 19)) (C := RX3) (T := TX3) (N := 52) hx hb hts in_X3 hown hK hP 0 rfl rfl 19 (by decide) (hts _ q1677) (fun _ h9 => h9) rfl dX3_turn_66 ?_
        refine lv_iload_n hx hb dX3_turn_69 rfl (lv_at hl 2 rfl) ?_
        obtain ⟨i11, h⟩ := ckI_s h
        refine va_iald (f := c_dualLines) hx hb hK hP 8 0 rfl rfl i11 dX3_turn_70 ?_
        obtain ⟨y12, e12, h⟩ := ob_s h
        refine MW.callV (q0 := 0) (M_X3_addNow hG e12) S (cw_X3_addNow hts q2154 ⟨Nat.le_of_ble_eq_true rfl, Nat.le_of_ble_eq_true rfl⟩) hW0 hK hP hD hS hA rfl rfl rfl hl.1 rfl (Nat.le_of_ble_eq_true rfl) dX3_turn_71 ⟨Nat.zero_le _, Nat.zero_le _⟩ (fun H locs hP hD hS => ?_)
        have hP : va_P G.2.1 vwCl (mW h0 ad G.2.2 c_code y12 c_read c_status c_tape c_taped c_at c_textSize c_token c_number c_begins c_stops c_bad c_badPlace c_faultPlace c_clauses c_naming c_lineBy c_becomes c_dualLines c_on c_rowNow c_least c_wayFirst c_ways c_acts c_past c_listPoints c_listLines c_listed c_list c_path c_places c_firstPlaces c_px c_py c_pz c_placeMany c_modulus c_drawn c_halvesMany c_halvesFirst c_spreadsMany c_spreadsFirst c_comesTo c_seedNow c_rowThen c_hasImage c_actsThen c_imageRow c_pastThen c_statusThen) H := hP
        have hD : va_D A (mW h0 ad G.2.2 c_code y12 c_read c_status c_tape c_taped c_at c_textSize c_token c_number c_begins c_stops c_bad c_badPlace c_faultPlace c_clauses c_naming c_lineBy c_becomes c_dualLines c_on c_rowNow c_least c_wayFirst c_ways c_acts c_past c_listPoints c_listLines c_listed c_list c_path c_places c_firstPlaces c_px c_py c_pz c_placeMany c_modulus c_drawn c_halvesMany c_halvesFirst c_spreadsMany c_spreadsFirst c_comesTo c_seedNow c_rowThen c_hasImage c_actsThen c_imageRow c_pastThen c_statusThen) := hD
        refine W.eq (g2 := F0 m 74 ls []) rfl ?_
        refine lv_iinc (v := (v3 + 1)) (lv' := [(3, .int (v3 + 1)), (0, .ref h0), (1, .int v1)]) hx hb dX3_turn_74 hl (k := 2) rfl rfl (by decide) rfl (fun ls hl => ?_)
        refine lv_goto (tgt := 59) hx hb dX3_turn_77 (by decide) ?_
        exact ih v1 (v3 + 1) y12 c_status c_dualLines c_past c_code c_acts h _ _ hP hD hS _ (lv_sub hl [1, 2, 0] rfl)
  refine lv_aload_n hx hb dX3_turn_0 rfl (lv_at hl 0 rfl) ?_
  refine lv_iconst (v := 0) hx hb dX3_turn_1 (by decide) ?_
  refine va_put (ci := 2) (v := .int 0) (ty := .int) (C := RX3) (T := TX3) (N := 52) hx hb hts in_X3 tyX3 tyX3_ok nmX3 hown hK hP hD hS 0 rfl rfl 0 (by decide) (hts _ q1658) (fun _ h9 => h9) rfl (by decide +kernel) rfl rfl (Nat.le_of_ble_eq_true rfl) dX3_turn_2 (fun H locs hP hD hS => ?_)
  have hP : va_P G.2.1 vwCl (mW h0 ad G.2.2 0 c_now c_read c_status c_tape c_taped c_at c_textSize c_token c_number c_begins c_stops c_bad c_badPlace c_faultPlace c_clauses c_naming c_lineBy c_becomes c_dualLines c_on c_rowNow c_least c_wayFirst c_ways c_acts c_past c_listPoints c_listLines c_listed c_list c_path c_places c_firstPlaces c_px c_py c_pz c_placeMany c_modulus c_drawn c_halvesMany c_halvesFirst c_spreadsMany c_spreadsFirst c_comesTo c_seedNow c_rowThen c_hasImage c_actsThen c_imageRow c_pastThen c_statusThen) H := hP
  have hD : va_D A (mW h0 ad G.2.2 0 c_now c_read c_status c_tape c_taped c_at c_textSize c_token c_number c_begins c_stops c_bad c_badPlace c_faultPlace c_clauses c_naming c_lineBy c_becomes c_dualLines c_on c_rowNow c_least c_wayFirst c_ways c_acts c_past c_listPoints c_listLines c_listed c_list c_path c_places c_firstPlaces c_px c_py c_pz c_placeMany c_modulus c_drawn c_halvesMany c_halvesFirst c_spreadsMany c_spreadsFirst c_comesTo c_seedNow c_rowThen c_hasImage c_actsThen c_imageRow c_pastThen c_statusThen) := hD
  refine lv_aload_n hx hb dX3_turn_5 rfl (lv_at hl 0 rfl) ?_
  obtain ⟨y1, e1, h⟩ := ob_s h
  refine MW.callV (q0 := 0) (M_X3_tellDual hG e1) S (cw_X3_tellDual hts q2103 ⟨Nat.le_of_ble_eq_true rfl, Nat.le_of_ble_eq_true rfl⟩) hW0 hK hP hD hS hA rfl rfl rfl hl.1 rfl (Nat.le_of_ble_eq_true rfl) dX3_turn_6 ⟨Nat.zero_le _, Nat.zero_le _⟩ (fun H locs hP hD hS => ?_)
  have hP : va_P G.2.1 vwCl (mW h0 ad G.2.2 0 c_now c_read c_status c_tape c_taped c_at c_textSize c_token c_number c_begins c_stops c_bad c_badPlace c_faultPlace c_clauses c_naming c_lineBy c_becomes y1.2 c_on c_rowNow c_least c_wayFirst c_ways c_acts c_past c_listPoints c_listLines c_listed c_list c_path c_places c_firstPlaces c_px c_py c_pz c_placeMany c_modulus c_drawn c_halvesMany c_halvesFirst c_spreadsMany c_spreadsFirst c_comesTo c_seedNow c_rowThen c_hasImage c_actsThen c_imageRow c_pastThen c_statusThen) H := hP
  have hD : va_D A (mW h0 ad G.2.2 0 c_now c_read c_status c_tape c_taped c_at c_textSize c_token c_number c_begins c_stops c_bad c_badPlace c_faultPlace c_clauses c_naming c_lineBy c_becomes y1.2 c_on c_rowNow c_least c_wayFirst c_ways c_acts c_past c_listPoints c_listLines c_listed c_list c_path c_places c_firstPlaces c_px c_py c_pz c_placeMany c_modulus c_drawn c_halvesMany c_halvesFirst c_spreadsMany c_spreadsFirst c_comesTo c_seedNow c_rowThen c_hasImage c_actsThen c_imageRow c_pastThen c_statusThen) := hD
  refine W.eq (g2 := F0 m 9 ls [.int y1.1]) rfl ?_
  refine lv_istore_n (lv' := [(1, .int y1.1), (0, .ref h0)]) hx hb dX3_turn_9 rfl hl (by decide) rfl (fun ls hl => ?_)
  refine lv_iload_n hx hb dX3_turn_10 rfl (lv_at hl 0 rfl) ?_
  refine lv_iconst (v := (-1)) hx hb dX3_turn_11 (by decide) ?_
  refine lv_icmp_ne (tgt := 20) hx hb dX3_turn_12 (by decide) (fun c2 => ?_) (fun c2 => ?_)
  · rw [if_neg c2] at h
    refine lv_aload_n hx hb dX3_turn_20 rfl (lv_at hl 1 rfl) ?_
    obtain ⟨y3, e3, h⟩ := ob_s h
    refine MW.callV (q0 := 0) (M_X3_keep hG e3) S (cw_X3_keep hts q2150 ⟨Nat.le_of_ble_eq_true rfl, Nat.le_of_ble_eq_true rfl⟩) hW0 hK hP hD hS hA rfl rfl rfl hl.1 rfl (Nat.le_of_ble_eq_true rfl) dX3_turn_21 ⟨Nat.zero_le _, Nat.zero_le _⟩ (fun H locs hP hD hS => ?_)
    have hP : va_P G.2.1 vwCl (mW h0 ad G.2.2 0 c_now c_read c_status c_tape c_taped c_at c_textSize c_token c_number c_begins c_stops c_bad c_badPlace c_faultPlace c_clauses c_naming c_lineBy c_becomes y1.2 c_on c_rowNow c_least c_wayFirst c_ways y3.2 y3.1 c_listPoints c_listLines c_listed c_list c_path c_places c_firstPlaces c_px c_py c_pz c_placeMany c_modulus c_drawn c_halvesMany c_halvesFirst c_spreadsMany c_spreadsFirst c_comesTo c_seedNow c_rowThen c_hasImage c_actsThen c_imageRow c_pastThen c_statusThen) H := hP
    have hD : va_D A (mW h0 ad G.2.2 0 c_now c_read c_status c_tape c_taped c_at c_textSize c_token c_number c_begins c_stops c_bad c_badPlace c_faultPlace c_clauses c_naming c_lineBy c_becomes y1.2 c_on c_rowNow c_least c_wayFirst c_ways y3.2 y3.1 c_listPoints c_listLines c_listed c_list c_path c_places c_firstPlaces c_px c_py c_pz c_placeMany c_modulus c_drawn c_halvesMany c_halvesFirst c_spreadsMany c_spreadsFirst c_comesTo c_seedNow c_rowThen c_hasImage c_actsThen c_imageRow c_pastThen c_statusThen) := hD
    refine W.eq (g2 := F0 m 24 ls []) rfl ?_
    refine lv_aload_n hx hb dX3_turn_24 rfl (lv_at hl 1 rfl) ?_
    obtain ⟨y4, e4, h⟩ := ob_s h
    refine MR.callV (q0 := 0) (M_X3_lines hG e4) S (cw_X3_lines hts q1917 ⟨Nat.le_of_ble_eq_true rfl, Nat.le_of_ble_eq_true rfl⟩) hW0 hK hP rfl rfl rfl hl.1 rfl (Nat.le_of_ble_eq_true rfl) dX3_turn_25 ⟨Nat.zero_le _, Nat.zero_le _⟩ ?_
    refine lv_istore_n (lv' := [(2, .int y4), (1, .int y1.1), (0, .ref h0)]) hx hb dX3_turn_28 rfl hl (by decide) rfl (fun ls hl => ?_)
    refine lv_iconst (v := 0) hx hb dX3_turn_29 (by decide) ?_
    refine lv_istore_n (lv' := [(3, .int 0), (2, .int y4), (1, .int y1.1), (0, .ref h0)]) hx hb dX3_turn_30 rfl hl (by decide) rfl (fun ls hl => ?_)
    refine S_X3_turn_31 N y1.1 y4 0 c_now c_status y1.2 y3.1 0 y3.2 _ h ?_ _ _ hP hD hS _ (lv_sub hl [3, 2, 1, 0] rfl)
    · intro c_now_7 H locs ls h hP hD hS hl
      refine lv_aload_n hx hb dX3_turn_50 rfl (lv_at hl 0 rfl) ?_
      refine va_get (ci := 2) (v := .ref (ad 1)) (C := RX3) (T := TX3) (N := 52) hx hb hts in_X3 hown hK hP 0 rfl rfl 1 (by decide) (hts _ q1659) (fun _ h9 => h9) rfl dX3_turn_51 ?_
      refine lv_iconst (v := 0) hx hb dX3_turn_54 (by decide) ?_
      refine lv_iload_n hx hb dX3_turn_55 rfl (lv_at hl 2 rfl) ?_
      obtain ⟨i8, h⟩ := ckI_s h
      refine va_iast (f := c_now_7) hx hb hK hP hD hS 1 0 rfl rfl i8 dX3_turn_56 (fun H locs hP hD hS => ?_)
      have hP : va_P G.2.1 vwCl (mW h0 ad G.2.2 0 (upd c_now_7 (Int32.toNatClampNeg 0) y4) c_read c_status c_tape c_taped c_at c_textSize c_token c_number c_begins c_stops c_bad c_badPlace c_faultPlace c_clauses c_naming c_lineBy c_becomes y1.2 c_on c_rowNow c_least c_wayFirst c_ways y3.2 y3.1 c_listPoints c_listLines c_listed c_list c_path c_places c_firstPlaces c_px c_py c_pz c_placeMany c_modulus c_drawn c_halvesMany c_halvesFirst c_spreadsMany c_spreadsFirst c_comesTo c_seedNow c_rowThen c_hasImage c_actsThen c_imageRow c_pastThen c_statusThen) H := hP
      have hD : va_D A (mW h0 ad G.2.2 0 (upd c_now_7 (Int32.toNatClampNeg 0) y4) c_read c_status c_tape c_taped c_at c_textSize c_token c_number c_begins c_stops c_bad c_badPlace c_faultPlace c_clauses c_naming c_lineBy c_becomes y1.2 c_on c_rowNow c_least c_wayFirst c_ways y3.2 y3.1 c_listPoints c_listLines c_listed c_list c_path c_places c_firstPlaces c_px c_py c_pz c_placeMany c_modulus c_drawn c_halvesMany c_halvesFirst c_spreadsMany c_spreadsFirst c_comesTo c_seedNow c_rowThen c_hasImage c_actsThen c_imageRow c_pastThen c_statusThen) := hD
      refine lv_iconst (v := 0) hx hb dX3_turn_57 (by decide) ?_
      refine lv_istore_n (lv' := [(3, .int 0), (0, .ref h0), (1, .int y1.1), (2, .int y4)]) hx hb dX3_turn_58 rfl hl (by decide) rfl (fun ls hl => ?_)
      refine S_X3_turn_59 N y1.1 0 (upd c_now_7 (Int32.toNatClampNeg 0) y4) c_status y1.2 y3.1 0 y3.2 h  _ _ hP hD hS _ (lv_sub hl [1, 2, 0] rfl)
  · rw [if_pos c2] at h
    refine lv_aload_n hx hb dX3_turn_15 rfl (lv_at hl 1 rfl) ?_
    obtain ⟨y13, e13, h⟩ := ob_s h
    refine MW.callV (q0 := 0) (M_X3_refuse hG e13) S (cw_X3_refuse hts q2146 ⟨Nat.le_of_ble_eq_true rfl, Nat.le_of_ble_eq_true rfl⟩) hW0 hK hP hD hS hA rfl rfl rfl hl.1 rfl (Nat.le_of_ble_eq_true rfl) dX3_turn_16 ⟨Nat.zero_le _, Nat.zero_le _⟩ (fun H locs hP hD hS => ?_)
    have hP : va_P G.2.1 vwCl (mW h0 ad G.2.2 0 c_now c_read y13.2 c_tape c_taped c_at c_textSize c_token c_number c_begins c_stops c_bad c_badPlace c_faultPlace c_clauses c_naming c_lineBy c_becomes y1.2 c_on c_rowNow c_least c_wayFirst c_ways c_acts c_past c_listPoints c_listLines c_listed c_list c_path c_places c_firstPlaces c_px c_py c_pz c_placeMany c_modulus c_drawn c_halvesMany c_halvesFirst c_spreadsMany c_spreadsFirst c_comesTo c_seedNow c_rowThen c_hasImage c_actsThen c_imageRow c_pastThen c_statusThen) H := hP
    have hD : va_D A (mW h0 ad G.2.2 0 c_now c_read y13.2 c_tape c_taped c_at c_textSize c_token c_number c_begins c_stops c_bad c_badPlace c_faultPlace c_clauses c_naming c_lineBy c_becomes y1.2 c_on c_rowNow c_least c_wayFirst c_ways c_acts c_past c_listPoints c_listLines c_listed c_list c_path c_places c_firstPlaces c_px c_py c_pz c_placeMany c_modulus c_drawn c_halvesMany c_halvesFirst c_spreadsMany c_spreadsFirst c_comesTo c_seedNow c_rowThen c_hasImage c_actsThen c_imageRow c_pastThen c_statusThen) := hD
    refine W.eq (g2 := F0 m 19 ls [.int y13.1]) rfl ?_
    obtain rfl := Option.some.inj h
    exact hreti rfl dX3_turn_19 rfl rfl hP hD hS
def F_X3_grow_56 (N : Nat) (v2 : Int32) : Nat → Int32 → (Nat → Int32) → ((Nat → Int32) → Option (Int32 × (Nat → Int32) × (Nat → Int32) × (Nat → Int32) × Int32 × Int32)) → Option (Int32 × (Nat → Int32) × (Nat → Int32) × (Nat → Int32) × Int32 × Int32)
  | 0, _, _, _ => none
  | n + 1, v3, c_now, k85 => (if v3 < 0 then (k85 c_now) else ((F_X3_lineAt N v3 c_now).bind fun y9 => (if ((y9 >>> (v2 &&& 31)) &&& (1 : Int32)) = 1 then ((F_X3_dropNow N v3 c_now).bind fun y11 => (F_X3_grow_56 N v2 n (v3 + (-1)) y11.2 k85)) else (F_X3_grow_56 N v2 n (v3 + (-1)) c_now k85))))
def F_X3_grow_48 (N : Nat) (c_status : (Nat → Int32)) (c_past : (Nat → Int32)) (c_code : Int32) (c_acts : Int32) (s0 : Int32) (v1 : Int32) (c_now : (Nat → Int32)) : Option (Int32 × (Nat → Int32) × (Nat → Int32) × (Nat → Int32) × Int32 × Int32) := ((F_X3_lines N c_now).bind fun y7 => (F_X3_grow_56 N s0 N (y7 - (1 : Int32)) c_now (fun c_now_12 => (ckI ((14 : Int32) + s0) 154 (ckI ((22 : Int32) + s0) 154 (ckI 0 154 (if v1 = 0 then (ckI 0 154 ((F_X3_points N (upd (upd (upd c_now_12 (Int32.toNatClampNeg ((14 : Int32) + s0)) 0) (Int32.toNatClampNeg ((22 : Int32) + s0)) 0) (Int32.toNatClampNeg 0) (((upd (upd c_now_12 (Int32.toNatClampNeg ((14 : Int32) + s0)) 0) (Int32.toNatClampNeg ((22 : Int32) + s0)) 0) (Int32.toNatClampNeg 0)) + (-1 : Int32)))).bind fun y18 => (some (y18, (upd (upd (upd c_now_12 (Int32.toNatClampNeg ((14 : Int32) + s0)) 0) (Int32.toNatClampNeg ((22 : Int32) + s0)) 0) (Int32.toNatClampNeg 0) (((upd (upd c_now_12 (Int32.toNatClampNeg ((14 : Int32) + s0)) 0) (Int32.toNatClampNeg ((22 : Int32) + s0)) 0) (Int32.toNatClampNeg 0)) + (-1 : Int32))), c_status, c_past, c_code, c_acts)))) else (ckI 0 154 ((F_X3_points N (upd (upd (upd c_now_12 (Int32.toNatClampNeg ((14 : Int32) + s0)) 0) (Int32.toNatClampNeg ((22 : Int32) + s0)) 0) (Int32.toNatClampNeg 0) (((upd (upd c_now_12 (Int32.toNatClampNeg ((14 : Int32) + s0)) 0) (Int32.toNatClampNeg ((22 : Int32) + s0)) 0) (Int32.toNatClampNeg 0)) + (1 : Int32)))).bind fun y21 => (some (y21, (upd (upd (upd c_now_12 (Int32.toNatClampNeg ((14 : Int32) + s0)) 0) (Int32.toNatClampNeg ((22 : Int32) + s0)) 0) (Int32.toNatClampNeg 0) (((upd (upd c_now_12 (Int32.toNatClampNeg ((14 : Int32) + s0)) 0) (Int32.toNatClampNeg ((22 : Int32) + s0)) 0) (Int32.toNatClampNeg 0)) + (1 : Int32))), c_status, c_past, c_code, c_acts)))))))))))
def F_X3_grow_19 (N : Nat) (c_code : Int32) (s0 : Int32) (s1 : Int32) (v1 : Int32) (c_now : (Nat → Int32)) (c_status : (Nat → Int32)) (c_past : (Nat → Int32)) (c_acts : Int32) : Option (Int32 × (Nat → Int32) × (Nat → Int32) × (Nat → Int32) × Int32 × Int32) := (if s0 = s1 then ((F_X3_refuse N c_status).bind fun y24 => (some (y24.1, c_now, y24.2, c_past, c_code, c_acts))) else ((F_X3_keep N c_now c_past c_acts).bind fun y4 => (if v1 = 0 then ((F_X3_points N c_now).bind fun y6 => (F_X3_grow_48 N c_status y4.1 c_code y4.2 (y6 - (1 : Int32)) v1 c_now)) else ((F_X3_points N c_now).bind fun y23 => (F_X3_grow_48 N c_status y4.1 c_code y4.2 y23 v1 c_now)))))
def F_X3_grow (N : Nat) (v1 : Int32) (c_now : (Nat → Int32)) (c_status : (Nat → Int32)) (c_past : (Nat → Int32)) (c_code : Int32) (c_acts : Int32) : Option (Int32 × (Nat → Int32) × (Nat → Int32) × (Nat → Int32) × Int32 × Int32) := ((F_X3_points N c_now).bind fun y1 => (if v1 = 0 then (F_X3_grow_19 N 0 y1 1 v1 c_now c_status c_past c_acts) else (F_X3_grow_19 N 0 y1 8 v1 c_now c_status c_past c_acts)))
theorem cw_X3_grow {R : Room} {s : State} {args : Array Value} {own : String} {index lev mc ms : Nat} (hts : ∀ w ∈ lw_all, w.before args s = true) (hl : Cond.methodLink own index yX3_grow ∈ lw_all) (hR : (rmL lev mc ms).frames + 1 ≤ R.frames ∧ 8 + (4 + 11) + (rmL lev mc ms).locals ≤ R.locals) : CallW R s args own RX3 index yX3_grow cX3_grow 4 (some .int) (ws_ yX3_grow cX3_grow 4 (some .int)) (rmL lev mc ms) mc ms 1 := cwV 1 hts (lw_V hl q2183 q2184 q172 q2185) rfl rfl rfl (by decide +kernel) hR
set_option maxHeartbeats 4000000 in
theorem M_X3_grow {l : Launch} {G : GE} (hG : GC G) {N : Nat} {h0 : Nat} {ad : Nat → Nat} {c_read : (Nat → Int32)} {c_tape : (Nat → Int32)} {c_taped : Int32} {c_at : Int32} {c_textSize : Int32} {c_token : Int32} {c_number : Int32} {c_begins : Int32} {c_stops : Int32} {c_bad : Int32} {c_badPlace : Int32} {c_faultPlace : Int32} {c_clauses : Int32} {c_naming : (Nat → Int32)} {c_lineBy : (Nat → Int32)} {c_becomes : (Nat → Int32)} {c_dualLines : (Nat → Int32)} {c_on : (Nat → Int32)} {c_rowNow : (Nat → Int32)} {c_least : (Nat → Int32)} {c_wayFirst : (Nat → Int32)} {c_ways : Int32} {c_listPoints : Int32} {c_listLines : Int32} {c_listed : Int32} {c_list : (Nat → Int32)} {c_path : (Nat → Int32)} {c_places : (Nat → Int32)} {c_firstPlaces : (Nat → Int32)} {c_px : (Nat → Int32)} {c_py : (Nat → Int32)} {c_pz : (Nat → Int32)} {c_placeMany : Int32} {c_modulus : Int32} {c_drawn : Int32} {c_halvesMany : Int32} {c_halvesFirst : Int32} {c_spreadsMany : Int32} {c_spreadsFirst : Int32} {c_comesTo : (Nat → Int32)} {c_seedNow : Int32} {c_rowThen : (Nat → Int32)} {c_hasImage : Int32} {c_actsThen : Int32} {c_imageRow : (Nat → Int32)} {c_pastThen : (Nat → Int32)} {c_statusThen : (Nat → Int32)} {v1 : Int32} {c_now : (Nat → Int32)} {c_status : (Nat → Int32)} {c_past : (Nat → Int32)} {c_code : Int32} {c_acts : Int32} {ρ : (Int32 × (Nat → Int32) × (Nat → Int32) × (Nat → Int32) × Int32 × Int32)} (h : F_X3_grow N v1 c_now c_status c_past c_code c_acts = some ρ) : MW l G yX3_grow cX3_grow 4 (some .int) 3 (mW h0 ad G.2.2 c_code c_now c_read c_status c_tape c_taped c_at c_textSize c_token c_number c_begins c_stops c_bad c_badPlace c_faultPlace c_clauses c_naming c_lineBy c_becomes c_dualLines c_on c_rowNow c_least c_wayFirst c_ways c_acts c_past c_listPoints c_listLines c_listed c_list c_path c_places c_firstPlaces c_px c_py c_pz c_placeMany c_modulus c_drawn c_halvesMany c_halvesFirst c_spreadsMany c_spreadsFirst c_comesTo c_seedNow c_rowThen c_hasImage c_actsThen c_imageRow c_pastThen c_statusThen) [.ref h0, .int v1] (some (.int ρ.1)) (mW h0 ad G.2.2 ρ.2.2.2.2.1 ρ.2.1 c_read ρ.2.2.1 c_tape c_taped c_at c_textSize c_token c_number c_begins c_stops c_bad c_badPlace c_faultPlace c_clauses c_naming c_lineBy c_becomes c_dualLines c_on c_rowNow c_least c_wayFirst c_ways ρ.2.2.2.2.2 ρ.2.2.2.1 c_listPoints c_listLines c_listed c_list c_path c_places c_firstPlaces c_px c_py c_pz c_placeMany c_modulus c_drawn c_halvesMany c_halvesFirst c_spreadsMany c_spreadsFirst c_comesTo c_seedNow c_rowThen c_hasImage c_actsThen c_imageRow c_pastThen c_statusThen) := by
  rw [F_X3_grow] at h
  refine MW.start hG (by decide) (Nat.le_of_ble_eq_true rfl) ?_
  intro p e s m args below meth c Q A S hW0 hK hP hD hA hreti hretv ls hl
  have hS : va_S A s.heap s.heap [] := va_S.rf
  obtain ⟨hx, hb, hml, hown, hts⟩ := id S
  have hl : lv_has ls 4 [(0, .ref h0), (1, .int v1)] := hl
  have S_X3_grow_56 : ∀ (n : Nat) (v1 : Int32) (v2 : Int32) (v3 : Int32) (c_now : (Nat → Int32)) (c_status : (Nat → Int32)) (c_past : (Nat → Int32)) (c_code : Int32) (c_acts : Int32) (k85 : (Nat → Int32) → Option (Int32 × (Nat → Int32) × (Nat → Int32) × (Nat → Int32) × Int32 × Int32)), F_X3_grow_56 N v2 n v3 c_now k85 = some ρ → (∀ (z_c_now : (Nat → Int32)) (H : Heap) (locs : List Loc) (ls : Array Slot), k85 z_c_now = some ρ → va_P G.2.1 vwCl (mW h0 ad G.2.2 c_code z_c_now c_read c_status c_tape c_taped c_at c_textSize c_token c_number c_begins c_stops c_bad c_badPlace c_faultPlace c_clauses c_naming c_lineBy c_becomes c_dualLines c_on c_rowNow c_least c_wayFirst c_ways c_acts c_past c_listPoints c_listLines c_listed c_list c_path c_places c_firstPlaces c_px c_py c_pz c_placeMany c_modulus c_drawn c_halvesMany c_halvesFirst c_spreadsMany c_spreadsFirst c_comesTo c_seedNow c_rowThen c_hasImage c_actsThen c_imageRow c_pastThen c_statusThen) H → va_D A (mW h0 ad G.2.2 c_code z_c_now c_read c_status c_tape c_taped c_at c_textSize c_token c_number c_begins c_stops c_bad c_badPlace c_faultPlace c_clauses c_naming c_lineBy c_becomes c_dualLines c_on c_rowNow c_least c_wayFirst c_ways c_acts c_past c_listPoints c_listLines c_listed c_list c_path c_places c_firstPlaces c_px c_py c_pz c_placeMany c_modulus c_drawn c_halvesMany c_halvesFirst c_spreadsMany c_spreadsFirst c_comesTo c_seedNow c_rowThen c_hasImage c_actsThen c_imageRow c_pastThen c_statusThen) → va_S A s.heap H locs → lv_has ls 4 [(0, .ref h0), (1, .int v1), (2, .int v2)] → W p l e (rmL 3 0 0) s m args below meth c H locs 0 0 Q (F0 m 85 ls [])) → ∀ (H : Heap) (locs : List Loc), va_P G.2.1 vwCl (mW h0 ad G.2.2 c_code c_now c_read c_status c_tape c_taped c_at c_textSize c_token c_number c_begins c_stops c_bad c_badPlace c_faultPlace c_clauses c_naming c_lineBy c_becomes c_dualLines c_on c_rowNow c_least c_wayFirst c_ways c_acts c_past c_listPoints c_listLines c_listed c_list c_path c_places c_firstPlaces c_px c_py c_pz c_placeMany c_modulus c_drawn c_halvesMany c_halvesFirst c_spreadsMany c_spreadsFirst c_comesTo c_seedNow c_rowThen c_hasImage c_actsThen c_imageRow c_pastThen c_statusThen) H → va_D A (mW h0 ad G.2.2 c_code c_now c_read c_status c_tape c_taped c_at c_textSize c_token c_number c_begins c_stops c_bad c_badPlace c_faultPlace c_clauses c_naming c_lineBy c_becomes c_dualLines c_on c_rowNow c_least c_wayFirst c_ways c_acts c_past c_listPoints c_listLines c_listed c_list c_path c_places c_firstPlaces c_px c_py c_pz c_placeMany c_modulus c_drawn c_halvesMany c_halvesFirst c_spreadsMany c_spreadsFirst c_comesTo c_seedNow c_rowThen c_hasImage c_actsThen c_imageRow c_pastThen c_statusThen) → va_S A s.heap H locs → ∀ (ls : Array Slot), lv_has ls 4 [(0, .ref h0), (1, .int v1), (2, .int v2), (3, .int v3)] → W p l e (rmL 3 0 0) s m args below meth c H locs 0 0 Q (F0 m 56 ls []) := by
    intro n
    induction n with
    | zero =>
      intro v1 v2 v3 c_now c_status c_past c_code c_acts k85 h
      exact absurd h (by simp [F_X3_grow_56])
    | succ n ih =>
      intro v1 v2 v3 c_now c_status c_past c_code c_acts k85 h hk85 H locs hP hD hS ls hl
      rw [F_X3_grow_56] at h
      refine lv_iload_n hx hb dX3_grow_56 rfl (lv_at hl 3 rfl) ?_
      refine lv_if_lt (tgt := 85) hx hb dX3_grow_57 (by decide) (fun c8 => ?_) (fun c8 => ?_)
      · rw [if_pos c8] at h
        exact hk85 c_now _ _ _ h hP hD hS (lv_sub hl [0, 1, 2] rfl)
      · rw [if_neg c8] at h
        refine lv_aload_n hx hb dX3_grow_60 rfl (lv_at hl 0 rfl) ?_
        refine lv_iload_n hx hb dX3_grow_61 rfl (lv_at hl 3 rfl) ?_
        obtain ⟨y9, e9, h⟩ := ob_s h
        refine MR.callV (q0 := 0) (M_X3_lineAt hG e9) S (cw_X3_lineAt hts q1925 ⟨Nat.le_of_ble_eq_true rfl, Nat.le_of_ble_eq_true rfl⟩) hW0 hK hP rfl rfl rfl hl.1 rfl (Nat.le_of_ble_eq_true rfl) dX3_grow_62 ⟨Nat.zero_le _, Nat.zero_le _⟩ ?_
        refine lv_iload_n hx hb dX3_grow_65 rfl (lv_at hl 2 rfl) ?_
        refine lv_ishr hx hb dX3_grow_66 ?_
        refine lv_iconst (v := 1) hx hb dX3_grow_67 (by decide) ?_
        refine lv_iand hx hb dX3_grow_68 ?_
        refine lv_iconst (v := 1) hx hb dX3_grow_69 (by decide) ?_
        refine lv_icmp_ne (tgt := 79) hx hb dX3_grow_70 (by decide) (fun c10 => ?_) (fun c10 => ?_)
        · rw [if_neg c10] at h
          refine lv_iinc (v := (v3 + (-1))) (lv' := [(3, .int (v3 + (-1))), (0, .ref h0), (1, .int v1), (2, .int v2)]) hx hb dX3_grow_79 hl (k := 3) rfl rfl (by decide) rfl (fun ls hl => ?_)
          refine lv_goto (tgt := 56) hx hb dX3_grow_82 (by decide) ?_
          exact ih v1 v2 (v3 + (-1)) c_now c_status c_past c_code c_acts _ h hk85 _ _ hP hD hS _ (lv_sub hl [1, 2, 3, 0] rfl)
        · rw [if_pos c10] at h
          refine lv_aload_n hx hb dX3_grow_73 rfl (lv_at hl 0 rfl) ?_
          refine lv_iload_n hx hb dX3_grow_74 rfl (lv_at hl 3 rfl) ?_
          obtain ⟨y11, e11, h⟩ := ob_s h
          refine MW.callV (q0 := 0) (M_X3_dropNow hG e11) S (cw_X3_dropNow hts q2162 ⟨Nat.le_of_ble_eq_true rfl, Nat.le_of_ble_eq_true rfl⟩) hW0 hK hP hD hS hA rfl rfl rfl hl.1 rfl (Nat.le_of_ble_eq_true rfl) dX3_grow_75 ⟨Nat.zero_le _, Nat.zero_le _⟩ (fun H locs hP hD hS => ?_)
          have hP : va_P G.2.1 vwCl (mW h0 ad G.2.2 c_code y11.2 c_read c_status c_tape c_taped c_at c_textSize c_token c_number c_begins c_stops c_bad c_badPlace c_faultPlace c_clauses c_naming c_lineBy c_becomes c_dualLines c_on c_rowNow c_least c_wayFirst c_ways c_acts c_past c_listPoints c_listLines c_listed c_list c_path c_places c_firstPlaces c_px c_py c_pz c_placeMany c_modulus c_drawn c_halvesMany c_halvesFirst c_spreadsMany c_spreadsFirst c_comesTo c_seedNow c_rowThen c_hasImage c_actsThen c_imageRow c_pastThen c_statusThen) H := hP
          have hD : va_D A (mW h0 ad G.2.2 c_code y11.2 c_read c_status c_tape c_taped c_at c_textSize c_token c_number c_begins c_stops c_bad c_badPlace c_faultPlace c_clauses c_naming c_lineBy c_becomes c_dualLines c_on c_rowNow c_least c_wayFirst c_ways c_acts c_past c_listPoints c_listLines c_listed c_list c_path c_places c_firstPlaces c_px c_py c_pz c_placeMany c_modulus c_drawn c_halvesMany c_halvesFirst c_spreadsMany c_spreadsFirst c_comesTo c_seedNow c_rowThen c_hasImage c_actsThen c_imageRow c_pastThen c_statusThen) := hD
          refine W.eq (g2 := F0 m 78 ls [.int y11.1]) rfl ?_
          refine lv_pop hx hb dX3_grow_78 rfl ?_
          refine lv_iinc (v := (v3 + (-1))) (lv' := [(3, .int (v3 + (-1))), (0, .ref h0), (1, .int v1), (2, .int v2)]) hx hb dX3_grow_79 hl (k := 3) rfl rfl (by decide) rfl (fun ls hl => ?_)
          refine lv_goto (tgt := 56) hx hb dX3_grow_82 (by decide) ?_
          exact ih v1 v2 (v3 + (-1)) y11.2 c_status c_past c_code c_acts _ h hk85 _ _ hP hD hS _ (lv_sub hl [1, 2, 3, 0] rfl)
  have S_X3_grow_48 : ∀ (s0 : Int32) (v1 : Int32) (c_now : (Nat → Int32)) (c_status : (Nat → Int32)) (c_past : (Nat → Int32)) (c_code : Int32) (c_acts : Int32), F_X3_grow_48 N c_status c_past c_code c_acts s0 v1 c_now = some ρ → ∀ (H : Heap) (locs : List Loc), va_P G.2.1 vwCl (mW h0 ad G.2.2 c_code c_now c_read c_status c_tape c_taped c_at c_textSize c_token c_number c_begins c_stops c_bad c_badPlace c_faultPlace c_clauses c_naming c_lineBy c_becomes c_dualLines c_on c_rowNow c_least c_wayFirst c_ways c_acts c_past c_listPoints c_listLines c_listed c_list c_path c_places c_firstPlaces c_px c_py c_pz c_placeMany c_modulus c_drawn c_halvesMany c_halvesFirst c_spreadsMany c_spreadsFirst c_comesTo c_seedNow c_rowThen c_hasImage c_actsThen c_imageRow c_pastThen c_statusThen) H → va_D A (mW h0 ad G.2.2 c_code c_now c_read c_status c_tape c_taped c_at c_textSize c_token c_number c_begins c_stops c_bad c_badPlace c_faultPlace c_clauses c_naming c_lineBy c_becomes c_dualLines c_on c_rowNow c_least c_wayFirst c_ways c_acts c_past c_listPoints c_listLines c_listed c_list c_path c_places c_firstPlaces c_px c_py c_pz c_placeMany c_modulus c_drawn c_halvesMany c_halvesFirst c_spreadsMany c_spreadsFirst c_comesTo c_seedNow c_rowThen c_hasImage c_actsThen c_imageRow c_pastThen c_statusThen) → va_S A s.heap H locs → ∀ (ls : Array Slot), lv_has ls 4 [(0, .ref h0), (1, .int v1)] → W p l e (rmL 3 0 0) s m args below meth c H locs 0 0 Q (F0 m 48 ls [.int s0]) := by
    intro s0 v1 c_now c_status c_past c_code c_acts h H locs hP hD hS ls hl
    rw [F_X3_grow_48] at h
    refine lv_istore_n (lv' := [(2, .int s0), (0, .ref h0), (1, .int v1)]) hx hb dX3_grow_48 rfl hl (by decide) rfl (fun ls hl => ?_)
    refine lv_aload_n hx hb dX3_grow_49 rfl (lv_at hl 1 rfl) ?_
    obtain ⟨y7, e7, h⟩ := ob_s h
    refine MR.callV (q0 := 0) (M_X3_lines hG e7) S (cw_X3_lines hts q1917 ⟨Nat.le_of_ble_eq_true rfl, Nat.le_of_ble_eq_true rfl⟩) hW0 hK hP rfl rfl rfl hl.1 rfl (Nat.le_of_ble_eq_true rfl) dX3_grow_50 ⟨Nat.zero_le _, Nat.zero_le _⟩ ?_
    refine lv_iconst (v := 1) hx hb dX3_grow_53 (by decide) ?_
    refine lv_isub hx hb dX3_grow_54 ?_
    refine lv_istore_n (lv' := [(3, .int (y7 - (1 : Int32))), (2, .int s0), (0, .ref h0), (1, .int v1)]) hx hb dX3_grow_55 rfl hl (by decide) rfl (fun ls hl => ?_)
    refine S_X3_grow_56 N v1 s0 (y7 - (1 : Int32)) c_now c_status c_past c_code c_acts _ h ?_ _ _ hP hD hS _ (lv_sub hl [2, 3, 1, 0] rfl)
    · intro c_now_12 H locs ls h hP hD hS hl
      refine lv_aload_n hx hb dX3_grow_85 rfl (lv_at hl 0 rfl) ?_
      refine va_get (ci := 2) (v := .ref (ad 1)) (C := RX3) (T := TX3) (N := 52) hx hb hts in_X3 hown hK hP 0 rfl rfl 1 (by decide) (hts _ q1659) (fun _ h9 => h9) rfl dX3_grow_86 ?_
      refine lv_bipush (v := 14) hx hb dX3_grow_89 (by decide) ?_
      refine lv_iload_n hx hb dX3_grow_91 rfl (lv_at hl 2 rfl) ?_
      refine lv_iadd hx hb dX3_grow_92 ?_
      refine lv_iconst (v := 0) hx hb dX3_grow_93 (by decide) ?_
      obtain ⟨i13, h⟩ := ckI_s h
      refine va_iast (f := c_now_12) hx hb hK hP hD hS 1 0 rfl rfl i13 dX3_grow_94 (fun H locs hP hD hS => ?_)
      have hP : va_P G.2.1 vwCl (mW h0 ad G.2.2 c_code (upd c_now_12 (Int32.toNatClampNeg ((14 : Int32) + s0)) 0) c_read c_status c_tape c_taped c_at c_textSize c_token c_number c_begins c_stops c_bad c_badPlace c_faultPlace c_clauses c_naming c_lineBy c_becomes c_dualLines c_on c_rowNow c_least c_wayFirst c_ways c_acts c_past c_listPoints c_listLines c_listed c_list c_path c_places c_firstPlaces c_px c_py c_pz c_placeMany c_modulus c_drawn c_halvesMany c_halvesFirst c_spreadsMany c_spreadsFirst c_comesTo c_seedNow c_rowThen c_hasImage c_actsThen c_imageRow c_pastThen c_statusThen) H := hP
      have hD : va_D A (mW h0 ad G.2.2 c_code (upd c_now_12 (Int32.toNatClampNeg ((14 : Int32) + s0)) 0) c_read c_status c_tape c_taped c_at c_textSize c_token c_number c_begins c_stops c_bad c_badPlace c_faultPlace c_clauses c_naming c_lineBy c_becomes c_dualLines c_on c_rowNow c_least c_wayFirst c_ways c_acts c_past c_listPoints c_listLines c_listed c_list c_path c_places c_firstPlaces c_px c_py c_pz c_placeMany c_modulus c_drawn c_halvesMany c_halvesFirst c_spreadsMany c_spreadsFirst c_comesTo c_seedNow c_rowThen c_hasImage c_actsThen c_imageRow c_pastThen c_statusThen) := hD
      refine lv_aload_n hx hb dX3_grow_95 rfl (lv_at hl 0 rfl) ?_
      refine va_get (ci := 2) (v := .ref (ad 1)) (C := RX3) (T := TX3) (N := 52) hx hb hts in_X3 hown hK hP 0 rfl rfl 1 (by decide) (hts _ q1659) (fun _ h9 => h9) rfl dX3_grow_96 ?_
      refine lv_bipush (v := 22) hx hb dX3_grow_99 (by decide) ?_
      refine lv_iload_n hx hb dX3_grow_101 rfl (lv_at hl 2 rfl) ?_
      refine lv_iadd hx hb dX3_grow_102 ?_
      refine lv_iconst (v := 0) hx hb dX3_grow_103 (by decide) ?_
      obtain ⟨i14, h⟩ := ckI_s h
      refine va_iast (f := (upd c_now_12 (Int32.toNatClampNeg ((14 : Int32) + s0)) 0)) hx hb hK hP hD hS 1 0 rfl rfl i14 dX3_grow_104 (fun H locs hP hD hS => ?_)
      have hP : va_P G.2.1 vwCl (mW h0 ad G.2.2 c_code (upd (upd c_now_12 (Int32.toNatClampNeg ((14 : Int32) + s0)) 0) (Int32.toNatClampNeg ((22 : Int32) + s0)) 0) c_read c_status c_tape c_taped c_at c_textSize c_token c_number c_begins c_stops c_bad c_badPlace c_faultPlace c_clauses c_naming c_lineBy c_becomes c_dualLines c_on c_rowNow c_least c_wayFirst c_ways c_acts c_past c_listPoints c_listLines c_listed c_list c_path c_places c_firstPlaces c_px c_py c_pz c_placeMany c_modulus c_drawn c_halvesMany c_halvesFirst c_spreadsMany c_spreadsFirst c_comesTo c_seedNow c_rowThen c_hasImage c_actsThen c_imageRow c_pastThen c_statusThen) H := hP
      have hD : va_D A (mW h0 ad G.2.2 c_code (upd (upd c_now_12 (Int32.toNatClampNeg ((14 : Int32) + s0)) 0) (Int32.toNatClampNeg ((22 : Int32) + s0)) 0) c_read c_status c_tape c_taped c_at c_textSize c_token c_number c_begins c_stops c_bad c_badPlace c_faultPlace c_clauses c_naming c_lineBy c_becomes c_dualLines c_on c_rowNow c_least c_wayFirst c_ways c_acts c_past c_listPoints c_listLines c_listed c_list c_path c_places c_firstPlaces c_px c_py c_pz c_placeMany c_modulus c_drawn c_halvesMany c_halvesFirst c_spreadsMany c_spreadsFirst c_comesTo c_seedNow c_rowThen c_hasImage c_actsThen c_imageRow c_pastThen c_statusThen) := hD
      refine lv_aload_n hx hb dX3_grow_105 rfl (lv_at hl 0 rfl) ?_
      refine va_get (ci := 2) (v := .ref (ad 1)) (C := RX3) (T := TX3) (N := 52) hx hb hts in_X3 hown hK hP 0 rfl rfl 1 (by decide) (hts _ q1659) (fun _ h9 => h9) rfl dX3_grow_106 ?_
      refine lv_iconst (v := 0) hx hb dX3_grow_109 (by decide) ?_
      refine lv_dup2_11 hx hb dX3_grow_110 rfl rfl ?_
      obtain ⟨i15, h⟩ := ckI_s h
      refine va_iald (f := (upd (upd c_now_12 (Int32.toNatClampNeg ((14 : Int32) + s0)) 0) (Int32.toNatClampNeg ((22 : Int32) + s0)) 0)) hx hb hK hP 1 0 rfl rfl i15 dX3_grow_111 ?_
      refine lv_iload_n hx hb dX3_grow_112 rfl (lv_at hl 1 rfl) ?_
      refine lv_if_eq (tgt := 120) hx hb dX3_grow_113 (by decide) (fun c16 => ?_) (fun c16 => ?_)
      · rw [if_pos c16] at h
        refine lv_iconst (v := (-1)) hx hb dX3_grow_120 (by decide) ?_
        refine lv_iadd hx hb dX3_grow_121 ?_
        obtain ⟨i17, h⟩ := ckI_s h
        refine va_iast (f := (upd (upd c_now_12 (Int32.toNatClampNeg ((14 : Int32) + s0)) 0) (Int32.toNatClampNeg ((22 : Int32) + s0)) 0)) hx hb hK hP hD hS 1 0 rfl rfl i17 dX3_grow_122 (fun H locs hP hD hS => ?_)
        have hP : va_P G.2.1 vwCl (mW h0 ad G.2.2 c_code (upd (upd (upd c_now_12 (Int32.toNatClampNeg ((14 : Int32) + s0)) 0) (Int32.toNatClampNeg ((22 : Int32) + s0)) 0) (Int32.toNatClampNeg 0) (((upd (upd c_now_12 (Int32.toNatClampNeg ((14 : Int32) + s0)) 0) (Int32.toNatClampNeg ((22 : Int32) + s0)) 0) (Int32.toNatClampNeg 0)) + (-1 : Int32))) c_read c_status c_tape c_taped c_at c_textSize c_token c_number c_begins c_stops c_bad c_badPlace c_faultPlace c_clauses c_naming c_lineBy c_becomes c_dualLines c_on c_rowNow c_least c_wayFirst c_ways c_acts c_past c_listPoints c_listLines c_listed c_list c_path c_places c_firstPlaces c_px c_py c_pz c_placeMany c_modulus c_drawn c_halvesMany c_halvesFirst c_spreadsMany c_spreadsFirst c_comesTo c_seedNow c_rowThen c_hasImage c_actsThen c_imageRow c_pastThen c_statusThen) H := hP
        have hD : va_D A (mW h0 ad G.2.2 c_code (upd (upd (upd c_now_12 (Int32.toNatClampNeg ((14 : Int32) + s0)) 0) (Int32.toNatClampNeg ((22 : Int32) + s0)) 0) (Int32.toNatClampNeg 0) (((upd (upd c_now_12 (Int32.toNatClampNeg ((14 : Int32) + s0)) 0) (Int32.toNatClampNeg ((22 : Int32) + s0)) 0) (Int32.toNatClampNeg 0)) + (-1 : Int32))) c_read c_status c_tape c_taped c_at c_textSize c_token c_number c_begins c_stops c_bad c_badPlace c_faultPlace c_clauses c_naming c_lineBy c_becomes c_dualLines c_on c_rowNow c_least c_wayFirst c_ways c_acts c_past c_listPoints c_listLines c_listed c_list c_path c_places c_firstPlaces c_px c_py c_pz c_placeMany c_modulus c_drawn c_halvesMany c_halvesFirst c_spreadsMany c_spreadsFirst c_comesTo c_seedNow c_rowThen c_hasImage c_actsThen c_imageRow c_pastThen c_statusThen) := hD
        refine lv_aload_n hx hb dX3_grow_123 rfl (lv_at hl 0 rfl) ?_
        obtain ⟨y18, e18, h⟩ := ob_s h
        refine MR.callV (q0 := 0) (M_X3_points hG e18) S (cw_X3_points hts q1913 ⟨Nat.le_of_ble_eq_true rfl, Nat.le_of_ble_eq_true rfl⟩) hW0 hK hP rfl rfl rfl hl.1 rfl (Nat.le_of_ble_eq_true rfl) dX3_grow_124 ⟨Nat.zero_le _, Nat.zero_le _⟩ ?_
        obtain rfl := Option.some.inj h
        exact hreti rfl dX3_grow_127 rfl rfl hP hD hS
      · rw [if_neg c16] at h
        refine lv_iconst (v := 1) hx hb dX3_grow_116 (by decide) ?_
        refine lv_goto (tgt := 121) hx hb dX3_grow_117 (by decide) ?_
        refine lv_iadd hx hb dX3_grow_121 ?_
        obtain ⟨i20, h⟩ := ckI_s h
        refine va_iast (f := (upd (upd c_now_12 (Int32.toNatClampNeg ((14 : Int32) + s0)) 0) (Int32.toNatClampNeg ((22 : Int32) + s0)) 0)) hx hb hK hP hD hS 1 0 rfl rfl i20 dX3_grow_122 (fun H locs hP hD hS => ?_)
        have hP : va_P G.2.1 vwCl (mW h0 ad G.2.2 c_code (upd (upd (upd c_now_12 (Int32.toNatClampNeg ((14 : Int32) + s0)) 0) (Int32.toNatClampNeg ((22 : Int32) + s0)) 0) (Int32.toNatClampNeg 0) (((upd (upd c_now_12 (Int32.toNatClampNeg ((14 : Int32) + s0)) 0) (Int32.toNatClampNeg ((22 : Int32) + s0)) 0) (Int32.toNatClampNeg 0)) + (1 : Int32))) c_read c_status c_tape c_taped c_at c_textSize c_token c_number c_begins c_stops c_bad c_badPlace c_faultPlace c_clauses c_naming c_lineBy c_becomes c_dualLines c_on c_rowNow c_least c_wayFirst c_ways c_acts c_past c_listPoints c_listLines c_listed c_list c_path c_places c_firstPlaces c_px c_py c_pz c_placeMany c_modulus c_drawn c_halvesMany c_halvesFirst c_spreadsMany c_spreadsFirst c_comesTo c_seedNow c_rowThen c_hasImage c_actsThen c_imageRow c_pastThen c_statusThen) H := hP
        have hD : va_D A (mW h0 ad G.2.2 c_code (upd (upd (upd c_now_12 (Int32.toNatClampNeg ((14 : Int32) + s0)) 0) (Int32.toNatClampNeg ((22 : Int32) + s0)) 0) (Int32.toNatClampNeg 0) (((upd (upd c_now_12 (Int32.toNatClampNeg ((14 : Int32) + s0)) 0) (Int32.toNatClampNeg ((22 : Int32) + s0)) 0) (Int32.toNatClampNeg 0)) + (1 : Int32))) c_read c_status c_tape c_taped c_at c_textSize c_token c_number c_begins c_stops c_bad c_badPlace c_faultPlace c_clauses c_naming c_lineBy c_becomes c_dualLines c_on c_rowNow c_least c_wayFirst c_ways c_acts c_past c_listPoints c_listLines c_listed c_list c_path c_places c_firstPlaces c_px c_py c_pz c_placeMany c_modulus c_drawn c_halvesMany c_halvesFirst c_spreadsMany c_spreadsFirst c_comesTo c_seedNow c_rowThen c_hasImage c_actsThen c_imageRow c_pastThen c_statusThen) := hD
        refine lv_aload_n hx hb dX3_grow_123 rfl (lv_at hl 0 rfl) ?_
        obtain ⟨y21, e21, h⟩ := ob_s h
        refine MR.callV (q0 := 0) (M_X3_points hG e21) S (cw_X3_points hts q1913 ⟨Nat.le_of_ble_eq_true rfl, Nat.le_of_ble_eq_true rfl⟩) hW0 hK hP rfl rfl rfl hl.1 rfl (Nat.le_of_ble_eq_true rfl) dX3_grow_124 ⟨Nat.zero_le _, Nat.zero_le _⟩ ?_
        obtain rfl := Option.some.inj h
        exact hreti rfl dX3_grow_127 rfl rfl hP hD hS
  have S_X3_grow_19 : ∀ (s0 : Int32) (s1 : Int32) (v1 : Int32) (c_now : (Nat → Int32)) (c_status : (Nat → Int32)) (c_past : (Nat → Int32)) (c_code : Int32) (c_acts : Int32), F_X3_grow_19 N c_code s0 s1 v1 c_now c_status c_past c_acts = some ρ → ∀ (H : Heap) (locs : List Loc), va_P G.2.1 vwCl (mW h0 ad G.2.2 c_code c_now c_read c_status c_tape c_taped c_at c_textSize c_token c_number c_begins c_stops c_bad c_badPlace c_faultPlace c_clauses c_naming c_lineBy c_becomes c_dualLines c_on c_rowNow c_least c_wayFirst c_ways c_acts c_past c_listPoints c_listLines c_listed c_list c_path c_places c_firstPlaces c_px c_py c_pz c_placeMany c_modulus c_drawn c_halvesMany c_halvesFirst c_spreadsMany c_spreadsFirst c_comesTo c_seedNow c_rowThen c_hasImage c_actsThen c_imageRow c_pastThen c_statusThen) H → va_D A (mW h0 ad G.2.2 c_code c_now c_read c_status c_tape c_taped c_at c_textSize c_token c_number c_begins c_stops c_bad c_badPlace c_faultPlace c_clauses c_naming c_lineBy c_becomes c_dualLines c_on c_rowNow c_least c_wayFirst c_ways c_acts c_past c_listPoints c_listLines c_listed c_list c_path c_places c_firstPlaces c_px c_py c_pz c_placeMany c_modulus c_drawn c_halvesMany c_halvesFirst c_spreadsMany c_spreadsFirst c_comesTo c_seedNow c_rowThen c_hasImage c_actsThen c_imageRow c_pastThen c_statusThen) → va_S A s.heap H locs → ∀ (ls : Array Slot), lv_has ls 4 [(0, .ref h0), (1, .int v1)] → W p l e (rmL 3 0 0) s m args below meth c H locs 0 0 Q (F0 m 19 ls [.int s1, .int s0]) := by
    intro s0 s1 v1 c_now c_status c_past c_code c_acts h H locs hP hD hS ls hl
    rw [F_X3_grow_19] at h
    refine lv_icmp_ne (tgt := 27) hx hb dX3_grow_19 (by decide) (fun c3 => ?_) (fun c3 => ?_)
    · rw [if_neg c3] at h
      refine lv_aload_n hx hb dX3_grow_27 rfl (lv_at hl 0 rfl) ?_
      obtain ⟨y4, e4, h⟩ := ob_s h
      refine MW.callV (q0 := 0) (M_X3_keep hG e4) S (cw_X3_keep hts q2150 ⟨Nat.le_of_ble_eq_true rfl, Nat.le_of_ble_eq_true rfl⟩) hW0 hK hP hD hS hA rfl rfl rfl hl.1 rfl (Nat.le_of_ble_eq_true rfl) dX3_grow_28 ⟨Nat.zero_le _, Nat.zero_le _⟩ (fun H locs hP hD hS => ?_)
      have hP : va_P G.2.1 vwCl (mW h0 ad G.2.2 c_code c_now c_read c_status c_tape c_taped c_at c_textSize c_token c_number c_begins c_stops c_bad c_badPlace c_faultPlace c_clauses c_naming c_lineBy c_becomes c_dualLines c_on c_rowNow c_least c_wayFirst c_ways y4.2 y4.1 c_listPoints c_listLines c_listed c_list c_path c_places c_firstPlaces c_px c_py c_pz c_placeMany c_modulus c_drawn c_halvesMany c_halvesFirst c_spreadsMany c_spreadsFirst c_comesTo c_seedNow c_rowThen c_hasImage c_actsThen c_imageRow c_pastThen c_statusThen) H := hP
      have hD : va_D A (mW h0 ad G.2.2 c_code c_now c_read c_status c_tape c_taped c_at c_textSize c_token c_number c_begins c_stops c_bad c_badPlace c_faultPlace c_clauses c_naming c_lineBy c_becomes c_dualLines c_on c_rowNow c_least c_wayFirst c_ways y4.2 y4.1 c_listPoints c_listLines c_listed c_list c_path c_places c_firstPlaces c_px c_py c_pz c_placeMany c_modulus c_drawn c_halvesMany c_halvesFirst c_spreadsMany c_spreadsFirst c_comesTo c_seedNow c_rowThen c_hasImage c_actsThen c_imageRow c_pastThen c_statusThen) := hD
      refine W.eq (g2 := F0 m 31 ls []) rfl ?_
      refine lv_iload_n hx hb dX3_grow_31 rfl (lv_at hl 1 rfl) ?_
      refine lv_if_eq (tgt := 42) hx hb dX3_grow_32 (by decide) (fun c5 => ?_) (fun c5 => ?_)
      · rw [if_pos c5] at h
        refine lv_aload_n hx hb dX3_grow_42 rfl (lv_at hl 0 rfl) ?_
        obtain ⟨y6, e6, h⟩ := ob_s h
        refine MR.callV (q0 := 0) (M_X3_points hG e6) S (cw_X3_points hts q1913 ⟨Nat.le_of_ble_eq_true rfl, Nat.le_of_ble_eq_true rfl⟩) hW0 hK hP rfl rfl rfl hl.1 rfl (Nat.le_of_ble_eq_true rfl) dX3_grow_43 ⟨Nat.zero_le _, Nat.zero_le _⟩ ?_
        refine lv_iconst (v := 1) hx hb dX3_grow_46 (by decide) ?_
        refine lv_isub hx hb dX3_grow_47 ?_
        refine S_X3_grow_48 (y6 - (1 : Int32)) v1 c_now c_status y4.1 c_code y4.2 h  _ _ hP hD hS _ (lv_sub hl [0, 1] rfl)
      · rw [if_neg c5] at h
        refine lv_aload_n hx hb dX3_grow_35 rfl (lv_at hl 0 rfl) ?_
        obtain ⟨y23, e23, h⟩ := ob_s h
        refine MR.callV (q0 := 0) (M_X3_points hG e23) S (cw_X3_points hts q1913 ⟨Nat.le_of_ble_eq_true rfl, Nat.le_of_ble_eq_true rfl⟩) hW0 hK hP rfl rfl rfl hl.1 rfl (Nat.le_of_ble_eq_true rfl) dX3_grow_36 ⟨Nat.zero_le _, Nat.zero_le _⟩ ?_
        refine lv_goto (tgt := 48) hx hb dX3_grow_39 (by decide) ?_
        refine S_X3_grow_48 y23 v1 c_now c_status y4.1 c_code y4.2 h  _ _ hP hD hS _ (lv_sub hl [0, 1] rfl)
    · rw [if_pos c3] at h
      refine lv_aload_n hx hb dX3_grow_22 rfl (lv_at hl 0 rfl) ?_
      obtain ⟨y24, e24, h⟩ := ob_s h
      refine MW.callV (q0 := 0) (M_X3_refuse hG e24) S (cw_X3_refuse hts q2146 ⟨Nat.le_of_ble_eq_true rfl, Nat.le_of_ble_eq_true rfl⟩) hW0 hK hP hD hS hA rfl rfl rfl hl.1 rfl (Nat.le_of_ble_eq_true rfl) dX3_grow_23 ⟨Nat.zero_le _, Nat.zero_le _⟩ (fun H locs hP hD hS => ?_)
      have hP : va_P G.2.1 vwCl (mW h0 ad G.2.2 c_code c_now c_read y24.2 c_tape c_taped c_at c_textSize c_token c_number c_begins c_stops c_bad c_badPlace c_faultPlace c_clauses c_naming c_lineBy c_becomes c_dualLines c_on c_rowNow c_least c_wayFirst c_ways c_acts c_past c_listPoints c_listLines c_listed c_list c_path c_places c_firstPlaces c_px c_py c_pz c_placeMany c_modulus c_drawn c_halvesMany c_halvesFirst c_spreadsMany c_spreadsFirst c_comesTo c_seedNow c_rowThen c_hasImage c_actsThen c_imageRow c_pastThen c_statusThen) H := hP
      have hD : va_D A (mW h0 ad G.2.2 c_code c_now c_read y24.2 c_tape c_taped c_at c_textSize c_token c_number c_begins c_stops c_bad c_badPlace c_faultPlace c_clauses c_naming c_lineBy c_becomes c_dualLines c_on c_rowNow c_least c_wayFirst c_ways c_acts c_past c_listPoints c_listLines c_listed c_list c_path c_places c_firstPlaces c_px c_py c_pz c_placeMany c_modulus c_drawn c_halvesMany c_halvesFirst c_spreadsMany c_spreadsFirst c_comesTo c_seedNow c_rowThen c_hasImage c_actsThen c_imageRow c_pastThen c_statusThen) := hD
      refine W.eq (g2 := F0 m 26 ls [.int y24.1]) rfl ?_
      obtain rfl := Option.some.inj h
      exact hreti rfl dX3_grow_26 rfl rfl hP hD hS
  refine lv_aload_n hx hb dX3_grow_0 rfl (lv_at hl 0 rfl) ?_
  refine lv_iconst (v := 0) hx hb dX3_grow_1 (by decide) ?_
  refine va_put (ci := 2) (v := .int 0) (ty := .int) (C := RX3) (T := TX3) (N := 52) hx hb hts in_X3 tyX3 tyX3_ok nmX3 hown hK hP hD hS 0 rfl rfl 0 (by decide) (hts _ q1658) (fun _ h9 => h9) rfl (by decide +kernel) rfl rfl (Nat.le_of_ble_eq_true rfl) dX3_grow_2 (fun H locs hP hD hS => ?_)
  have hP : va_P G.2.1 vwCl (mW h0 ad G.2.2 0 c_now c_read c_status c_tape c_taped c_at c_textSize c_token c_number c_begins c_stops c_bad c_badPlace c_faultPlace c_clauses c_naming c_lineBy c_becomes c_dualLines c_on c_rowNow c_least c_wayFirst c_ways c_acts c_past c_listPoints c_listLines c_listed c_list c_path c_places c_firstPlaces c_px c_py c_pz c_placeMany c_modulus c_drawn c_halvesMany c_halvesFirst c_spreadsMany c_spreadsFirst c_comesTo c_seedNow c_rowThen c_hasImage c_actsThen c_imageRow c_pastThen c_statusThen) H := hP
  have hD : va_D A (mW h0 ad G.2.2 0 c_now c_read c_status c_tape c_taped c_at c_textSize c_token c_number c_begins c_stops c_bad c_badPlace c_faultPlace c_clauses c_naming c_lineBy c_becomes c_dualLines c_on c_rowNow c_least c_wayFirst c_ways c_acts c_past c_listPoints c_listLines c_listed c_list c_path c_places c_firstPlaces c_px c_py c_pz c_placeMany c_modulus c_drawn c_halvesMany c_halvesFirst c_spreadsMany c_spreadsFirst c_comesTo c_seedNow c_rowThen c_hasImage c_actsThen c_imageRow c_pastThen c_statusThen) := hD
  refine lv_aload_n hx hb dX3_grow_5 rfl (lv_at hl 0 rfl) ?_
  obtain ⟨y1, e1, h⟩ := ob_s h
  refine MR.callV (q0 := 0) (M_X3_points hG e1) S (cw_X3_points hts q1913 ⟨Nat.le_of_ble_eq_true rfl, Nat.le_of_ble_eq_true rfl⟩) hW0 hK hP rfl rfl rfl hl.1 rfl (Nat.le_of_ble_eq_true rfl) dX3_grow_6 ⟨Nat.zero_le _, Nat.zero_le _⟩ ?_
  refine lv_iload_n hx hb dX3_grow_9 rfl (lv_at hl 1 rfl) ?_
  refine lv_if_eq (tgt := 18) hx hb dX3_grow_10 (by decide) (fun c2 => ?_) (fun c2 => ?_)
  · rw [if_pos c2] at h
    refine lv_iconst (v := 1) hx hb dX3_grow_18 (by decide) ?_
    refine S_X3_grow_19 y1 1 v1 c_now c_status c_past 0 c_acts h  _ _ hP hD hS _ (lv_sub hl [0, 1] rfl)
  · rw [if_neg c2] at h
    refine lv_bipush (v := 8) hx hb dX3_grow_13 (by decide) ?_
    refine lv_goto (tgt := 19) hx hb dX3_grow_15 (by decide) ?_
    refine S_X3_grow_19 y1 8 v1 c_now c_status c_past 0 c_acts h  _ _ hP hD hS _ (lv_sub hl [0, 1] rfl)
