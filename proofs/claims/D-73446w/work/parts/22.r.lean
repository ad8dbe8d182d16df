set_option maxRecDepth 100000
set_option linter.unusedVariables false
def F_X2_like (N : Nat) (c_p0_line : (Nat → Int32)) (c_p0_x : (Nat → Int32)) (c_p0_y : (Nat → Int32)) (c_p1_line : (Nat → Int32)) (c_p1_x : (Nat → Int32)) (c_p1_y : (Nat → Int32)) (c_p0_points : Int32) (c_p0_lines : Int32) (c_p1_points : Int32) (c_p1_lines : Int32) : Option ((Nat → Int32) × (Nat → Int32) × (Nat → Int32) × Int32 × Int32) := (ckP (¬ (0 : Int32) < 0 ∧ ¬ (0 : Int32) < 0 ∧ ¬ (12 : Int32) < 0 ∧ Int32.toNatClampNeg (0 : Int32) + Int32.toNatClampNeg (12 : Int32) ≤ 12 ∧ Int32.toNatClampNeg (0 : Int32) + Int32.toNatClampNeg (12 : Int32) ≤ 12) (ckP (¬ (0 : Int32) < 0 ∧ ¬ (0 : Int32) < 0 ∧ ¬ (8 : Int32) < 0 ∧ Int32.toNatClampNeg (0 : Int32) + Int32.toNatClampNeg (8 : Int32) ≤ 8 ∧ Int32.toNatClampNeg (0 : Int32) + Int32.toNatClampNeg (8 : Int32) ≤ 8) (ckP (¬ (0 : Int32) < 0 ∧ ¬ (0 : Int32) < 0 ∧ ¬ (8 : Int32) < 0 ∧ Int32.toNatClampNeg (0 : Int32) + Int32.toNatClampNeg (8 : Int32) ≤ 8 ∧ Int32.toNatClampNeg (0 : Int32) + Int32.toNatClampNeg (8 : Int32) ≤ 8) (some ((va_cpy c_p1_line c_p0_line (Int32.toNatClampNeg 0) (Int32.toNatClampNeg 0) (Int32.toNatClampNeg 12)), (va_cpy c_p1_x c_p0_x (Int32.toNatClampNeg 0) (Int32.toNatClampNeg 0) (Int32.toNatClampNeg 8)), (va_cpy c_p1_y c_p0_y (Int32.toNatClampNeg 0) (Int32.toNatClampNeg 0) (Int32.toNatClampNeg 8)), c_p1_points, c_p1_lines)))))
theorem cw_X2_like {R : Room} {s : State} {args : Array Value} {own : String} {index lev mc ms : Nat} (hts : ∀ w ∈ lw_all, w.before args s = true) (hl : Cond.methodLink own index yX2_like ∈ lw_all) (hR : (rmL lev mc ms).frames + 1 ≤ R.frames ∧ 8 + (2 + 11) + (rmL lev mc ms).locals ≤ R.locals) : CallW R s args own RX2 index yX2_like cX2_like 2 none (ws_ yX2_like cX2_like 2 none) (rmL lev mc ms) mc ms 1 := cwV 1 hts (lw_V hl q707 q708 q155 q709) rfl rfl rfl (by decide +kernel) hR
set_option maxHeartbeats 4000000 in
theorem M_X2_like {l : Launch} {G : GE} (hG : GC G) {N : Nat} {b0 : Nat} {ad0 : Nat → Nat} {b1 : Nat} {ad1 : Nat → Nat} {c_p0_line : (Nat → Int32)} {c_p0_x : (Nat → Int32)} {c_p0_y : (Nat → Int32)} {c_p1_line : (Nat → Int32)} {c_p1_x : (Nat → Int32)} {c_p1_y : (Nat → Int32)} {c_p0_points : Int32} {c_p0_lines : Int32} {c_p1_points : Int32} {c_p1_lines : Int32} {ρ : ((Nat → Int32) × (Nat → Int32) × (Nat → Int32) × Int32 × Int32)} (h : F_X2_like N c_p0_line c_p0_x c_p0_y c_p1_line c_p1_x c_p1_y c_p0_points c_p0_lines c_p1_points c_p1_lines = some ρ) : MW l G yX2_like cX2_like 2 none 1 [(b0, .inr (1, [.int c_p0_points, .int c_p0_lines, .ref (ad0 2), .ref (ad0 3), .ref (ad0 4)])), ((ad0 2), .inl (G.2.2 0, 12, .inl c_p0_line)), ((ad0 3), .inl (G.2.2 0, 8, .inl c_p0_x)), ((ad0 4), .inl (G.2.2 0, 8, .inl c_p0_y)), (b1, .inr (1, [.int c_p1_points, .int c_p1_lines, .ref (ad1 2), .ref (ad1 3), .ref (ad1 4)])), ((ad1 2), .inl (G.2.2 0, 12, .inl c_p1_line)), ((ad1 3), .inl (G.2.2 0, 8, .inl c_p1_x)), ((ad1 4), .inl (G.2.2 0, 8, .inl c_p1_y))] [.ref b0, .ref b1] none [(b0, .inr (1, [.int ρ.2.2.2.1, .int ρ.2.2.2.2, .ref (ad0 2), .ref (ad0 3), .ref (ad0 4)])), ((ad0 2), .inl (G.2.2 0, 12, .inl ρ.1)), ((ad0 3), .inl (G.2.2 0, 8, .inl ρ.2.1)), ((ad0 4), .inl (G.2.2 0, 8, .inl ρ.2.2.1)), (b1, .inr (1, [.int c_p1_points, .int c_p1_lines, .ref (ad1 2), .ref (ad1 3), .ref (ad1 4)])), ((ad1 2), .inl (G.2.2 0, 12, .inl c_p1_line)), ((ad1 3), .inl (G.2.2 0, 8, .inl c_p1_x)), ((ad1 4), .inl (G.2.2 0, 8, .inl c_p1_y))] := by
  rw [F_X2_like] at h
  refine MW.start hG (by decide) (Nat.le_of_ble_eq_true rfl) ?_
  intro p e s m args below meth c Q A S hW0 hK hP hD hA hreti hretv ls hl
  have hS : va_S A s.heap s.heap [] := va_S.rf
  obtain ⟨hx, hb, hml, hown, hts⟩ := id S
  have hl : lv_has ls 2 [(0, .ref b0), (1, .ref b1)] := hl
  refine lv_aload_n hx hb dX2_like_0 rfl (lv_at hl 0 rfl) ?_
  refine lv_aload_n hx hb dX2_like_1 rfl (lv_at hl 1 rfl) ?_
  refine va_get (ci := 1) (v := .int c_p1_points) (C := RX2) (T := TX2) (N := 5) hx hb hts in_X2 hown hK hP 4 rfl rfl 0 (by decide) (hts _ q225) (fun _ h9 => h9) rfl dX2_like_2 ?_
  refine va_put (ci := 1) (v := .int c_p1_points) (ty := .int) (C := RX2) (T := TX2) (N := 5) hx hb hts in_X2 tyX2 tyX2_ok nmX2 hown hK hP hD hS 0 rfl rfl 0 (by decide) (hts _ q225) (fun _ h9 => h9) rfl (by decide +kernel) rfl rfl (Nat.le_of_ble_eq_true rfl) dX2_like_5 (fun H locs hP hD hS => ?_)
  have hP : va_P G.2.1 vwCl [(b0, .inr (1, [.int c_p1_points, .int c_p0_lines, .ref (ad0 2), .ref (ad0 3), .ref (ad0 4)])), ((ad0 2), .inl (G.2.2 0, 12, .inl c_p0_line)), ((ad0 3), .inl (G.2.2 0, 8, .inl c_p0_x)), ((ad0 4), .inl (G.2.2 0, 8, .inl c_p0_y)), (b1, .inr (1, [.int c_p1_points, .int c_p1_lines, .ref (ad1 2), .ref (ad1 3), .ref (ad1 4)])), ((ad1 2), .inl (G.2.2 0, 12, .inl c_p1_line)), ((ad1 3), .inl (G.2.2 0, 8, .inl c_p1_x)), ((ad1 4), .inl (G.2.2 0, 8, .inl c_p1_y))] H := hP
  have hD : va_D A [(b0, .inr (1, [.int c_p1_points, .int c_p0_lines, .ref (ad0 2), .ref (ad0 3), .ref (ad0 4)])), ((ad0 2), .inl (G.2.2 0, 12, .inl c_p0_line)), ((ad0 3), .inl (G.2.2 0, 8, .inl c_p0_x)), ((ad0 4), .inl (G.2.2 0, 8, .inl c_p0_y)), (b1, .inr (1, [.int c_p1_points, .int c_p1_lines, .ref (ad1 2), .ref (ad1 3), .ref (ad1 4)])), ((ad1 2), .inl (G.2.2 0, 12, .inl c_p1_line)), ((ad1 3), .inl (G.2.2 0, 8, .inl c_p1_x)), ((ad1 4), .inl (G.2.2 0, 8, .inl c_p1_y))] := hD
  refine lv_aload_n hx hb dX2_like_8 rfl (lv_at hl 0 rfl) ?_
  refine lv_aload_n hx hb dX2_like_9 rfl (lv_at hl 1 rfl) ?_
  refine va_get (ci := 1) (v := .int c_p1_lines) (C := RX2) (T := TX2) (N := 5) hx hb hts in_X2 hown hK hP 4 rfl rfl 1 (by decide) (hts _ q229) (fun _ h9 => h9) rfl dX2_like_10 ?_
  refine va_put (ci := 1) (v := .int c_p1_lines) (ty := .int) (C := RX2) (T := TX2) (N := 5) hx hb hts in_X2 tyX2 tyX2_ok nmX2 hown hK hP hD hS 0 rfl rfl 1 (by decide) (hts _ q229) (fun _ h9 => h9) rfl (by decide +kernel) rfl rfl (Nat.le_of_ble_eq_true rfl) dX2_like_13 (fun H locs hP hD hS => ?_)
  have hP : va_P G.2.1 vwCl [(b0, .inr (1, [.int c_p1_points, .int c_p1_lines, .ref (ad0 2), .ref (ad0 3), .ref (ad0 4)])), ((ad0 2), .inl (G.2.2 0, 12, .inl c_p0_line)), ((ad0 3), .inl (G.2.2 0, 8, .inl c_p0_x)), ((ad0 4), .inl (G.2.2 0, 8, .inl c_p0_y)), (b1, .inr (1, [.int c_p1_points, .int c_p1_lines, .ref (ad1 2), .ref (ad1 3), .ref (ad1 4)])), ((ad1 2), .inl (G.2.2 0, 12, .inl c_p1_line)), ((ad1 3), .inl (G.2.2 0, 8, .inl c_p1_x)), ((ad1 4), .inl (G.2.2 0, 8, .inl c_p1_y))] H := hP
  have hD : va_D A [(b0, .inr (1, [.int c_p1_points, .int c_p1_lines, .ref (ad0 2), .ref (ad0 3), .ref (ad0 4)])), ((ad0 2), .inl (G.2.2 0, 12, .inl c_p0_line)), ((ad0 3), .inl (G.2.2 0, 8, .inl c_p0_x)), ((ad0 4), .inl (G.2.2 0, 8, .inl c_p0_y)), (b1, .inr (1, [.int c_p1_points, .int c_p1_lines, .ref (ad1 2), .ref (ad1 3), .ref (ad1 4)])), ((ad1 2), .inl (G.2.2 0, 12, .inl c_p1_line)), ((ad1 3), .inl (G.2.2 0, 8, .inl c_p1_x)), ((ad1 4), .inl (G.2.2 0, 8, .inl c_p1_y))] := hD
  refine lv_aload_n hx hb dX2_like_16 rfl (lv_at hl 1 rfl) ?_
  refine va_get (ci := 1) (v := .ref (ad1 2)) (C := RX2) (T := TX2) (N := 5) hx hb hts in_X2 hown hK hP 4 rfl rfl 2 (by decide) (hts _ q232) (fun _ h9 => h9) rfl dX2_like_17 ?_
  refine lv_iconst (v := 0) hx hb dX2_like_20 (by decide) ?_
  refine lv_aload_n hx hb dX2_like_21 rfl (lv_at hl 0 rfl) ?_
  refine va_get (ci := 1) (v := .ref (ad0 2)) (C := RX2) (T := TX2) (N := 5) hx hb hts in_X2 hown hK hP 0 rfl rfl 2 (by decide) (hts _ q232) (fun _ h9 => h9) rfl dX2_like_22 ?_
  refine lv_iconst (v := 0) hx hb dX2_like_25 (by decide) ?_
  refine lv_bipush (v := 12) hx hb dX2_like_26 (by decide) ?_
  obtain ⟨⟨i1a, i1b, i1c, i1d, i1e⟩, h⟩ := ckP_s h
  refine va_copyi (f := c_p1_line) (g := c_p0_line) hx hb (hml.trans hl.1.symm) hown (hts _ q710) (hts _ q381) (hts _ q380) (hts _ q167) hK hP hD hS 5 1 0 0 rfl rfl rfl rfl rfl i1a i1b i1c i1d i1e (fun _ _ => rfl) (Nat.le_of_ble_eq_true rfl) (Nat.le_of_ble_eq_true rfl) dX2_like_28 (fun H locs hP hD hS => ?_)
  have hP : va_P G.2.1 vwCl [(b0, .inr (1, [.int c_p1_points, .int c_p1_lines, .ref (ad0 2), .ref (ad0 3), .ref (ad0 4)])), ((ad0 2), .inl (G.2.2 0, 12, .inl (va_cpy c_p1_line c_p0_line (Int32.toNatClampNeg 0) (Int32.toNatClampNeg 0) (Int32.toNatClampNeg 12)))), ((ad0 3), .inl (G.2.2 0, 8, .inl c_p0_x)), ((ad0 4), .inl (G.2.2 0, 8, .inl c_p0_y)), (b1, .inr (1, [.int c_p1_points, .int c_p1_lines, .ref (ad1 2), .ref (ad1 3), .ref (ad1 4)])), ((ad1 2), .inl (G.2.2 0, 12, .inl c_p1_line)), ((ad1 3), .inl (G.2.2 0, 8, .inl c_p1_x)), ((ad1 4), .inl (G.2.2 0, 8, .inl c_p1_y))] H := hP
  have hD : va_D A [(b0, .inr (1, [.int c_p1_points, .int c_p1_lines, .ref (ad0 2), .ref (ad0 3), .ref (ad0 4)])), ((ad0 2), .inl (G.2.2 0, 12, .inl (va_cpy c_p1_line c_p0_line (Int32.toNatClampNeg 0) (Int32.toNatClampNeg 0) (Int32.toNatClampNeg 12)))), ((ad0 3), .inl (G.2.2 0, 8, .inl c_p0_x)), ((ad0 4), .inl (G.2.2 0, 8, .inl c_p0_y)), (b1, .inr (1, [.int c_p1_points, .int c_p1_lines, .ref (ad1 2), .ref (ad1 3), .ref (ad1 4)])), ((ad1 2), .inl (G.2.2 0, 12, .inl c_p1_line)), ((ad1 3), .inl (G.2.2 0, 8, .inl c_p1_x)), ((ad1 4), .inl (G.2.2 0, 8, .inl c_p1_y))] := hD
  refine lv_aload_n hx hb dX2_like_31 rfl (lv_at hl 1 rfl) ?_
  refine va_get (ci := 1) (v := .ref (ad1 3)) (C := RX2) (T := TX2) (N := 5) hx hb hts in_X2 hown hK hP 4 rfl rfl 3 (by decide) (hts _ q235) (fun _ h9 => h9) rfl dX2_like_32 ?_
  refine lv_iconst (v := 0) hx hb dX2_like_35 (by decide) ?_
  refine lv_aload_n hx hb dX2_like_36 rfl (lv_at hl 0 rfl) ?_
  refine va_get (ci := 1) (v := .ref (ad0 3)) (C := RX2) (T := TX2) (N := 5) hx hb hts in_X2 hown hK hP 0 rfl rfl 3 (by decide) (hts _ q235) (fun _ h9 => h9) rfl dX2_like_37 ?_
  refine lv_iconst (v := 0) hx hb dX2_like_40 (by decide) ?_
  refine lv_bipush (v := 8) hx hb dX2_like_41 (by decide) ?_
  obtain ⟨⟨i2a, i2b, i2c, i2d, i2e⟩, h⟩ := ckP_s h
  refine va_copyi (f := c_p1_x) (g := c_p0_x) hx hb (hml.trans hl.1.symm) hown (hts _ q710) (hts _ q381) (hts _ q380) (hts _ q167) hK hP hD hS 6 2 0 0 rfl rfl rfl rfl rfl i2a i2b i2c i2d i2e (fun _ _ => rfl) (Nat.le_of_ble_eq_true rfl) (Nat.le_of_ble_eq_true rfl) dX2_like_43 (fun H locs hP hD hS => ?_)
  have hP : va_P G.2.1 vwCl [(b0, .inr (1, [.int c_p1_points, .int c_p1_lines, .ref (ad0 2), .ref (ad0 3), .ref (ad0 4)])), ((ad0 2), .inl (G.2.2 0, 12, .inl (va_cpy c_p1_line c_p0_line (Int32.toNatClampNeg 0) (Int32.toNatClampNeg 0) (Int32.toNatClampNeg 12)))), ((ad0 3), .inl (G.2.2 0, 8, .inl (va_cpy c_p1_x c_p0_x (Int32.toNatClampNeg 0) (Int32.toNatClampNeg 0) (Int32.toNatClampNeg 8)))), ((ad0 4), .inl (G.2.2 0, 8, .inl c_p0_y)), (b1, .inr (1, [.int c_p1_points, .int c_p1_lines, .ref (ad1 2), .ref (ad1 3), .ref (ad1 4)])), ((ad1 2), .inl (G.2.2 0, 12, .inl c_p1_line)), ((ad1 3), .inl (G.2.2 0, 8, .inl c_p1_x)), ((ad1 4), .inl (G.2.2 0, 8, .inl c_p1_y))] H := hP
  have hD : va_D A [(b0, .inr (1, [.int c_p1_points, .int c_p1_lines, .ref (ad0 2), .ref (ad0 3), .ref (ad0 4)])), ((ad0 2), .inl (G.2.2 0, 12, .inl (va_cpy c_p1_line c_p0_line (Int32.toNatClampNeg 0) (Int32.toNatClampNeg 0) (Int32.toNatClampNeg 12)))), ((ad0 3), .inl (G.2.2 0, 8, .inl (va_cpy c_p1_x c_p0_x (Int32.toNatClampNeg 0) (Int32.toNatClampNeg 0) (Int32.toNatClampNeg 8)))), ((ad0 4), .inl (G.2.2 0, 8, .inl c_p0_y)), (b1, .inr (1, [.int c_p1_points, .int c_p1_lines, .ref (ad1 2), .ref (ad1 3), .ref (ad1 4)])), ((ad1 2), .inl (G.2.2 0, 12, .inl c_p1_line)), ((ad1 3), .inl (G.2.2 0, 8, .inl c_p1_x)), ((ad1 4), .inl (G.2.2 0, 8, .inl c_p1_y))] := hD
  refine lv_aload_n hx hb dX2_like_46 rfl (lv_at hl 1 rfl) ?_
  refine va_get (ci := 1) (v := .ref (ad1 4)) (C := RX2) (T := TX2) (N := 5) hx hb hts in_X2 hown hK hP 4 rfl rfl 4 (by decide) (hts _ q238) (fun _ h9 => h9) rfl dX2_like_47 ?_
  refine lv_iconst (v := 0) hx hb dX2_like_50 (by decide) ?_
  refine lv_aload_n hx hb dX2_like_51 rfl (lv_at hl 0 rfl) ?_
  refine va_get (ci := 1) (v := .ref (ad0 4)) (C := RX2) (T := TX2) (N := 5) hx hb hts in_X2 hown hK hP 0 rfl rfl 4 (by decide) (hts _ q238) (fun _ h9 => h9) rfl dX2_like_52 ?_
  refine lv_iconst (v := 0) hx hb dX2_like_55 (by decide) ?_
  refine lv_bipush (v := 8) hx hb dX2_like_56 (by decide) ?_
  obtain ⟨⟨i3a, i3b, i3c, i3d, i3e⟩, h⟩ := ckP_s h
  refine va_copyi (f := c_p1_y) (g := c_p0_y) hx hb (hml.trans hl.1.symm) hown (hts _ q710) (hts _ q381) (hts _ q380) (hts _ q167) hK hP hD hS 7 3 0 0 rfl rfl rfl rfl rfl i3a i3b i3c i3d i3e (fun _ _ => rfl) (Nat.le_of_ble_eq_true rfl) (Nat.le_of_ble_eq_true rfl) dX2_like_58 (fun H locs hP hD hS => ?_)
  have hP : va_P G.2.1 vwCl [(b0, .inr (1, [.int c_p1_points, .int c_p1_lines, .ref (ad0 2), .ref (ad0 3), .ref (ad0 4)])), ((ad0 2), .inl (G.2.2 0, 12, .inl (va_cpy c_p1_line c_p0_line (Int32.toNatClampNeg 0) (Int32.toNatClampNeg 0) (Int32.toNatClampNeg 12)))), ((ad0 3), .inl (G.2.2 0, 8, .inl (va_cpy c_p1_x c_p0_x (Int32.toNatClampNeg 0) (Int32.toNatClampNeg 0) (Int32.toNatClampNeg 8)))), ((ad0 4), .inl (G.2.2 0, 8, .inl (va_cpy c_p1_y c_p0_y (Int32.toNatClampNeg 0) (Int32.toNatClampNeg 0) (Int32.toNatClampNeg 8)))), (b1, .inr (1, [.int c_p1_points, .int c_p1_lines, .ref (ad1 2), .ref (ad1 3), .ref (ad1 4)])), ((ad1 2), .inl (G.2.2 0, 12, .inl c_p1_line)), ((ad1 3), .inl (G.2.2 0, 8, .inl c_p1_x)), ((ad1 4), .inl (G.2.2 0, 8, .inl c_p1_y))] H := hP
  have hD : va_D A [(b0, .inr (1, [.int c_p1_points, .int c_p1_lines, .ref (ad0 2), .ref (ad0 3), .ref (ad0 4)])), ((ad0 2), .inl (G.2.2 0, 12, .inl (va_cpy c_p1_line c_p0_line (Int32.toNatClampNeg 0) (Int32.toNatClampNeg 0) (Int32.toNatClampNeg 12)))), ((ad0 3), .inl (G.2.2 0, 8, .inl (va_cpy c_p1_x c_p0_x (Int32.toNatClampNeg 0) (Int32.toNatClampNeg 0) (Int32.toNatClampNeg 8)))), ((ad0 4), .inl (G.2.2 0, 8, .inl (va_cpy c_p1_y c_p0_y (Int32.toNatClampNeg 0) (Int32.toNatClampNeg 0) (Int32.toNatClampNeg 8)))), (b1, .inr (1, [.int c_p1_points, .int c_p1_lines, .ref (ad1 2), .ref (ad1 3), .ref (ad1 4)])), ((ad1 2), .inl (G.2.2 0, 12, .inl c_p1_line)), ((ad1 3), .inl (G.2.2 0, 8, .inl c_p1_x)), ((ad1 4), .inl (G.2.2 0, 8, .inl c_p1_y))] := hD
  obtain rfl := Option.some.inj h
  exact hretv rfl dX2_like_61 rfl hP hD hS
def F_X6_takes_23 (N : Nat) (n1 : Nat) (c_p0_kept : (Nat → Int32)) (c_p0_wanted : Int32) (c_p0_many : Int32) : Option (Int32 × (Nat → Int32) × Int32) := (if c_p0_wanted < 0 then (some (1, c_p0_kept, (c_p0_many + (1 : Int32)))) else (if c_p0_wanted < (c_p0_many + (1 : Int32)) then (some (0, c_p0_kept, (c_p0_many + (1 : Int32)))) else (some (1, c_p0_kept, (c_p0_many + (1 : Int32))))))
def F_X6_takes (N : Nat) (n1 : Nat) (c_p1 : (Nat → Int32)) (c_p0_kept : (Nat → Int32)) (c_p0_many : Int32) (c_p0_wanted : Int32) : Option (Int32 × (Nat → Int32) × Int32) := (if c_p0_many = c_p0_wanted then (ckP (¬ (0 : Int32) < 0 ∧ ¬ (0 : Int32) < 0 ∧ ¬ (8 : Int32) < 0 ∧ Int32.toNatClampNeg (0 : Int32) + Int32.toNatClampNeg (8 : Int32) ≤ n1 ∧ Int32.toNatClampNeg (0 : Int32) + Int32.toNatClampNeg (8 : Int32) ≤ 8) (F_X6_takes_23 N n1 (va_cpy c_p1 c_p0_kept (Int32.toNatClampNeg 0) (Int32.toNatClampNeg 0) (Int32.toNatClampNeg 8)) c_p0_wanted c_p0_many)) else (F_X6_takes_23 N n1 c_p0_kept c_p0_wanted c_p0_many))
theorem cw_X6_takes {R : Room} {s : State} {args : Array Value} {own : String} {index lev mc ms : Nat} (hts : ∀ w ∈ lw_all, w.before args s = true) (hl : Cond.methodLink own index yX6_takes ∈ lw_all) (hR : (rmL lev mc ms).frames + 1 ≤ R.frames ∧ 8 + (2 + 11) + (rmL lev mc ms).locals ≤ R.locals) : CallW R s args own RX6 index yX6_takes cX6_takes 2 (some .boolean) (ws_ yX6_takes cX6_takes 2 (some .boolean)) (rmL lev mc ms) mc ms 1 := cwV 1 hts (lw_V hl q1292 q1293 q178 q1294) rfl rfl rfl (by decide +kernel) hR
set_option maxHeartbeats 4000000 in
theorem M_X6_takes {l : Launch} {G : GE} (hG : GC G) {N : Nat} {b0 : Nat} {ad0 : Nat → Nat} {b1 : Nat} {n1 : Nat} {c_p1 : (Nat → Int32)} {c_p0_kept : (Nat → Int32)} {c_p0_many : Int32} {c_p0_wanted : Int32} {ρ : (Int32 × (Nat → Int32) × Int32)} (h : F_X6_takes N n1 c_p1 c_p0_kept c_p0_many c_p0_wanted = some ρ) : MW l G yX6_takes cX6_takes 2 (some .boolean) 1 [(b0, .inr (5, [.int c_p0_many, .int c_p0_wanted, .ref (ad0 2)])), ((ad0 2), .inl (G.2.2 0, 8, .inl c_p0_kept)), (b1, .inl (G.2.2 0, n1, .inl c_p1))] [.ref b0, .ref b1] (some (.int ρ.1)) [(b0, .inr (5, [.int ρ.2.2, .int c_p0_wanted, .ref (ad0 2)])), ((ad0 2), .inl (G.2.2 0, 8, .inl ρ.2.1)), (b1, .inl (G.2.2 0, n1, .inl c_p1))] := by
  rw [F_X6_takes] at h
  refine MW.start hG (by decide) (Nat.le_of_ble_eq_true rfl) ?_
  intro p e s m args below meth c Q A S hW0 hK hP hD hA hreti hretv ls hl
  have hS : va_S A s.heap s.heap [] := va_S.rf
  obtain ⟨hx, hb, hml, hown, hts⟩ := id S
  have hl : lv_has ls 2 [(0, .ref b0), (1, .ref b1)] := hl
  have S_X6_takes_23 : ∀ (c_p0_kept : (Nat → Int32)) (c_p0_many : Int32), F_X6_takes_23 N n1 c_p0_kept c_p0_wanted c_p0_many = some ρ → ∀ (H : Heap) (locs : List Loc), va_P G.2.1 vwCl [(b0, .inr (5, [.int c_p0_many, .int c_p0_wanted, .ref (ad0 2)])), ((ad0 2), .inl (G.2.2 0, 8, .inl c_p0_kept)), (b1, .inl (G.2.2 0, n1, .inl c_p1))] H → va_D A [(b0, .inr (5, [.int c_p0_many, .int c_p0_wanted, .ref (ad0 2)])), ((ad0 2), .inl (G.2.2 0, 8, .inl c_p0_kept)), (b1, .inl (G.2.2 0, n1, .inl c_p1))] → va_S A s.heap H locs → ∀ (ls : Array Slot), lv_has ls 2 [(0, .ref b0)] → W p l e (rmL 1 0 0) s m args below meth c H locs 0 0 Q (F0 m 23 ls []) := by
    intro c_p0_kept c_p0_many h H locs hP hD hS ls hl
    rw [F_X6_takes_23] at h
    refine lv_aload_n hx hb dX6_takes_23 rfl (lv_at hl 0 rfl) ?_
    refine lv_dup hx hb dX6_takes_24 rfl ?_
    refine va_get (ci := 5) (v := .int c_p0_many) (C := RX6) (T := TX6) (N := 3) hx hb hts in_X6 hown hK hP 0 rfl rfl 0 (by decide) (hts _ q1249) (fun _ h9 => h9) rfl dX6_takes_25 ?_
    refine lv_iconst (v := 1) hx hb dX6_takes_28 (by decide) ?_
    refine lv_iadd hx hb dX6_takes_29 ?_
    refine va_put (ci := 5) (v := .int (c_p0_many + (1 : Int32))) (ty := .int) (C := RX6) (T := TX6) (N := 3) hx hb hts in_X6 tyX6 tyX6_ok nmX6 hown hK hP hD hS 0 rfl rfl 0 (by decide) (hts _ q1249) (fun _ h9 => h9) rfl (by decide +kernel) rfl rfl (Nat.le_of_ble_eq_true rfl) dX6_takes_30 (fun H locs hP hD hS => ?_)
    have hP : va_P G.2.1 vwCl [(b0, .inr (5, [.int (c_p0_many + (1 : Int32)), .int c_p0_wanted, .ref (ad0 2)])), ((ad0 2), .inl (G.2.2 0, 8, .inl c_p0_kept)), (b1, .inl (G.2.2 0, n1, .inl c_p1))] H := hP
    have hD : va_D A [(b0, .inr (5, [.int (c_p0_many + (1 : Int32)), .int c_p0_wanted, .ref (ad0 2)])), ((ad0 2), .inl (G.2.2 0, 8, .inl c_p0_kept)), (b1, .inl (G.2.2 0, n1, .inl c_p1))] := hD
    refine lv_aload_n hx hb dX6_takes_33 rfl (lv_at hl 0 rfl) ?_
    refine va_get (ci := 5) (v := .int c_p0_wanted) (C := RX6) (T := TX6) (N := 3) hx hb hts in_X6 hown hK hP 0 rfl rfl 1 (by decide) (hts _ q1251) (fun _ h9 => h9) rfl dX6_takes_34 ?_
    refine lv_if_lt (tgt := 51) hx hb dX6_takes_37 (by decide) (fun c2 => ?_) (fun c2 => ?_)
    · rw [if_pos c2] at h
      refine lv_iconst (v := 1) hx hb dX6_takes_51 (by decide) ?_
      refine lv_goto (tgt := 56) hx hb dX6_takes_52 (by decide) ?_
      obtain rfl := Option.some.inj h
      exact hreti rfl dX6_takes_56 rfl rfl hP hD hS
    · rw [if_neg c2] at h
      refine lv_aload_n hx hb dX6_takes_40 rfl (lv_at hl 0 rfl) ?_
      refine va_get (ci := 5) (v := .int (c_p0_many + (1 : Int32))) (C := RX6) (T := TX6) (N := 3) hx hb hts in_X6 hown hK hP 0 rfl rfl 0 (by decide) (hts _ q1249) (fun _ h9 => h9) rfl dX6_takes_41 ?_
      refine lv_aload_n hx hb dX6_takes_44 rfl (lv_at hl 0 rfl) ?_
      refine va_get (ci := 5) (v := .int c_p0_wanted) (C := RX6) (T := TX6) (N := 3) hx hb hts in_X6 hown hK hP 0 rfl rfl 1 (by decide) (hts _ q1251) (fun _ h9 => h9) rfl dX6_takes_45 ?_
      refine lv_icmp_gt (tgt := 55) hx hb dX6_takes_48 (by decide) (fun c4 => ?_) (fun c4 => ?_)
      · rw [if_pos c4] at h
        refine lv_iconst (v := 0) hx hb dX6_takes_55 (by decide) ?_
        obtain rfl := Option.some.inj h
        exact hreti rfl dX6_takes_56 rfl rfl hP hD hS
      · rw [if_neg c4] at h
        refine lv_iconst (v := 1) hx hb dX6_takes_51 (by decide) ?_
        refine lv_goto (tgt := 56) hx hb dX6_takes_52 (by decide) ?_
        obtain rfl := Option.some.inj h
        exact hreti rfl dX6_takes_56 rfl rfl hP hD hS
  refine lv_aload_n hx hb dX6_takes_0 rfl (lv_at hl 0 rfl) ?_
  refine va_get (ci := 5) (v := .int c_p0_many) (C := RX6) (T := TX6) (N := 3) hx hb hts in_X6 hown hK hP 0 rfl rfl 0 (by decide) (hts _ q1249) (fun _ h9 => h9) rfl dX6_takes_1 ?_
  refine lv_aload_n hx hb dX6_takes_4 rfl (lv_at hl 0 rfl) ?_
  refine va_get (ci := 5) (v := .int c_p0_wanted) (C := RX6) (T := TX6) (N := 3) hx hb hts in_X6 hown hK hP 0 rfl rfl 1 (by decide) (hts _ q1251) (fun _ h9 => h9) rfl dX6_takes_5 ?_
  refine lv_icmp_ne (tgt := 23) hx hb dX6_takes_8 (by decide) (fun c1 => ?_) (fun c1 => ?_)
  · rw [if_neg c1] at h
    refine S_X6_takes_23 c_p0_kept c_p0_many h  _ _ hP hD hS _ (lv_sub hl [0] rfl)
  · rw [if_pos c1] at h
    refine lv_aload_n hx hb dX6_takes_11 rfl (lv_at hl 1 rfl) ?_
    refine lv_iconst (v := 0) hx hb dX6_takes_12 (by decide) ?_
    refine lv_aload_n hx hb dX6_takes_13 rfl (lv_at hl 0 rfl) ?_
    refine va_get (ci := 5) (v := .ref (ad0 2)) (C := RX6) (T := TX6) (N := 3) hx hb hts in_X6 hown hK hP 0 rfl rfl 2 (by decide) (hts _ q1252) (fun _ h9 => h9) rfl dX6_takes_14 ?_
    refine lv_iconst (v := 0) hx hb dX6_takes_17 (by decide) ?_
    refine lv_bipush (v := 8) hx hb dX6_takes_18 (by decide) ?_
    obtain ⟨⟨i7a, i7b, i7c, i7d, i7e⟩, h⟩ := ckP_s h
    refine va_copyi (f := c_p1) (g := c_p0_kept) hx hb (hml.trans hl.1.symm) hown (hts _ q1295) (hts _ q381) (hts _ q380) (hts _ q167) hK hP hD hS 2 1 0 0 rfl rfl rfl rfl rfl i7a i7b i7c i7d i7e (fun _ _ => rfl) (Nat.le_of_ble_eq_true rfl) (Nat.le_of_ble_eq_true rfl) dX6_takes_20 (fun H locs hP hD hS => ?_)
    have hP : va_P G.2.1 vwCl [(b0, .inr (5, [.int c_p0_many, .int c_p0_wanted, .ref (ad0 2)])), ((ad0 2), .inl (G.2.2 0, 8, .inl (va_cpy c_p1 c_p0_kept (Int32.toNatClampNeg 0) (Int32.toNatClampNeg 0) (Int32.toNatClampNeg 8)))), (b1, .inl (G.2.2 0, n1, .inl c_p1))] H := hP
    have hD : va_D A [(b0, .inr (5, [.int c_p0_many, .int c_p0_wanted, .ref (ad0 2)])), ((ad0 2), .inl (G.2.2 0, 8, .inl (va_cpy c_p1 c_p0_kept (Int32.toNatClampNeg 0) (Int32.toNatClampNeg 0) (Int32.toNatClampNeg 8)))), (b1, .inl (G.2.2 0, n1, .inl c_p1))] := hD
    refine S_X6_takes_23 (va_cpy c_p1 c_p0_kept (Int32.toNatClampNeg 0) (Int32.toNatClampNeg 0) (Int32.toNatClampNeg 8)) c_p0_many h  _ _ hP hD hS _ (lv_sub hl [0] rfl)
def F_X8_sorts_17 (N : Nat) (n1 : Nat) (v3 : Int32) : Nat → Int32 → (Nat → Int32) → (Int32 → (Nat → Int32) → Option ((Nat → Int32))) → Option ((Nat → Int32))
  | 0, _, _, _ => none
  | n + 1, v4, c_p1, k48 => (if v4 ≤ 0 then (k48 v4 c_p1) else (ckI (v4 - (1 : Int32)) n1 (if (c_p1 (Int32.toNatClampNeg (v4 - (1 : Int32)))) ≤ v3 then (k48 v4 c_p1) else (ckI (v4 - (1 : Int32)) n1 (ckI v4 n1 (F_X8_sorts_17 N n1 v3 n (v4 + (-1)) (upd c_p1 (Int32.toNatClampNeg v4) (c_p1 (Int32.toNatClampNeg (v4 - (1 : Int32))))) k48))))))
def F_X8_sorts_2 (N : Nat) (n1 : Nat) (c_p0_lines : Int32) : Nat → Int32 → (Nat → Int32) → Option ((Nat → Int32))
  | 0, _, _ => none
  | n + 1, v2, c_p1 => (if c_p0_lines ≤ v2 then (some (c_p1)) else (ckI v2 n1 (F_X8_sorts_17 N n1 (c_p1 (Int32.toNatClampNeg v2)) N v2 c_p1 (fun u4_9 c_p1_9 => (ckI u4_9 n1 (F_X8_sorts_2 N n1 c_p0_lines n (v2 + 1) (upd c_p1_9 (Int32.toNatClampNeg u4_9) (c_p1 (Int32.toNatClampNeg v2)))))))))
def F_X8_sorts (N : Nat) (n1 : Nat) (c_p1 : (Nat → Int32)) (c_p0_lines : Int32) : Option ((Nat → Int32)) := (F_X8_sorts_2 N n1 c_p0_lines N 1 c_p1)
theorem cw_X8_sorts {R : Room} {s : State} {args : Array Value} {own : String} {index lev mc ms : Nat} (hts : ∀ w ∈ lw_all, w.before args s = true) (hl : Cond.methodLink own index yX8_sorts ∈ lw_all) (hR : (rmL lev mc ms).frames + 1 ≤ R.frames ∧ 8 + (5 + 11) + (rmL lev mc ms).locals ≤ R.locals) : CallW R s args own RX8 index yX8_sorts cX8_sorts 5 none (ws_ yX8_sorts cX8_sorts 5 none) (rmL lev mc ms) mc ms 1 := cwV 1 hts (lw_V hl q1452 qs51 q180 q1453) rfl rfl rfl (by decide +kernel) hR
set_option maxHeartbeats 4000000 in
theorem M_X8_sorts {l : Launch} {G : GE} (hG : GC G) {N : Nat} {b0 : Nat} {ad0 : Nat → Nat} {b1 : Nat} {n1 : Nat} {c_p0_points : Int32} {c_p0_isLess : Int32} {c_p1 : (Nat → Int32)} {c_p0_lines : Int32} {ρ : ((Nat → Int32))} (h : F_X8_sorts N n1 c_p1 c_p0_lines = some ρ) : MW l G yX8_sorts cX8_sorts 5 none 1 [(b0, .inr (7, [.int c_p0_points, .int c_p0_lines, .ref (ad0 2), .ref (ad0 3), .ref (ad0 4), .ref (ad0 5), .int c_p0_isLess])), (b1, .inl (G.2.2 0, n1, .inl c_p1))] [.ref b0, .ref b1] none [(b0, .inr (7, [.int c_p0_points, .int c_p0_lines, .ref (ad0 2), .ref (ad0 3), .ref (ad0 4), .ref (ad0 5), .int c_p0_isLess])), (b1, .inl (G.2.2 0, n1, .inl ρ))] := by
  rw [F_X8_sorts] at h
  refine MW.start hG (by decide) (Nat.le_of_ble_eq_true rfl) ?_
  intro p e s m args below meth c Q A S hW0 hK hP hD hA hreti hretv ls hl
  have hS : va_S A s.heap s.heap [] := va_S.rf
  obtain ⟨hx, hb, hml, hown, hts⟩ := id S
  have hl : lv_has ls 5 [(0, .ref b0), (1, .ref b1)] := hl
  have S_X8_sorts_17 : ∀ (n : Nat) (v2 : Int32) (v3 : Int32) (v4 : Int32) (c_p1 : (Nat → Int32)) (k48 : Int32 → (Nat → Int32) → Option ((Nat → Int32))), F_X8_sorts_17 N n1 v3 n v4 c_p1 k48 = some ρ → (∀ (u4 : Int32) (z_c_p1 : (Nat → Int32)) (H : Heap) (locs : List Loc) (ls : Array Slot), k48 u4 z_c_p1 = some ρ → va_P G.2.1 vwCl [(b0, .inr (7, [.int c_p0_points, .int c_p0_lines, .ref (ad0 2), .ref (ad0 3), .ref (ad0 4), .ref (ad0 5), .int c_p0_isLess])), (b1, .inl (G.2.2 0, n1, .inl z_c_p1))] H → va_D A [(b0, .inr (7, [.int c_p0_points, .int c_p0_lines, .ref (ad0 2), .ref (ad0 3), .ref (ad0 4), .ref (ad0 5), .int c_p0_isLess])), (b1, .inl (G.2.2 0, n1, .inl z_c_p1))] → va_S A s.heap H locs → lv_has ls 5 [(0, .ref b0), (1, .ref b1), (2, .int v2), (3, .int v3), (4, .int u4)] → W p l e (rmL 1 0 0) s m args below meth c H locs 0 0 Q (F0 m 48 ls [])) → ∀ (H : Heap) (locs : List Loc), va_P G.2.1 vwCl [(b0, .inr (7, [.int c_p0_points, .int c_p0_lines, .ref (ad0 2), .ref (ad0 3), .ref (ad0 4), .ref (ad0 5), .int c_p0_isLess])), (b1, .inl (G.2.2 0, n1, .inl c_p1))] H → va_D A [(b0, .inr (7, [.int c_p0_points, .int c_p0_lines, .ref (ad0 2), .ref (ad0 3), .ref (ad0 4), .ref (ad0 5), .int c_p0_isLess])), (b1, .inl (G.2.2 0, n1, .inl c_p1))] → va_S A s.heap H locs → ∀ (ls : Array Slot), lv_has ls 5 [(0, .ref b0), (1, .ref b1), (2, .int v2), (3, .int v3), (4, .int v4)] → W p l e (rmL 1 0 0) s m args below meth c H locs 0 0 Q (F0 m 17 ls []) := by
    intro n
    induction n with
    | zero =>
      intro v2 v3 v4 c_p1 k48 h
      exact absurd h (by simp [F_X8_sorts_17])
    | succ n ih =>
      intro v2 v3 v4 c_p1 k48 h hk48 H locs hP hD hS ls hl
      rw [F_X8_sorts_17] at h
      refine lv_iload hx hb dX8_sorts_17 (lv_at hl 4 rfl) ?_
      refine lv_if_le (tgt := 48) hx hb dX8_sorts_19 (by decide) (fun c4 => ?_) (fun c4 => ?_)
      · rw [if_pos c4] at h
        exact hk48 v4 c_p1 _ _ _ h hP hD hS (lv_sub hl [0, 1, 2, 3, 4] rfl)
      · rw [if_neg c4] at h
        refine lv_aload_n hx hb dX8_sorts_22 rfl (lv_at hl 1 rfl) ?_
        refine lv_iload hx hb dX8_sorts_23 (lv_at hl 4 rfl) ?_
        refine lv_iconst (v := 1) hx hb dX8_sorts_25 (by decide) ?_
        refine lv_isub hx hb dX8_sorts_26 ?_
        obtain ⟨i5, h⟩ := ckI_s h
        refine va_iald (f := c_p1) hx hb hK hP 1 0 rfl rfl i5 dX8_sorts_27 ?_
        refine lv_iload_n hx hb dX8_sorts_28 rfl (lv_at hl 3 rfl) ?_
        refine lv_icmp_le (tgt := 48) hx hb dX8_sorts_29 (by decide) (fun c6 => ?_) (fun c6 => ?_)
        · rw [if_pos c6] at h
          exact hk48 v4 c_p1 _ _ _ h hP hD hS (lv_sub hl [0, 1, 2, 3, 4] rfl)
        · rw [if_neg c6] at h
          refine lv_aload_n hx hb dX8_sorts_32 rfl (lv_at hl 1 rfl) ?_
          refine lv_iload hx hb dX8_sorts_33 (lv_at hl 4 rfl) ?_
          refine lv_aload_n hx hb dX8_sorts_35 rfl (lv_at hl 1 rfl) ?_
          refine lv_iload hx hb dX8_sorts_36 (lv_at hl 4 rfl) ?_
          refine lv_iconst (v := 1) hx hb dX8_sorts_38 (by decide) ?_
          refine lv_isub hx hb dX8_sorts_39 ?_
          obtain ⟨i7, h⟩ := ckI_s h
          refine va_iald (f := c_p1) hx hb hK hP 1 0 rfl rfl i7 dX8_sorts_40 ?_
          obtain ⟨i8, h⟩ := ckI_s h
          refine va_iast (f := c_p1) hx hb hK hP hD hS 1 0 rfl rfl i8 dX8_sorts_41 (fun H locs hP hD hS => ?_)
          have hP : va_P G.2.1 vwCl [(b0, .inr (7, [.int c_p0_points, .int c_p0_lines, .ref (ad0 2), .ref (ad0 3), .ref (ad0 4), .ref (ad0 5), .int c_p0_isLess])), (b1, .inl (G.2.2 0, n1, .inl (upd c_p1 (Int32.toNatClampNeg v4) (c_p1 (Int32.toNatClampNeg (v4 - (1 : Int32)))))))] H := hP
          have hD : va_D A [(b0, .inr (7, [.int c_p0_points, .int c_p0_lines, .ref (ad0 2), .ref (ad0 3), .ref (ad0 4), .ref (ad0 5), .int c_p0_isLess])), (b1, .inl (G.2.2 0, n1, .inl (upd c_p1 (Int32.toNatClampNeg v4) (c_p1 (Int32.toNatClampNeg (v4 - (1 : Int32)))))))] := hD
          refine lv_iinc (v := (v4 + (-1))) (lv' := [(4, .int (v4 + (-1))), (0, .ref b0), (1, .ref b1), (2, .int v2), (3, .int v3)]) hx hb dX8_sorts_42 hl (k := 4) rfl rfl (by decide) rfl (fun ls hl => ?_)
          refine lv_goto (tgt := 17) hx hb dX8_sorts_45 (by decide) ?_
          exact ih v2 v3 (v4 + (-1)) (upd c_p1 (Int32.toNatClampNeg v4) (c_p1 (Int32.toNatClampNeg (v4 - (1 : Int32))))) _ h hk48 _ _ hP hD hS _ (lv_sub hl [1, 2, 3, 4, 0] rfl)
  have S_X8_sorts_2 : ∀ (n : Nat) (v2 : Int32) (c_p1 : (Nat → Int32)), F_X8_sorts_2 N n1 c_p0_lines n v2 c_p1 = some ρ → ∀ (H : Heap) (locs : List Loc), va_P G.2.1 vwCl [(b0, .inr (7, [.int c_p0_points, .int c_p0_lines, .ref (ad0 2), .ref (ad0 3), .ref (ad0 4), .ref (ad0 5), .int c_p0_isLess])), (b1, .inl (G.2.2 0, n1, .inl c_p1))] H → va_D A [(b0, .inr (7, [.int c_p0_points, .int c_p0_lines, .ref (ad0 2), .ref (ad0 3), .ref (ad0 4), .ref (ad0 5), .int c_p0_isLess])), (b1, .inl (G.2.2 0, n1, .inl c_p1))] → va_S A s.heap H locs → ∀ (ls : Array Slot), lv_has ls 5 [(0, .ref b0), (1, .ref b1), (2, .int v2)] → W p l e (rmL 1 0 0) s m args below meth c H locs 0 0 Q (F0 m 2 ls []) := by
    intro n
    induction n with
    | zero =>
      intro v2 c_p1 h
      exact absurd h (by simp [F_X8_sorts_2])
    | succ n ih =>
      intro v2 c_p1 h H locs hP hD hS ls hl
      rw [F_X8_sorts_2] at h
      refine lv_iload_n hx hb dX8_sorts_2 rfl (lv_at hl 2 rfl) ?_
      refine lv_aload_n hx hb dX8_sorts_3 rfl (lv_at hl 0 rfl) ?_
      refine va_get (ci := 7) (v := .int c_p0_lines) (C := RX8) (T := TX8) (N := 7) hx hb hts in_X8 hown hK hP 0 rfl rfl 1 (by decide) (hts _ q1455) (fun _ h9 => h9) rfl dX8_sorts_4 ?_
      refine lv_icmp_ge (tgt := 59) hx hb dX8_sorts_7 (by decide) (fun c1 => ?_) (fun c1 => ?_)
      · rw [if_pos c1] at h
        obtain rfl := Option.some.inj h
        exact hretv rfl dX8_sorts_59 rfl hP hD hS
      · rw [if_neg c1] at h
        refine lv_aload_n hx hb dX8_sorts_10 rfl (lv_at hl 1 rfl) ?_
        refine lv_iload_n hx hb dX8_sorts_11 rfl (lv_at hl 2 rfl) ?_
        obtain ⟨i3, h⟩ := ckI_s h
        refine va_iald (f := c_p1) hx hb hK hP 1 0 rfl rfl i3 dX8_sorts_12 ?_
        refine lv_istore_n (lv' := [(3, .int (c_p1 (Int32.toNatClampNeg v2))), (0, .ref b0), (1, .ref b1), (2, .int v2)]) hx hb dX8_sorts_13 rfl hl (by decide) rfl (fun ls hl => ?_)
        refine lv_iload_n hx hb dX8_sorts_14 rfl (lv_at hl 3 rfl) ?_
        refine lv_istore (lv' := [(4, .int v2), (3, .int (c_p1 (Int32.toNatClampNeg v2))), (0, .ref b0), (1, .ref b1), (2, .int v2)]) hx hb dX8_sorts_15 hl (by decide) rfl (fun ls hl => ?_)
        refine S_X8_sorts_17 N v2 (c_p1 (Int32.toNatClampNeg v2)) v2 c_p1 _ h ?_ _ _ hP hD hS _ (lv_sub hl [2, 3, 4, 1, 0] rfl)
        · intro u4_9 c_p1_9 H locs ls h hP hD hS hl
          refine lv_aload_n hx hb dX8_sorts_48 rfl (lv_at hl 1 rfl) ?_
          refine lv_iload hx hb dX8_sorts_49 (lv_at hl 4 rfl) ?_
          refine lv_iload_n hx hb dX8_sorts_51 rfl (lv_at hl 3 rfl) ?_
          obtain ⟨i10, h⟩ := ckI_s h
          refine va_iast (f := c_p1_9) hx hb hK hP hD hS 1 0 rfl rfl i10 dX8_sorts_52 (fun H locs hP hD hS => ?_)
          have hP : va_P G.2.1 vwCl [(b0, .inr (7, [.int c_p0_points, .int c_p0_lines, .ref (ad0 2), .ref (ad0 3), .ref (ad0 4), .ref (ad0 5), .int c_p0_isLess])), (b1, .inl (G.2.2 0, n1, .inl (upd c_p1_9 (Int32.toNatClampNeg u4_9) (c_p1 (Int32.toNatClampNeg v2)))))] H := hP
          have hD : va_D A [(b0, .inr (7, [.int c_p0_points, .int c_p0_lines, .ref (ad0 2), .ref (ad0 3), .ref (ad0 4), .ref (ad0 5), .int c_p0_isLess])), (b1, .inl (G.2.2 0, n1, .inl (upd c_p1_9 (Int32.toNatClampNeg u4_9) (c_p1 (Int32.toNatClampNeg v2)))))] := hD
          refine lv_iinc (v := (v2 + 1)) (lv' := [(2, .int (v2 + 1)), (0, .ref b0), (1, .ref b1), (3, .int (c_p1 (Int32.toNatClampNeg v2))), (4, .int u4_9)]) hx hb dX8_sorts_53 hl (k := 2) rfl rfl (by decide) rfl (fun ls hl => ?_)
          refine lv_goto (tgt := 2) hx hb dX8_sorts_56 (by decide) ?_
          exact ih (v2 + 1) (upd c_p1_9 (Int32.toNatClampNeg u4_9) (c_p1 (Int32.toNatClampNeg v2))) h _ _ hP hD hS _ (lv_sub hl [1, 2, 0] rfl)
  refine lv_iconst (v := 1) hx hb dX8_sorts_0 (by decide) ?_
  refine lv_istore_n (lv' := [(2, .int 1), (0, .ref b0), (1, .ref b1)]) hx hb dX8_sorts_1 rfl hl (by decide) rfl (fun ls hl => ?_)
  refine S_X8_sorts_2 N 1 c_p1 h  _ _ hP hD hS _ (lv_sub hl [1, 2, 0] rfl)
def F_X8_names_14 (N : Nat) (nl : Nat) (v1 : Int32) (c_line : (Nat → Int32)) (c_to : (Nat → Int32)) (c_points : Int32) : Nat → Int32 → Int32 → (Int32 → Option ((Nat → Int32) × (Nat → Int32) × Int32)) → Option ((Nat → Int32) × (Nat → Int32) × Int32)
  | 0, _, _, _ => none
  | n + 1, v2, v3, k53 => (if c_points ≤ v3 then (k53 v2) else (ckI v1 nl (if (((c_line (Int32.toNatClampNeg v1)) >>> (v3 &&& 31)) &&& (1 : Int32)) = 1 then (ckI v3 8 (F_X8_names_14 N nl v1 c_line c_to c_points n (v2 ||| ((1 : Int32) <<< ((c_to (Int32.toNatClampNeg v3)) &&& 31))) (v3 + 1) k53)) else (F_X8_names_14 N nl v1 c_line c_to c_points n v2 (v3 + 1) k53))))
def F_X8_names_2 (N : Nat) (nl : Nat) (c_line : (Nat → Int32)) (c_to : (Nat → Int32)) (c_points : Int32) (c_lines : Int32) : Nat → Int32 → (Nat → Int32) → ((Nat → Int32) → Option ((Nat → Int32) × (Nat → Int32) × Int32)) → Option ((Nat → Int32) × (Nat → Int32) × Int32)
  | 0, _, _, _ => none
  | n + 1, v1, c_row, k66 => (if c_lines ≤ v1 then (k66 c_row) else (F_X8_names_14 N nl v1 c_line c_to c_points N 0 0 (fun u2_6 => (ckI v1 12 (F_X8_names_2 N nl c_line c_to c_points c_lines n (v1 + 1) (upd c_row (Int32.toNatClampNeg v1) u2_6) k66)))))
def F_X8_names_76 (N : Nat) (nl : Nat) (c_row : (Nat → Int32)) (c_least : (Nat → Int32)) (c_lines : Int32) (c_isLess : Int32) : Nat → Int32 → (Int32 → Option ((Nat → Int32) × (Nat → Int32) × Int32)) → Option ((Nat → Int32) × (Nat → Int32) × Int32)
  | 0, _, _ => none
  | n + 1, v1, k102 => (if c_lines ≤ v1 then (some (c_row, c_least, c_isLess)) else (ckI v1 12 (ckI v1 12 (if (c_row (Int32.toNatClampNeg v1)) = (c_least (Int32.toNatClampNeg v1)) then (F_X8_names_76 N nl c_row c_least c_lines c_isLess n (v1 + 1) k102) else (k102 v1)))))
def F_X8_names (N : Nat) (nl : Nat) (c_line : (Nat → Int32)) (c_to : (Nat → Int32)) (c_row : (Nat → Int32)) (c_least : (Nat → Int32)) (c_points : Int32) (c_lines : Int32) (c_isLess : Int32) : Option ((Nat → Int32) × (Nat → Int32) × Int32) := (F_X8_names_2 N nl c_line c_to c_points c_lines N 0 c_row (fun c_row_8 => ((F_X8_sorts N 12 c_row_8 c_lines).bind fun y9 => (F_X8_names_76 N nl y9 c_least c_lines c_isLess N 0 (fun u1_15 => (ckI u1_15 12 (ckI u1_15 12 (if (c_least (Int32.toNatClampNeg u1_15)) ≤ (y9 (Int32.toNatClampNeg u1_15)) then (some (y9, c_least, c_isLess)) else (ckP (¬ (0 : Int32) < 0 ∧ ¬ (0 : Int32) < 0 ∧ ¬ c_lines < 0 ∧ Int32.toNatClampNeg (0 : Int32) + Int32.toNatClampNeg c_lines ≤ 12 ∧ Int32.toNatClampNeg (0 : Int32) + Int32.toNatClampNeg c_lines ≤ 12) (some (y9, (va_cpy y9 c_least (Int32.toNatClampNeg 0) (Int32.toNatClampNeg 0) (Int32.toNatClampNeg c_lines)), 1)))))))))))
theorem cw_X8_names {R : Room} {s : State} {args : Array Value} {own : String} {index lev mc ms : Nat} (hts : ∀ w ∈ lw_all, w.before args s = true) (hl : Cond.methodLink own index yX8_names ∈ lw_all) (hR : (rmL lev mc ms).frames + 1 ≤ R.frames ∧ 8 + (4 + 11) + (rmL lev mc ms).locals ≤ R.locals) : CallW R s args own RX8 index yX8_names cX8_names 4 none (ws_ yX8_names cX8_names 4 none) (rmL lev mc ms) mc ms 0 := cwV 0 hts (lw_V hl q1484 qs52 q180 q1485) rfl rfl rfl (by decide +kernel) hR
set_option maxHeartbeats 4000000 in
theorem M_X8_names {l : Launch} {G : GE} (hG : GC G) {N : Nat} {h0 : Nat} {ad : Nat → Nat} {nl : Nat} {c_line : (Nat → Int32)} {c_to : (Nat → Int32)} {c_row : (Nat → Int32)} {c_least : (Nat → Int32)} {c_points : Int32} {c_lines : Int32} {c_isLess : Int32} {ρ : ((Nat → Int32) × (Nat → Int32) × Int32)} (h : F_X8_names N nl c_line c_to c_row c_least c_points c_lines c_isLess = some ρ) : MW l G yX8_names cX8_names 4 none 2 (rW h0 ad nl G.2.2 c_points c_lines c_line c_to c_row c_least c_isLess) [.ref h0] none (rW h0 ad nl G.2.2 c_points c_lines c_line c_to ρ.1 ρ.2.1 ρ.2.2) := by
  rw [F_X8_names] at h
  refine MW.start hG (by decide) (Nat.le_of_ble_eq_true rfl) ?_
  intro p e s m args below meth c Q A S hW0 hK hP hD hA hreti hretv ls hl
  have hS : va_S A s.heap s.heap [] := va_S.rf
  obtain ⟨hx, hb, hml, hown, hts⟩ := id S
  have hl : lv_has ls 4 [(0, .ref h0)] := hl
  have S_X8_names_14 : ∀ (n : Nat) (v1 : Int32) (v2 : Int32) (v3 : Int32) (c_row : (Nat → Int32)) (c_least : (Nat → Int32)) (c_isLess : Int32) (k53 : Int32 → Option ((Nat → Int32) × (Nat → Int32) × Int32)), F_X8_names_14 N nl v1 c_line c_to c_points n v2 v3 k53 = some ρ → (∀ (u2 : Int32) (H : Heap) (locs : List Loc) (ls : Array Slot), k53 u2 = some ρ → va_P G.2.1 vwCl (rW h0 ad nl G.2.2 c_points c_lines c_line c_to c_row c_least c_isLess) H → va_D A (rW h0 ad nl G.2.2 c_points c_lines c_line c_to c_row c_least c_isLess) → va_S A s.heap H locs → lv_has ls 4 [(0, .ref h0), (1, .int v1), (2, .int u2)] → W p l e (rmL 2 0 0) s m args below meth c H locs 0 0 Q (F0 m 53 ls [])) → ∀ (H : Heap) (locs : List Loc), va_P G.2.1 vwCl (rW h0 ad nl G.2.2 c_points c_lines c_line c_to c_row c_least c_isLess) H → va_D A (rW h0 ad nl G.2.2 c_points c_lines c_line c_to c_row c_least c_isLess) → va_S A s.heap H locs → ∀ (ls : Array Slot), lv_has ls 4 [(0, .ref h0), (1, .int v1), (2, .int v2), (3, .int v3)] → W p l e (rmL 2 0 0) s m args below meth c H locs 0 0 Q (F0 m 14 ls []) := by
    intro n
    induction n with
    | zero =>
      intro v1 v2 v3 c_row c_least c_isLess k53 h
      exact absurd h (by simp [F_X8_names_14])
    | succ n ih =>
      intro v1 v2 v3 c_row c_least c_isLess k53 h hk53 H locs hP hD hS ls hl
      rw [F_X8_names_14] at h
      refine lv_iload_n hx hb dX8_names_14 rfl (lv_at hl 3 rfl) ?_
      refine lv_aload_n hx hb dX8_names_15 rfl (lv_at hl 0 rfl) ?_
      refine va_get (ci := 7) (v := .int c_points) (C := RX8) (T := TX8) (N := 7) hx hb hts in_X8 hown hK hP 0 rfl rfl 0 (by decide) (hts _ q1454) (fun _ h9 => h9) rfl dX8_names_16 ?_
      refine lv_icmp_ge (tgt := 53) hx hb dX8_names_19 (by decide) (fun c2 => ?_) (fun c2 => ?_)
      · rw [if_pos c2] at h
        exact hk53 v2 _ _ _ h hP hD hS (lv_sub hl [0, 1, 2] rfl)
      · rw [if_neg c2] at h
        refine lv_aload_n hx hb dX8_names_22 rfl (lv_at hl 0 rfl) ?_
        refine va_get (ci := 7) (v := .ref (ad 2)) (C := RX8) (T := TX8) (N := 7) hx hb hts in_X8 hown hK hP 0 rfl rfl 2 (by decide) (hts _ q1456) (fun _ h9 => h9) rfl dX8_names_23 ?_
        refine lv_iload_n hx hb dX8_names_26 rfl (lv_at hl 1 rfl) ?_
        obtain ⟨i3, h⟩ := ckI_s h
        refine va_iald (f := c_line) hx hb hK hP 1 0 rfl rfl i3 dX8_names_27 ?_
        refine lv_iload_n hx hb dX8_names_28 rfl (lv_at hl 3 rfl) ?_
        refine lv_ishr hx hb dX8_names_29 ?_
        refine lv_iconst (v := 1) hx hb dX8_names_30 (by decide) ?_
        refine lv_iand hx hb dX8_names_31 ?_
        refine lv_iconst (v := 1) hx hb dX8_names_32 (by decide) ?_
        refine lv_icmp_ne (tgt := 47) hx hb dX8_names_33 (by decide) (fun c4 => ?_) (fun c4 => ?_)
        · rw [if_neg c4] at h
          refine lv_iinc (v := (v3 + 1)) (lv' := [(3, .int (v3 + 1)), (0, .ref h0), (1, .int v1), (2, .int v2)]) hx hb dX8_names_47 hl (k := 3) rfl rfl (by decide) rfl (fun ls hl => ?_)
          refine lv_goto (tgt := 14) hx hb dX8_names_50 (by decide) ?_
          exact ih v1 v2 (v3 + 1) c_row c_least c_isLess _ h hk53 _ _ hP hD hS _ (lv_sub hl [1, 2, 3, 0] rfl)
        · rw [if_pos c4] at h
          refine lv_iload_n hx hb dX8_names_36 rfl (lv_at hl 2 rfl) ?_
          refine lv_iconst (v := 1) hx hb dX8_names_37 (by decide) ?_
          refine lv_aload_n hx hb dX8_names_38 rfl (lv_at hl 0 rfl) ?_
          refine va_get (ci := 7) (v := .ref (ad 3)) (C := RX8) (T := TX8) (N := 7) hx hb hts in_X8 hown hK hP 0 rfl rfl 3 (by decide) (hts _ q1457) (fun _ h9 => h9) rfl dX8_names_39 ?_
          refine lv_iload_n hx hb dX8_names_42 rfl (lv_at hl 3 rfl) ?_
          obtain ⟨i5, h⟩ := ckI_s h
          refine va_iald (f := c_to) hx hb hK hP 2 0 rfl rfl i5 dX8_names_43 ?_
          refine lv_ishl hx hb dX8_names_44 ?_
          refine lv_ior hx hb dX8_names_45 ?_
          refine lv_istore_n (lv' := [(2, .int (v2 ||| ((1 : Int32) <<< ((c_to (Int32.toNatClampNeg v3)) &&& 31)))), (0, .ref h0), (1, .int v1), (3, .int v3)]) hx hb dX8_names_46 rfl hl (by decide) rfl (fun ls hl => ?_)
          refine lv_iinc (v := (v3 + 1)) (lv' := [(3, .int (v3 + 1)), (2, .int (v2 ||| ((1 : Int32) <<< ((c_to (Int32.toNatClampNeg v3)) &&& 31)))), (0, .ref h0), (1, .int v1)]) hx hb dX8_names_47 hl (k := 3) rfl rfl (by decide) rfl (fun ls hl => ?_)
          refine lv_goto (tgt := 14) hx hb dX8_names_50 (by decide) ?_
          exact ih v1 (v2 ||| ((1 : Int32) <<< ((c_to (Int32.toNatClampNeg v3)) &&& 31))) (v3 + 1) c_row c_least c_isLess _ h hk53 _ _ hP hD hS _ (lv_sub hl [2, 3, 1, 0] rfl)
  have S_X8_names_2 : ∀ (n : Nat) (v1 : Int32) (c_row : (Nat → Int32)) (c_least : (Nat → Int32)) (c_isLess : Int32) (k66 : (Nat → Int32) → Option ((Nat → Int32) × (Nat → Int32) × Int32)), F_X8_names_2 N nl c_line c_to c_points c_lines n v1 c_row k66 = some ρ → (∀ (z_c_row : (Nat → Int32)) (H : Heap) (locs : List Loc) (ls : Array Slot), k66 z_c_row = some ρ → va_P G.2.1 vwCl (rW h0 ad nl G.2.2 c_points c_lines c_line c_to z_c_row c_least c_isLess) H → va_D A (rW h0 ad nl G.2.2 c_points c_lines c_line c_to z_c_row c_least c_isLess) → va_S A s.heap H locs → lv_has ls 4 [(0, .ref h0)] → W p l e (rmL 2 0 0) s m args below meth c H locs 0 0 Q (F0 m 66 ls [])) → ∀ (H : Heap) (locs : List Loc), va_P G.2.1 vwCl (rW h0 ad nl G.2.2 c_points c_lines c_line c_to c_row c_least c_isLess) H → va_D A (rW h0 ad nl G.2.2 c_points c_lines c_line c_to c_row c_least c_isLess) → va_S A s.heap H locs → ∀ (ls : Array Slot), lv_has ls 4 [(0, .ref h0), (1, .int v1)] → W p l e (rmL 2 0 0) s m args below meth c H locs 0 0 Q (F0 m 2 ls []) := by
    intro n
    induction n with
    | zero =>
      intro v1 c_row c_least c_isLess k66 h
      exact absurd h (by simp [F_X8_names_2])
    | succ n ih =>
      intro v1 c_row c_least c_isLess k66 h hk66 H locs hP hD hS ls hl
      rw [F_X8_names_2] at h
      refine lv_iload_n hx hb dX8_names_2 rfl (lv_at hl 1 rfl) ?_
      refine lv_aload_n hx hb dX8_names_3 rfl (lv_at hl 0 rfl) ?_
      refine va_get (ci := 7) (v := .int c_lines) (C := RX8) (T := TX8) (N := 7) hx hb hts in_X8 hown hK hP 0 rfl rfl 1 (by decide) (hts _ q1455) (fun _ h9 => h9) rfl dX8_names_4 ?_
      refine lv_icmp_ge (tgt := 66) hx hb dX8_names_7 (by decide) (fun c1 => ?_) (fun c1 => ?_)
      · rw [if_pos c1] at h
        exact hk66 c_row _ _ _ h hP hD hS (lv_sub hl [0] rfl)
      · rw [if_neg c1] at h
        refine lv_iconst (v := 0) hx hb dX8_names_10 (by decide) ?_
        refine lv_istore_n (lv' := [(2, .int 0), (0, .ref h0), (1, .int v1)]) hx hb dX8_names_11 rfl hl (by decide) rfl (fun ls hl => ?_)
        refine lv_iconst (v := 0) hx hb dX8_names_12 (by decide) ?_
        refine lv_istore_n (lv' := [(3, .int 0), (2, .int 0), (0, .ref h0), (1, .int v1)]) hx hb dX8_names_13 rfl hl (by decide) rfl (fun ls hl => ?_)
        refine S_X8_names_14 N v1 0 0 c_row c_least c_isLess _ h ?_ _ _ hP hD hS _ (lv_sub hl [2, 3, 1, 0] rfl)
        · intro u2_6 H locs ls h hP hD hS hl
          refine lv_aload_n hx hb dX8_names_53 rfl (lv_at hl 0 rfl) ?_
          refine va_get (ci := 7) (v := .ref (ad 4)) (C := RX8) (T := TX8) (N := 7) hx hb hts in_X8 hown hK hP 0 rfl rfl 4 (by decide) (hts _ q1458) (fun _ h9 => h9) rfl dX8_names_54 ?_
          refine lv_iload_n hx hb dX8_names_57 rfl (lv_at hl 1 rfl) ?_
          refine lv_iload_n hx hb dX8_names_58 rfl (lv_at hl 2 rfl) ?_
          obtain ⟨i7, h⟩ := ckI_s h
          refine va_iast (f := c_row) hx hb hK hP hD hS 3 0 rfl rfl i7 dX8_names_59 (fun H locs hP hD hS => ?_)
          have hP : va_P G.2.1 vwCl (rW h0 ad nl G.2.2 c_points c_lines c_line c_to (upd c_row (Int32.toNatClampNeg v1) u2_6) c_least c_isLess) H := hP
          have hD : va_D A (rW h0 ad nl G.2.2 c_points c_lines c_line c_to (upd c_row (Int32.toNatClampNeg v1) u2_6) c_least c_isLess) := hD
          refine lv_iinc (v := (v1 + 1)) (lv' := [(1, .int (v1 + 1)), (0, .ref h0), (2, .int u2_6)]) hx hb dX8_names_60 hl (k := 1) rfl rfl (by decide) rfl (fun ls hl => ?_)
          refine lv_goto (tgt := 2) hx hb dX8_names_63 (by decide) ?_
          exact ih (v1 + 1) (upd c_row (Int32.toNatClampNeg v1) u2_6) c_least c_isLess _ h hk66 _ _ hP hD hS _ (lv_sub hl [1, 0] rfl)
  have S_X8_names_76 : ∀ (n : Nat) (v1 : Int32) (c_row : (Nat → Int32)) (c_least : (Nat → Int32)) (c_isLess : Int32) (k102 : Int32 → Option ((Nat → Int32) × (Nat → Int32) × Int32)), F_X8_names_76 N nl c_row c_least c_lines c_isLess n v1 k102 = some ρ → (∀ (u1 : Int32) (H : Heap) (locs : List Loc) (ls : Array Slot), k102 u1 = some ρ → va_P G.2.1 vwCl (rW h0 ad nl G.2.2 c_points c_lines c_line c_to c_row c_least c_isLess) H → va_D A (rW h0 ad nl G.2.2 c_points c_lines c_line c_to c_row c_least c_isLess) → va_S A s.heap H locs → lv_has ls 4 [(0, .ref h0), (1, .int u1)] → W p l e (rmL 2 0 0) s m args below meth c H locs 0 0 Q (F0 m 102 ls [])) → ∀ (H : Heap) (locs : List Loc), va_P G.2.1 vwCl (rW h0 ad nl G.2.2 c_points c_lines c_line c_to c_row c_least c_isLess) H → va_D A (rW h0 ad nl G.2.2 c_points c_lines c_line c_to c_row c_least c_isLess) → va_S A s.heap H locs → ∀ (ls : Array Slot), lv_has ls 4 [(0, .ref h0), (1, .int v1)] → W p l e (rmL 2 0 0) s m args below meth c H locs 0 0 Q (F0 m 76 ls []) := by
    intro n
    induction n with
    | zero =>
      intro v1 c_row c_least c_isLess k102 h
      exact absurd h (by simp [F_X8_names_76])
    | succ n ih =>
      intro v1 c_row c_least c_isLess k102 h hk102 H locs hP hD hS ls hl
      rw [F_X8_names_76] at h
      refine lv_iload_n hx hb dX8_names_76 rfl (lv_at hl 1 rfl) ?_
      refine lv_aload_n hx hb dX8_names_77 rfl (lv_at hl 0 rfl) ?_
      refine va_get (ci := 7) (v := .int c_lines) (C := RX8) (T := TX8) (N := 7) hx hb hts in_X8 hown hK hP 0 rfl rfl 1 (by decide) (hts _ q1455) (fun _ h9 => h9) rfl dX8_names_78 ?_
      refine lv_icmp_ge (tgt := 146) hx hb dX8_names_81 (by decide) (fun c10 => ?_) (fun c10 => ?_)
      · rw [if_pos c10] at h
        obtain rfl := Option.some.inj h
        exact hretv rfl dX8_names_146 rfl hP hD hS
      · rw [if_neg c10] at h
        refine lv_aload_n hx hb dX8_names_84 rfl (lv_at hl 0 rfl) ?_
        refine va_get (ci := 7) (v := .ref (ad 4)) (C := RX8) (T := TX8) (N := 7) hx hb hts in_X8 hown hK hP 0 rfl rfl 4 (by decide) (hts _ q1458) (fun _ h9 => h9) rfl dX8_names_85 ?_
        refine lv_iload_n hx hb dX8_names_88 rfl (lv_at hl 1 rfl) ?_
        obtain ⟨i12, h⟩ := ckI_s h
        refine va_iald (f := c_row) hx hb hK hP 3 0 rfl rfl i12 dX8_names_89 ?_
        refine lv_aload_n hx hb dX8_names_90 rfl (lv_at hl 0 rfl) ?_
        refine va_get (ci := 7) (v := .ref (ad 5)) (C := RX8) (T := TX8) (N := 7) hx hb hts in_X8 hown hK hP 0 rfl rfl 5 (by decide) (hts _ q1459) (fun _ h9 => h9) rfl dX8_names_91 ?_
        refine lv_iload_n hx hb dX8_names_94 rfl (lv_at hl 1 rfl) ?_
        obtain ⟨i13, h⟩ := ckI_s h
        refine va_iald (f := c_least) hx hb hK hP 4 0 rfl rfl i13 dX8_names_95 ?_
        refine lv_icmp_ne (tgt := 102) hx hb dX8_names_96 (by decide) (fun c14 => ?_) (fun c14 => ?_)
        · rw [if_neg c14] at h
          exact hk102 v1 _ _ _ h hP hD hS (lv_sub hl [0, 1] rfl)
        · rw [if_pos c14] at h
          refine lv_goto (tgt := 140) hx hb dX8_names_99 (by decide) ?_
          refine lv_iinc (v := (v1 + 1)) (lv' := [(1, .int (v1 + 1)), (0, .ref h0)]) hx hb dX8_names_140 hl (k := 1) rfl rfl (by decide) rfl (fun ls hl => ?_)
          refine lv_goto (tgt := 76) hx hb dX8_names_143 (by decide) ?_
          exact ih (v1 + 1) c_row c_least c_isLess _ h hk102 _ _ hP hD hS _ (lv_sub hl [1, 0] rfl)
  refine lv_iconst (v := 0) hx hb dX8_names_0 (by decide) ?_
  refine lv_istore_n (lv' := [(1, .int 0), (0, .ref h0)]) hx hb dX8_names_1 rfl hl (by decide) rfl (fun ls hl => ?_)
  refine S_X8_names_2 N 0 c_row c_least c_isLess _ h ?_ _ _ hP hD hS _ (lv_sub hl [1, 0] rfl)
  · intro c_row_8 H locs ls h hP hD hS hl
    refine lv_aload_n hx hb dX8_names_66 rfl (lv_at hl 0 rfl) ?_
    refine lv_aload_n hx hb dX8_names_67 rfl (lv_at hl 0 rfl) ?_
    refine va_get (ci := 7) (v := .ref (ad 4)) (C := RX8) (T := TX8) (N := 7) hx hb hts in_X8 hown hK hP 0 rfl rfl 4 (by decide) (hts _ q1458) (fun _ h9 => h9) rfl dX8_names_68 ?_
    obtain ⟨y9, e9, h⟩ := ob_s h
    refine MW.callVs (q0 := 0) (M_X8_sorts (ad0 := ad) hG e9) S (cw_X8_sorts hts q1450 ⟨Nat.le_of_ble_eq_true rfl, Nat.le_of_ble_eq_true rfl⟩) hW0 hK hP hD hS hA [0, 3] [1, 2, 4] (wr := [((ad 2), .inl (G.2.2 0, nl, .inl c_line)), ((ad 3), .inl (G.2.2 0, 8, .inl c_to)), ((ad 5), .inl (G.2.2 0, 12, .inl c_least))]) rfl rfl (by decide) (by decide) (by decide) rfl rfl rfl hl.1 rfl (Nat.le_of_ble_eq_true rfl) dX8_names_71 ⟨Nat.zero_le _, Nat.zero_le _⟩ (fun H locs hP hD hS => ?_)
    have hP := hP.sub (ws' := (rW h0 ad nl G.2.2 c_points c_lines c_line c_to y9 c_least c_isLess)) [3, 0, 1, 4, 2] rfl
    have hD := hD.sub (ws' := (rW h0 ad nl G.2.2 c_points c_lines c_line c_to y9 c_least c_isLess)) [3, 0, 1, 4, 2] (by decide) rfl
    refine W.eq (g2 := F0 m 74 ls []) rfl ?_
    refine lv_iconst (v := 0) hx hb dX8_names_74 (by decide) ?_
    refine lv_istore_n (lv' := [(1, .int 0), (0, .ref h0)]) hx hb dX8_names_75 rfl hl (by decide) rfl (fun ls hl => ?_)
    refine S_X8_names_76 N 0 y9 c_least c_isLess _ h ?_ _ _ hP hD hS _ (lv_sub hl [1, 0] rfl)
    · intro u1_15 H locs ls h hP hD hS hl
      refine lv_aload_n hx hb dX8_names_102 rfl (lv_at hl 0 rfl) ?_
      refine va_get (ci := 7) (v := .ref (ad 4)) (C := RX8) (T := TX8) (N := 7) hx hb hts in_X8 hown hK hP 0 rfl rfl 4 (by decide) (hts _ q1458) (fun _ h9 => h9) rfl dX8_names_103 ?_
      refine lv_iload_n hx hb dX8_names_106 rfl (lv_at hl 1 rfl) ?_
      obtain ⟨i16, h⟩ := ckI_s h
      refine va_iald (f := y9) hx hb hK hP 3 0 rfl rfl i16 dX8_names_107 ?_
      refine lv_aload_n hx hb dX8_names_108 rfl (lv_at hl 0 rfl) ?_
      refine va_get (ci := 7) (v := .ref (ad 5)) (C := RX8) (T := TX8) (N := 7) hx hb hts in_X8 hown hK hP 0 rfl rfl 5 (by decide) (hts _ q1459) (fun _ h9 => h9) rfl dX8_names_109 ?_
      refine lv_iload_n hx hb dX8_names_112 rfl (lv_at hl 1 rfl) ?_
      obtain ⟨i17, h⟩ := ckI_s h
      refine va_iald (f := c_least) hx hb hK hP 4 0 rfl rfl i17 dX8_names_113 ?_
      refine lv_icmp_ge (tgt := 139) hx hb dX8_names_114 (by decide) (fun c18 => ?_) (fun c18 => ?_)
      · rw [if_pos c18] at h
        obtain rfl := Option.some.inj h
        exact hretv rfl dX8_names_139 rfl hP hD hS
      · rw [if_neg c18] at h
        refine lv_aload_n hx hb dX8_names_117 rfl (lv_at hl 0 rfl) ?_
        refine lv_iconst (v := 1) hx hb dX8_names_118 (by decide) ?_
        refine va_put (ci := 7) (v := .int 1) (ty := .boolean) (C := RX8) (T := TX8) (N := 7) hx hb hts in_X8 tyX8 tyX8_ok nmX8 hown hK hP hD hS 0 rfl rfl 6 (by decide) (hts _ q1461) (fun _ h9 => h9) rfl (by decide +kernel) rfl rfl (Nat.le_of_ble_eq_true rfl) dX8_names_119 (fun H locs hP hD hS => ?_)
        have hP : va_P G.2.1 vwCl (rW h0 ad nl G.2.2 c_points c_lines c_line c_to y9 c_least 1) H := hP
        have hD : va_D A (rW h0 ad nl G.2.2 c_points c_lines c_line c_to y9 c_least 1) := hD
        refine lv_aload_n hx hb dX8_names_122 rfl (lv_at hl 0 rfl) ?_
        refine va_get (ci := 7) (v := .ref (ad 4)) (C := RX8) (T := TX8) (N := 7) hx hb hts in_X8 hown hK hP 0 rfl rfl 4 (by decide) (hts _ q1458) (fun _ h9 => h9) rfl dX8_names_123 ?_
        refine lv_iconst (v := 0) hx hb dX8_names_126 (by decide) ?_
        refine lv_aload_n hx hb dX8_names_127 rfl (lv_at hl 0 rfl) ?_
        refine va_get (ci := 7) (v := .ref (ad 5)) (C := RX8) (T := TX8) (N := 7) hx hb hts in_X8 hown hK hP 0 rfl rfl 5 (by decide) (hts _ q1459) (fun _ h9 => h9) rfl dX8_names_128 ?_
        refine lv_iconst (v := 0) hx hb dX8_names_131 (by decide) ?_
        refine lv_aload_n hx hb dX8_names_132 rfl (lv_at hl 0 rfl) ?_
        refine va_get (ci := 7) (v := .int c_lines) (C := RX8) (T := TX8) (N := 7) hx hb hts in_X8 hown hK hP 0 rfl rfl 1 (by decide) (hts _ q1455) (fun _ h9 => h9) rfl dX8_names_133 ?_
        obtain ⟨⟨i20a, i20b, i20c, i20d, i20e⟩, h⟩ := ckP_s h
        refine va_copyi (f := y9) (g := c_least) hx hb (hml.trans hl.1.symm) hown (hts _ q1449) (hts _ q381) (hts _ q380) (hts _ q167) hK hP hD hS 3 4 0 0 rfl rfl rfl rfl rfl i20a i20b i20c i20d i20e (fun _ _ => rfl) (Nat.le_of_ble_eq_true rfl) (Nat.le_of_ble_eq_true rfl) dX8_names_136 (fun H locs hP hD hS => ?_)
        have hP : va_P G.2.1 vwCl (rW h0 ad nl G.2.2 c_points c_lines c_line c_to y9 (va_cpy y9 c_least (Int32.toNatClampNeg 0) (Int32.toNatClampNeg 0) (Int32.toNatClampNeg c_lines)) 1) H := hP
        have hD : va_D A (rW h0 ad nl G.2.2 c_points c_lines c_line c_to y9 (va_cpy y9 c_least (Int32.toNatClampNeg 0) (Int32.toNatClampNeg 0) (Int32.toNatClampNeg c_lines)) 1) := hD
        obtain rfl := Option.some.inj h
        exact hretv rfl dX8_names_139 rfl hP hD hS
def F_X8_goes_36 (N : Nat) (rc : Int32 → Int32 → Int32 → (Nat → Int32) → (Nat → Int32) → (Nat → Int32) → (Nat → Int32) → Int32 → Int32 → Int32 → Option ((Nat → Int32) × (Nat → Int32) × (Nat → Int32) × Int32)) (nl : Nat) (c_line : (Nat → Int32)) (c_points : Int32) (c_lines : Int32) (v1 : Int32) (v2 : Int32) (v3 : Int32) (v4 : Int32) (c_to : (Nat → Int32)) (c_row : (Nat → Int32)) (c_least : (Nat → Int32)) (c_isLess : Int32) (k16 : Int32 → (Nat → Int32) → (Nat → Int32) → (Nat → Int32) → Int32 → Option ((Nat → Int32) × (Nat → Int32) × (Nat → Int32) × Int32)) : Option ((Nat → Int32) × (Nat → Int32) × (Nat → Int32) × Int32) := (if ((v2 >>> (v4 &&& 31)) &&& (1 : Int32)) = 1 then (k16 (v4 + 1) c_to c_row c_least c_isLess) else (ckI v1 8 ((rc (v1 + (1 : Int32)) (v2 ||| ((1 : Int32) <<< (v4 &&& 31))) v3 c_line (upd c_to (Int32.toNatClampNeg v1) v4) c_row c_least c_points c_lines c_isLess).bind fun y7 => (k16 (v4 + 1) y7.1 y7.2.1 y7.2.2.1 y7.2.2.2))))
def F_X8_goes_16 (N : Nat) (rc : Int32 → Int32 → Int32 → (Nat → Int32) → (Nat → Int32) → (Nat → Int32) → (Nat → Int32) → Int32 → Int32 → Int32 → Option ((Nat → Int32) × (Nat → Int32) × (Nat → Int32) × Int32)) (nl : Nat) (v1 : Int32) (v2 : Int32) (v3 : Int32) (c_line : (Nat → Int32)) (c_points : Int32) (c_lines : Int32) : Nat → Int32 → (Nat → Int32) → (Nat → Int32) → (Nat → Int32) → Int32 → Option ((Nat → Int32) × (Nat → Int32) × (Nat → Int32) × Int32)
  | 0, _, _, _, _, _ => none
  | n + 1, v4, c_to, c_row, c_least, c_isLess => (if c_points ≤ v4 then (some (c_to, c_row, c_least, c_isLess)) else (if v3 = 0 then (if c_isLess = 0 then (F_X8_goes_36 N rc nl c_line c_points c_lines v1 v2 v3 v4 c_to c_row c_least c_isLess (fun u4 z_c_to z_c_row z_c_least z_c_isLess => (F_X8_goes_16 N rc nl v1 v2 v3 c_line c_points c_lines n u4 z_c_to z_c_row z_c_least z_c_isLess))) else (some (c_to, c_row, c_least, c_isLess))) else (F_X8_goes_36 N rc nl c_line c_points c_lines v1 v2 v3 v4 c_to c_row c_least c_isLess (fun u4 z_c_to z_c_row z_c_least z_c_isLess => (F_X8_goes_16 N rc nl v1 v2 v3 c_line c_points c_lines n u4 z_c_to z_c_row z_c_least z_c_isLess)))))
def F_X8_goes (N : Nat) (nl : Nat) : Nat → (v1 : Int32) → (v2 : Int32) → (v3 : Int32) → (c_line : (Nat → Int32)) → (c_to : (Nat → Int32)) → (c_row : (Nat → Int32)) → (c_least : (Nat → Int32)) → (c_points : Int32) → (c_lines : Int32) → (c_isLess : Int32) → Option ((Nat → Int32) × (Nat → Int32) × (Nat → Int32) × Int32)
  | 0, _, _, _, _, _, _, _, _, _, _ => none
  | d + 1, v1, v2, v3, c_line, c_to, c_row, c_least, c_points, c_lines, c_isLess => (if v1 = c_points then ((F_X8_names N nl c_line c_to c_row c_least c_points c_lines c_isLess).bind fun y10 => (some (c_to, y10.1, y10.2.1, y10.2.2))) else (F_X8_goes_16 N (F_X8_goes N nl d) nl v1 v2 v3 c_line c_points c_lines N 0 c_to c_row c_least c_isLess))
theorem cw_X8_goes {R : Room} {s : State} {args : Array Value} {own : String} {index lev mc ms : Nat} (hts : ∀ w ∈ lw_all, w.before args s = true) (hl : Cond.methodLink own index yX8_goes ∈ lw_all) (hR : (rmL lev mc ms).frames + 1 ≤ R.frames ∧ 8 + (5 + 11) + (rmL lev mc ms).locals ≤ R.locals) : CallW R s args own RX8 index yX8_goes cX8_goes 5 none (ws_ yX8_goes cX8_goes 5 none) (rmL lev mc ms) mc ms 3 := cwV 3 hts (lw_V hl q1479 q1480 q180 q1481) rfl rfl rfl (by decide +kernel) hR
set_option maxHeartbeats 4000000 in
theorem M_X8_goes {l : Launch} {G : GE} (hG : GC G) {N : Nat} {h0 : Nat} {ad : Nat → Nat} {nl : Nat} : ∀ (d : Nat) {v1 : Int32} {v2 : Int32} {v3 : Int32} {c_line : (Nat → Int32)} {c_to : (Nat → Int32)} {c_row : (Nat → Int32)} {c_least : (Nat → Int32)} {c_points : Int32} {c_lines : Int32} {c_isLess : Int32} {ρ : ((Nat → Int32) × (Nat → Int32) × (Nat → Int32) × Int32)} (h : F_X8_goes N nl d v1 v2 v3 c_line c_to c_row c_least c_points c_lines c_isLess = some ρ), MW l G yX8_goes cX8_goes 5 none (3 + d) (rW h0 ad nl G.2.2 c_points c_lines c_line c_to c_row c_least c_isLess) [.ref h0, .int v1, .int v2, .int v3] none (rW h0 ad nl G.2.2 c_points c_lines c_line ρ.1 ρ.2.1 ρ.2.2.1 ρ.2.2.2) := by
  intro d
  induction d with
  | zero =>
    intro v1 v2 v3 c_line c_to c_row c_least c_points c_lines c_isLess ρ h
    exact absurd h (by simp [F_X8_goes])
  | succ d ihd =>
    intro v1 v2 v3 c_line c_to c_row c_least c_points c_lines c_isLess ρ h
    rw [F_X8_goes] at h
    refine MW.start hG (by decide) (Nat.le_of_ble_eq_true rfl) ?_
    intro p e s m args below meth c Q A S hW0 hK hP hD hA hreti hretv ls hl
    have hS : va_S A s.heap s.heap [] := va_S.rf
    obtain ⟨hx, hb, hml, hown, hts⟩ := id S
    have hl : lv_has ls 5 [(0, .ref h0), (1, .int v1), (2, .int v2), (3, .int v3)] := hl
    have S_X8_goes_36 : ∀ (v1 : Int32) (v2 : Int32) (v3 : Int32) (v4 : Int32) (c_to : (Nat → Int32)) (c_row : (Nat → Int32)) (c_least : (Nat → Int32)) (c_isLess : Int32) (k16 : Int32 → (Nat → Int32) → (Nat → Int32) → (Nat → Int32) → Int32 → Option ((Nat → Int32) × (Nat → Int32) × (Nat → Int32) × Int32)), F_X8_goes_36 N (F_X8_goes N nl d) nl c_line c_points c_lines v1 v2 v3 v4 c_to c_row c_least c_isLess k16 = some ρ → (∀ (u4 : Int32) (z_c_to : (Nat → Int32)) (z_c_row : (Nat → Int32)) (z_c_least : (Nat → Int32)) (z_c_isLess : Int32) (H : Heap) (locs : List Loc) (ls : Array Slot), k16 u4 z_c_to z_c_row z_c_least z_c_isLess = some ρ → va_P G.2.1 vwCl (rW h0 ad nl G.2.2 c_points c_lines c_line z_c_to z_c_row z_c_least z_c_isLess) H → va_D A (rW h0 ad nl G.2.2 c_points c_lines c_line z_c_to z_c_row z_c_least z_c_isLess) → va_S A s.heap H locs → lv_has ls 5 [(0, .ref h0), (1, .int v1), (2, .int v2), (3, .int v3), (4, .int u4)] → W p l e (rmL (3 + (d + 1)) 0 0) s m args below meth c H locs 0 0 Q (F0 m 16 ls [])) → ∀ (H : Heap) (locs : List Loc), va_P G.2.1 vwCl (rW h0 ad nl G.2.2 c_points c_lines c_line c_to c_row c_least c_isLess) H → va_D A (rW h0 ad nl G.2.2 c_points c_lines c_line c_to c_row c_least c_isLess) → va_S A s.heap H locs → ∀ (ls : Array Slot), lv_has ls 5 [(0, .ref h0), (1, .int v1), (2, .int v2), (3, .int v3), (4, .int v4)] → W p l e (rmL (3 + (d + 1)) 0 0) s m args below meth c H locs 0 0 Q (F0 m 36 ls []) := by
      intro v1 v2 v3 v4 c_to c_row c_least c_isLess k16 h hk16 H locs hP hD hS ls hl
      rw [F_X8_goes_36] at h
      refine lv_iload_n hx hb dX8_goes_36 rfl (lv_at hl 2 rfl) ?_
      refine lv_iload hx hb dX8_goes_37 (lv_at hl 4 rfl) ?_
      refine lv_ishr hx hb dX8_goes_39 ?_
      refine lv_iconst (v := 1) hx hb dX8_goes_40 (by decide) ?_
      refine lv_iand hx hb dX8_goes_41 ?_
      refine lv_iconst (v := 1) hx hb dX8_goes_42 (by decide) ?_
      refine lv_icmp_ne (tgt := 49) hx hb dX8_goes_43 (by decide) (fun c5 => ?_) (fun c5 => ?_)
      · rw [if_neg c5] at h
        refine lv_aload_n hx hb dX8_goes_49 rfl (lv_at hl 0 rfl) ?_
        refine va_get (ci := 7) (v := .ref (ad 3)) (C := RX8) (T := TX8) (N := 7) hx hb hts in_X8 hown hK hP 0 rfl rfl 3 (by decide) (hts _ q1457) (fun _ h9 => h9) rfl dX8_goes_50 ?_
        refine lv_iload_n hx hb dX8_goes_53 rfl (lv_at hl 1 rfl) ?_
        refine lv_iload hx hb dX8_goes_54 (lv_at hl 4 rfl) ?_
        obtain ⟨i6, h⟩ := ckI_s h
        refine va_iast (f := c_to) hx hb hK hP hD hS 2 0 rfl rfl i6 dX8_goes_56 (fun H locs hP hD hS => ?_)
        have hP : va_P G.2.1 vwCl (rW h0 ad nl G.2.2 c_points c_lines c_line (upd c_to (Int32.toNatClampNeg v1) v4) c_row c_least c_isLess) H := hP
        have hD : va_D A (rW h0 ad nl G.2.2 c_points c_lines c_line (upd c_to (Int32.toNatClampNeg v1) v4) c_row c_least c_isLess) := hD
        refine lv_aload_n hx hb dX8_goes_57 rfl (lv_at hl 0 rfl) ?_
        refine lv_iload_n hx hb dX8_goes_58 rfl (lv_at hl 1 rfl) ?_
        refine lv_iconst (v := 1) hx hb dX8_goes_59 (by decide) ?_
        refine lv_iadd hx hb dX8_goes_60 ?_
        refine lv_iload_n hx hb dX8_goes_61 rfl (lv_at hl 2 rfl) ?_
        refine lv_iconst (v := 1) hx hb dX8_goes_62 (by decide) ?_
        refine lv_iload hx hb dX8_goes_63 (lv_at hl 4 rfl) ?_
        refine lv_ishl hx hb dX8_goes_65 ?_
        refine lv_ior hx hb dX8_goes_66 ?_
        refine lv_iload_n hx hb dX8_goes_67 rfl (lv_at hl 3 rfl) ?_
        obtain ⟨y7, e7, h⟩ := ob_s h
        refine MW.callV (q0 := 0) (ihd e7) S (cw_X8_goes hts q1486 ⟨by dsimp only; omega, by dsimp only; omega⟩) hW0 hK hP hD hS hA rfl rfl rfl hl.1 rfl (Nat.le_of_ble_eq_true rfl) dX8_goes_68 ⟨Nat.zero_le _, Nat.zero_le _⟩ (fun H locs hP hD hS => ?_)
        have hP : va_P G.2.1 vwCl (rW h0 ad nl G.2.2 c_points c_lines c_line y7.1 y7.2.1 y7.2.2.1 y7.2.2.2) H := hP
        have hD : va_D A (rW h0 ad nl G.2.2 c_points c_lines c_line y7.1 y7.2.1 y7.2.2.1 y7.2.2.2) := hD
        refine W.eq (g2 := F0 m 71 ls []) rfl ?_
        refine lv_iinc (v := (v4 + 1)) (lv' := [(4, .int (v4 + 1)), (0, .ref h0), (1, .int v1), (2, .int v2), (3, .int v3)]) hx hb dX8_goes_71 hl (k := 4) rfl rfl (by decide) rfl (fun ls hl => ?_)
        refine lv_goto (tgt := 16) hx hb dX8_goes_74 (by decide) ?_
        exact hk16 (v4 + 1) y7.1 y7.2.1 y7.2.2.1 y7.2.2.2 _ _ _ h hP hD hS (lv_sub hl [1, 2, 3, 4, 0] rfl)
      · rw [if_pos c5] at h
        refine lv_goto (tgt := 71) hx hb dX8_goes_46 (by decide) ?_
        refine lv_iinc (v := (v4 + 1)) (lv' := [(4, .int (v4 + 1)), (0, .ref h0), (1, .int v1), (2, .int v2), (3, .int v3)]) hx hb dX8_goes_71 hl (k := 4) rfl rfl (by decide) rfl (fun ls hl => ?_)
        refine lv_goto (tgt := 16) hx hb dX8_goes_74 (by decide) ?_
        exact hk16 (v4 + 1) c_to c_row c_least c_isLess _ _ _ h hP hD hS (lv_sub hl [1, 2, 3, 4, 0] rfl)
    have S_X8_goes_16 : ∀ (n : Nat) (v1 : Int32) (v2 : Int32) (v3 : Int32) (v4 : Int32) (c_to : (Nat → Int32)) (c_row : (Nat → Int32)) (c_least : (Nat → Int32)) (c_isLess : Int32), F_X8_goes_16 N (F_X8_goes N nl d) nl v1 v2 v3 c_line c_points c_lines n v4 c_to c_row c_least c_isLess = some ρ → ∀ (H : Heap) (locs : List Loc), va_P G.2.1 vwCl (rW h0 ad nl G.2.2 c_points c_lines c_line c_to c_row c_least c_isLess) H → va_D A (rW h0 ad nl G.2.2 c_points c_lines c_line c_to c_row c_least c_isLess) → va_S A s.heap H locs → ∀ (ls : Array Slot), lv_has ls 5 [(0, .ref h0), (1, .int v1), (2, .int v2), (3, .int v3), (4, .int v4)] → W p l e (rmL (3 + (d + 1)) 0 0) s m args below meth c H locs 0 0 Q (F0 m 16 ls []) := by
      intro n
      induction n with
      | zero =>
        intro v1 v2 v3 v4 c_to c_row c_least c_isLess h
        exact absurd h (by simp [F_X8_goes_16])
      | succ n ih =>
        intro v1 v2 v3 v4 c_to c_row c_least c_isLess h H locs hP hD hS ls hl
        rw [F_X8_goes_16] at h
        refine lv_iload hx hb dX8_goes_16 (lv_at hl 4 rfl) ?_
        refine lv_aload_n hx hb dX8_goes_18 rfl (lv_at hl 0 rfl) ?_
        refine va_get (ci := 7) (v := .int c_points) (C := RX8) (T := TX8) (N := 7) hx hb hts in_X8 hown hK hP 0 rfl rfl 0 (by decide) (hts _ q1454) (fun _ h9 => h9) rfl dX8_goes_19 ?_
        refine lv_icmp_ge (tgt := 77) hx hb dX8_goes_22 (by decide) (fun c2 => ?_) (fun c2 => ?_)
        · rw [if_pos c2] at h
          obtain rfl := Option.some.inj h
          exact hretv rfl dX8_goes_77 rfl hP hD hS
        · rw [if_neg c2] at h
          refine lv_iload_n hx hb dX8_goes_25 rfl (lv_at hl 3 rfl) ?_
          refine lv_if_ne (tgt := 36) hx hb dX8_goes_26 (by decide) (fun c4 => ?_) (fun c4 => ?_)
          · rw [if_neg c4] at h
            refine S_X8_goes_36 v1 v2 v3 v4 c_to c_row c_least c_isLess _ h (fun u4 z_c_to z_c_row z_c_least z_c_isLess H locs ls h hP hD hS hl => ih v1 v2 v3 u4 z_c_to z_c_row z_c_least z_c_isLess h H locs hP hD hS ls hl) _ _ hP hD hS _ (lv_sub hl [0, 1, 2, 3, 4] rfl)
          · rw [if_pos c4] at h
            refine lv_aload_n hx hb dX8_goes_29 rfl (lv_at hl 0 rfl) ?_
            refine va_get (ci := 7) (v := .int c_isLess) (C := RX8) (T := TX8) (N := 7) hx hb hts in_X8 hown hK hP 0 rfl rfl 6 (by decide) (hts _ q1461) (fun _ h9 => h9) rfl dX8_goes_30 ?_
            refine lv_if_ne (tgt := 77) hx hb dX8_goes_33 (by decide) (fun c8 => ?_) (fun c8 => ?_)
            · rw [if_neg c8] at h
              obtain rfl := Option.some.inj h
              exact hretv rfl dX8_goes_77 rfl hP hD hS
            · rw [if_pos c8] at h
              refine S_X8_goes_36 v1 v2 v3 v4 c_to c_row c_least c_isLess _ h (fun u4 z_c_to z_c_row z_c_least z_c_isLess H locs ls h hP hD hS hl => ih v1 v2 v3 u4 z_c_to z_c_row z_c_least z_c_isLess h H locs hP hD hS ls hl) _ _ hP hD hS _ (lv_sub hl [0, 1, 2, 3, 4] rfl)
    refine lv_iload_n hx hb dX8_goes_0 rfl (lv_at hl 1 rfl) ?_
    refine lv_aload_n hx hb dX8_goes_1 rfl (lv_at hl 0 rfl) ?_
    refine va_get (ci := 7) (v := .int c_points) (C := RX8) (T := TX8) (N := 7) hx hb hts in_X8 hown hK hP 0 rfl rfl 0 (by decide) (hts _ q1454) (fun _ h9 => h9) rfl dX8_goes_2 ?_
    refine lv_icmp_ne (tgt := 13) hx hb dX8_goes_5 (by decide) (fun c1 => ?_) (fun c1 => ?_)
    · rw [if_neg c1] at h
      refine lv_iconst (v := 0) hx hb dX8_goes_13 (by decide) ?_
      refine lv_istore (lv' := [(4, .int 0), (0, .ref h0), (1, .int v1), (2, .int v2), (3, .int v3)]) hx hb dX8_goes_14 hl (by decide) rfl (fun ls hl => ?_)
      refine S_X8_goes_16 N v1 v2 v3 0 c_to c_row c_least c_isLess h  _ _ hP hD hS _ (lv_sub hl [1, 2, 3, 4, 0] rfl)
    · rw [if_pos c1] at h
      refine lv_aload_n hx hb dX8_goes_8 rfl (lv_at hl 0 rfl) ?_
      obtain ⟨y10, e10, h⟩ := ob_s h
      refine MW.callV (q0 := 0) (M_X8_names hG e10) S (cw_X8_names hts q1482 ⟨by dsimp only; omega, by dsimp only; omega⟩) hW0 hK hP hD hS hA rfl rfl rfl hl.1 rfl (Nat.le_of_ble_eq_true rfl) dX8_goes_9 ⟨Nat.zero_le _, Nat.zero_le _⟩ (fun H locs hP hD hS => ?_)
      have hP : va_P G.2.1 vwCl (rW h0 ad nl G.2.2 c_points c_lines c_line c_to y10.1 y10.2.1 y10.2.2) H := hP
      have hD : va_D A (rW h0 ad nl G.2.2 c_points c_lines c_line c_to y10.1 y10.2.1 y10.2.2) := hD
      refine W.eq (g2 := F0 m 12 ls []) rfl ?_
      obtain rfl := Option.some.inj h
      exact hretv rfl dX8_goes_12 rfl hP hD hS
def F_X7_image_4 (N : Nat) (v1 : Int32) (c_to : (Nat → Int32)) (c_from_points : Int32) : Nat → Int32 → Int32 → Option (Int32)
  | 0, _, _ => none
  | n + 1, v2, v3 => (if c_from_points ≤ v3 then (some (v2)) else (if ((v1 >>> (v3 &&& 31)) &&& (1 : Int32)) = 1 then (ckI v3 8 (F_X7_image_4 N v1 c_to c_from_points n (v2 ||| ((1 : Int32) <<< ((c_to (Int32.toNatClampNeg v3)) &&& 31))) (v3 + 1))) else (F_X7_image_4 N v1 c_to c_from_points n v2 (v3 + 1))))
def F_X7_image (N : Nat) (v1 : Int32) (c_to : (Nat → Int32)) (c_from_points : Int32) : Option (Int32) := (F_X7_image_4 N v1 c_to c_from_points N 0 0)
theorem cw_X7_image {R : Room} {s : State} {args : Array Value} {own : String} {index lev mc ms : Nat} (hts : ∀ w ∈ lw_all, w.before args s = true) (hl : Cond.methodLink own index yX7_image ∈ lw_all) (hR : (rmL lev mc ms).frames + 1 ≤ R.frames ∧ 8 + (4 + 11) + (rmL lev mc ms).locals ≤ R.locals) : CallW R s args own RX7 index yX7_image cX7_image 4 (some .int) (ws_ yX7_image cX7_image 4 (some .int)) (rmL lev mc ms) mc ms 1 := cwV 1 hts (lw_V hl q1314 qs31 q179 q1315) rfl rfl rfl (by decide +kernel) hR
set_option maxHeartbeats 4000000 in
theorem M_X7_image {l : Launch} {G : GE} (hG : GC G) {N : Nat} {h0 : Nat} {ad : Nat → Nat} {c_isWhole : Int32} {c_host : (Nat → Int32)} {c_used : Int32} {c_from_lines : Int32} {c_from_line : (Nat → Int32)} {c_from_x : (Nat → Int32)} {c_from_y : (Nat → Int32)} {c_into_points : Int32} {c_into_lines : Int32} {c_into_line : (Nat → Int32)} {c_into_x : (Nat → Int32)} {c_into_y : (Nat → Int32)} {v1 : Int32} {c_to : (Nat → Int32)} {c_from_points : Int32} {ρ : (Int32)} (h : F_X7_image N v1 c_to c_from_points = some ρ) : MR l G yX7_image cX7_image 4 (some .int) 1 (qW h0 ad G.2.2 c_isWhole c_to c_host c_used c_from_points c_from_lines c_from_line c_from_x c_from_y c_into_points c_into_lines c_into_line c_into_x c_into_y) [.ref h0, .int v1] ρ := by
  rw [F_X7_image] at h
  refine MR.start (rt := .int) hG (by decide) (Nat.le_of_ble_eq_true rfl) ?_
  intro p e s m args below meth c Q S hW0 hK hP hret ls hl
  obtain ⟨hx, hb, hml, hown, hts⟩ := id S
  have hl : lv_has ls 4 [(0, .ref h0), (1, .int v1)] := hl
  have S_X7_image_4 : ∀ (n : Nat) (v1 : Int32) (v2 : Int32) (v3 : Int32), F_X7_image_4 N v1 c_to c_from_points n v2 v3 = some ρ → ∀ (ls : Array Slot), lv_has ls 4 [(0, .ref h0), (1, .int v1), (2, .int v2), (3, .int v3)] → W p l e (rmL 1 0 0) s m args below meth c s.heap [] 0 0 Q (F0 m 4 ls []) := by
    intro n
    induction n with
    | zero =>
      intro v1 v2 v3 h
      exact absurd h (by simp [F_X7_image_4])
    | succ n ih =>
      intro v1 v2 v3 h ls hl
      rw [F_X7_image_4] at h
      refine lv_iload_n hx hb dX7_image_4 rfl (lv_at hl 3 rfl) ?_
      refine lv_aload_n hx hb dX7_image_5 rfl (lv_at hl 0 rfl) ?_
      refine va_get (ci := 6) (v := .ref (ad 0)) (C := RX7) (T := TX7) (N := 6) hx hb hts in_X7 hown hK hP 0 rfl rfl 0 (by decide) (hts _ q1270) (fun _ h9 => h9) rfl dX7_image_6 ?_
      refine va_getN (ci := 1) (v := .int c_from_points) (C := RX2) (T := TX2) (N := 5) hx hb hts in_X2 hown hK hP 3 rfl rfl 0 (by decide) (hG.nf hW0 q226) (fun _ h9 => h9) rfl dX7_image_9 ?_
      refine lv_icmp_ge (tgt := 41) hx hb dX7_image_12 (by decide) (fun c1 => ?_) (fun c1 => ?_)
      · rw [if_pos c1] at h
        refine lv_iload_n hx hb dX7_image_41 rfl (lv_at hl 2 rfl) ?_
        obtain rfl := Option.some.inj h
        exact hret dX7_image_42 rfl
      · rw [if_neg c1] at h
        refine lv_iload_n hx hb dX7_image_15 rfl (lv_at hl 1 rfl) ?_
        refine lv_iload_n hx hb dX7_image_16 rfl (lv_at hl 3 rfl) ?_
        refine lv_ishr hx hb dX7_image_17 ?_
        refine lv_iconst (v := 1) hx hb dX7_image_18 (by decide) ?_
        refine lv_iand hx hb dX7_image_19 ?_
        refine lv_iconst (v := 1) hx hb dX7_image_20 (by decide) ?_
        refine lv_icmp_ne (tgt := 35) hx hb dX7_image_21 (by decide) (fun c3 => ?_) (fun c3 => ?_)
        · rw [if_neg c3] at h
          refine lv_iinc (v := (v3 + 1)) (lv' := [(3, .int (v3 + 1)), (0, .ref h0), (1, .int v1), (2, .int v2)]) hx hb dX7_image_35 hl (k := 3) rfl rfl (by decide) rfl (fun ls hl => ?_)
          refine lv_goto (tgt := 4) hx hb dX7_image_38 (by decide) ?_
          exact ih v1 v2 (v3 + 1) h _ (lv_sub hl [1, 2, 3, 0] rfl)
        · rw [if_pos c3] at h
          refine lv_iload_n hx hb dX7_image_24 rfl (lv_at hl 2 rfl) ?_
          refine lv_iconst (v := 1) hx hb dX7_image_25 (by decide) ?_
          refine lv_aload_n hx hb dX7_image_26 rfl (lv_at hl 0 rfl) ?_
          refine va_get (ci := 6) (v := .ref (ad 3)) (C := RX7) (T := TX7) (N := 6) hx hb hts in_X7 hown hK hP 0 rfl rfl 3 (by decide) (hts _ q1273) (fun _ h9 => h9) rfl dX7_image_27 ?_
          refine lv_iload_n hx hb dX7_image_30 rfl (lv_at hl 3 rfl) ?_
          obtain ⟨i4, h⟩ := ckI_s h
          refine va_iald (f := c_to) hx hb hK hP 1 0 rfl rfl i4 dX7_image_31 ?_
          refine lv_ishl hx hb dX7_image_32 ?_
          refine lv_ior hx hb dX7_image_33 ?_
          refine lv_istore_n (lv' := [(2, .int (v2 ||| ((1 : Int32) <<< ((c_to (Int32.toNatClampNeg v3)) &&& 31)))), (0, .ref h0), (1, .int v1), (3, .int v3)]) hx hb dX7_image_34 rfl hl (by decide) rfl (fun ls hl => ?_)
          refine lv_iinc (v := (v3 + 1)) (lv' := [(3, .int (v3 + 1)), (2, .int (v2 ||| ((1 : Int32) <<< ((c_to (Int32.toNatClampNeg v3)) &&& 31)))), (0, .ref h0), (1, .int v1)]) hx hb dX7_image_35 hl (k := 3) rfl rfl (by decide) rfl (fun ls hl => ?_)
          refine lv_goto (tgt := 4) hx hb dX7_image_38 (by decide) ?_
          exact ih v1 (v2 ||| ((1 : Int32) <<< ((c_to (Int32.toNatClampNeg v3)) &&& 31))) (v3 + 1) h _ (lv_sub hl [2, 3, 1, 0] rfl)
  refine lv_iconst (v := 0) hx hb dX7_image_0 (by decide) ?_
  refine lv_istore_n (lv' := [(2, .int 0), (0, .ref h0), (1, .int v1)]) hx hb dX7_image_1 rfl hl (by decide) rfl (fun ls hl => ?_)
  refine lv_iconst (v := 0) hx hb dX7_image_2 (by decide) ?_
  refine lv_istore_n (lv' := [(3, .int 0), (2, .int 0), (0, .ref h0), (1, .int v1)]) hx hb dX7_image_3 rfl hl (by decide) rfl (fun ls hl => ?_)
  refine S_X7_image_4 N v1 0 0 h  _ (lv_sub hl [2, 3, 1, 0] rfl)
def F_X7_areUnlike_4 (N : Nat) (c_host : (Nat → Int32)) (c_from_lines : Int32) : Nat → Int32 → Int32 → Option (Int32)
  | 0, _, _ => none
  | n + 1, v1, v2 => (if c_from_lines ≤ v2 then (some (1)) else (ckI v2 12 (if ((v1 >>> ((c_host (Int32.toNatClampNeg v2)) &&& 31)) &&& (1 : Int32)) = 1 then (some (0)) else (ckI v2 12 (F_X7_areUnlike_4 N c_host c_from_lines n (v1 ||| ((1 : Int32) <<< ((c_host (Int32.toNatClampNeg v2)) &&& 31))) (v2 + 1))))))
def F_X7_areUnlike (N : Nat) (c_host : (Nat → Int32)) (c_from_lines : Int32) : Option (Int32) := (F_X7_areUnlike_4 N c_host c_from_lines N 0 0)
theorem cw_X7_areUnlike {R : Room} {s : State} {args : Array Value} {own : String} {index lev mc ms : Nat} (hts : ∀ w ∈ lw_all, w.before args s = true) (hl : Cond.methodLink own index yX7_areUnlike ∈ lw_all) (hR : (rmL lev mc ms).frames + 1 ≤ R.frames ∧ 8 + (3 + 11) + (rmL lev mc ms).locals ≤ R.locals) : CallW R s args own RX7 index yX7_areUnlike cX7_areUnlike 3 (some .boolean) (ws_ yX7_areUnlike cX7_areUnlike 3 (some .boolean)) (rmL lev mc ms) mc ms 0 := cwV 0 hts (lw_V hl q1302 qs29 q179 q1303) rfl rfl rfl (by decide +kernel) hR
set_option maxHeartbeats 4000000 in
theorem M_X7_areUnlike {l : Launch} {G : GE} (hG : GC G) {N : Nat} {h0 : Nat} {ad : Nat → Nat} {c_isWhole : Int32} {c_to : (Nat → Int32)} {c_used : Int32} {c_from_points : Int32} {c_from_line : (Nat → Int32)} {c_from_x : (Nat → Int32)} {c_from_y : (Nat → Int32)} {c_into_points : Int32} {c_into_lines : Int32} {c_into_line : (Nat → Int32)} {c_into_x : (Nat → Int32)} {c_into_y : (Nat → Int32)} {c_host : (Nat → Int32)} {c_from_lines : Int32} {ρ : (Int32)} (h : F_X7_areUnlike N c_host c_from_lines = some ρ) : MR l G yX7_areUnlike cX7_areUnlike 3 (some .boolean) 1 (qW h0 ad G.2.2 c_isWhole c_to c_host c_used c_from_points c_from_lines c_from_line c_from_x c_from_y c_into_points c_into_lines c_into_line c_into_x c_into_y) [.ref h0] ρ := by
  rw [F_X7_areUnlike] at h
  refine MR.start (rt := .boolean) hG (by decide) (Nat.le_of_ble_eq_true rfl) ?_
  intro p e s m args below meth c Q S hW0 hK hP hret ls hl
  obtain ⟨hx, hb, hml, hown, hts⟩ := id S
  have hl : lv_has ls 3 [(0, .ref h0)] := hl
  have S_X7_areUnlike_4 : ∀ (n : Nat) (v1 : Int32) (v2 : Int32), F_X7_areUnlike_4 N c_host c_from_lines n v1 v2 = some ρ → ∀ (ls : Array Slot), lv_has ls 3 [(0, .ref h0), (1, .int v1), (2, .int v2)] → W p l e (rmL 1 0 0) s m args below meth c s.heap [] 0 0 Q (F0 m 4 ls []) := by
    intro n
    induction n with
    | zero =>
      intro v1 v2 h
      exact absurd h (by simp [F_X7_areUnlike_4])
    | succ n ih =>
      intro v1 v2 h ls hl
      rw [F_X7_areUnlike_4] at h
      refine lv_iload_n hx hb dX7_areUnlike_4 rfl (lv_at hl 2 rfl) ?_
      refine lv_aload_n hx hb dX7_areUnlike_5 rfl (lv_at hl 0 rfl) ?_
      refine va_get (ci := 6) (v := .ref (ad 0)) (C := RX7) (T := TX7) (N := 6) hx hb hts in_X7 hown hK hP 0 rfl rfl 0 (by decide) (hts _ q1270) (fun _ h9 => h9) rfl dX7_areUnlike_6 ?_
      refine va_getN (ci := 1) (v := .int c_from_lines) (C := RX2) (T := TX2) (N := 5) hx hb hts in_X2 hown hK hP 3 rfl rfl 1 (by decide) (hG.nf hW0 q230) (fun _ h9 => h9) rfl dX7_areUnlike_9 ?_
      refine lv_icmp_ge (tgt := 48) hx hb dX7_areUnlike_12 (by decide) (fun c1 => ?_) (fun c1 => ?_)
      · rw [if_pos c1] at h
        refine lv_iconst (v := 1) hx hb dX7_areUnlike_48 (by decide) ?_
        obtain rfl := Option.some.inj h
        exact hret dX7_areUnlike_49 rfl
      · rw [if_neg c1] at h
        refine lv_iload_n hx hb dX7_areUnlike_15 rfl (lv_at hl 1 rfl) ?_
        refine lv_aload_n hx hb dX7_areUnlike_16 rfl (lv_at hl 0 rfl) ?_
        refine va_get (ci := 6) (v := .ref (ad 4)) (C := RX7) (T := TX7) (N := 6) hx hb hts in_X7 hown hK hP 0 rfl rfl 4 (by decide) (hts _ q1274) (fun _ h9 => h9) rfl dX7_areUnlike_17 ?_
        refine lv_iload_n hx hb dX7_areUnlike_20 rfl (lv_at hl 2 rfl) ?_
        obtain ⟨i3, h⟩ := ckI_s h
        refine va_iald (f := c_host) hx hb hK hP 2 0 rfl rfl i3 dX7_areUnlike_21 ?_
        refine lv_ishr hx hb dX7_areUnlike_22 ?_
        refine lv_iconst (v := 1) hx hb dX7_areUnlike_23 (by decide) ?_
        refine lv_iand hx hb dX7_areUnlike_24 ?_
        refine lv_iconst (v := 1) hx hb dX7_areUnlike_25 (by decide) ?_
        refine lv_icmp_ne (tgt := 31) hx hb dX7_areUnlike_26 (by decide) (fun c4 => ?_) (fun c4 => ?_)
        · rw [if_neg c4] at h
          refine lv_iload_n hx hb dX7_areUnlike_31 rfl (lv_at hl 1 rfl) ?_
          refine lv_iconst (v := 1) hx hb dX7_areUnlike_32 (by decide) ?_
          refine lv_aload_n hx hb dX7_areUnlike_33 rfl (lv_at hl 0 rfl) ?_
          refine va_get (ci := 6) (v := .ref (ad 4)) (C := RX7) (T := TX7) (N := 6) hx hb hts in_X7 hown hK hP 0 rfl rfl 4 (by decide) (hts _ q1274) (fun _ h9 => h9) rfl dX7_areUnlike_34 ?_
          refine lv_iload_n hx hb dX7_areUnlike_37 rfl (lv_at hl 2 rfl) ?_
          obtain ⟨i5, h⟩ := ckI_s h
          refine va_iald (f := c_host) hx hb hK hP 2 0 rfl rfl i5 dX7_areUnlike_38 ?_
          refine lv_ishl hx hb dX7_areUnlike_39 ?_
          refine lv_ior hx hb dX7_areUnlike_40 ?_
          refine lv_istore_n (lv' := [(1, .int (v1 ||| ((1 : Int32) <<< ((c_host (Int32.toNatClampNeg v2)) &&& 31)))), (0, .ref h0), (2, .int v2)]) hx hb dX7_areUnlike_41 rfl hl (by decide) rfl (fun ls hl => ?_)
          refine lv_iinc (v := (v2 + 1)) (lv' := [(2, .int (v2 + 1)), (1, .int (v1 ||| ((1 : Int32) <<< ((c_host (Int32.toNatClampNeg v2)) &&& 31)))), (0, .ref h0)]) hx hb dX7_areUnlike_42 hl (k := 2) rfl rfl (by decide) rfl (fun ls hl => ?_)
          refine lv_goto (tgt := 4) hx hb dX7_areUnlike_45 (by decide) ?_
          exact ih (v1 ||| ((1 : Int32) <<< ((c_host (Int32.toNatClampNeg v2)) &&& 31))) (v2 + 1) h _ (lv_sub hl [2, 1, 0] rfl)
        · rw [if_pos c4] at h
          refine lv_iconst (v := 0) hx hb dX7_areUnlike_29 (by decide) ?_
          obtain rfl := Option.some.inj h
          exact hret dX7_areUnlike_30 rfl
  refine lv_iconst (v := 0) hx hb dX7_areUnlike_0 (by decide) ?_
  refine lv_istore_n (lv' := [(1, .int 0), (0, .ref h0)]) hx hb dX7_areUnlike_1 rfl hl (by decide) rfl (fun ls hl => ?_)
  refine lv_iconst (v := 0) hx hb dX7_areUnlike_2 (by decide) ?_
  refine lv_istore_n (lv' := [(2, .int 0), (1, .int 0), (0, .ref h0)]) hx hb dX7_areUnlike_3 rfl hl (by decide) rfl (fun ls hl => ?_)
  refine S_X7_areUnlike_4 N 0 0 h  _ (lv_sub hl [2, 1, 0] rfl)
def F_X7_isWell_2 (N : Nat) (v1 : Int32) (c_to : (Nat → Int32)) (c_from_line : (Nat → Int32)) (c_into_line : (Nat → Int32)) (c_isWhole : Int32) (c_from_points : Int32) (c_from_lines : Int32) (c_into_lines : Int32) : Nat → Int32 → (Nat → Int32) → Option (Int32 × (Nat → Int32))
  | 0, _, _ => none
  | n + 1, v2, c_host => (if c_from_lines ≤ v2 then (some (1, c_host)) else (ckI v2 12 (if ((c_from_line (Int32.toNatClampNeg v2)) >>> (v1 &&& 31)) = 1 then (ckI v2 12 ((F_X7_image N (c_from_line (Int32.toNatClampNeg v2)) c_to c_from_points).bind fun y6 => ((F_X2_lineOf N y6 c_into_line c_into_lines).bind fun y7 => (if y7 = (-1) then (some (0, c_host)) else (if c_isWhole = 0 then (ckI v2 12 (F_X7_isWell_2 N v1 c_to c_from_line c_into_line c_isWhole c_from_points c_from_lines c_into_lines n (v2 + 1) (upd c_host (Int32.toNatClampNeg v2) y7))) else (ckI y7 12 (if (c_into_line (Int32.toNatClampNeg y7)) = y6 then (ckI v2 12 (F_X7_isWell_2 N v1 c_to c_from_line c_into_line c_isWhole c_from_points c_from_lines c_into_lines n (v2 + 1) (upd c_host (Int32.toNatClampNeg v2) y7))) else (some (0, c_host))))))))) else (F_X7_isWell_2 N v1 c_to c_from_line c_into_line c_isWhole c_from_points c_from_lines c_into_lines n (v2 + 1) c_host))))
def F_X7_isWell (N : Nat) (v1 : Int32) (c_to : (Nat → Int32)) (c_host : (Nat → Int32)) (c_from_line : (Nat → Int32)) (c_into_line : (Nat → Int32)) (c_isWhole : Int32) (c_from_points : Int32) (c_from_lines : Int32) (c_into_lines : Int32) : Option (Int32 × (Nat → Int32)) := (F_X7_isWell_2 N v1 c_to c_from_line c_into_line c_isWhole c_from_points c_from_lines c_into_lines N 0 c_host)
theorem cw_X7_isWell {R : Room} {s : State} {args : Array Value} {own : String} {index lev mc ms : Nat} (hts : ∀ w ∈ lw_all, w.before args s = true) (hl : Cond.methodLink own index yX7_isWell ∈ lw_all) (hR : (rmL lev mc ms).frames + 1 ≤ R.frames ∧ 8 + (5 + 11) + (rmL lev mc ms).locals ≤ R.locals) : CallW R s args own RX7 index yX7_isWell cX7_isWell 5 (some .boolean) (ws_ yX7_isWell cX7_isWell 5 (some .boolean)) (rmL lev mc ms) mc ms 1 := cwV 1 hts (lw_V hl q1310 qs30 q179 q1311) rfl rfl rfl (by decide +kernel) hR
set_option maxHeartbeats 4000000 in
theorem M_X7_isWell {l : Launch} {G : GE} (hG : GC G) {N : Nat} {h0 : Nat} {ad : Nat → Nat} {c_used : Int32} {c_from_x : (Nat → Int32)} {c_from_y : (Nat → Int32)} {c_into_points : Int32} {c_into_x : (Nat → Int32)} {c_into_y : (Nat → Int32)} {v1 : Int32} {c_to : (Nat → Int32)} {c_host : (Nat → Int32)} {c_from_line : (Nat → Int32)} {c_into_line : (Nat → Int32)} {c_isWhole : Int32} {c_from_points : Int32} {c_from_lines : Int32} {c_into_lines : Int32} {ρ : (Int32 × (Nat → Int32))} (h : F_X7_isWell N v1 c_to c_host c_from_line c_into_line c_isWhole c_from_points c_from_lines c_into_lines = some ρ) : MW l G yX7_isWell cX7_isWell 5 (some .boolean) 2 (qW h0 ad G.2.2 c_isWhole c_to c_host c_used c_from_points c_from_lines c_from_line c_from_x c_from_y c_into_points c_into_lines c_into_line c_into_x c_into_y) [.ref h0, .int v1] (some (.int ρ.1)) (qW h0 ad G.2.2 c_isWhole c_to ρ.2 c_used c_from_points c_from_lines c_from_line c_from_x c_from_y c_into_points c_into_lines c_into_line c_into_x c_into_y) := by
  rw [F_X7_isWell] at h
  refine MW.start hG (by decide) (Nat.le_of_ble_eq_true rfl) ?_
  intro p e s m args below meth c Q A S hW0 hK hP hD hA hreti hretv ls hl
  have hS : va_S A s.heap s.heap [] := va_S.rf
  obtain ⟨hx, hb, hml, hown, hts⟩ := id S
  have hl : lv_has ls 5 [(0, .ref h0), (1, .int v1)] := hl
  have S_X7_isWell_2 : ∀ (n : Nat) (v1 : Int32) (v2 : Int32) (c_host : (Nat → Int32)), F_X7_isWell_2 N v1 c_to c_from_line c_into_line c_isWhole c_from_points c_from_lines c_into_lines n v2 c_host = some ρ → ∀ (H : Heap) (locs : List Loc), va_P G.2.1 vwCl (qW h0 ad G.2.2 c_isWhole c_to c_host c_used c_from_points c_from_lines c_from_line c_from_x c_from_y c_into_points c_into_lines c_into_line c_into_x c_into_y) H → va_D A (qW h0 ad G.2.2 c_isWhole c_to c_host c_used c_from_points c_from_lines c_from_line c_from_x c_from_y c_into_points c_into_lines c_into_line c_into_x c_into_y) → va_S A s.heap H locs → ∀ (ls : Array Slot), lv_has ls 5 [(0, .ref h0), (1, .int v1), (2, .int v2)] → W p l e (rmL 2 0 0) s m args below meth c H locs 0 0 Q (F0 m 2 ls []) := by
    intro n
    induction n with
    | zero =>
      intro v1 v2 c_host h
      exact absurd h (by simp [F_X7_isWell_2])
    | succ n ih =>
      intro v1 v2 c_host h H locs hP hD hS ls hl
      rw [F_X7_isWell_2] at h
      refine lv_iload_n hx hb dX7_isWell_2 rfl (lv_at hl 2 rfl) ?_
      refine lv_aload_n hx hb dX7_isWell_3 rfl (lv_at hl 0 rfl) ?_
      refine va_get (ci := 6) (v := .ref (ad 0)) (C := RX7) (T := TX7) (N := 6) hx hb hts in_X7 hown hK hP 0 rfl rfl 0 (by decide) (hts _ q1270) (fun _ h9 => h9) rfl dX7_isWell_4 ?_
      refine va_getN (ci := 1) (v := .int c_from_lines) (C := RX2) (T := TX2) (N := 5) hx hb hts in_X2 hown hK hP 3 rfl rfl 1 (by decide) (hG.nf hW0 q230) (fun _ h9 => h9) rfl dX7_isWell_7 ?_
      refine lv_icmp_ge (tgt := 98) hx hb dX7_isWell_10 (by decide) (fun c1 => ?_) (fun c1 => ?_)
      · rw [if_pos c1] at h
        refine lv_iconst (v := 1) hx hb dX7_isWell_98 (by decide) ?_
        obtain rfl := Option.some.inj h
        exact hreti rfl dX7_isWell_99 rfl rfl hP hD hS
      · rw [if_neg c1] at h
        refine lv_aload_n hx hb dX7_isWell_13 rfl (lv_at hl 0 rfl) ?_
        refine va_get (ci := 6) (v := .ref (ad 0)) (C := RX7) (T := TX7) (N := 6) hx hb hts in_X7 hown hK hP 0 rfl rfl 0 (by decide) (hts _ q1270) (fun _ h9 => h9) rfl dX7_isWell_14 ?_
        refine va_getN (ci := 1) (v := .ref (ad 12)) (C := RX2) (T := TX2) (N := 5) hx hb hts in_X2 hown hK hP 3 rfl rfl 2 (by decide) (hG.nf hW0 q233) (fun _ h9 => h9) rfl dX7_isWell_17 ?_
        refine lv_iload_n hx hb dX7_isWell_20 rfl (lv_at hl 2 rfl) ?_
        obtain ⟨i3, h⟩ := ckI_s h
        refine va_iald (f := c_from_line) hx hb hK hP 4 0 rfl rfl i3 dX7_isWell_21 ?_
        refine lv_iload_n hx hb dX7_isWell_22 rfl (lv_at hl 1 rfl) ?_
        refine lv_ishr hx hb dX7_isWell_23 ?_
        refine lv_iconst (v := 1) hx hb dX7_isWell_24 (by decide) ?_
        refine lv_icmp_eq (tgt := 31) hx hb dX7_isWell_25 (by decide) (fun c4 => ?_) (fun c4 => ?_)
        · rw [if_pos c4] at h
          refine lv_aload_n hx hb dX7_isWell_31 rfl (lv_at hl 0 rfl) ?_
          refine lv_aload_n hx hb dX7_isWell_32 rfl (lv_at hl 0 rfl) ?_
          refine va_get (ci := 6) (v := .ref (ad 0)) (C := RX7) (T := TX7) (N := 6) hx hb hts in_X7 hown hK hP 0 rfl rfl 0 (by decide) (hts _ q1270) (fun _ h9 => h9) rfl dX7_isWell_33 ?_
          refine va_getN (ci := 1) (v := .ref (ad 12)) (C := RX2) (T := TX2) (N := 5) hx hb hts in_X2 hown hK hP 3 rfl rfl 2 (by decide) (hG.nf hW0 q233) (fun _ h9 => h9) rfl dX7_isWell_36 ?_
          refine lv_iload_n hx hb dX7_isWell_39 rfl (lv_at hl 2 rfl) ?_
          obtain ⟨i5, h⟩ := ckI_s h
          refine va_iald (f := c_from_line) hx hb hK hP 4 0 rfl rfl i5 dX7_isWell_40 ?_
          obtain ⟨y6, e6, h⟩ := ob_s h
          refine MR.callV (q0 := 0) (M_X7_image hG e6) S (cw_X7_image hts q1312 ⟨Nat.le_of_ble_eq_true rfl, Nat.le_of_ble_eq_true rfl⟩) hW0 hK hP rfl rfl rfl hl.1 rfl (Nat.le_of_ble_eq_true rfl) dX7_isWell_41 ⟨Nat.zero_le _, Nat.zero_le _⟩ ?_
          refine lv_istore_n (lv' := [(3, .int y6), (0, .ref h0), (1, .int v1), (2, .int v2)]) hx hb dX7_isWell_44 rfl hl (by decide) rfl (fun ls hl => ?_)
          refine lv_aload_n hx hb dX7_isWell_45 rfl (lv_at hl 1 rfl) ?_
          refine va_get (ci := 6) (v := .ref (ad 1)) (C := RX7) (T := TX7) (N := 6) hx hb hts in_X7 hown hK hP 0 rfl rfl 1 (by decide) (hts _ q1271) (fun _ h9 => h9) rfl dX7_isWell_46 ?_
          refine lv_iload_n hx hb dX7_isWell_49 rfl (lv_at hl 0 rfl) ?_
          obtain ⟨y7, e7, h⟩ := ob_s h
          refine MR.callV (q0 := 0) (M_X2_lineOf hG e7) S (cw_X2_lineOf hts q1316 ⟨Nat.le_of_ble_eq_true rfl, Nat.le_of_ble_eq_true rfl⟩) hW0 hK (hP.sub (ws' := (sW (ad 1) (fun k => ad (20 + k)) G.2.2 c_into_points c_into_lines c_into_line c_into_x c_into_y)) [7, 8, 9, 10] rfl) rfl rfl rfl hl.1 rfl (Nat.le_of_ble_eq_true rfl) dX7_isWell_50 ⟨Nat.zero_le _, Nat.zero_le _⟩ ?_
          refine lv_istore (lv' := [(4, .int y7), (3, .int y6), (0, .ref h0), (1, .int v1), (2, .int v2)]) hx hb dX7_isWell_53 hl (by decide) rfl (fun ls hl => ?_)
          refine lv_iload hx hb dX7_isWell_55 (lv_at hl 0 rfl) ?_
          refine lv_iconst (v := (-1)) hx hb dX7_isWell_57 (by decide) ?_
          refine lv_icmp_eq (tgt := 82) hx hb dX7_isWell_58 (by decide) (fun c8 => ?_) (fun c8 => ?_)
          · rw [if_pos c8] at h
            refine lv_iconst (v := 0) hx hb dX7_isWell_82 (by decide) ?_
            obtain rfl := Option.some.inj h
            exact hreti rfl dX7_isWell_83 rfl rfl hP hD hS
          · rw [if_neg c8] at h
            refine lv_aload_n hx hb dX7_isWell_61 rfl (lv_at hl 2 rfl) ?_
            refine va_get (ci := 6) (v := .int c_isWhole) (C := RX7) (T := TX7) (N := 6) hx hb hts in_X7 hown hK hP 0 rfl rfl 2 (by decide) (hts _ q1272) (fun _ h9 => h9) rfl dX7_isWell_62 ?_
            refine lv_if_eq (tgt := 84) hx hb dX7_isWell_65 (by decide) (fun c10 => ?_) (fun c10 => ?_)
            · rw [if_pos c10] at h
              refine lv_aload_n hx hb dX7_isWell_84 rfl (lv_at hl 2 rfl) ?_
              refine va_get (ci := 6) (v := .ref (ad 4)) (C := RX7) (T := TX7) (N := 6) hx hb hts in_X7 hown hK hP 0 rfl rfl 4 (by decide) (hts _ q1274) (fun _ h9 => h9) rfl dX7_isWell_85 ?_
              refine lv_iload_n hx hb dX7_isWell_88 rfl (lv_at hl 4 rfl) ?_
              refine lv_iload hx hb dX7_isWell_89 (lv_at hl 0 rfl) ?_
              obtain ⟨i11, h⟩ := ckI_s h
              refine va_iast (f := c_host) hx hb hK hP hD hS 2 0 rfl rfl i11 dX7_isWell_91 (fun H locs hP hD hS => ?_)
              have hP : va_P G.2.1 vwCl (qW h0 ad G.2.2 c_isWhole c_to (upd c_host (Int32.toNatClampNeg v2) y7) c_used c_from_points c_from_lines c_from_line c_from_x c_from_y c_into_points c_into_lines c_into_line c_into_x c_into_y) H := hP
              have hD : va_D A (qW h0 ad G.2.2 c_isWhole c_to (upd c_host (Int32.toNatClampNeg v2) y7) c_used c_from_points c_from_lines c_from_line c_from_x c_from_y c_into_points c_into_lines c_into_line c_into_x c_into_y) := hD
              refine lv_iinc (v := (v2 + 1)) (lv' := [(2, .int (v2 + 1)), (4, .int y7), (3, .int y6), (0, .ref h0), (1, .int v1)]) hx hb dX7_isWell_92 hl (k := 4) rfl rfl (by decide) rfl (fun ls hl => ?_)
              refine lv_goto (tgt := 2) hx hb dX7_isWell_95 (by decide) ?_
              exact ih v1 (v2 + 1) (upd c_host (Int32.toNatClampNeg v2) y7) h _ _ hP hD hS _ (lv_sub hl [3, 4, 0] rfl)
            · rw [if_neg c10] at h
              refine lv_aload_n hx hb dX7_isWell_68 rfl (lv_at hl 2 rfl) ?_
              refine va_get (ci := 6) (v := .ref (ad 1)) (C := RX7) (T := TX7) (N := 6) hx hb hts in_X7 hown hK hP 0 rfl rfl 1 (by decide) (hts _ q1271) (fun _ h9 => h9) rfl dX7_isWell_69 ?_
              refine va_getN (ci := 1) (v := .ref (ad 22)) (C := RX2) (T := TX2) (N := 5) hx hb hts in_X2 hown hK hP 7 rfl rfl 2 (by decide) (hG.nf hW0 q233) (fun _ h9 => h9) rfl dX7_isWell_72 ?_
              refine lv_iload hx hb dX7_isWell_75 (lv_at hl 0 rfl) ?_
              obtain ⟨i12, h⟩ := ckI_s h
              refine va_iald (f := c_into_line) hx hb hK hP 8 0 rfl rfl i12 dX7_isWell_77 ?_
              refine lv_iload_n hx hb dX7_isWell_78 rfl (lv_at hl 1 rfl) ?_
              refine lv_icmp_eq (tgt := 84) hx hb dX7_isWell_79 (by decide) (fun c13 => ?_) (fun c13 => ?_)
              · rw [if_pos c13] at h
                refine lv_aload_n hx hb dX7_isWell_84 rfl (lv_at hl 2 rfl) ?_
                refine va_get (ci := 6) (v := .ref (ad 4)) (C := RX7) (T := TX7) (N := 6) hx hb hts in_X7 hown hK hP 0 rfl rfl 4 (by decide) (hts _ q1274) (fun _ h9 => h9) rfl dX7_isWell_85 ?_
                refine lv_iload_n hx hb dX7_isWell_88 rfl (lv_at hl 4 rfl) ?_
                refine lv_iload hx hb dX7_isWell_89 (lv_at hl 0 rfl) ?_
                obtain ⟨i14, h⟩ := ckI_s h
                refine va_iast (f := c_host) hx hb hK hP hD hS 2 0 rfl rfl i14 dX7_isWell_91 (fun H locs hP hD hS => ?_)
                have hP : va_P G.2.1 vwCl (qW h0 ad G.2.2 c_isWhole c_to (upd c_host (Int32.toNatClampNeg v2) y7) c_used c_from_points c_from_lines c_from_line c_from_x c_from_y c_into_points c_into_lines c_into_line c_into_x c_into_y) H := hP
                have hD : va_D A (qW h0 ad G.2.2 c_isWhole c_to (upd c_host (Int32.toNatClampNeg v2) y7) c_used c_from_points c_from_lines c_from_line c_from_x c_from_y c_into_points c_into_lines c_into_line c_into_x c_into_y) := hD
                refine lv_iinc (v := (v2 + 1)) (lv' := [(2, .int (v2 + 1)), (4, .int y7), (3, .int y6), (0, .ref h0), (1, .int v1)]) hx hb dX7_isWell_92 hl (k := 4) rfl rfl (by decide) rfl (fun ls hl => ?_)
                refine lv_goto (tgt := 2) hx hb dX7_isWell_95 (by decide) ?_
                exact ih v1 (v2 + 1) (upd c_host (Int32.toNatClampNeg v2) y7) h _ _ hP hD hS _ (lv_sub hl [3, 4, 0] rfl)
              · rw [if_neg c13] at h
                refine lv_iconst (v := 0) hx hb dX7_isWell_82 (by decide) ?_
                obtain rfl := Option.some.inj h
                exact hreti rfl dX7_isWell_83 rfl rfl hP hD hS
        · rw [if_neg c4] at h
          refine lv_goto (tgt := 92) hx hb dX7_isWell_28 (by decide) ?_
          refine lv_iinc (v := (v2 + 1)) (lv' := [(2, .int (v2 + 1)), (0, .ref h0), (1, .int v1)]) hx hb dX7_isWell_92 hl (k := 2) rfl rfl (by decide) rfl (fun ls hl => ?_)
          refine lv_goto (tgt := 2) hx hb dX7_isWell_95 (by decide) ?_
          exact ih v1 (v2 + 1) c_host h _ _ hP hD hS _ (lv_sub hl [1, 2, 0] rfl)
  refine lv_iconst (v := 0) hx hb dX7_isWell_0 (by decide) ?_
  refine lv_istore_n (lv' := [(2, .int 0), (0, .ref h0), (1, .int v1)]) hx hb dX7_isWell_1 rfl hl (by decide) rfl (fun ls hl => ?_)
  refine S_X7_isWell_2 N v1 0 c_host h  _ _ hP hD hS _ (lv_sub hl [1, 2, 0] rfl)
def F_X1_lambda_likeness_0 (N : Nat) (n1 : Nat) (c_p1 : (Nat → Int32)) (c_p0_kept : (Nat → Int32)) (c_p0_many : Int32) (c_p0_wanted : Int32) : Option (Int32 × (Nat → Int32) × Int32) := ((F_X6_takes N n1 c_p1 c_p0_kept c_p0_many c_p0_wanted).bind fun y1 => (ckP (y1.1 &&& 1 = y1.1) ((some (y1.1, y1.2.1, y1.2.2)))))
theorem cw_X1_lambda_likeness_0 {R : Room} {s : State} {args : Array Value} {own : String} {index lev mc ms : Nat} (hts : ∀ w ∈ lw_all, w.before args s = true) (hl : Cond.methodLink own index yX1_lambda_likeness_0 ∈ lw_all) (hR : (rmL lev mc ms).frames + 1 ≤ R.frames ∧ 8 + (2 + 11) + (rmL lev mc ms).locals ≤ R.locals) : CallB R s args own index yX1_lambda_likeness_0 cX1_lambda_likeness_0 2 (some .boolean) (ws_ yX1_lambda_likeness_0 cX1_lambda_likeness_0 2 (some .boolean)) (rmL lev mc ms) mc ms 2 ∧ (Cond.static yX1_lambda_likeness_0).before args s = true := va_cwS 2 hts (lw_S hl q1289 q151 q1290) rfl rfl rfl (by decide +kernel) hR
set_option maxHeartbeats 4000000 in
theorem M_X1_lambda_likeness_0 {l : Launch} {G : GE} (hG : GC G) {N : Nat} {b0 : Nat} {ad0 : Nat → Nat} {b1 : Nat} {n1 : Nat} {c_p1 : (Nat → Int32)} {c_p0_kept : (Nat → Int32)} {c_p0_many : Int32} {c_p0_wanted : Int32} {ρ : (Int32 × (Nat → Int32) × Int32)} (h : F_X1_lambda_likeness_0 N n1 c_p1 c_p0_kept c_p0_many c_p0_wanted = some ρ) : MW l G yX1_lambda_likeness_0 cX1_lambda_likeness_0 2 (some .boolean) 2 [(b0, .inr (5, [.int c_p0_many, .int c_p0_wanted, .ref (ad0 2)])), ((ad0 2), .inl (G.2.2 0, 8, .inl c_p0_kept)), (b1, .inl (G.2.2 0, n1, .inl c_p1))] [.ref b0, .ref b1] (some (.int ρ.1)) [(b0, .inr (5, [.int ρ.2.2, .int c_p0_wanted, .ref (ad0 2)])), ((ad0 2), .inl (G.2.2 0, 8, .inl ρ.2.1)), (b1, .inl (G.2.2 0, n1, .inl c_p1))] := by
  rw [F_X1_lambda_likeness_0] at h
  refine MW.start hG (by decide) (Nat.le_of_ble_eq_true rfl) ?_
  intro p e s m args below meth c Q A S hW0 hK hP hD hA hreti hretv ls hl
  have hS : va_S A s.heap s.heap [] := va_S.rf
  obtain ⟨hx, hb, hml, hown, hts⟩ := id S
  have hl : lv_has ls 2 [(0, .ref b0), (1, .ref b1)] := hl
  refine lv_aload_n hx hb dX1_lambda_likeness_0_0 rfl (lv_at hl 0 rfl) ?_
  refine lv_aload_n hx hb dX1_lambda_likeness_0_1 rfl (lv_at hl 1 rfl) ?_
  obtain ⟨y1, e1, h⟩ := ob_s h
  refine MW.callVs (q0 := 0) (M_X6_takes (ad0 := ad0) hG e1) S (cw_X6_takes hts q1291 ⟨Nat.le_of_ble_eq_true rfl, Nat.le_of_ble_eq_true rfl⟩) hW0 hK hP hD hS hA [0, 1, 2] [] (wr := []) rfl rfl (by decide) (by decide) (by decide) rfl rfl rfl hl.1 rfl (Nat.le_of_ble_eq_true rfl) dX1_lambda_likeness_0_2 ⟨Nat.zero_le _, Nat.zero_le _⟩ (fun H locs hP hD hS => ?_)
  have hP := hP.sub (ws' := [(b0, .inr (5, [.int y1.2.2, .int c_p0_wanted, .ref (ad0 2)])), ((ad0 2), .inl (G.2.2 0, 8, .inl y1.2.1)), (b1, .inl (G.2.2 0, n1, .inl c_p1))]) [0, 1, 2] rfl
  have hD := hD.sub (ws' := [(b0, .inr (5, [.int y1.2.2, .int c_p0_wanted, .ref (ad0 2)])), ((ad0 2), .inl (G.2.2 0, 8, .inl y1.2.1)), (b1, .inl (G.2.2 0, n1, .inl c_p1))]) [0, 1, 2] (by decide) rfl
  refine W.eq (g2 := F0 m 5 ls [.int y1.1]) rfl ?_
  obtain ⟨i3, h⟩ := ckP_s h
  obtain rfl := Option.some.inj h
  exact hreti rfl dX1_lambda_likeness_0_5 (nz_of i3) rfl hP hD hS
def F_X1_lambda_lying_1 (N : Nat) (n1 : Nat) (c_p1 : (Nat → Int32)) (c_p0_kept : (Nat → Int32)) (c_p0_many : Int32) (c_p0_wanted : Int32) : Option (Int32 × (Nat → Int32) × Int32) := ((F_X6_takes N n1 c_p1 c_p0_kept c_p0_many c_p0_wanted).bind fun y1 => (ckP (y1.1 &&& 1 = y1.1) ((some (y1.1, y1.2.1, y1.2.2)))))
theorem cw_X1_lambda_lying_1 {R : Room} {s : State} {args : Array Value} {own : String} {index lev mc ms : Nat} (hts : ∀ w ∈ lw_all, w.before args s = true) (hl : Cond.methodLink own index yX1_lambda_lying_1 ∈ lw_all) (hR : (rmL lev mc ms).frames + 1 ≤ R.frames ∧ 8 + (2 + 11) + (rmL lev mc ms).locals ≤ R.locals) : CallB R s args own index yX1_lambda_lying_1 cX1_lambda_lying_1 2 (some .boolean) (ws_ yX1_lambda_lying_1 cX1_lambda_lying_1 2 (some .boolean)) (rmL lev mc ms) mc ms 2 ∧ (Cond.static yX1_lambda_lying_1).before args s = true := va_cwS 2 hts (lw_S hl q1508 q151 q1509) rfl rfl rfl (by decide +kernel) hR
set_option maxHeartbeats 4000000 in
theorem M_X1_lambda_lying_1 {l : Launch} {G : GE} (hG : GC G) {N : Nat} {b0 : Nat} {ad0 : Nat → Nat} {b1 : Nat} {n1 : Nat} {c_p1 : (Nat → Int32)} {c_p0_kept : (Nat → Int32)} {c_p0_many : Int32} {c_p0_wanted : Int32} {ρ : (Int32 × (Nat → Int32) × Int32)} (h : F_X1_lambda_lying_1 N n1 c_p1 c_p0_kept c_p0_many c_p0_wanted = some ρ) : MW l G yX1_lambda_lying_1 cX1_lambda_lying_1 2 (some .boolean) 2 [(b0, .inr (5, [.int c_p0_many, .int c_p0_wanted, .ref (ad0 2)])), ((ad0 2), .inl (G.2.2 0, 8, .inl c_p0_kept)), (b1, .inl (G.2.2 0, n1, .inl c_p1))] [.ref b0, .ref b1] (some (.int ρ.1)) [(b0, .inr (5, [.int ρ.2.2, .int c_p0_wanted, .ref (ad0 2)])), ((ad0 2), .inl (G.2.2 0, 8, .inl ρ.2.1)), (b1, .inl (G.2.2 0, n1, .inl c_p1))] := by
  rw [F_X1_lambda_lying_1] at h
  refine MW.start hG (by decide) (Nat.le_of_ble_eq_true rfl) ?_
  intro p e s m args below meth c Q A S hW0 hK hP hD hA hreti hretv ls hl
  have hS : va_S A s.heap s.heap [] := va_S.rf
  obtain ⟨hx, hb, hml, hown, hts⟩ := id S
  have hl : lv_has ls 2 [(0, .ref b0), (1, .ref b1)] := hl
  refine lv_aload_n hx hb dX1_lambda_lying_1_0 rfl (lv_at hl 0 rfl) ?_
  refine lv_aload_n hx hb dX1_lambda_lying_1_1 rfl (lv_at hl 1 rfl) ?_
  obtain ⟨y1, e1, h⟩ := ob_s h
  refine MW.callVs (q0 := 0) (M_X6_takes (ad0 := ad0) hG e1) S (cw_X6_takes hts q1291 ⟨Nat.le_of_ble_eq_true rfl, Nat.le_of_ble_eq_true rfl⟩) hW0 hK hP hD hS hA [0, 1, 2] [] (wr := []) rfl rfl (by decide) (by decide) (by decide) rfl rfl rfl hl.1 rfl (Nat.le_of_ble_eq_true rfl) dX1_lambda_lying_1_2 ⟨Nat.zero_le _, Nat.zero_le _⟩ (fun H locs hP hD hS => ?_)
  have hP := hP.sub (ws' := [(b0, .inr (5, [.int y1.2.2, .int c_p0_wanted, .ref (ad0 2)])), ((ad0 2), .inl (G.2.2 0, 8, .inl y1.2.1)), (b1, .inl (G.2.2 0, n1, .inl c_p1))]) [0, 1, 2] rfl
  have hD := hD.sub (ws' := [(b0, .inr (5, [.int y1.2.2, .int c_p0_wanted, .ref (ad0 2)])), ((ad0 2), .inl (G.2.2 0, 8, .inl y1.2.1)), (b1, .inl (G.2.2 0, n1, .inl c_p1))]) [0, 1, 2] (by decide) rfl
  refine W.eq (g2 := F0 m 5 ls [.int y1.1]) rfl ?_
  obtain ⟨i3, h⟩ := ckP_s h
  obtain rfl := Option.some.inj h
  exact hreti rfl dX1_lambda_lying_1_5 (nz_of i3) rfl hP hD hS
def F_X1_years_41 (N : Nat) (v2 : Int32) (c_tried_points : Int32) : Nat → Int32 → Int32 → (Nat → Int32) → Int32 → Int32 → (Int32 → (Nat → Int32) → Int32 → Int32 → Option (Int32 × (Nat → Int32) × (Nat → Int32) × (Nat → Int32) × Int32 × Int32 × Int32)) → Option (Int32 × (Nat → Int32) × (Nat → Int32) × (Nat → Int32) × Int32 × Int32 × Int32)
  | 0, _, _, _, _, _, _ => none
  | n + 1, v4, v5, c_tried_line, c_its, c_tried_lines, k67 => (if v2 ≤ v5 then (k67 v4 c_tried_line c_its c_tried_lines) else ((F_X1_happens N c_tried_line c_its c_tried_points c_tried_lines).bind fun y7 => (if y7.1 = 0 then (F_X1_years_41 N v2 c_tried_points n v4 (v5 + 1) y7.2.1 y7.2.2.1 y7.2.2.2 k67) else (F_X1_years_41 N v2 c_tried_points n (v4 + 1) (v5 + 1) y7.2.1 y7.2.2.1 y7.2.2.2 k67))))
def F_X1_years (N : Nat) (v1 : Int32) (v2 : Int32) (v3 : Int32) (c_now_line : (Nat → Int32)) (c_now_x : (Nat → Int32)) (c_now_y : (Nat → Int32)) (c_tried_line : (Nat → Int32)) (c_tried_x : (Nat → Int32)) (c_tried_y : (Nat → Int32)) (c_its : Int32) (c_now_points : Int32) (c_now_lines : Int32) (c_tried_points : Int32) (c_tried_lines : Int32) : Option (Int32 × (Nat → Int32) × (Nat → Int32) × (Nat → Int32) × Int32 × Int32 × Int32) := ((F_X1_within N v3 0 2).bind fun y1 => ((F_X1_there N y1).bind fun y2 => ((F_X1_within N v2 0 60).bind fun y3 => ((F_X1_right N y3).bind fun y4 => ((F_X2_like N c_tried_line c_tried_x c_tried_y c_now_line c_now_x c_now_y c_tried_points c_tried_lines c_now_points c_now_lines).bind fun y5 => (F_X1_years_41 N v2 y5.2.2.2.1 N 0 0 y5.1 v1 y5.2.2.2.2 (fun u4_9 c_tried_line_9 c_its_9 c_tried_lines_9 => (if v3 = 0 then (some (c_tried_lines_9, c_tried_line_9, y5.2.1, y5.2.2.1, c_its_9, y5.2.2.2.1, c_tried_lines_9)) else (if v3 = 1 then ((F_X1_trianglesOf N c_tried_line_9 c_tried_lines_9).bind fun y13 => (some (y13, c_tried_line_9, y5.2.1, y5.2.2.1, c_its_9, y5.2.2.2.1, c_tried_lines_9))) else (some (u4_9, c_tried_line_9, y5.2.1, y5.2.2.1, c_its_9, y5.2.2.2.1, c_tried_lines_9)))))))))))
theorem cw_X1_years {R : Room} {s : State} {args : Array Value} {own : String} {index lev mc ms : Nat} (hts : ∀ w ∈ lw_all, w.before args s = true) (hl : Cond.methodLink own index yX1_years ∈ lw_all) (hR : (rmL lev mc ms).frames + 1 ≤ R.frames ∧ 8 + (6 + 11) + (rmL lev mc ms).locals ≤ R.locals) : CallW R s args own RX1 index yX1_years cX1_years 6 (some .int) (ws_ yX1_years cX1_years 6 (some .int)) (rmL lev mc ms) mc ms 3 := cwV 3 hts (lw_V hl q1639 q1640 q151 q1641) rfl rfl rfl (by decide +kernel) hR
set_option maxHeartbeats 4000000 in
theorem M_X1_years {l : Launch} {G : GE} (hG : GC G) {N : Nat} {h0 : Nat} {ad : Nat → Nat} {c_listPoints : Int32} {c_listLines : Int32} {c_refused : (Nat → Int32)} {c_imageRefused : (Nat → Int32)} {c_hasImage : Int32} {c_tape : (Nat → Int32)} {c_taped : Int32} {c_faultPlace : Int32} {c_orbit : (Nat → Int32)} {c_lineFor : (Nat → Int32)} {c_dualities : Int32} {c_polarities : Int32} {c_shortest : Int32} {c_placeX : (Nat → Int32)} {c_placeY : (Nat → Int32)} {c_placeZ : (Nat → Int32)} {c_lies : (Nat → Int32)} {c_firstLies : (Nat → Int32)} {c_worth : (Nat → Int32)} {c_imageNow_points : Int32} {c_imageNow_lines : Int32} {c_imageNow_line : (Nat → Int32)} {c_imageNow_x : (Nat → Int32)} {c_imageNow_y : (Nat → Int32)} {v1 : Int32} {v2 : Int32} {v3 : Int32} {c_now_line : (Nat → Int32)} {c_now_x : (Nat → Int32)} {c_now_y : (Nat → Int32)} {c_tried_line : (Nat → Int32)} {c_tried_x : (Nat → Int32)} {c_tried_y : (Nat → Int32)} {c_its : Int32} {c_now_points : Int32} {c_now_lines : Int32} {c_tried_points : Int32} {c_tried_lines : Int32} {ρ : (Int32 × (Nat → Int32) × (Nat → Int32) × (Nat → Int32) × Int32 × Int32 × Int32)} (h : F_X1_years N v1 v2 v3 c_now_line c_now_x c_now_y c_tried_line c_tried_x c_tried_y c_its c_now_points c_now_lines c_tried_points c_tried_lines = some ρ) : MW l G yX1_years cX1_years 6 (some .int) 5 (cW h0 ad G.2.2 c_listPoints c_listLines c_refused c_imageRefused c_hasImage c_tape c_taped c_faultPlace c_orbit c_lineFor c_dualities c_polarities c_shortest c_placeX c_placeY c_placeZ c_lies c_firstLies c_worth c_its c_now_points c_now_lines c_now_line c_now_x c_now_y c_tried_points c_tried_lines c_tried_line c_tried_x c_tried_y c_imageNow_points c_imageNow_lines c_imageNow_line c_imageNow_x c_imageNow_y) [.ref h0, .int v1, .int v2, .int v3] (some (.int ρ.1)) (cW h0 ad G.2.2 c_listPoints c_listLines c_refused c_imageRefused c_hasImage c_tape c_taped c_faultPlace c_orbit c_lineFor c_dualities c_polarities c_shortest c_placeX c_placeY c_placeZ c_lies c_firstLies c_worth ρ.2.2.2.2.1 c_now_points c_now_lines c_now_line c_now_x c_now_y ρ.2.2.2.2.2.1 ρ.2.2.2.2.2.2 ρ.2.1 ρ.2.2.1 ρ.2.2.2.1 c_imageNow_points c_imageNow_lines c_imageNow_line c_imageNow_x c_imageNow_y) := by
  rw [F_X1_years] at h
  refine MW.start hG (by decide) (Nat.le_of_ble_eq_true rfl) ?_
  intro p e s m args below meth c Q A S hW0 hK hP hD hA hreti hretv ls hl
  have hS : va_S A s.heap s.heap [] := va_S.rf
  obtain ⟨hx, hb, hml, hown, hts⟩ := id S
  have hl : lv_has ls 6 [(0, .ref h0), (1, .int v1), (2, .int v2), (3, .int v3)] := hl
  have S_X1_years_41 : ∀ (n : Nat) (v2 : Int32) (v3 : Int32) (v4 : Int32) (v5 : Int32) (c_tried_line : (Nat → Int32)) (c_tried_x : (Nat → Int32)) (c_tried_y : (Nat → Int32)) (c_its : Int32) (c_tried_points : Int32) (c_tried_lines : Int32) (k67 : Int32 → (Nat → Int32) → Int32 → Int32 → Option (Int32 × (Nat → Int32) × (Nat → Int32) × (Nat → Int32) × Int32 × Int32 × Int32)), F_X1_years_41 N v2 c_tried_points n v4 v5 c_tried_line c_its c_tried_lines k67 = some ρ → (∀ (u4 : Int32) (z_c_tried_line : (Nat → Int32)) (z_c_its : Int32) (z_c_tried_lines : Int32) (H : Heap) (locs : List Loc) (ls : Array Slot), k67 u4 z_c_tried_line z_c_its z_c_tried_lines = some ρ → va_P G.2.1 vwCl (cW h0 ad G.2.2 c_listPoints c_listLines c_refused c_imageRefused c_hasImage c_tape c_taped c_faultPlace c_orbit c_lineFor c_dualities c_polarities c_shortest c_placeX c_placeY c_placeZ c_lies c_firstLies c_worth z_c_its c_now_points c_now_lines c_now_line c_now_x c_now_y c_tried_points z_c_tried_lines z_c_tried_line c_tried_x c_tried_y c_imageNow_points c_imageNow_lines c_imageNow_line c_imageNow_x c_imageNow_y) H → va_D A (cW h0 ad G.2.2 c_listPoints c_listLines c_refused c_imageRefused c_hasImage c_tape c_taped c_faultPlace c_orbit c_lineFor c_dualities c_polarities c_shortest c_placeX c_placeY c_placeZ c_lies c_firstLies c_worth z_c_its c_now_points c_now_lines c_now_line c_now_x c_now_y c_tried_points z_c_tried_lines z_c_tried_line c_tried_x c_tried_y c_imageNow_points c_imageNow_lines c_imageNow_line c_imageNow_x c_imageNow_y) → va_S A s.heap H locs → lv_has ls 6 [(0, .ref h0), (3, .int v3), (4, .int u4)] → W p l e (rmL 5 0 0) s m args below meth c H locs 0 0 Q (F0 m 67 ls [])) → ∀ (H : Heap) (locs : List Loc), va_P G.2.1 vwCl (cW h0 ad G.2.2 c_listPoints c_listLines c_refused c_imageRefused c_hasImage c_tape c_taped c_faultPlace c_orbit c_lineFor c_dualities c_polarities c_shortest c_placeX c_placeY c_placeZ c_lies c_firstLies c_worth c_its c_now_points c_now_lines c_now_line c_now_x c_now_y c_tried_points c_tried_lines c_tried_line c_tried_x c_tried_y c_imageNow_points c_imageNow_lines c_imageNow_line c_imageNow_x c_imageNow_y) H → va_D A (cW h0 ad G.2.2 c_listPoints c_listLines c_refused c_imageRefused c_hasImage c_tape c_taped c_faultPlace c_orbit c_lineFor c_dualities c_polarities c_shortest c_placeX c_placeY c_placeZ c_lies c_firstLies c_worth c_its c_now_points c_now_lines c_now_line c_now_x c_now_y c_tried_points c_tried_lines c_tried_line c_tried_x c_tried_y c_imageNow_points c_imageNow_lines c_imageNow_line c_imageNow_x c_imageNow_y) → va_S A s.heap H locs → ∀ (ls : Array Slot), lv_has ls 6 [(0, .ref h0), (2, .int v2), (3, .int v3), (4, .int v4), (5, .int v5)] → W p l e (rmL 5 0 0) s m args below meth c H locs 0 0 Q (F0 m 41 ls []) := by
    intro n
    induction n with
    | zero =>
      intro v2 v3 v4 v5 c_tried_line c_tried_x c_tried_y c_its c_tried_points c_tried_lines k67 h
      exact absurd h (by simp [F_X1_years_41])
    | succ n ih =>
      intro v2 v3 v4 v5 c_tried_line c_tried_x c_tried_y c_its c_tried_points c_tried_lines k67 h hk67 H locs hP hD hS ls hl
      rw [F_X1_years_41] at h
      refine lv_iload hx hb dX1_years_41 (lv_at hl 4 rfl) ?_
      refine lv_iload_n hx hb dX1_years_43 rfl (lv_at hl 1 rfl) ?_
      refine lv_icmp_ge (tgt := 67) hx hb dX1_years_44 (by decide) (fun c6 => ?_) (fun c6 => ?_)
      · rw [if_pos c6] at h
        exact hk67 v4 c_tried_line c_its c_tried_lines _ _ _ h hP hD hS (lv_sub hl [0, 2, 3] rfl)
      · rw [if_neg c6] at h
        refine lv_aload_n hx hb dX1_years_47 rfl (lv_at hl 0 rfl) ?_
        refine lv_aload_n hx hb dX1_years_48 rfl (lv_at hl 0 rfl) ?_
        refine va_get (ci := 0) (v := .ref (ad 4)) (C := RX1) (T := TX1) (N := 28) hx hb hts in_X1 hown hK hP 0 rfl rfl 4 (by decide) (hts _ q581) (fun _ h9 => h9) rfl dX1_years_49 ?_
        obtain ⟨y7, e7, h⟩ := ob_s h
        refine MW.callV (q0 := 0) (M_X1_happens hG e7) S (cw_X1_happens hts q1642 ⟨Nat.le_of_ble_eq_true rfl, Nat.le_of_ble_eq_true rfl⟩) hW0 hK hP hD hS hA rfl rfl rfl hl.1 rfl (Nat.le_of_ble_eq_true rfl) dX1_years_52 ⟨Nat.zero_le _, Nat.zero_le _⟩ (fun H locs hP hD hS => ?_)
        have hP : va_P G.2.1 vwCl (cW h0 ad G.2.2 c_listPoints c_listLines c_refused c_imageRefused c_hasImage c_tape c_taped c_faultPlace c_orbit c_lineFor c_dualities c_polarities c_shortest c_placeX c_placeY c_placeZ c_lies c_firstLies c_worth y7.2.2.1 c_now_points c_now_lines c_now_line c_now_x c_now_y c_tried_points y7.2.2.2 y7.2.1 c_tried_x c_tried_y c_imageNow_points c_imageNow_lines c_imageNow_line c_imageNow_x c_imageNow_y) H := hP
        have hD : va_D A (cW h0 ad G.2.2 c_listPoints c_listLines c_refused c_imageRefused c_hasImage c_tape c_taped c_faultPlace c_orbit c_lineFor c_dualities c_polarities c_shortest c_placeX c_placeY c_placeZ c_lies c_firstLies c_worth y7.2.2.1 c_now_points c_now_lines c_now_line c_now_x c_now_y c_tried_points y7.2.2.2 y7.2.1 c_tried_x c_tried_y c_imageNow_points c_imageNow_lines c_imageNow_line c_imageNow_x c_imageNow_y) := hD
        refine W.eq (g2 := F0 m 55 ls [.int y7.1]) rfl ?_
        refine lv_if_eq (tgt := 61) hx hb dX1_years_55 (by decide) (fun c8 => ?_) (fun c8 => ?_)
        · rw [if_pos c8] at h
          refine lv_iinc (v := (v5 + 1)) (lv' := [(5, .int (v5 + 1)), (0, .ref h0), (2, .int v2), (3, .int v3), (4, .int v4)]) hx hb dX1_years_61 hl (k := 4) rfl rfl (by decide) rfl (fun ls hl => ?_)
          refine lv_goto (tgt := 41) hx hb dX1_years_64 (by decide) ?_
          exact ih v2 v3 v4 (v5 + 1) y7.2.1 c_tried_x c_tried_y y7.2.2.1 c_tried_points y7.2.2.2 _ h hk67 _ _ hP hD hS _ (lv_sub hl [1, 2, 3, 4, 0] rfl)
        · rw [if_neg c8] at h
          refine lv_iinc (v := (v4 + 1)) (lv' := [(4, .int (v4 + 1)), (0, .ref h0), (2, .int v2), (3, .int v3), (5, .int v5)]) hx hb dX1_years_58 hl (k := 3) rfl rfl (by decide) rfl (fun ls hl => ?_)
          refine lv_iinc (v := (v5 + 1)) (lv' := [(5, .int (v5 + 1)), (4, .int (v4 + 1)), (0, .ref h0), (2, .int v2), (3, .int v3)]) hx hb dX1_years_61 hl (k := 4) rfl rfl (by decide) rfl (fun ls hl => ?_)
          refine lv_goto (tgt := 41) hx hb dX1_years_64 (by decide) ?_
          exact ih v2 v3 (v4 + 1) (v5 + 1) y7.2.1 c_tried_x c_tried_y y7.2.2.1 c_tried_points y7.2.2.2 _ h hk67 _ _ hP hD hS _ (lv_sub hl [2, 3, 4, 1, 0] rfl)
  refine lv_iload_n hx hb dX1_years_0 rfl (lv_at hl 3 rfl) ?_
  refine lv_iconst (v := 0) hx hb dX1_years_1 (by decide) ?_
  refine lv_iconst (v := 2) hx hb dX1_years_2 (by decide) ?_
  obtain ⟨y1, e1, h⟩ := ob_s h
  refine MR.callS (M_X1_within hG e1) S (cw_X1_within hts q878 ⟨Nat.le_of_ble_eq_true rfl, Nat.le_of_ble_eq_true rfl⟩) hW0 vaP0 rfl hl.1 rfl (Nat.le_of_ble_eq_true rfl) dX1_years_3 ⟨Nat.zero_le _, Nat.zero_le _⟩ ?_
  obtain ⟨y2, e2, h⟩ := ob_s h
  refine MV.callS (M_X1_there hG e2) S (cw_X1_there hts q1182 ⟨Nat.le_of_ble_eq_true rfl, Nat.le_of_ble_eq_true rfl⟩) hW0 vaP0 rfl hl.1 rfl (Nat.le_of_ble_eq_true rfl) dX1_years_6 ⟨Nat.zero_le _, Nat.zero_le _⟩ ?_
  refine lv_iload_n hx hb dX1_years_9 rfl (lv_at hl 2 rfl) ?_
  refine lv_iconst (v := 0) hx hb dX1_years_10 (by decide) ?_
  refine lv_bipush (v := 60) hx hb dX1_years_11 (by decide) ?_
  obtain ⟨y3, e3, h⟩ := ob_s h
  refine MR.callS (M_X1_within hG e3) S (cw_X1_within hts q878 ⟨Nat.le_of_ble_eq_true rfl, Nat.le_of_ble_eq_true rfl⟩) hW0 vaP0 rfl hl.1 rfl (Nat.le_of_ble_eq_true rfl) dX1_years_13 ⟨Nat.zero_le _, Nat.zero_le _⟩ ?_
  obtain ⟨y4, e4, h⟩ := ob_s h
  refine MV.callS (M_X1_right hG e4) S (cw_X1_right hts q948 ⟨Nat.le_of_ble_eq_true rfl, Nat.le_of_ble_eq_true rfl⟩) hW0 vaP0 rfl hl.1 rfl (Nat.le_of_ble_eq_true rfl) dX1_years_16 ⟨Nat.zero_le _, Nat.zero_le _⟩ ?_
  refine lv_aload_n hx hb dX1_years_19 rfl (lv_at hl 0 rfl) ?_
  refine va_get (ci := 0) (v := .ref (ad 4)) (C := RX1) (T := TX1) (N := 28) hx hb hts in_X1 hown hK hP 0 rfl rfl 4 (by decide) (hts _ q581) (fun _ h9 => h9) rfl dX1_years_20 ?_
  refine lv_aload_n hx hb dX1_years_23 rfl (lv_at hl 0 rfl) ?_
  refine va_get (ci := 0) (v := .ref (ad 3)) (C := RX1) (T := TX1) (N := 28) hx hb hts in_X1 hown hK hP 0 rfl rfl 3 (by decide) (hts _ q580) (fun _ h9 => h9) rfl dX1_years_24 ?_
  obtain ⟨y5, e5, h⟩ := ob_s h
  refine MW.callVs (q0 := 0) (M_X2_like (ad0 := (fun k => ad (40 + k))) (ad1 := (fun k => ad (30 + k))) hG e5) S (cw_X2_like hts q714 ⟨Nat.le_of_ble_eq_true rfl, Nat.le_of_ble_eq_true rfl⟩) hW0 hK hP hD hS hA [5, 6, 7, 8, 1, 2, 3, 4] [0, 9, 10, 11, 12, 13, 14, 15, 16, 17, 18, 19, 20, 21, 22, 23] (wr := [(h0, .inr (0, [.ref (ad 0), .int c_listPoints, .int c_listLines, .ref (ad 3), .ref (ad 4), .ref (ad 5), .ref (ad 6), .ref (ad 7), .ref (ad 8), .ref (ad 9), .ref (ad 10), .ref (ad 11), .int c_hasImage, .ref (ad 13), .int c_taped, .int c_faultPlace, .ref (ad 16), .ref (ad 17), .int c_dualities, .int c_polarities, .int c_shortest, .ref (ad 21), .ref (ad 22), .ref (ad 23), .ref (ad 24), .ref (ad 25), .ref (ad 26), .int c_its])), ((ad 5), .inr (1, [.int c_imageNow_points, .int c_imageNow_lines, .ref (ad 52), .ref (ad 53), .ref (ad 54)])), ((ad 52), .inl (G.2.2 0, 12, .inl c_imageNow_line)), ((ad 53), .inl (G.2.2 0, 8, .inl c_imageNow_x)), ((ad 54), .inl (G.2.2 0, 8, .inl c_imageNow_y)), ((ad 10), .inl (G.2.2 0, 2, .inl c_refused)), ((ad 11), .inl (G.2.2 0, 2, .inl c_imageRefused)), ((ad 13), .inl (G.2.2 1, 400, .inl c_tape)), ((ad 16), .inl (G.2.2 0, 8, .inl c_orbit)), ((ad 17), .inl (G.2.2 0, 8, .inl c_lineFor)), ((ad 21), .inl (G.2.2 0, 16, .inl c_placeX)), ((ad 22), .inl (G.2.2 0, 16, .inl c_placeY)), ((ad 23), .inl (G.2.2 0, 16, .inl c_placeZ)), ((ad 24), .inl (G.2.2 0, 8, .inl c_lies)), ((ad 25), .inl (G.2.2 0, 8, .inl c_firstLies)), ((ad 26), .inl (G.2.2 0, 65536, .inl c_worth))]) rfl rfl (by decide) (by decide) (by decide) rfl rfl rfl hl.1 rfl (Nat.le_of_ble_eq_true rfl) dX1_years_27 ⟨Nat.zero_le _, Nat.zero_le _⟩ (fun H locs hP hD hS => ?_)
  have hP := hP.sub (ws' := (cW h0 ad G.2.2 c_listPoints c_listLines c_refused c_imageRefused c_hasImage c_tape c_taped c_faultPlace c_orbit c_lineFor c_dualities c_polarities c_shortest c_placeX c_placeY c_placeZ c_lies c_firstLies c_worth c_its c_now_points c_now_lines c_now_line c_now_x c_now_y y5.2.2.2.1 y5.2.2.2.2 y5.1 y5.2.1 y5.2.2.1 c_imageNow_points c_imageNow_lines c_imageNow_line c_imageNow_x c_imageNow_y)) [0, 20, 21, 22, 23, 16, 17, 18, 19, 1, 2, 3, 4, 5, 6, 7, 8, 9, 10, 11, 12, 13, 14, 15] rfl
  have hD := hD.sub (ws' := (cW h0 ad G.2.2 c_listPoints c_listLines c_refused c_imageRefused c_hasImage c_tape c_taped c_faultPlace c_orbit c_lineFor c_dualities c_polarities c_shortest c_placeX c_placeY c_placeZ c_lies c_firstLies c_worth c_its c_now_points c_now_lines c_now_line c_now_x c_now_y y5.2.2.2.1 y5.2.2.2.2 y5.1 y5.2.1 y5.2.2.1 c_imageNow_points c_imageNow_lines c_imageNow_line c_imageNow_x c_imageNow_y)) [0, 20, 21, 22, 23, 16, 17, 18, 19, 1, 2, 3, 4, 5, 6, 7, 8, 9, 10, 11, 12, 13, 14, 15] (by decide) rfl
  refine W.eq (g2 := F0 m 30 ls []) rfl ?_
  refine lv_aload_n hx hb dX1_years_30 rfl (lv_at hl 0 rfl) ?_
  refine lv_iload_n hx hb dX1_years_31 rfl (lv_at hl 1 rfl) ?_
  refine va_put (ci := 0) (v := .int v1) (ty := .int) (C := RX1) (T := TX1) (N := 28) hx hb hts in_X1 tyX1 tyX1_ok nmX1 hown hK hP hD hS 0 rfl rfl 27 (by decide) (hts _ q604) (fun _ h9 => h9) rfl (by decide +kernel) rfl rfl (Nat.le_of_ble_eq_true rfl) dX1_years_32 (fun H locs hP hD hS => ?_)
  have hP : va_P G.2.1 vwCl (cW h0 ad G.2.2 c_listPoints c_listLines c_refused c_imageRefused c_hasImage c_tape c_taped c_faultPlace c_orbit c_lineFor c_dualities c_polarities c_shortest c_placeX c_placeY c_placeZ c_lies c_firstLies c_worth v1 c_now_points c_now_lines c_now_line c_now_x c_now_y y5.2.2.2.1 y5.2.2.2.2 y5.1 y5.2.1 y5.2.2.1 c_imageNow_points c_imageNow_lines c_imageNow_line c_imageNow_x c_imageNow_y) H := hP
  have hD : va_D A (cW h0 ad G.2.2 c_listPoints c_listLines c_refused c_imageRefused c_hasImage c_tape c_taped c_faultPlace c_orbit c_lineFor c_dualities c_polarities c_shortest c_placeX c_placeY c_placeZ c_lies c_firstLies c_worth v1 c_now_points c_now_lines c_now_line c_now_x c_now_y y5.2.2.2.1 y5.2.2.2.2 y5.1 y5.2.1 y5.2.2.1 c_imageNow_points c_imageNow_lines c_imageNow_line c_imageNow_x c_imageNow_y) := hD
  refine lv_iconst (v := 0) hx hb dX1_years_35 (by decide) ?_
  refine lv_istore (lv' := [(4, .int 0), (0, .ref h0), (1, .int v1), (2, .int v2), (3, .int v3)]) hx hb dX1_years_36 hl (by decide) rfl (fun ls hl => ?_)
  refine lv_iconst (v := 0) hx hb dX1_years_38 (by decide) ?_
  refine lv_istore (lv' := [(5, .int 0), (4, .int 0), (0, .ref h0), (1, .int v1), (2, .int v2), (3, .int v3)]) hx hb dX1_years_39 hl (by decide) rfl (fun ls hl => ?_)
  refine S_X1_years_41 N v2 v3 0 0 y5.1 y5.2.1 y5.2.2.1 v1 y5.2.2.2.1 y5.2.2.2.2 _ h ?_ _ _ hP hD hS _ (lv_sub hl [2, 4, 5, 1, 0] rfl)
  · intro u4_9 c_tried_line_9 c_its_9 c_tried_lines_9 H locs ls h hP hD hS hl
    refine lv_iload_n hx hb dX1_years_67 rfl (lv_at hl 1 rfl) ?_
    refine lv_if_ne (tgt := 81) hx hb dX1_years_68 (by decide) (fun c10 => ?_) (fun c10 => ?_)
    · rw [if_neg c10] at h
      refine lv_iload_n hx hb dX1_years_81 rfl (lv_at hl 1 rfl) ?_
      refine lv_iconst (v := 1) hx hb dX1_years_82 (by decide) ?_
      refine lv_icmp_ne (tgt := 96) hx hb dX1_years_83 (by decide) (fun c11 => ?_) (fun c11 => ?_)
      · rw [if_neg c11] at h
        refine lv_iload hx hb dX1_years_96 (lv_at hl 2 rfl) ?_
        obtain rfl := Option.some.inj h
        exact hreti rfl dX1_years_98 rfl rfl hP hD hS
      · rw [if_pos c11] at h
        refine lv_aload_n hx hb dX1_years_86 rfl (lv_at hl 0 rfl) ?_
        refine va_get (ci := 0) (v := .ref (ad 4)) (C := RX1) (T := TX1) (N := 28) hx hb hts in_X1 hown hK hP 0 rfl rfl 4 (by decide) (hts _ q581) (fun _ h9 => h9) rfl dX1_years_87 ?_
        obtain ⟨y13, e13, h⟩ := ob_s h
        refine MR.callS (M_X1_trianglesOf (ad0 := (fun k => ad (40 + k))) hG e13) S (cw_X1_trianglesOf hts q1222 ⟨Nat.le_of_ble_eq_true rfl, Nat.le_of_ble_eq_true rfl⟩) hW0 (hP.sub [5, 6, 7, 8] rfl) rfl hl.1 rfl (Nat.le_of_ble_eq_true rfl) dX1_years_90 ⟨Nat.zero_le _, Nat.zero_le _⟩ ?_
        refine lv_goto (tgt := 98) hx hb dX1_years_93 (by decide) ?_
        obtain rfl := Option.some.inj h
        exact hreti rfl dX1_years_98 rfl rfl hP hD hS
    · rw [if_pos c10] at h
      refine lv_aload_n hx hb dX1_years_71 rfl (lv_at hl 0 rfl) ?_
      refine va_get (ci := 0) (v := .ref (ad 4)) (C := RX1) (T := TX1) (N := 28) hx hb hts in_X1 hown hK hP 0 rfl rfl 4 (by decide) (hts _ q581) (fun _ h9 => h9) rfl dX1_years_72 ?_
      refine va_getN (ci := 1) (v := .int c_tried_lines_9) (C := RX2) (T := TX2) (N := 5) hx hb hts in_X2 hown hK hP 5 rfl rfl 1 (by decide) (hG.nf hW0 q228) (fun _ h9 => h9) rfl dX1_years_75 ?_
      refine lv_goto (tgt := 98) hx hb dX1_years_78 (by decide) ?_
      obtain rfl := Option.some.inj h
      exact hreti rfl dX1_years_98 rfl rfl hP hD hS
