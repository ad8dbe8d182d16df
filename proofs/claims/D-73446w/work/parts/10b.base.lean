set_option maxRecDepth 100000
section CB
variable {l : Launch} {G : GE} {p : Program} {e : Env} {R : Room} {s : State} {m : MethodId} {args : Array Value} {below : List Frame} {meth : Method} {c : Code} {H H0 : Heap} {locs : List Loc} {cells slots : Nat} {Q : State → Prop} {A : Nat → Prop}
variable {y : MethodName} {bytes cc : ByteArray} {mL lev nL n index pc b : Nat} {ret : Option FieldType} {ws wc wr wc' : va_W} {own C : String} {As rest st0 : List Value} {ls : Array Slot} {r : Int32} {ro : Option Value}
/-- a static writer called over a part of the caller's world -/
theorem MW.callSs (hM : MW l G y bytes mL ret lev wc As ro wc') (S : CallFix p m c cc nL s args lw_all own) (cw : CallB R s args own index y bytes mL ret (ws_ y bytes mL ret) (rmL lev 0 0) 0 0 n ∧ (Cond.static y).before args s = true) (hW0 : GW G s) (hP : va_P G.2.1 vwCl ws H) (hD : va_D A ws) (hS : va_S A H0 H locs) (hA : ∀ q, H0.size ≤ q → A q)
    (isC isR : List Nat) (hC : isC.map (fun i => ws[i]?) = wc.map some) (hR : isR.map (fun i => ws[i]?) = wr.map some) (hnC : va_nd isC = true) (hnR : va_nd isR = true) (hdis : ∀ i ∈ isR, i ∉ isC)
    (hn : As.length = n) (hsz : ls.size = nL) (hst : st0 = As.reverse ++ rest) (hr : (rest.map fun v => v.category).sum ≤ 8) (hdg : decode cc pc = .ok (.invokestatic index, 3)) (hf : cells ≤ R.cells ∧ slots ≤ R.slots)
    (kk : ∀ (H1 : Heap) (locs1 : List Loc), va_P G.2.1 vwCl (wr ++ wc') H1 → va_D A (wr ++ wc') → va_S A H0 H1 locs1 → W p l e R s m args below meth c H1 locs1 cells slots Q (F0 m (pc + 3) ls (ro.toList ++ rest))) : W p l e R s m args below meth c H locs cells slots Q (F0 m pc ls st0) := by
  have hDc : va_D A wc := hD.sub isC hnC hC
  have hPc : va_P G.2.1 vwCl wc H := fun k q hk => by
    have h1 : (isC.map (fun i => ws[i]?))[k]? = some (some q) := by rw [hC, List.getElem?_map, hk]; rfl
    rw [List.getElem?_map] at h1
    cases hi : isC[k]? with
    | none => rw [hi] at h1; cases h1
    | some i => rw [hi] at h1; exact hP i q (Option.some.inj h1)
  have hF := va_free hD hS hA isC hC
  exact MW.goes (a := As.toArray) (va_runS S (hM H.size) cw (MW.pre hW0 hPc hDc rfl) rfl hn hsz hst (lv_room hr) hdg hf) hS hF (fun H1 locs1 hP1 hD1 hk1 hS1 => by
    obtain ⟨q1, q2⟩ := va_join hP hD isC isR hC hR hnR hdis hk1 hF hP1 hD1
    exact kk H1 locs1 q1 q2 hS1)
theorem MW.callVs {ci q0 N : Nat} {T : u_T} {fs : List Value} (hM : MW l G y bytes mL ret lev wc (.ref b :: As) ro wc') (S : CallFix p m c cc nL s args lw_all own) (cw : CallW R s args own C index y bytes mL ret (ws_ y bytes mL ret) (rmL lev 0 0) 0 0 n) (hW0 : GW G s) (hK : va_K G.2.1 vwCl (tyL G.2.2) s) (hP : va_P G.2.1 vwCl ws H) (hD : va_D A ws) (hS : va_S A H0 H locs) (hA : ∀ q, H0.size ≤ q → A q)
    (isC isR : List Nat) (hC : isC.map (fun i => ws[i]?) = wc.map some) (hR : isR.map (fun i => ws[i]?) = wr.map some) (hnC : va_nd isC = true) (hnR : va_nd isR = true) (hdis : ∀ i ∈ isR, i ∉ isC)
    (he : wc[q0]? = some (b, .inr (ci, fs))) (hc : vwCl[ci]? = some (C, T, N)) (hn : As.length = n) (hsz : ls.size = nL) (hst : st0 = As.reverse ++ .ref b :: rest) (hr : (rest.map fun v => v.category).sum ≤ 8) (hdg : decode cc pc = .ok (.invokevirtual index, 3)) (hf : cells ≤ R.cells ∧ slots ≤ R.slots)
    (kk : ∀ (H1 : Heap) (locs1 : List Loc), va_P G.2.1 vwCl (wr ++ wc') H1 → va_D A (wr ++ wc') → va_S A H0 H1 locs1 → W p l e R s m args below meth c H1 locs1 cells slots Q (F0 m (pc + 3) ls (ro.toList ++ rest))) : W p l e R s m args below meth c H locs cells slots Q (F0 m pc ls st0) := by
  have hDc : va_D A wc := hD.sub isC hnC hC
  have hPc : va_P G.2.1 vwCl wc H := fun k q hk => by
    have h1 : (isC.map (fun i => ws[i]?))[k]? = some (some q) := by rw [hC, List.getElem?_map, hk]; rfl
    rw [List.getElem?_map] at h1
    cases hi : isC[k]? with
    | none => rw [hi] at h1; cases h1
    | some i => rw [hi] at h1; exact hP i q (Option.some.inj h1)
  have hF := va_free hD hS hA isC hC
  have hp := MW.pre (As := .ref b :: As) hW0 hPc hDc rfl
  exact MW.goes (a := (Value.ref b :: As).toArray) (va_runV S (hM H.size) cw ⟨hp.1, va_recv hK hPc hc he, hp.2⟩ rfl hn hsz hst (lv_room hr) hdg hf) hS hF (fun H1 locs1 hP1 hD1 hk1 hS1 => by
    obtain ⟨q1, q2⟩ := va_join hP hD isC isR hC hR hnR hdis hk1 hF hP1 hD1
    exact kk H1 locs1 q1 q2 hS1)
end CB
