set_option maxRecDepth 100000
/-- a method that only reads the cells ws and answers nothing -/
def MV (l : Launch) (G : GE) (y : MethodName) (cc : ByteArray) (mL : Nat) (ret : Option FieldType) (lev : Nat) (ws : va_W) (avs : List Value) : Prop :=
  Met l y (ws_ y cc mL ret) (rmL lev 0 0) (va_Pc avs (fun U => GW G U ∧ va_P G.2.1 vwCl ws U.heap)) (va_Sv (fun _ => True)) 0 0 (fun _ => False)
section SV
variable {l : Launch} {G : GE} {y : MethodName} {cc : ByteArray} {mL lev : Nat} {ws ws' : va_W} {avs : List Value}
theorem MV.start (hG : GC G) (hpl : plainName y.cls = true) (hvl : (lg_sl avs).length ≤ mL)
    (body : ∀ {p : Program} {e : Env} {s : State} {m : MethodId} {args : Array Value} {below : List Frame} {meth : Method} {c : Code} {Q : State → Prop}, CallFix p m c cc mL s args lw_all y.cls → GW G s → va_K G.2.1 vwCl (tyL G.2.2) s → va_P G.2.1 vwCl ws s.heap →
      (∀ {pc : Nat} {ls : Array Slot}, decode cc pc = .ok (.return_, 1) → W p l e (rmL lev 0 0) s m args below meth c s.heap [] 0 0 Q (F0 m pc ls [])) →
      ∀ ls : Array Slot, lv_has ls mL (lv_args 0 avs) → W p l e (rmL lev 0 0) s m args below meth c s.heap [] 0 0 Q (F0 m 0 ls [])) :
    MV l G y cc mL none lev ws avs := by
  refine Met.ofW (cc := cc) (maxL := mL) (ret := none) hpl rfl ?_
  intro p e s m args below meth c s₁ B hml hv
  obtain ⟨rfl, hW0, hP⟩ := hv
  have hts := atoms_spec (ws := ws_ y cc mL none) B.pre
  have hts : ∀ w ∈ lw_all, w.before _ s = true := fun w h => hts w (List.mem_cons_of_mem _ h)
  have hlk := B.notSynchronized
  have hl := lv_entry avs (n := mL) hvl
  rw [lg_entry_eq]
  refine body ⟨B.exec, B.bytes, hml, findClass_of_methodNamed B.named, hts⟩ hW0 (hG.K hW0) hP ?_ _ hl
  intro pc ls hd
  exact W.vret B.exec B.bytes B.returns (fun t ht hW => ⟨rfl, trivial, ht⟩) (fun q h => by cases h) hd hlk
end SV
section CV
variable {l : Launch} {G : GE} {p : Program} {e : Env} {R : Room} {s : State} {m : MethodId} {args : Array Value} {below : List Frame} {meth : Method} {c : Code} {H H0 : Heap} {locs : List Loc} {cells slots : Nat} {Q : State → Prop} {A : Nat → Prop}
variable {y : MethodName} {bytes cc : ByteArray} {mL lev nL n index pc b : Nat} {ret : Option FieldType} {ws ws' : va_W} {own C : String} {As rest st0 : List Value} {ls : Array Slot}
theorem MV.callS (hM : MV l G y bytes mL ret lev ws As) (S : CallFix p m c cc nL s args lw_all own) (cw : CallB R s args own index y bytes mL ret (ws_ y bytes mL ret) (rmL lev 0 0) 0 0 n ∧ (Cond.static y).before args s = true) (hW0 : GW G s) (hP : va_P G.2.1 vwCl ws H)
    (hn : As.length = n) (hsz : ls.size = nL) (hst : st0 = As.reverse ++ rest) (hr : (rest.map fun v => v.category).sum ≤ 8) (hdg : decode cc pc = .ok (.invokestatic index, 3)) (hf : cells ≤ R.cells ∧ slots ≤ R.slots)
    (kk : W p l e R s m args below meth c H locs cells slots Q (F0 m (pc + 3) ls rest)) : W p l e R s m args below meth c H locs cells slots Q (F0 m pc ls st0) :=
  va_csv (W.runS S hM cw (MR.pre hW0 hP) rfl hn hsz hst (lv_room hr) hdg hf) (fun _ => kk)
theorem MV.callV {ci q0 N : Nat} {T : u_T} {fs : List Value} (hM : MV l G y bytes mL ret lev ws (.ref b :: As)) (S : CallFix p m c cc nL s args lw_all own) (cw : CallW R s args own C index y bytes mL ret (ws_ y bytes mL ret) (rmL lev 0 0) 0 0 n) (hW0 : GW G s) (hK : va_K G.2.1 vwCl (tyL G.2.2) s) (hP : va_P G.2.1 vwCl ws H)
    (he : ws[q0]? = some (b, .inr (ci, fs))) (hc : vwCl[ci]? = some (C, T, N)) (hn : As.length = n) (hsz : ls.size = nL) (hst : st0 = As.reverse ++ .ref b :: rest) (hr : (rest.map fun v => v.category).sum ≤ 8) (hdg : decode cc pc = .ok (.invokevirtual index, 3)) (hf : cells ≤ R.cells ∧ slots ≤ R.slots)
    (kk : W p l e R s m args below meth c H locs cells slots Q (F0 m (pc + 3) ls rest)) : W p l e R s m args below meth c H locs cells slots Q (F0 m pc ls st0) := by
  have hp := MR.pre (As := .ref b :: As) hW0 hP
  exact va_csv (W.runV S hM cw ⟨hp.1, va_recv hK hP hc he, hp.2⟩ rfl hn hsz hst (lv_room hr) hdg hf) (fun _ => kk)
end CV
