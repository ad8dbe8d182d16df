set_option maxRecDepth 100000
/-- the program's classes, by number -/
abbrev vwCl : List vw_C := [(RX1, TX1, 28), (RX2, TX2, 5), (RX3, TX3, 52), (RX4, TX4, 9), (RX5, TX5, 8), (RX6, TX6, 3), (RX7, TX7, 6), (RX8, TX8, 7), (RX9, TX9, 6), (RX10, TX10, 1), (RJ2, TJ2, 3), (RJ8, TJ8, 4), (RJ9, TJ9, 4), (RJ6, TJ6, 6), (RJ17, TJ17, 6)]
/-- what is fixed all through a run: the state at the law's entry, the classes' numbers and slots, the array classes -/
abbrev GE : Type := State × va_G × (Nat → ClassId)
abbrev tyL (dA : Nat → ClassId) : List (ClassId × FieldType) := [(dA 0, .int), (dA 1, .byte), (dA 2, .long), (dA 3, .object "java/lang/Object"), (dA 4, .object "SchemeLister$Scheme")]
def GC (G : GE) : Prop := (∃ A0 : Array Value, ∀ w ∈ lw_tbl, w.before A0 G.1 = true) ∧ va_K G.2.1 vwCl (tyL G.2.2) G.1
/-- the room of a method by its level -/
abbrev rmL (lev mc ms : Nat) : Room := { frames := lev, cells := mc, slots := ms, locals := 4000 + 60 * lev }
/-- a state that has come out of the entry -/
abbrev GW (G : GE) (U : State) : Prop := G.1.WarmedH U.vm
theorem GW.blind {G : GE} {U : State} {g : JFrame} {mk : MethodId} {a : Array Value} (h : GW G U) : GW G (U.calling g mk a) := h
theorem GW.on {G : GE} {s U : State} (h : GW G s) (hW : s.WarmedH U.vm) : GW G U := State.WarmedH.trans h hW
theorem GC.K {G : GE} (hG : GC G) {U : State} (h : GW G U) : va_K G.2.1 vwCl (tyL G.2.2) U := va_K.moved h.alike hG.2
/-- a nest mate's word at a state of the run -/
theorem GC.nf {G : GE} (hG : GC G) {U : State} (h : GW G U) {a : String} {i : Nat} {b n d o : String} (hw : Cond.fieldLinkNest a i b n d o ∈ lw_tbl) {A : Array Value} : (Cond.fieldLinkNest a i b n d o).before A U = true := by
  obtain ⟨⟨A0, h0⟩, -⟩ := hG
  exact va_Nw.use rfl (va_Nw.warmF h (va_Nw.of rfl (h0 _ hw)))
/-! ===== contracts ===== -/
/-- a method that only reads the cells ws and answers the int r -/
def MR (l : Launch) (G : GE) (y : MethodName) (cc : ByteArray) (mL : Nat) (ret : Option FieldType) (lev : Nat) (ws : va_W) (avs : List Value) (r : Int32) : Prop :=
  Met l y (ws_ y cc mL ret) (rmL lev 0 0) (va_Pc avs (fun U => GW G U ∧ va_P G.2.1 vwCl ws U.heap)) (vp_Si (fun x => x = r)) 0 0 (fun _ => False)
/-- a method that turns the cells ws into ws' (no new ones), and answers ro -/
def MW (l : Launch) (G : GE) (y : MethodName) (cc : ByteArray) (mL : Nat) (ret : Option FieldType) (lev : Nat) (ws : va_W) (avs : List Value) (ro : Option Value) (ws' : va_W) : Prop :=
  ∀ sz : Nat, Met l y (ws_ y cc mL ret) (rmL lev 0 0) (va_Pc avs (fun U => U.heap.size = sz ∧ GW G U ∧ va_P G.2.1 vwCl ws U.heap ∧ va_D (fun _ => True) ws)) (fun _ st oc t => oc = .returned ro ∧ va_P G.2.1 vwCl ws' t.heap ∧ va_D (va_A ws sz) ws' ∧ va_F (va_A ws sz) st t) 0 0 (va_A ws sz)
section ST
variable {l : Launch} {G : GE} {y : MethodName} {cc : ByteArray} {mL lev : Nat} {ws ws' : va_W} {avs : List Value} {r : Int32}
theorem MR.start (hG : GC G) {rt : FieldType} (hpl : plainName y.cls = true) (hvl : (lg_sl avs).length ≤ mL)
    (body : ∀ {p : Program} {e : Env} {s : State} {m : MethodId} {args : Array Value} {below : List Frame} {meth : Method} {c : Code} {Q : State → Prop}, CallFix p m c cc mL s args lw_all y.cls → GW G s → va_K G.2.1 vwCl (tyL G.2.2) s → va_P G.2.1 vwCl ws s.heap →
      (∀ {pc : Nat} {ls : Array Slot}, decode cc pc = .ok (.ireturn, 1) → narrow rt (.int r) = .int r → W p l e (rmL lev 0 0) s m args below meth c s.heap [] 0 0 Q (F0 m pc ls [.int r])) →
      ∀ ls : Array Slot, lv_has ls mL (lv_args 0 avs) → W p l e (rmL lev 0 0) s m args below meth c s.heap [] 0 0 Q (F0 m 0 ls [])) :
    MR l G y cc mL (some rt) lev ws avs r := by
  refine Met.ofW (cc := cc) (maxL := mL) (ret := some rt) hpl rfl ?_
  intro p e s m args below meth c s₁ B hml hv
  obtain ⟨rfl, hW0, hP⟩ := hv
  have hts := atoms_spec (ws := ws_ y cc mL (some rt)) B.pre
  have hts : ∀ w ∈ lw_all, w.before _ s = true := fun w h => hts w (List.mem_cons_of_mem _ h)
  have hlk := B.notSynchronized
  have hl := lv_entry avs (n := mL) hvl
  rw [lg_entry_eq]
  refine body ⟨B.exec, B.bytes, hml, findClass_of_methodNamed B.named, hts⟩ hW0 (hG.K hW0) hP ?_ _ hl
  intro pc ls hd hn
  exact W.zret B.exec B.bytes B.returns hn (fun t ht hW => ⟨r, rfl, rfl, ht⟩) (fun q h => by cases h) hd hlk
theorem MW.start (hG : GC G) {ret : Option FieldType} {ro : Option Value} (hpl : plainName y.cls = true) (hvl : (lg_sl avs).length ≤ mL)
    (body : ∀ {p : Program} {e : Env} {s : State} {m : MethodId} {args : Array Value} {below : List Frame} {meth : Method} {c : Code} {Q : State → Prop} {A : Nat → Prop}, CallFix p m c cc mL s args lw_all y.cls → GW G s → va_K G.2.1 vwCl (tyL G.2.2) s → va_P G.2.1 vwCl ws s.heap → va_D A ws → (∀ q : Nat, s.heap.size ≤ q → A q) →
      (∀ {rt : FieldType} {v : Int32} {pc : Nat} {ls : Array Slot} {H : Heap} {locs : List Loc}, ret = some rt → decode cc pc = .ok (.ireturn, 1) → narrow rt (.int v) = .int v → some (.int v) = ro → va_P G.2.1 vwCl ws' H → va_D A ws' → va_S A s.heap H locs → W p l e (rmL lev 0 0) s m args below meth c H locs 0 0 Q (F0 m pc ls [.int v])) →
      (∀ {pc : Nat} {ls : Array Slot} {H : Heap} {locs : List Loc}, ret = none → decode cc pc = .ok (.return_, 1) → none = ro → va_P G.2.1 vwCl ws' H → va_D A ws' → va_S A s.heap H locs → W p l e (rmL lev 0 0) s m args below meth c H locs 0 0 Q (F0 m pc ls [])) →
      ∀ ls : Array Slot, lv_has ls mL (lv_args 0 avs) → W p l e (rmL lev 0 0) s m args below meth c s.heap [] 0 0 Q (F0 m 0 ls [])) :
    MW l G y cc mL ret lev ws avs ro ws' := by
  intro sz
  refine Met.ofW (cc := cc) (maxL := mL) (ret := ret) hpl rfl ?_
  intro p e s m args below meth c s₁ B hml hv
  obtain ⟨rfl, rfl, hW0, hP, hD0⟩ := hv
  have hts := atoms_spec (ws := ws_ y cc mL ret) B.pre
  have hts : ∀ w ∈ lw_all, w.before _ s = true := fun w h => hts w (List.mem_cons_of_mem _ h)
  have hlk := B.notSynchronized
  have hl := lv_entry avs (n := mL) hvl
  rw [lg_entry_eq]
  refine body (A := va_A ws s.heap.size) ⟨B.exec, B.bytes, hml, findClass_of_methodNamed B.named, hts⟩ hW0 (hG.K hW0) hP hD0.self (fun q h => Or.inr h) ?_ ?_ _ hl
  · intro rt v pc ls H locs hrt hd hn hro hP1 hD1 hS1
    subst hrt
    exact W.zret B.exec B.bytes B.returns hn (fun t ht hW => ⟨by rw [hro], by rw [ht]; exact hP1, hD1, hS1.F ht⟩) hS1.2.2 hd hlk
  · intro pc ls H locs hrt hd hro hP1 hD1 hS1
    subst hrt
    exact W.vret B.exec B.bytes B.returns (fun t ht hW => ⟨by rw [hro], by rw [ht]; exact hP1, hD1, hS1.F ht⟩) hS1.2.2 hd hlk
end ST
section CA
variable {l : Launch} {G : GE} {p : Program} {e : Env} {R : Room} {s : State} {m : MethodId} {args : Array Value} {below : List Frame} {meth : Method} {c : Code} {H H0 : Heap} {locs : List Loc} {cells slots : Nat} {Q : State → Prop} {A : Nat → Prop}
variable {y : MethodName} {bytes cc : ByteArray} {mL lev nL n index pc b : Nat} {ret : Option FieldType} {ws ws' : va_W} {own C : String} {As rest st0 : List Value} {ls : Array Slot} {r : Int32} {ro : Option Value}
/-- a reader's start, at a call -/
theorem MR.pre (hW0 : GW G s) (hP : va_P G.2.1 vwCl ws H) : PreS s H (va_Pc As (fun U => GW G U ∧ va_P G.2.1 vwCl ws U.heap)) As :=
  ⟨fun _ _ _ _ q => q, fun U hU hW => ⟨rfl, hW0.on hW, by rw [hU]; exact hP⟩⟩
theorem MR.callV {ci q0 N : Nat} {T : u_T} {fs : List Value} (hM : MR l G y bytes mL ret lev ws (.ref b :: As) r) (S : CallFix p m c cc nL s args lw_all own) (cw : CallW R s args own C index y bytes mL ret (ws_ y bytes mL ret) (rmL lev 0 0) 0 0 n) (hW0 : GW G s) (hK : va_K G.2.1 vwCl (tyL G.2.2) s) (hP : va_P G.2.1 vwCl ws H)
    (he : ws[q0]? = some (b, .inr (ci, fs))) (hc : vwCl[ci]? = some (C, T, N)) (hn : As.length = n) (hsz : ls.size = nL) (hst : st0 = As.reverse ++ .ref b :: rest) (hr : (rest.map fun v => v.category).sum ≤ 8) (hdg : decode cc pc = .ok (.invokevirtual index, 3)) (hf : cells ≤ R.cells ∧ slots ≤ R.slots)
    (kk : W p l e R s m args below meth c H locs cells slots Q (F0 m (pc + 3) ls (.int r :: rest))) : W p l e R s m args below meth c H locs cells slots Q (F0 m pc ls st0) := by
  have hp := MR.pre (As := .ref b :: As) hW0 hP
  exact vp_callSi (W.runV S hM cw ⟨hp.1, va_recv hK hP hc he, hp.2⟩ rfl hn hsz hst (lv_room hr) hdg hf) (fun x hx => by subst hx; exact kk)
theorem MR.callS (hM : MR l G y bytes mL ret lev ws As r) (S : CallFix p m c cc nL s args lw_all own) (cw : CallB R s args own index y bytes mL ret (ws_ y bytes mL ret) (rmL lev 0 0) 0 0 n ∧ (Cond.static y).before args s = true) (hW0 : GW G s) (hP : va_P G.2.1 vwCl ws H)
    (hn : As.length = n) (hsz : ls.size = nL) (hst : st0 = As.reverse ++ rest) (hr : (rest.map fun v => v.category).sum ≤ 8) (hdg : decode cc pc = .ok (.invokestatic index, 3)) (hf : cells ≤ R.cells ∧ slots ≤ R.slots)
    (kk : W p l e R s m args below meth c H locs cells slots Q (F0 m (pc + 3) ls (.int r :: rest))) : W p l e R s m args below meth c H locs cells slots Q (F0 m pc ls st0) :=
  vp_callSi (W.runS S hM cw (MR.pre hW0 hP) rfl hn hsz hst (lv_room hr) hdg hf) (fun x hx => by subst hx; exact kk)
theorem MW.pre {sz : Nat} (hW0 : GW G s) (hP : va_P G.2.1 vwCl ws H) (hD : va_D A ws) (hsz : H.size = sz) : PreS s H (va_Pc As (fun U => U.heap.size = sz ∧ GW G U ∧ va_P G.2.1 vwCl ws U.heap ∧ va_D (fun _ => True) ws)) As :=
  ⟨fun _ _ _ _ q => q, fun U hU hW => ⟨rfl, by rw [hU]; exact hsz, hW0.on hW, by rw [hU]; exact hP, hD.weaken (fun _ _ _ _ => trivial)⟩⟩
/-- behind a writer's call -/
theorem MW.goes {a : Array Value} (hr : va_Run p l e R s m args below meth c H locs cells slots 0 0 (F0 m pc ls st0) rest ((fun _ st oc t => oc = .returned ro ∧ va_P G.2.1 vwCl ws' t.heap ∧ va_D (va_A ws H.size) ws' ∧ va_F (va_A ws H.size) st t : Array Value → State → Outcome → State → Prop) a) (va_A ws H.size)) (hS : va_S A H0 H locs) (hf : ∀ q, va_A ws H.size q → A q)
    (kk : ∀ (H1 : Heap) (locs1 : List Loc), va_P G.2.1 vwCl ws' H1 → va_D (va_A ws H.size) ws' → (∀ q : Nat, q < H.size → ¬ va_A ws H.size q → H1[q]? = H[q]?) → va_S A H0 H1 locs1 → W p l e R s m args below meth c H1 locs1 cells slots Q (F0 m (pc + 3) ls (ro.toList ++ rest))) : W p l e R s m args below meth c H locs cells slots Q (F0 m pc ls st0) := by
  intro T hT X
  obtain ⟨v, st₀, t, T', L, h0, X', hL, e1, e2, ⟨hv, hP1, hD1, hz, hk⟩, st⟩ := hr T hT X
  cases hv
  rw [h0] at hz hk
  obtain ⟨t2, a1, b1⟩ := kk T'.heap (locs ++ L) (by rw [e1]; exact hP1) hD1 (fun q h1 h2 => by rw [e1]; exact hk q h1 h2)
    ⟨Nat.le_trans hS.1 (by rw [e1]; exact hz), fun q h1 h2 => by rw [e1, hk q (Nat.lt_of_lt_of_le h1 hS.1) (fun z => h2 (hf q z))]; exact hS.2.1 q h1 h2, fun q hq => by
      rcases List.mem_append.mp hq with h | h
      · exact hS.2.2 q h
      · exact hf _ (hL q h)⟩ T' rfl X'
  exact ⟨t2, st t2 a1, b1⟩
/-- a writer called over the whole of the caller's world -/
theorem va_freeAll (hD : va_D A ws) (hS : va_S A H0 H locs) (hA : ∀ q, H0.size ≤ q → A q) : ∀ q, va_A ws H.size q → A q := by
  intro q h
  rcases h with ⟨k, e, h⟩ | h
  · exact hD.2 k _ h
  · exact hA q (Nat.le_trans hS.1 h)
theorem MW.callV {ci q0 N : Nat} {T : u_T} {fs : List Value} (hM : MW l G y bytes mL ret lev ws (.ref b :: As) ro ws') (S : CallFix p m c cc nL s args lw_all own) (cw : CallW R s args own C index y bytes mL ret (ws_ y bytes mL ret) (rmL lev 0 0) 0 0 n) (hW0 : GW G s) (hK : va_K G.2.1 vwCl (tyL G.2.2) s) (hP : va_P G.2.1 vwCl ws H) (hD : va_D A ws) (hS : va_S A H0 H locs) (hA : ∀ q, H0.size ≤ q → A q)
    (he : ws[q0]? = some (b, .inr (ci, fs))) (hc : vwCl[ci]? = some (C, T, N)) (hn : As.length = n) (hsz : ls.size = nL) (hst : st0 = As.reverse ++ .ref b :: rest) (hr : (rest.map fun v => v.category).sum ≤ 8) (hdg : decode cc pc = .ok (.invokevirtual index, 3)) (hf : cells ≤ R.cells ∧ slots ≤ R.slots)
    (kk : ∀ (H1 : Heap) (locs1 : List Loc), va_P G.2.1 vwCl ws' H1 → va_D A ws' → va_S A H0 H1 locs1 → W p l e R s m args below meth c H1 locs1 cells slots Q (F0 m (pc + 3) ls (ro.toList ++ rest))) : W p l e R s m args below meth c H locs cells slots Q (F0 m pc ls st0) := by
  have hp := MW.pre (As := .ref b :: As) hW0 hP hD rfl
  have hF := va_freeAll hD hS hA
  exact MW.goes (a := (Value.ref b :: As).toArray) (va_runV S (hM H.size) cw ⟨hp.1, va_recv hK hP hc he, hp.2⟩ rfl hn hsz hst (lv_room hr) hdg hf) hS hF (fun H1 locs1 hP1 hD1 _ hS1 => kk H1 locs1 hP1 (hD1.weaken (fun _ _ _ h => hF _ h)) hS1)
end CA
/-! ===== the checks of a pure text ===== -/
/-- an index in range -/
def ckI {α : Type} (i : Int32) (n : Nat) (k : Option α) : Option α := if i < 0 ∨ n ≤ i.toNatClampNeg then none else k
theorem ckI_s {α : Type} {i : Int32} {n : Nat} {k : Option α} {x : α} (h : ckI i n k = some x) : vp_in i n ∧ k = some x := by
  unfold ckI at h
  split at h
  · cases h
  · exact ⟨by assumption, h⟩
theorem ckI_n {α : Type} {j n : Nat} (k : Option α) (h : j < n) (hn : n < 2 ^ 31) : ckI (nI j) n k = k := if_neg (nI_in h hn)
theorem ckI_v {α : Type} {i : Int32} {n : Nat} (k : Option α) (h : vp_in i n) : ckI i n k = k := if_neg h
/-- what a condition asks -/
def ckP {α : Type} (c : Prop) [Decidable c] (k : Option α) : Option α := if c then k else none
theorem ckP_s {α : Type} {c : Prop} [Decidable c] {k : Option α} {x : α} (h : ckP c k = some x) : c ∧ k = some x := by
  unfold ckP at h
  split at h
  · exact ⟨by assumption, h⟩
  · cases h
theorem ckP_v {α : Type} {c : Prop} [Decidable c] (k : Option α) (h : c) : ckP c k = k := if_pos h
theorem ob_s {α β : Type} {a : Option α} {k : α → Option β} {x : β} (h : a.bind k = some x) : ∃ y, a = some y ∧ k y = some x := Option.bind_eq_some_iff.mp h
