/-! ROWS: methods that throw, or catch -/
set_option maxRecDepth 100000
theorem se_l {α β : Type} {v : α} {f : α → Option β} {g : Nat → Option β} {r : β} (h : se (.inl v) f g = some r) : f v = some r := h
theorem se_r {α β : Type} {q : Nat} {f : α → Option β} {g : Nat → Option β} {r : β} (h : se (.inr q : α ⊕ Nat) f g = some r) : g q = some r := h
/-- something that can be thrown: an object that was made here, of a class of CL -/
def isX (σ : St) (q : Nat) : Option Unit := match σ.1 q with
  | some (true, .inr (ci, _)) => if ci < CL.length then some () else none
  | _ => none
theorem isX_in {σ : St} {q : Nat} {u : Unit} (h : isX σ q = some u) : ∃ (ci : Nat) (fs : List Value) (vw : vw_C), σ.1 q = some (true, .inr (ci, fs)) ∧ CL[ci]? = some vw := by
  unfold isX at h
  split at h
  · rename_i ci fs hs
    split at h
    · rename_i hl
      exact ⟨ci, fs, _, hs, List.getElem?_eq_getElem hl⟩
    · cases h
  · cases h
theorem nwk_tab {w : Cond} (h : nwk w = true) : w.onTables = true := by
  unfold nwk at h
  split at h <;> first | rfl | cases h
/-- the table of handlers of a method -/
def MH (c : Code) (hh : List (Nat × Nat × Nat × Nat)) : Prop := c.exceptionTable.toList = tableOf hh
section XR
variable {p : Program} {l : Launch} {e : Env} {R : Room} {s : State} {m : MethodId} {args : Array Value} {below : List Frame} {meth : Method} {c : Code} {H : Heap} {locs : List Loc} {cells slots : Nat} {Q : State → Prop}
variable {E : EV} {σ σ' : St} {cc : ByteArray} {nL pc a : Nat} {ret : Option FieldType} {own nm : String} {ls : Array Slot} {rest st0 : List Value}
/-- a contract out of a walk: no handlers -/
theorem CX.of {y : MethodName} {f lo maxL : Nat} {av : List Value} {rv : Option (Option Value)} {rx : Option Nat} (hE : EK E) (hy : plainName y.cls = true) (hown : y.cls = own) (hnm : y.name = nm) (hn : (lg_sl av).length ≤ maxL)
    (body : ∀ (p : Program) (e : Env) (s : State) (m : MethodId) (below : List Frame) (meth : Method) (c : Code), MX E p s m av.toArray meth c cc maxL ret own nm → MH c [] → WI E (rm_ f lo σ) s σ s.heap [] 0 0 → ∀ ls, lv_has ls maxL (lv_args 0 av) →
      W p l e (rm_ f lo σ) s m av.toArray below meth c s.heap [] 0 0 (vx_MQ below (QS E σ.2.2.1 σ.2.2.2 rv σ') (XS E σ.2.2.1 σ.2.2.2 rx σ') av.toArray s σ.2.2.1 σ.2.2.2 (fr E)) (F0 m 0 ls [])) :
    CX E l y (ws_ y cc maxL ret) f lo av σ rv rx σ' := by
  refine vx_ofW (cc := cc) (maxL := maxL) (ret := ret) hy rfl ?_
  intro p e s m args below meth c s₁ B hml hno hv
  obtain ⟨rfl, hW⟩ := hv
  have hts := atoms_spec (ws := ws_ y cc maxL ret) B.pre
  have hl := lv_entry av (n := maxL) hn
  rw [lg_entry_eq]
  subst hown
  subst hnm
  refine body p e s m below meth c ⟨⟨B.exec, B.bytes, hml, findClass_of_methodNamed B.named, fun w h => hts w (List.mem_cons_of_mem _ h)⟩, B.returns, B.notSynchronized, hW.1, hE, (name_of_methodNamed B.named B.method).1, hW.2.2.2.2.2.1, hW.2.2.2.2.2.2⟩ ?_ (WI.of ⟨rfl, rfl⟩ hW) _ hl
  unfold MH
  cases hc : c.exceptionTable.toList with
  | nil => rfl
  | cons x r => exact (hno x (by rw [hc]; exact List.mem_cons_self)).elim
/-- with handlers -/
theorem CX.ofH {y : MethodName} {hh : List (Nat × Nat × Nat × Nat)} {f lo maxL : Nat} {av : List Value} {rv : Option (Option Value)} {rx : Option Nat} (hE : EK E) (hy : plainName y.cls = true) (hown : y.cls = own) (hnm : y.name = nm) (hn : (lg_sl av).length ≤ maxL)
    (body : ∀ (p : Program) (e : Env) (s : State) (m : MethodId) (below : List Frame) (meth : Method) (c : Code), MX E p s m av.toArray meth c cc maxL ret own nm → MH c hh → WI E (rm_ f lo σ) s σ s.heap [] 0 0 → ∀ ls, lv_has ls maxL (lv_args 0 av) →
      W p l e (rm_ f lo σ) s m av.toArray below meth c s.heap [] 0 0 (vx_MQ below (QS E σ.2.2.1 σ.2.2.2 rv σ') (XS E σ.2.2.1 σ.2.2.2 rx σ') av.toArray s σ.2.2.1 σ.2.2.2 (fr E)) (F0 m 0 ls [])) :
    CX E l y (wsW_ y cc maxL ret hh) f lo av σ rv rx σ' := by
  refine vx_ofWH (cc := cc) (maxL := maxL) (ret := ret) (hh := hh) hy rfl ?_
  intro p e s m args below meth c s₁ B hml hv
  obtain ⟨rfl, hW⟩ := hv
  have hts := atoms_spec (ws := wsW_ y cc maxL ret hh) B.pre
  have hl := lv_entry av (n := maxL) hn
  rw [lg_entry_eq]
  subst hown
  subst hnm
  exact body p e s m below meth c ⟨⟨B.exec, B.bytes, hml, findClass_of_methodNamed B.named, fun w h => hts w (List.mem_cons_of_mem _ h)⟩, B.returns, B.notSynchronized, hW.1, hE, (name_of_methodNamed B.named B.method).1, hW.2.2.2.2.2.1, hW.2.2.2.2.2.2⟩ (vx_table (x := y) B (hts _ List.mem_cons_self)) (WI.of ⟨rfl, rfl⟩ hW) _ hl
/-- a plain end, of a method that may throw -/
theorem x_ret {r : Option Value} {bc bs : Nat} {XC : Addr → String → State → State → Prop} {g : JFrame} (k : W p l e R s m args below meth c H locs cells slots (MQ below (Qd E bc bs r σ) args s bc bs (fr E)) g) : W p l e R s m args below meth c H locs cells slots (vx_MQ below (QS E bc bs (some r) σ) XC args s bc bs (fr E)) g := by
  refine vx_ret ?_
  intro T hT X
  obtain ⟨t, a1, o, b1, b2, b3, b4⟩ := k T hT X
  exact ⟨t, a1, o, b1, b2, ⟨r, rfl, b3.1, b3.2⟩, b4⟩
/-- thrown out of the method: no handler covers the place -/
theorem x_out {Qc : Array Value → State → Outcome → State → Prop} {q : Nat} {u : Unit} (X : MX E p s m args meth c cc nL ret own nm) {hh : List (Nat × Nat × Nat × Nat)} (XH : MH c hh) (hout : (tableOf hh).all (fun x => !covers x pc) = true) (I : WI E R s σ H locs cells slots) (hq : isX σ q = some u) :
    vx_W p l e R s m args below meth c H locs cells slots (vx_MQ below Qc (XS E R.cells R.slots (some q) σ) args s R.cells R.slots (fr E)) (F0 m pc ls rest) q := by
  obtain ⟨ci, fs, vw, h1, h2⟩ := isX_in hq
  obtain ⟨S, x1, x2, hK, hE, x3, x4⟩ := X
  obtain ⟨r, h3, cell, q1, q2, q3, q4⟩ := (I.1.1 q _ h1).rw
  have hcl : s.vm.findClass vw.1 = some cell.cls := by rw [q2]; exact (hK.1.1 ci vw h2).2.1
  refine vx_out (E := vw.1) (ce := cell) (fun x hx => ?_) x2 q1 q3 hcl (fun t ht hA => ?_) I.2.1 (by have := I.2.2.1; omega) (by have := I.2.2.2.1; omega)
  · rw [XH] at hx
    have h9 := List.all_eq_true.mp hout x hx
    cases hcv : covers x pc with
    | false => rfl
    | true => rw [hcv] at h9; cases h9
  · exact ⟨rfl, ⟨ci, fs, vw, h1, h2, rfl⟩, ⟨KW.warm hE hA hK, by rw [ht]; exact I.1⟩, I.us ht⟩
/-- athrow -/
theorem x_athrow {Qc : Array Value → State → Outcome → State → Prop} {q : Nat} {u : Unit} (X : MX E p s m args meth c cc nL ret own nm) {hh : List (Nat × Nat × Nat × Nat)} (XH : MH c hh) (hout : (tableOf hh).all (fun x => !covers x pc) = true) (I : WI E R s σ H locs cells slots) (hq : isX σ q = some u) (hdg : decode cc pc = .ok (.athrow, 1)) :
    W p l e R s m args below meth c H locs cells slots (vx_MQ below Qc (XS E R.cells R.slots (some q) σ) args s R.cells R.slots (fr E)) (F0 m pc ls (.ref q :: rest)) := vx_athrow X.1.1 X.1.2.1 hdg (x_out X XH hout I hq)
theorem vx_narrow {g : JFrame} {q : Addr} {k n k' n' : Nat} (hc : H.size ≤ s.heap.size + k') (hs : hsum H ≤ hsum s.heap + n')
    (kk : vx_W p l e R s m args below meth c H locs k' n' Q g q) : vx_W p l e R s m args below meth c H locs k n Q g q := by
  intro T hT X
  refine kk T hT { X with same := ?_ }
  have h0 := drop_hsum X.same
  obtain ⟨a1, a2, a3, a4, a5, a6⟩ := X.same
  have hT' : (T.setVm s.vm).heap = H := hT
  refine ⟨a1, a2, by rw [hT']; exact hc, a4, ?_, a6⟩
  rw [hT'] at h0 ⊢
  omega
/-- behind a call that returned -/
theorem cx_ret {r : Option Value} {a : Array Value} {rs : List Value} (I : WI E R s σ H locs cells slots) (hr : vx_Run p l e R s m args below meth c H locs cells slots σ.2.2.1 σ.2.2.2 (F0 m pc ls st0) rest (QS E σ.2.2.1 σ.2.2.2 (some r) σ' a) (XS E σ.2.2.1 σ.2.2.2 none σ') (fr E)) (hrs : r.toList ++ rest = rs)
    (kk : ∀ (H : Heap) (locs : List Loc) (cells slots : Nat), WI E R s σ' H locs cells slots → W p l e R s m args below meth c H locs cells slots Q (F0 m (pc + 3) ls rs)) : W p l e R s m args below meth c H locs cells slots Q (F0 m pc ls st0) := by
  subst hrs
  intro T hT X0
  rcases hr T hT X0 with ⟨v, st₀, t, T', L, h0, X', hL, e1, e2, ⟨r', hr', hv, hq, hu⟩, st⟩ | ⟨q, st₀, t, T', L, Ex, ce, h0, X', hL, e1, e2, ⟨hx, -⟩, -⟩
  · cases hr'
    cases hv
    obtain ⟨J, j1, j2⟩ := WI.behind I X' hL (by rw [e1]; exact hq.2) h0 e1 hu
    obtain ⟨t2, a1, b1⟩ := W_narrow (k := cells + σ.2.2.1) (n := slots + σ.2.2.2) j1 j2 (kk _ _ _ _ J) T' rfl X'
    exact ⟨t2, st t2 a1, b1⟩
  · cases hx
theorem cx_ret5 {r : Option Value} {a : Array Value} {rs : List Value} (I : WI E R s σ H locs cells slots) (hr : vx_Run5 p l e R s m args below meth c H locs cells slots σ.2.2.1 σ.2.2.2 (F0 m pc ls st0) rest (QS E σ.2.2.1 σ.2.2.2 (some r) σ' a) (XS E σ.2.2.1 σ.2.2.2 none σ') (fr E)) (hrs : r.toList ++ rest = rs)
    (kk : ∀ (H : Heap) (locs : List Loc) (cells slots : Nat), WI E R s σ' H locs cells slots → W p l e R s m args below meth c H locs cells slots Q (F0 m (pc + 5) ls rs)) : W p l e R s m args below meth c H locs cells slots Q (F0 m pc ls st0) := by
  subst hrs
  intro T hT X0
  rcases hr T hT X0 with ⟨v, st₀, t, T', L, h0, X', hL, e1, e2, ⟨r', hr', hv, hq, hu⟩, st⟩ | ⟨q, st₀, t, T', L, Ex, ce, h0, X', hL, e1, e2, ⟨hx, -⟩, -⟩
  · cases hr'
    cases hv
    obtain ⟨J, j1, j2⟩ := WI.behind I X' hL (by rw [e1]; exact hq.2) h0 e1 hu
    obtain ⟨t2, a1, b1⟩ := W_narrow (k := cells + σ.2.2.1) (n := slots + σ.2.2.2) j1 j2 (kk _ _ _ _ J) T' rfl X'
    exact ⟨t2, st t2 a1, b1⟩
  · cases hx
/-- behind a call that threw -/
theorem cx_thr {q : Nat} {a : Array Value} (I : WI E R s σ H locs cells slots) (hr : vx_Run p l e R s m args below meth c H locs cells slots σ.2.2.1 σ.2.2.2 (F0 m pc ls st0) rest (QS E σ.2.2.1 σ.2.2.2 none σ' a) (XS E σ.2.2.1 σ.2.2.2 (some q) σ') (fr E))
    (kx : ∀ (H : Heap) (locs : List Loc) (cells slots : Nat), WI E R s σ' H locs cells slots → vx_W p l e R s m args below meth c H locs cells slots Q (F0 m pc ls rest) q) : W p l e R s m args below meth c H locs cells slots Q (F0 m pc ls st0) := by
  intro T hT X0
  rcases hr T hT X0 with ⟨v, st₀, t, T', L, h0, X', hL, e1, e2, ⟨r', hr', -⟩, st⟩ | ⟨q', st₀, t, T', L, Ex, ce, h0, X', hL, e1, e2, ⟨hx, -, hq, hu⟩, -, -, -, st⟩
  · cases hr'
  · cases hx
    obtain ⟨J, j1, j2⟩ := WI.behind I X' hL (by rw [e1]; exact hq.2) h0 e1 hu
    obtain ⟨t2, a1, b1⟩ := vx_narrow (k := cells + σ.2.2.1) (n := slots + σ.2.2.2) j1 j2 (kx _ _ _ _ J) T' rfl X'
    exact ⟨t2, st.trans a1, b1⟩
/-- calls of methods that may throw -/
theorem xr_V {y : MethodName} {ycc : ByteArray} {maxL f lo n index : Nat} {yret : Option FieldType} {As : List Value} {b ci : Nat} {rv : Option (Option Value)} {rx : Option Nat} {vw : vw_C} {u : Unit} (X : MX E p s m args meth c cc nL ret own nm) (I : WI E R s σ H locs cells slots)
    (ha : isC σ b ci = some u) (hc : CL[ci]? = some vw) (hM : CX E l y (ws_ y ycc maxL yret) f lo (.ref b :: As) σ rv rx σ') (hT : GoodIn lw_all (wsV own index vw.1 y (ws_ y ycc maxL yret)))
    (hd : y.cls = vw.1 ∧ y.cls ≠ "java/lang/invoke/MethodHandle" ∧ y.cls ≠ "java/lang/invoke/VarHandle" ∧ (parseMethodDescriptor y.desc).map (fun d => d.parameters.length) = some n) (hR : f + 1 ≤ R.frames ∧ 8 + (maxL + 11) + lo ≤ R.locals)
    (hn : As.length = n) (hsize : ls.size = nL) (hstack : st0 = As.reverse ++ .ref b :: rest) (hW : (rest.map fun v => v.category).sum ≤ 8) (hdg : decode cc pc = .ok (.invokevirtual index, 3)) :
    vx_Run p l e R s m args below meth c H locs cells slots σ.2.2.1 σ.2.2.2 (F0 m pc ls st0) rest (QS E σ.2.2.1 σ.2.2.2 rv σ' (Value.ref b :: As).toArray) (XS E σ.2.2.1 σ.2.2.2 rx σ') (fr E) := by
  obtain ⟨fl, fs, h1⟩ := isC_in ha
  obtain ⟨S, x1, x2, hK, hE, x3, x4⟩ := X
  have hf : cells + σ.2.2.1 ≤ R.cells ∧ slots + σ.2.2.2 ≤ R.slots := ⟨by have := I.2.2.1; omega, by have := I.2.2.2.1; omega⟩
  exact vx_runV (rest := rest) (As := As) S hM (cwV n S.2.2.2.2 hT rfl rfl rfl hd hR) ⟨Wd.blind hE, KW.recv hK I.1.1 hc h1, fun U hU hW => ⟨rfl, KW.warm hE hW hK, by rw [hU]; exact I.1⟩⟩ rfl hn hsize hstack (by show 2 * 0 + _ ≤ 8; omega) hdg hf
theorem xr_S {y : MethodName} {ycc : ByteArray} {maxL f lo n index : Nat} {yret : Option FieldType} {As : List Value} {rv : Option (Option Value)} {rx : Option Nat} (X : MX E p s m args meth c cc nL ret own nm) (I : WI E R s σ H locs cells slots)
    (hM : CX E l y (ws_ y ycc maxL yret) f lo As σ rv rx σ') (hT : GoodIn lw_all (va_wsS own index y (ws_ y ycc maxL yret)))
    (hd : y.cls ≠ "java/lang/invoke/MethodHandle" ∧ y.cls ≠ "java/lang/invoke/VarHandle" ∧ (parseMethodDescriptor y.desc).map (fun d => d.parameters.length) = some n) (hR : f + 1 ≤ R.frames ∧ 8 + (maxL + 11) + lo ≤ R.locals)
    (hn : As.length = n) (hsize : ls.size = nL) (hstack : st0 = As.reverse ++ rest) (hW : (rest.map fun v => v.category).sum ≤ 8) (hdg : decode cc pc = .ok (.invokestatic index, 3)) :
    vx_Run p l e R s m args below meth c H locs cells slots σ.2.2.1 σ.2.2.2 (F0 m pc ls st0) rest (QS E σ.2.2.1 σ.2.2.2 rv σ' As.toArray) (XS E σ.2.2.1 σ.2.2.2 rx σ') (fr E) := by
  obtain ⟨S, x1, x2, hK, hE, x3, x4⟩ := X
  have hf : cells + σ.2.2.1 ≤ R.cells ∧ slots + σ.2.2.2 ≤ R.slots := ⟨by have := I.2.2.1; omega, by have := I.2.2.2.1; omega⟩
  exact vx_runS (rest := rest) (As := As) S hM (va_cwS n S.2.2.2.2 hT rfl rfl rfl hd hR) ⟨Wd.blind hE, fun U hU hW => ⟨rfl, KW.warm hE hW hK, by rw [hU]; exact I.1⟩⟩ rfl hn hsize hstack (by show 2 * 0 + _ ≤ 8; omega) hdg hf
theorem xr_I {y : MethodName} {ycc : ByteArray} {maxL f lo n index : Nat} {As : List Value} {b : Nat} {rv : Option (Option Value)} {rx : Option Nat} (X : MX E p s m args meth c cc nL ret own nm) (I : WI E R s σ H locs cells slots)
    (hM : CX E l y (ws_ y ycc maxL none) f lo (.ref b :: As) σ rv rx σ') (hT : GoodIn lw_all (ws_ y ycc maxL none) ∧ Cond.initialized y.cls ∈ lw_all ∧ Cond.methodLink own index y ∈ lw_all ∧ Cond.instanceMethod y ∈ lw_all ∧ y.name = "<init>")
    (hd : y.cls ≠ "java/lang/invoke/MethodHandle" ∧ y.cls ≠ "java/lang/invoke/VarHandle" ∧ (parseMethodDescriptor y.desc).map (fun d => d.parameters.length) = some n) (hR : f + 1 ≤ R.frames ∧ 8 + (maxL + 11) + lo ≤ R.locals)
    (hn : As.length = n) (hsize : ls.size = nL) (hstack : st0 = As.reverse ++ .ref b :: rest) (hW : (rest.map fun v => v.category).sum ≤ 8) (hdg : decode cc pc = .ok (.invokespecial index, 3)) :
    vx_Run p l e R s m args below meth c H locs cells slots σ.2.2.1 σ.2.2.2 (F0 m pc ls st0) rest (QS E σ.2.2.1 σ.2.2.2 rv σ' (Value.ref b :: As).toArray) (XS E σ.2.2.1 σ.2.2.2 rx σ') (fr E) := by
  obtain ⟨S, x1, x2, hK, hE, x3, x4⟩ := X
  have hf : cells + σ.2.2.1 ≤ R.cells ∧ slots + σ.2.2.2 ≤ R.slots := ⟨by have := I.2.2.1; omega, by have := I.2.2.2.1; omega⟩
  exact vx_runI (rest := rest) (As := As) S hM (cwI n S.2.2.2.2 hT.1 rfl rfl rfl (S.2.2.2.2 _ hT.2.1) (S.2.2.2.2 _ hT.2.2.1) (S.2.2.2.2 _ hT.2.2.2.1) hT.2.2.2.2 hd hR) ⟨Wd.blind hE, fun U hU hW => ⟨rfl, KW.warm hE hW hK, by rw [hU]; exact I.1⟩⟩ rfl hn hsize hstack (by show 2 * 0 + _ ≤ 8; omega) hdg hf
theorem xr_SN {y : MethodName} {host : String} {ycc : ByteArray} {maxL f lo n index : Nat} {yret : Option FieldType} {As : List Value} {rv : Option (Option Value)} {rx : Option Nat} (hX : XK E) (X : MX E p s m args meth c cc nL ret own nm) (I : WI E R s σ H locs cells slots)
    (hM : CX E l y (ws_ y ycc maxL yret) f lo As σ rv rx σ') (hT : GoodIn lw_all (ws_ y ycc maxL yret) ∧ Cond.methodLinkNest own index y host ∈ lw_tbl ∧ Cond.initialized y.cls ∈ lw_all ∧ Cond.static y ∈ lw_all)
    (hd : y.cls ≠ "java/lang/invoke/MethodHandle" ∧ y.cls ≠ "java/lang/invoke/VarHandle" ∧ (parseMethodDescriptor y.desc).map (fun d => d.parameters.length) = some n) (hR : f + 1 ≤ R.frames ∧ 8 + (maxL + 11) + lo ≤ R.locals)
    (hn : As.length = n) (hsize : ls.size = nL) (hstack : st0 = As.reverse ++ rest) (hW : (rest.map fun v => v.category).sum ≤ 8) (hdg : decode cc pc = .ok (.invokestatic index, 3)) :
    vx_Run p l e R s m args below meth c H locs cells slots σ.2.2.1 σ.2.2.2 (F0 m pc ls st0) rest (QS E σ.2.2.1 σ.2.2.2 rv σ' As.toArray) (XS E σ.2.2.1 σ.2.2.2 rx σ') (fr E) := by
  have hN := (X.xf hX).1 _ hT.2.1 rfl
  obtain ⟨S, x1, x2, hK, hE, x3, x4⟩ := X
  have hf : cells + σ.2.2.1 ≤ R.cells ∧ slots + σ.2.2.2 ≤ R.slots := ⟨by have := I.2.2.1; omega, by have := I.2.2.2.1; omega⟩
  exact vx_runSN (rest := rest) (As := As) S hM ⟨va_cnB n S.2.2.2.2 hT.1 rfl rfl rfl hN (S.2.2.2.2 _ hT.2.2.1) hd hR, S.2.2.2.2 _ hT.2.2.2, trivial⟩ ⟨Wd.blind hE, fun U hU hW => ⟨rfl, KW.warm hE hW hK, by rw [hU]; exact I.1⟩⟩ rfl hn hsize hstack (by show 2 * 0 + _ ≤ 8; omega) hdg hf
/-- calls of methods with handlers -/
theorem xr_VW {y : MethodName} {ycc : ByteArray} {hh : List (Nat × Nat × Nat × Nat)} {maxL f lo n index : Nat} {yret : Option FieldType} {As : List Value} {b ci : Nat} {rv : Option (Option Value)} {rx : Option Nat} {vw : vw_C} {u : Unit} (X : MX E p s m args meth c cc nL ret own nm) (I : WI E R s σ H locs cells slots)
    (ha : isC σ b ci = some u) (hc : CL[ci]? = some vw) (hM : CX E l y (wsW_ y ycc maxL yret hh) f lo (.ref b :: As) σ rv rx σ') (hT : GoodIn lw_all (wsV own index vw.1 y (wsW_ y ycc maxL yret hh)))
    (hd : y.cls = vw.1 ∧ y.cls ≠ "java/lang/invoke/MethodHandle" ∧ y.cls ≠ "java/lang/invoke/VarHandle" ∧ (parseMethodDescriptor y.desc).map (fun d => d.parameters.length) = some n) (hR : f + 1 ≤ R.frames ∧ 8 + (maxL + 11) + lo ≤ R.locals)
    (hn : As.length = n) (hsize : ls.size = nL) (hstack : st0 = As.reverse ++ .ref b :: rest) (hW : (rest.map fun v => v.category).sum ≤ 8) (hdg : decode cc pc = .ok (.invokevirtual index, 3)) :
    vx_Run p l e R s m args below meth c H locs cells slots σ.2.2.1 σ.2.2.2 (F0 m pc ls st0) rest (QS E σ.2.2.1 σ.2.2.2 rv σ' (Value.ref b :: As).toArray) (XS E σ.2.2.1 σ.2.2.2 rx σ') (fr E) := by
  obtain ⟨fl, fs, h1⟩ := isC_in ha
  obtain ⟨S, x1, x2, hK, hE, x3, x4⟩ := X
  have hf : cells + σ.2.2.1 ≤ R.cells ∧ slots + σ.2.2.2 ≤ R.slots := ⟨by have := I.2.2.1; omega, by have := I.2.2.2.1; omega⟩
  exact vx_runVX (rest := rest) (As := As) S hM (vx_cwVW n S.2.2.2.2 hT rfl rfl rfl hd hR) ⟨Wd.blind hE, KW.recv hK I.1.1 hc h1, fun U hU hW => ⟨rfl, KW.warm hE hW hK, by rw [hU]; exact I.1⟩⟩ rfl hn hsize hstack (by show 2 * 0 + _ ≤ 8; omega) hdg hf
theorem xr_SW {y : MethodName} {ycc : ByteArray} {hh : List (Nat × Nat × Nat × Nat)} {maxL f lo n index : Nat} {yret : Option FieldType} {As : List Value} {rv : Option (Option Value)} {rx : Option Nat} (X : MX E p s m args meth c cc nL ret own nm) (I : WI E R s σ H locs cells slots)
    (hM : CX E l y (wsW_ y ycc maxL yret hh) f lo As σ rv rx σ') (hT : GoodIn lw_all (va_wsS own index y (wsW_ y ycc maxL yret hh)))
    (hd : y.cls ≠ "java/lang/invoke/MethodHandle" ∧ y.cls ≠ "java/lang/invoke/VarHandle" ∧ (parseMethodDescriptor y.desc).map (fun d => d.parameters.length) = some n) (hR : f + 1 ≤ R.frames ∧ 8 + (maxL + 11) + lo ≤ R.locals)
    (hn : As.length = n) (hsize : ls.size = nL) (hstack : st0 = As.reverse ++ rest) (hW : (rest.map fun v => v.category).sum ≤ 8) (hdg : decode cc pc = .ok (.invokestatic index, 3)) :
    vx_Run p l e R s m args below meth c H locs cells slots σ.2.2.1 σ.2.2.2 (F0 m pc ls st0) rest (QS E σ.2.2.1 σ.2.2.2 rv σ' As.toArray) (XS E σ.2.2.1 σ.2.2.2 rx σ') (fr E) := by
  obtain ⟨S, x1, x2, hK, hE, x3, x4⟩ := X
  have hf : cells + σ.2.2.1 ≤ R.cells ∧ slots + σ.2.2.2 ≤ R.slots := ⟨by have := I.2.2.1; omega, by have := I.2.2.2.1; omega⟩
  exact vx_runSX (rest := rest) (As := As) S hM (vx_cwSW n S.2.2.2.2 hT rfl rfl rfl hd hR) ⟨Wd.blind hE, fun U hU hW => ⟨rfl, KW.warm hE hW hK, by rw [hU]; exact I.1⟩⟩ rfl hn hsize hstack (by show 2 * 0 + _ ≤ 8; omega) hdg hf
theorem xr_FW {x y : MethodName} {ycc : ByteArray} {hh : List (Nat × Nat × Nat × Nat)} {maxL f lo n index count : Nat} {yret : Option FieldType} {As : List Value} {b ci : Nat} {rv : Option (Option Value)} {rx : Option Nat} {vw : vw_C} {u : Unit} (hX : XK E) (X : MX E p s m args meth c cc nL ret own nm) (I : WI E R s σ H locs cells slots)
    (ha : isC σ b ci = some u) (hc : CL[ci]? = some vw) (hM : CX E l y (wsW_ y ycc maxL yret hh) f lo (.ref b :: As) σ rv rx σ') (hT : GoodIn lw_all (va_wsF own index vw.1 x y (wsW_ y ycc maxL yret hh)) ∧ (vw.1, x, y) ∈ FWL)
    (hd : x.cls ≠ "java/lang/invoke/MethodHandle" ∧ x.cls ≠ "java/lang/invoke/VarHandle" ∧ (parseMethodDescriptor x.desc).map (fun d => d.parameters.length) = some n) (hR : f + 1 ≤ R.frames ∧ 8 + (maxL + 11) + lo ≤ R.locals)
    (hn : As.length = n) (hsize : ls.size = nL) (hstack : st0 = As.reverse ++ .ref b :: rest) (hW : (rest.map fun v => v.category).sum ≤ 8) (hdg : decode cc pc = .ok (.invokeinterface index count, 5)) :
    vx_Run5 p l e R s m args below meth c H locs cells slots σ.2.2.1 σ.2.2.2 (F0 m pc ls st0) rest (QS E σ.2.2.1 σ.2.2.2 rv σ' (Value.ref b :: As).toArray) (XS E σ.2.2.1 σ.2.2.2 rx σ') (fr E) := by
  obtain ⟨fl, fs, h1⟩ := isC_in ha
  have hF := (X.xf hX).2.1 _ hT.2
  obtain ⟨S, x1, x2, hK, hE, x3, x4⟩ := X
  have hf : cells + σ.2.2.1 ≤ R.cells ∧ slots + σ.2.2.2 ≤ R.slots := ⟨by have := I.2.2.1; omega, by have := I.2.2.2.1; omega⟩
  exact vx_runFW (rest := rest) (As := As) (hK.1.1 ci vw hc).2 S hM (va_cwFW n S.2.2.2.2 hT.1 rfl rfl rfl hF hd hR) ⟨Wd.blind hE, KW.recv hK I.1.1 hc h1, fun U hU hW => ⟨rfl, KW.warm hE hW hK, by rw [hU]; exact I.1⟩⟩ rfl hn hsize hstack (by show 2 * 0 + _ ≤ 8; omega) hdg hf
end XR
/-- an exception's class -/
def clsX (σ : St) (q : Nat) : Option Nat := match σ.1 q with
  | some (true, .inr (ci, _)) => some ci
  | _ => none
theorem clsX_in {σ : St} {q ci : Nat} (h : clsX σ q = some ci) : ∃ fs, σ.1 q = some (true, .inr (ci, fs)) := by
  unfold clsX at h
  split at h
  · rename_i ci' fs hs
    cases h
    exact ⟨fs, hs⟩
  · cases h
section XR2
variable {p : Program} {l : Launch} {e : Env} {R : Room} {s : State} {m : MethodId} {args : Array Value} {below : List Frame} {meth : Method} {c : Code} {H : Heap} {locs : List Loc} {cells slots : Nat} {Q : State → Prop}
variable {E : EV} {σ σ' : St} {cc : ByteArray} {nL pc a : Nat} {ret : Option FieldType} {own nm : String} {ls : Array Slot} {rest st0 : List Value}
theorem x_catch (hX : XK E) (X : MX E p s m args meth c cc nL ret own nm) {hh : List (Nat × Nat × Nat × Nat)} (XH : MH c hh) (I : WI E R s σ H locs cells slots) {q ci : Nat} {vw : vw_C} (h : clsX σ q = some ci) (hc : CL[ci]? = some vw) (pre : List ExceptionTableEntry) (x : ExceptionTableEntry) (suf : List ExceptionTableEntry) (hsplit : tableOf hh = pre ++ x :: suf)
    (hpass : ∀ z ∈ pre, covers z pc = false ∨ (z.catchType ≠ 0 ∧ ∃ nm : String, Cond.classLink own z.catchType nm ∈ lw_all ∧ (vw.1, nm) ∈ NCL)) (hcov : covers x pc = true) (h0 : x.catchType ≠ 0) {name : String} (hlink : Cond.classLink own x.catchType name ∈ lw_all) (hcast : Cond.castable vw.1 name ∈ lw_tbl)
    (kk : W p l e R s m args below meth c H locs cells slots Q (F0 m x.handlerPc ls [.ref q])) : vx_W p l e R s m args below meth c H locs cells slots Q (F0 m pc ls rest) q := by
  obtain ⟨fs, h1⟩ := clsX_in h
  have hXF := X.xf hX
  obtain ⟨⟨hx, hb, hml, hown, hts⟩, x1, x2, hK, hE, x3, x4⟩ := X
  obtain ⟨r, h3, cell, q1, q2, q3, q4⟩ := (I.1.1 q _ h1).rw
  have hcl : s.vm.findClass vw.1 = some cell.cls := by rw [q2]; exact (hK.1.1 ci vw hc).2.1
  refine vx_catch (E := vw.1) (ce := cell) hown pre x suf (by rw [XH]; exact hsplit) (fun z hz => ?_) hcov h0 (hts _ hlink) (va_Nw.use rfl (hXF.1 _ hcast rfl)) q1 q3 hcl kk
  rcases hpass z hz with h | ⟨h2, nm, h4, h5⟩
  · exact Or.inl h
  · exact Or.inr ⟨h2, nm, hts _ h4, hXF.2.2.2.1 _ h5⟩
/-- new E() of an exception of the JDK: new, dup, <init> -/
theorem x_make (hX : XK E) (hS : l.stackTraces = false) (X : MX E p s m args meth c cc nL ret own nm) (I : WI E R s σ H locs cells slots) {cls : String} {names : List String} {T : u_T} {ik ic ci q : Nat} (hc : CL[ci]? = some (cls, T, 0)) (hcls : Bundle.fit cls = true) (hnames : ∀ n ∈ names, Bundle.fit n = true)
    (hk : Cond.classLink own ik cls ∈ lw_all) (hini : Cond.initialized cls ∈ lw_all) (hat : ∀ w ∈ vx_at0 own ic cls names, w ∈ lw_all ∨ (w ∈ lw_tbl ∧ nwk w = true)) (h : nH σ 6 (.inr (ci, [])) = some (q, σ')) (hsize : ls.size = nL) (hR : names.length + 4 ≤ R.frames ∧ 13 * (names.length + 1) + 50 ≤ R.locals) (hW : (rest.map fun v => v.category).sum ≤ 8)
    (d0 : decode cc pc = .ok (.new ik, 3)) (d3 : decode cc (pc + 3) = .ok (.dup, 1)) (d4 : decode cc (pc + 4) = .ok (.invokespecial ic, 3))
    (kk : ∀ (H : Heap) (locs : List Loc) (cells slots : Nat), WI E R s σ' H locs cells slots → W p l e R s m args below meth c H locs cells slots Q (F0 m (pc + 7) ls (.ref q :: rest))) : W p l e R s m args below meth c H locs cells slots Q (F0 m pc ls rest) := by
  have hXF := X.xf hX
  have hvS := I.vS X
  obtain ⟨⟨hx, hb, hml, hown, hts⟩, x1, x2, hK, hE, x3, x4, x5⟩ := X
  obtain ⟨n1, n2, n3, n4⟩ := nH_in h
  have i1 := I.2.2.1
  have i2 := I.2.2.2.1
  have hq : q = H.size := by rw [n3, I.1.2.2.1]
  subst hq
  refine vx_make0X (A := fr E) (cls := cls) (names := names) (ik := ik) (ic := ic) hx hb hS hown hcls hnames (hts _ hk) (hts _ hini) (fun w hw => ?_) (fun w hw => ?_) (hXF.2.2.2.2.2.2.1.kept (fun q h1 h2 => x4 q h1)) (hXF.2.2.2.2.2.2.2.1.kept (fun q h1 h2 => x4 q h1)) hvS (by rw [hml]; exact hsize) d0 d3 d4 (by omega) (by omega) (by omega) (by omega) (fun H1 ce e1 e2 e3 e4 e5 => ?_)
  · rcases hat w hw with h1 | ⟨h1, h2⟩
    · exact hts _ h1
    · exact va_Nw.use (nwk_tab h2) (hXF.1 _ h1 h2)
  · rcases List.mem_cons.mp hw with rfl | hw
    · rfl
    · rcases List.mem_cons.mp hw with rfl | hw
      · rfl
      · rcases hat w hw with h1 | ⟨h1, h2⟩
        · unfold vx_ot
          rw [(List.mem_filter.mp h1).2, Bool.or_true]
        · unfold vx_ot
          rw [nwk_tab h2, Bool.true_or]
  · refine WI.push I h ⟨_, clu hc, ce, e1, ?_, e2, fun k hk => absurd hk (Nat.not_lt_zero k)⟩ e4 e5 (fun J => kk _ _ _ _ J)
    exact Option.some.inj (e3.symm.trans (hK.1.1 ci _ hc).2.1)
end XR2
