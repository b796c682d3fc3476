/-! ROWS: references that may be null, ends, calls as the walker prints them, exceptions -/
set_option maxRecDepth 100000
theorem qOI : Cond.instanceMethod Lib.objectInit ∈ lw_all := q170
theorem qOC : Cond.code Lib.objectInit ⟨#[0xb1]⟩ 1 none ∈ lw_all := q171
theorem rf_cat (r : Option Nat) : (va_rf r).category = 1 := by cases r <;> rfl
theorem rf_nar (C : String) (r : Option Nat) : narrow (.object C) (va_rf r) = va_rf r := by cases r <;> rfl
theorem rf_narA (t : FieldType) (r : Option Nat) : narrow (.array t) (va_rf r) = va_rf r := by cases r <;> rfl
theorem rf_fit (C : String) (r : Option Nat) : fits (.object C) (va_rf r) = true := by cases r <;> rfl
theorem rf_fitA (t : FieldType) (r : Option Nat) : fits (.array t) (va_rf r) = true := by cases r <;> rfl
theorem z_nar {v : Int32} (h : v = 0 ∨ v = 1) : narrow .boolean (.int v) = .int v := by rcases h with h | h <;> (subst h; rfl)
theorem z_fit {v : Int32} (h : v = 0 ∨ v = 1) : fits .boolean (.int v) = true := by rcases h with h | h <;> (subst h; rfl)
/-- null or an address -/
def oc {β : Type} (r : Option Nat) (x : β) (f : Nat → β) : β := match r with
  | none => x
  | some a => f a
theorem oc_n {β : Type} {x : Option β} {f : Nat → Option β} {r : β} (h : oc none x f = some r) : x = some r := h
theorem oc_s {β : Type} {a : Nat} {x : Option β} {f : Nat → Option β} {r : β} (h : oc (some a) x f = some r) : f a = some r := h
/-- answered or thrown -/
def se {α β : Type} (r : α ⊕ Nat) (f : α → β) (g : Nat → β) : β := match r with
  | .inl v => f v
  | .inr q => g q
def sv {α : Type} (w : α → Option Value) (x : α ⊕ Nat) : Option (Option Value) := match x with
  | .inl v => some (w v)
  | .inr _ => none
def sx {α : Type} (x : α ⊕ Nat) : Option Nat := match x with
  | .inl _ => none
  | .inr q => some q
/-- the ends of a method that may throw -/
def QS (E : EV) (bc bs : Nat) (rv : Option (Option Value)) (σ : St) : Array Value → State → Outcome → State → Prop := fun _ st o t => ∃ r, rv = some r ∧ o = .returned r ∧ Wd E σ t ∧ Us bc bs σ st t
def XS (E : EV) (bc bs : Nat) (rx : Option Nat) (σ : St) : Addr → String → State → State → Prop := fun q Ex st t => rx = some q ∧ (∃ (ci : Nat) (fs : List Value) (vw : vw_C), σ.1 q = some (true, .inr (ci, fs)) ∧ CL[ci]? = some vw ∧ vw.1 = Ex) ∧ Wd E σ t ∧ Us bc bs σ st t
def CX (E : EV) (l : Launch) (y : MethodName) (ws : List Cond) (f lo : Nat) (args : List Value) (σ : St) (rv : Option (Option Value)) (rx : Option Nat) (σ' : St) : Prop :=
  vx_Met l y ws (rm_ f lo σ) (va_Pc args (Wd E σ)) (QS E σ.2.2.1 σ.2.2.2 rv σ') (XS E σ.2.2.1 σ.2.2.2 rx σ') σ.2.2.1 σ.2.2.2 (fr E)
section GR4
variable {p : Program} {l : Launch} {e : Env} {R : Room} {s : State} {m : MethodId} {args : Array Value} {below : List Frame} {meth : Method} {c : Code} {H : Heap} {locs : List Loc} {cells slots : Nat} {Q : State → Prop}
variable {E : EV} {σ σ' : St} {cc : ByteArray} {nL pc a : Nat} {ret : Option FieldType} {own nm : String} {ls : Array Slot} {rest st0 : List Value}
theorem lo_aload_n (hexec : p.tables.exec = Jvm.exec) (hb : c.code = cc) {k : Fin 4} {i : Nat} {x : Option Nat} (hdg : decode cc pc = .ok (.aload_n k, 1)) (hi : (k : Nat) = i) (hl : ls[i]? = some (.val (va_rf x)))
    (kk : W p l e R s m args below meth c H locs cells slots Q (F0 m (pc + 1) ls (va_rf x :: rest))) : W p l e R s m args below meth c H locs cells slots Q (F0 m pc ls rest) := by
  cases x with
  | none => exact lv_aload_nN hexec hb hdg hi hl kk
  | some x => exact lv_aload_n hexec hb hdg hi hl kk
theorem lo_aload (hexec : p.tables.exec = Jvm.exec) (hb : c.code = cc) {i : Nat} {x : Option Nat} (hdg : decode cc pc = .ok (.aload i, 2)) (hl : ls[i]? = some (.val (va_rf x)))
    (kk : W p l e R s m args below meth c H locs cells slots Q (F0 m (pc + 2) ls (va_rf x :: rest))) : W p l e R s m args below meth c H locs cells slots Q (F0 m pc ls rest) := by
  cases x with
  | none => exact lv_aloadN hexec hb hdg hl kk
  | some x => exact lv_aload hexec hb hdg hl kk
theorem lo_astore_n (hexec : p.tables.exec = Jvm.exec) (hb : c.code = cc) {k : Fin 4} {i nL : Nat} {x : Option Nat} {lv lv' : List (Nat × Value)} (hdg : decode cc pc = .ok (.astore_n k, 1)) (hi : (k : Nat) = i) (h : lv_has ls nL lv) (hn : i < nL) (hl : (i, va_rf x) :: lv.filter (fun q => !(q.1 == i) && !(q.1 + 1 == i && q.2.category == 2)) = lv')
    (kk : ∀ ls' : Array Slot, lv_has ls' nL lv' → W p l e R s m args below meth c H locs cells slots Q (F0 m (pc + 1) ls' rest)) : W p l e R s m args below meth c H locs cells slots Q (F0 m pc ls (va_rf x :: rest)) := by
  cases x with
  | none => exact lv_astore_nN hexec hb hdg hi h hn hl kk
  | some x => exact lv_astore_n hexec hb hdg hi h hn hl kk
theorem lo_astore (hexec : p.tables.exec = Jvm.exec) (hb : c.code = cc) {i nL : Nat} {x : Option Nat} {lv lv' : List (Nat × Value)} (hdg : decode cc pc = .ok (.astore i, 2)) (h : lv_has ls nL lv) (hn : i < nL) (hl : (i, va_rf x) :: lv.filter (fun q => !(q.1 == i) && !(q.1 + 1 == i && q.2.category == 2)) = lv')
    (kk : ∀ ls' : Array Slot, lv_has ls' nL lv' → W p l e R s m args below meth c H locs cells slots Q (F0 m (pc + 2) ls' rest)) : W p l e R s m args below meth c H locs cells slots Q (F0 m pc ls (va_rf x :: rest)) := by
  cases x with
  | none => exact lv_astoreN hexec hb hdg h hn hl kk
  | some x => exact lv_astore hexec hb hdg h hn hl kk
/-- the same value under another name -/
theorem nm_v {x y : Value} (h : x = y) (k : W p l e R s m args below meth c H locs cells slots Q (F0 m pc ls (y :: rest))) : W p l e R s m args below meth c H locs cells slots Q (F0 m pc ls (x :: rest)) := h ▸ k
theorem r_aret {v : Value} {rt : FieldType} (X : MX E p s m args meth c cc nL (some rt) own nm) (I : WI E R s σ H locs cells slots) (hrt : (∃ n, rt = .object n) ∨ ∃ t, rt = .array t) (hv : v = .null ∨ ∃ a, v = .ref a) (hdg : decode cc pc = .ok (.areturn, 1)) : W p l e R s m args below meth c H locs cells slots (MQ below (Qd E R.cells R.slots (some v) σ) args s R.cells R.slots (fr E)) (F0 m pc ls [v]) := by
  obtain ⟨⟨hx, hb, hml, hown, hts⟩, hr, hlocks, hK, hE, -, -⟩ := X
  refine W.widen (k := R.cells) (n := R.slots) (by have := I.2.2.1; omega) (by have := I.2.2.2.1; omega) ?_
  exact W.aret hx hb hr hrt hv (fun t ht hW => ⟨rfl, ⟨KW.warm hE hW hK, by rw [ht]; exact I.1⟩, I.us ht⟩) I.2.1 hdg
theorem rf_or (r : Option Nat) : va_rf r = .null ∨ ∃ a, va_rf r = .ref a := by
  cases r with
  | none => exact Or.inl rfl
  | some a => exact Or.inr ⟨a, rfl⟩
theorem g_objInit (X : MX E p s m args meth c cc nL ret own nm) (hR : 1 ≤ R.frames ∧ 20 ≤ R.locals) {index : Nat} (hl : Cond.methodLink own index ⟨"java/lang/Object", "<init>", "()V"⟩ ∈ lw_all) (hsize : ls.size = nL) (hW : (rest.map fun v => v.category).sum ≤ 8) (hdg : decode cc pc = .ok (.invokespecial index, 3))
    (kk : W p l e R s m args below meth c H locs cells slots Q (F0 m (pc + 3) ls rest)) : W p l e R s m args below meth c H locs cells slots Q (F0 m pc ls (.ref a :: rest)) := by
  obtain ⟨⟨hx, hb, hml, hown, hts⟩, -⟩ := X
  exact W.objInit hx hb hown (hts _ hl) (hts _ qOI) (hts _ qOC) rfl (by rw [hml]; exact hsize) rfl hdg hR.1 (by show 2 * 0 + _ + 12 ≤ _; omega) kk
/-- calls, as they are printed -/
theorem cg_V {y : MethodName} {ycc : ByteArray} {maxL f lo n index : Nat} {yret : Option FieldType} {As rs : List Value} {b ci : Nat} {r : Option Value} {vw : vw_C} {u : Unit} (X : MX E p s m args meth c cc nL ret own nm) (I : WI E R s σ H locs cells slots)
    (ha : isC σ b ci = some u) (hc : CL[ci]? = some vw) (hM : CM E l y (ws_ y ycc maxL yret) f lo (.ref b :: As) σ r σ') (hT : GoodIn lw_all (wsV own index vw.1 y (ws_ y ycc maxL yret)))
    (hd : y.cls = vw.1 ∧ y.cls ≠ "java/lang/invoke/MethodHandle" ∧ y.cls ≠ "java/lang/invoke/VarHandle" ∧ (parseMethodDescriptor y.desc).map (fun d => d.parameters.length) = some n) (hR : f + 1 ≤ R.frames ∧ 8 + (maxL + 11) + lo ≤ R.locals)
    (hn : As.length = n) (hsize : ls.size = nL) (hstack : st0 = As.reverse ++ .ref b :: rest) (hW : (rest.map fun v => v.category).sum ≤ 8) (hrs : r.toList ++ rest = rs) (hdg : decode cc pc = .ok (.invokevirtual index, 3))
    (kk : ∀ (H : Heap) (locs : List Loc) (cells slots : Nat), WI E R s σ' H locs cells slots → W p l e R s m args below meth c H locs cells slots Q (F0 m (pc + 3) ls rs)) : W p l e R s m args below meth c H locs cells slots Q (F0 m pc ls st0) := by
  subst hrs
  obtain ⟨fl, fs, h1⟩ := isC_in ha
  exact cm_V X I h1 hc hM hT hd hR hn hsize hstack hW hdg kk
theorem cg_S {y : MethodName} {ycc : ByteArray} {maxL f lo n index : Nat} {yret : Option FieldType} {As rs : List Value} {r : Option Value} (X : MX E p s m args meth c cc nL ret own nm) (I : WI E R s σ H locs cells slots)
    (hM : CM E l y (ws_ y ycc maxL yret) f lo As σ r σ') (hT : GoodIn lw_all (va_wsS own index y (ws_ y ycc maxL yret)))
    (hd : y.cls ≠ "java/lang/invoke/MethodHandle" ∧ y.cls ≠ "java/lang/invoke/VarHandle" ∧ (parseMethodDescriptor y.desc).map (fun d => d.parameters.length) = some n) (hR : f + 1 ≤ R.frames ∧ 8 + (maxL + 11) + lo ≤ R.locals)
    (hn : As.length = n) (hsize : ls.size = nL) (hstack : st0 = As.reverse ++ rest) (hW : (rest.map fun v => v.category).sum ≤ 8) (hrs : r.toList ++ rest = rs) (hdg : decode cc pc = .ok (.invokestatic index, 3))
    (kk : ∀ (H : Heap) (locs : List Loc) (cells slots : Nat), WI E R s σ' H locs cells slots → W p l e R s m args below meth c H locs cells slots Q (F0 m (pc + 3) ls rs)) : W p l e R s m args below meth c H locs cells slots Q (F0 m pc ls st0) := by
  subst hrs
  exact cm_S X I hM hT hd hR hn hsize hstack hW hdg kk
theorem cg_F {x y : MethodName} {ycc : ByteArray} {maxL f lo n index count : Nat} {yret : Option FieldType} {As rs : List Value} {b ci : Nat} {r : Option Value} {vw : vw_C} {u : Unit} (hX : XK E) (X : MX E p s m args meth c cc nL ret own nm) (I : WI E R s σ H locs cells slots)
    (ha : isC σ b ci = some u) (hc : CL[ci]? = some vw) (hM : CM E l y (ws_ y ycc maxL yret) f lo (.ref b :: As) σ r σ') (hT : GoodIn lw_all (va_wsF own index vw.1 x y (ws_ y ycc maxL yret)) ∧ (vw.1, x, y) ∈ FWL)
    (hd : x.cls ≠ "java/lang/invoke/MethodHandle" ∧ x.cls ≠ "java/lang/invoke/VarHandle" ∧ (parseMethodDescriptor x.desc).map (fun d => d.parameters.length) = some n) (hR : f + 1 ≤ R.frames ∧ 8 + (maxL + 11) + lo ≤ R.locals)
    (hn : As.length = n) (hsize : ls.size = nL) (hstack : st0 = As.reverse ++ .ref b :: rest) (hW : (rest.map fun v => v.category).sum ≤ 8) (hrs : r.toList ++ rest = rs) (hdg : decode cc pc = .ok (.invokeinterface index count, 5))
    (kk : ∀ (H : Heap) (locs : List Loc) (cells slots : Nat), WI E R s σ' H locs cells slots → W p l e R s m args below meth c H locs cells slots Q (F0 m (pc + 5) ls rs)) : W p l e R s m args below meth c H locs cells slots Q (F0 m pc ls st0) := by
  obtain ⟨fl, fs, h1⟩ := isC_in ha
  exact cm_F hX X I h1 hc hM hT hd hR hn hsize hstack hW hrs hdg kk
/-- an inherited method through an object: of the class vw, declared by owner -/
theorem cg_U {x y : MethodName} {owner : String} {ycc : ByteArray} {maxL f lo n index : Nat} {yret : Option FieldType} {As rs : List Value} {b ci : Nat} {r : Option Value} {vw : vw_C} {u : Unit} (X : MX E p s m args meth c cc nL ret own nm) (I : WI E R s σ H locs cells slots)
    (ha : isC σ b ci = some u) (hc : CL[ci]? = some vw) (hM : CM E l y (ws_ y ycc maxL yret) f lo (.ref b :: As) σ r σ') (hT : GoodIn lw_all (va_wsU own index vw.1 owner x y (ws_ y ycc maxL yret)) ∧ y = ⟨owner, x.name, x.desc⟩)
    (hd : owner ≠ "java/lang/invoke/MethodHandle" ∧ owner ≠ "java/lang/invoke/VarHandle" ∧ (parseMethodDescriptor x.desc).map (fun d => d.parameters.length) = some n) (hR : f + 1 ≤ R.frames ∧ 8 + (maxL + 11) + lo ≤ R.locals)
    (hn : As.length = n) (hsize : ls.size = nL) (hstack : st0 = As.reverse ++ .ref b :: rest) (hW : (rest.map fun v => v.category).sum ≤ 8) (hrs : r.toList ++ rest = rs) (hdg : decode cc pc = .ok (.invokevirtual index, 3))
    (kk : ∀ (H : Heap) (locs : List Loc) (cells slots : Nat), WI E R s σ' H locs cells slots → W p l e R s m args below meth c H locs cells slots Q (F0 m (pc + 3) ls rs)) : W p l e R s m args below meth c H locs cells slots Q (F0 m pc ls st0) := by
  subst hrs
  obtain ⟨fl, fs, h1⟩ := isC_in ha
  obtain ⟨S, x1, x2, hK, hE, x3, x4⟩ := X
  have hf : cells + σ.2.2.1 ≤ R.cells ∧ slots + σ.2.2.2 ≤ R.slots := ⟨by have := I.2.2.1; omega, by have := I.2.2.2.1; omega⟩
  exact cm_call I (va_runU (rest := rest) (As := As) S hM (va_cwU n S.2.2.2.2 hT.1 rfl rfl rfl hT.2 hd hR) ⟨Wd.blind hE, KW.recv hK I.1.1 hc h1, fun U hU hW => ⟨rfl, KW.warm hE hW hK, by rw [hU]; exact I.1⟩⟩ rfl hn hsize hstack (by show 2 * 0 + _ ≤ 8; omega) hdg hf) kk
/-- a method that the object's class vw overrides: declared by owner -/
theorem cg_O {x y : MethodName} {owner : String} {ycc b0 : ByteArray} {maxL m0 f lo n index : Nat} {yret r0 : Option FieldType} {As rs : List Value} {b ci : Nat} {r : Option Value} {vw : vw_C} {u : Unit} (X : MX E p s m args meth c cc nL ret own nm) (I : WI E R s σ H locs cells slots)
    (ha : isC σ b ci = some u) (hc : CL[ci]? = some vw) (hM : CM E l y (ws_ y ycc maxL yret) f lo (.ref b :: As) σ r σ') (hT : GoodIn lw_all (va_wsO own index vw.1 owner x y (ws_ y ycc maxL yret)) ∧ Cond.code ⟨owner, x.name, x.desc⟩ b0 m0 r0 ∈ lw_all)
    (hd : owner ≠ "java/lang/invoke/MethodHandle" ∧ owner ≠ "java/lang/invoke/VarHandle" ∧ (parseMethodDescriptor x.desc).map (fun d => d.parameters.length) = some n) (hR : f + 1 ≤ R.frames ∧ 8 + (maxL + 11) + lo ≤ R.locals)
    (hn : As.length = n) (hsize : ls.size = nL) (hstack : st0 = As.reverse ++ .ref b :: rest) (hW : (rest.map fun v => v.category).sum ≤ 8) (hrs : r.toList ++ rest = rs) (hdg : decode cc pc = .ok (.invokevirtual index, 3))
    (kk : ∀ (H : Heap) (locs : List Loc) (cells slots : Nat), WI E R s σ' H locs cells slots → W p l e R s m args below meth c H locs cells slots Q (F0 m (pc + 3) ls rs)) : W p l e R s m args below meth c H locs cells slots Q (F0 m pc ls st0) := by
  subst hrs
  obtain ⟨fl, fs, h1⟩ := isC_in ha
  obtain ⟨S, x1, x2, hK, hE, x3, x4⟩ := X
  have hf : cells + σ.2.2.1 ≤ R.cells ∧ slots + σ.2.2.2 ≤ R.slots := ⟨by have := I.2.2.1; omega, by have := I.2.2.2.1; omega⟩
  exact cm_call I (va_runU (rest := rest) (As := As) S hM (va_cwO n S.2.2.2.2 hT.1 rfl rfl rfl hT.2 hd hR) ⟨Wd.blind hE, KW.recv hK I.1.1 hc h1, fun U hU hW => ⟨rfl, KW.warm hE hW hK, by rw [hU]; exact I.1⟩⟩ rfl hn hsize hstack (by show 2 * 0 + _ ≤ 8; omega) hdg hf) kk
/-- super.m(..) -/
theorem cg_SU {y : MethodName} {ycc : ByteArray} {maxL f lo n index : Nat} {yret : Option FieldType} {As rs : List Value} {b ci : Nat} {r : Option Value} {vw : vw_C} {u : Unit} (X : MX E p s m args meth c cc nL ret own nm) (I : WI E R s σ H locs cells slots)
    (ha : isC σ b ci = some u) (hc : CL[ci]? = some vw) (hM : CM E l y (ws_ y ycc maxL yret) f lo (.ref b :: As) σ r σ') (hT : GoodIn lw_all (va_wsSU own index y (ws_ y ycc maxL yret)))
    (hd : y.name ≠ "<init>" ∧ (parseMethodDescriptor y.desc).map (fun d => d.parameters.length) = some n) (hR : f + 1 ≤ R.frames ∧ 8 + (maxL + 11) + lo ≤ R.locals)
    (hn : As.length = n) (hsize : ls.size = nL) (hstack : st0 = As.reverse ++ .ref b :: rest) (hW : (rest.map fun v => v.category).sum ≤ 8) (hrs : r.toList ++ rest = rs) (hdg : decode cc pc = .ok (.invokespecial index, 3))
    (kk : ∀ (H : Heap) (locs : List Loc) (cells slots : Nat), WI E R s σ' H locs cells slots → W p l e R s m args below meth c H locs cells slots Q (F0 m (pc + 3) ls rs)) : W p l e R s m args below meth c H locs cells slots Q (F0 m pc ls st0) := by
  subst hrs
  obtain ⟨fl, fs, h1⟩ := isC_in ha
  obtain ⟨S, x1, x2, hK, hE, x3, x4⟩ := X
  have hf : cells + σ.2.2.1 ≤ R.cells ∧ slots + σ.2.2.2 ≤ R.slots := ⟨by have := I.2.2.1; omega, by have := I.2.2.2.1; omega⟩
  exact cm_call I (va_runSU (rest := rest) (As := As) (hK.1.1 ci vw hc).2 S hM (va_cwSU n S.2.2.2.2 hT rfl rfl rfl hd hR) ⟨Wd.blind hE, KW.recv hK I.1.1 hc h1, fun U hU hW => ⟨rfl, KW.warm hE hW hK, by rw [hU]; exact I.1⟩⟩ rfl hn hsize hstack (by show 2 * 0 + _ ≤ 8; omega) hdg hf) kk
/-- Object[] or Test[] of a length -/
theorem g_anew (hX : XK E) (X : MX E p s m args meth c cc nL ret own nm) (I : WI E R s σ H locs cells slots) {index t k q : Nat} {n : Int32} (ht : t = 3 ∨ t = 4) (hw : Cond.classLink own index (lt6 t) ∈ lw_all) (hn : an n = some k) (h : nH σ k (.inl (t, k, .inr (.inr (.inr (.inr fun _ => none))))) = some (q, σ')) (hdg : decode cc pc = .ok (.anewarray index, 3))
    (kk : ∀ (H : Heap) (locs : List Loc) (cells slots : Nat), WI E R s σ' H locs cells slots → W p l e R s m args below meth c H locs cells slots Q (F0 m (pc + 3) ls (.ref q :: rest))) : W p l e R s m args below meth c H locs cells slots Q (F0 m pc ls (.int n :: rest)) := by
  have hAO : va_AO (lt6 t) s := (X.xf hX).2.2.1 _ (by rcases ht with rfl | rfl <;> simp [AOL, lt6])
  obtain ⟨⟨hx, hb, hml, hown, hts⟩, -, -, hK, -, -, -⟩ := X
  obtain ⟨a1, a2, a3⟩ := an_in hn
  obtain ⟨n1, n2, n3, n4⟩ := nH_in h
  have i1 := I.2.2.1
  have i2 := I.2.2.2.1
  subst a2
  refine W.anew hx hb hown (hts _ hw) (va_AO.use hAO) rfl hdg rfl a1 (by omega) (by omega) (by omega) fun cA kA comp f1 f2 f3 f4 => ?_
  have hty : aty t = .object (lt6 t) := by rcases ht with rfl | rfl <;> rfl
  have hRA := (hK.2.1 t (by omega)).2
  rw [hty] at hRA
  obtain ⟨-, -, -, -, -, k4⟩ := hRA
  have hcA : cA = E.2.1 t := Option.some.inj (f1.symm.trans k4)
  subst hcA
  have hq : q = H.size := by rw [n3, I.1.2.2.1]
  subst hq
  refine WI.push I h ?_ (by simp) (fun q hq => by rw [Array.getElem?_push, if_neg (Nat.ne_of_lt hq)]) (fun J => kk _ _ _ _ J)
  show (H.push _)[H.size]? = some (vp_cell _ _)
  rw [vp_cell_q, Array.getElem?_push_size, ← arrV_new]
  rfl
end GR4
