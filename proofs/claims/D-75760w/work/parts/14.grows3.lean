/-! ROWS: references into arrays, casts, calls, texts, statics -/
set_option maxRecDepth 100000
section GR3
variable {p : Program} {l : Launch} {e : Env} {R : Room} {s : State} {m : MethodId} {args : Array Value} {below : List Frame} {meth : Method} {c : Code} {H : Heap} {locs : List Loc} {cells slots : Nat} {Q : State → Prop}
variable {E : EV} {σ σ' : St} {cc : ByteArray} {nL pc a : Nat} {ret : Option FieldType} {own nm : String} {ls : Array Slot} {rest st0 : List Value}
/-- may an object of class ci lie in an array of kind t -/
def okc (t ci : Nat) : Bool := OKC.any (fun q => q.1 == t && q.2 == ci)
/-- a reference is written into an array of kind t -/
def sR (σ : St) (a t : Nat) (i : Int32) (v : Option Nat) : Option St := match σ.1 a with
  | some (true, .inl (t', n, .inr (.inr (.inr (.inr f))))) => if t' = t then (if i < 0 ∨ n ≤ i.toNatClampNeg then none else
      (match v with
      | none => some (hup σ.1 a (true, .inl (t, n, .inr (.inr (.inr (.inr (va_up f i.toNatClampNeg none)))))), σ.2)
      | some b => match σ.1 b with
        | some (_, .inr (ci, _)) => if okc t ci = true then some (hup σ.1 a (true, .inl (t, n, .inr (.inr (.inr (.inr (va_up f i.toNatClampNeg (some b))))))), σ.2) else none
        | _ => none)) else none
  | _ => none
theorem sR_in {t : Nat} {i : Int32} {v : Option Nat} (h : sR σ a t i v = some σ') : ∃ (n : Nat) (f : Nat → Option Nat), σ.1 a = some (true, .inl (t, n, .inr (.inr (.inr (.inr f))))) ∧ vp_in i n ∧ σ' = (hup σ.1 a (true, .inl (t, n, .inr (.inr (.inr (.inr (va_up f i.toNatClampNeg v)))))), σ.2) ∧ ∀ b, v = some b → ∃ fl ci fs, σ.1 b = some (fl, .inr (ci, fs)) ∧ okc t ci = true := by
  unfold sR at h
  split at h
  · rename_i t' n f hs
    split at h
    · rename_i ht
      subst ht
      split at h
      · cases h
      · rename_i hh
        cases v with
        | none => exact ⟨n, f, hs, hh, (Option.some.inj h).symm, fun b hb => by cases hb⟩
        | some b =>
          simp only at h
          split at h
          · rename_i fl ci fs hb
            split at h
            · rename_i ho
              exact ⟨n, f, hs, hh, (Option.some.inj h).symm, fun b' hb' => by cases hb'; exact ⟨fl, ci, fs, hb, ho⟩⟩
            · cases h
          · cases h
    · cases h
  · cases h
theorem arrq_set {H1 : Heap} {t n k : Nat} {f : Nat → Option Nat} {x : Option Nat} (e : H1[a]? = some ((vp_cell (E.2.1 t) (n, .inr (.inr (.inr (.inr f))))).setSlot k (va_rf x))) : mRw E a (.inl (t, n, .inr (.inr (.inr (.inr (va_up f k x)))))) H1 := by
  show H1[a]? = some (vp_cell _ _)
  rw [e, vp_cell_q, vp_cell_q, arrV_store]
  congr 2
  funext q
  by_cases hq : q = k
  · subst hq
    simp [updV, va_up]
  · simp [updV, va_up, hq]
theorem okc_in {t ci : Nat} (h : okc t ci = true) : (t, ci) ∈ OKC := by
  unfold okc at h
  obtain ⟨q, h1, h2⟩ := List.any_eq_true.mp h
  simp only [Bool.and_eq_true, beq_iff_eq] at h2
  obtain ⟨h3, h4⟩ := h2
  subst h3; subst h4
  exact h1
theorem g_aast (hX : XK E) (X : MX E p s m args meth c cc nL ret own nm) (I : WI E R s σ H locs cells slots) {t : Nat} {i : Int32} {v : Option Nat} (ht : t = 3 ∨ t = 4) (h : sR σ a t i v = some σ') (hdg : decode cc pc = .ok (.aastore, 1))
    (kk : ∀ (H : Heap) (locs : List Loc), WI E R s σ' H locs cells slots → W p l e R s m args below meth c H locs cells slots Q (F0 m (pc + 1) ls rest)) : W p l e R s m args below meth c H locs cells slots Q (F0 m pc ls (va_rf v :: .int i :: .ref a :: rest)) := by
  obtain ⟨n, f, h1, h2, rfl, h4⟩ := sR_in h
  have hlt : i.toNatClampNeg < n := Nat.not_le.mp fun q => h2 (Or.inr q)
  have h0 : ¬ i < 0 := fun q => h2 (Or.inl q)
  have hc : H[a]? = some (vp_cell (E.2.1 t) (n, .inr (.inr (.inr (.inr f))))) := (I.1.1 a _ h1).rw
  have ht6 : t < 7 := by omega
  have hty : aty t = .object (lt6 t) := by rcases ht with rfl | rfl <;> rfl
  have hRA := (X.2.2.2.1.2.1 t ht6).2
  rw [hty] at hRA
  obtain ⟨kA, comp, k1, k2, k3, -⟩ := hRA
  obtain ⟨kE, hkE, -⟩ := Vm.findClass_spec k3
  have done : ∀ (H1 : Heap), H1[a]? = some ((vp_cell (E.2.1 t) (n, .inr (.inr (.inr (.inr f))))).setSlot i.toNatClampNeg (va_rf v)) → H1.size = H.size → (∀ q, q ≠ a → H1[q]? = H[q]?) → WI E R s (hup σ.1 a (true, .inl (t, n, .inr (.inr (.inr (.inr (va_up f i.toNatClampNeg v)))))), σ.2) H1 (locs ++ [⟨a, i.toNatClampNeg⟩]) cells slots := by
    intro H1 e1 z oq
    refine I.set h1 (arrq_set e1) z oq ?_
    intro c c1 g1 g2
    rw [hc] at g1; cases g1
    rw [e1] at g2; cases g2
    simp [Cell.setSlot]
  cases v with
  | none =>
    have hArr := (X.2.2.2.1.2.1 t ht6).1 n (fun j => va_rf (f j))
    rw [hty] at hArr
    exact va_WaastN (C := lt6 t) X.1.1 X.1.2.1 hc hArr (fun h => by cases h) (by show ¬ (i < 0 ∨ (arrV _ _ _).slots.size ≤ _); rw [arrV_size]; exact h2) rfl rfl hdg fun H1 e1 z oq => kk H1 _ (done H1 e1 z oq)
  | some b =>
    obtain ⟨fl, ci, fs, q1, q2⟩ := h4 b rfl
    obtain ⟨vw, g1, g2⟩ := okc_ok _ (okc_in q2)
    obtain ⟨cell, r1, r2, r3⟩ := KW.recv X.2.2.2.1 I.1.1 g1 q1
    obtain ⟨c0, t0, f1, f2, f3⟩ := Cond.castable_spec (va_Nw.use (A := args) rfl ((X.xf hX).1 _ g2 rfl))
    obtain ⟨kC, hkC, -⟩ := Vm.findClass_spec r3
    have e1 : c0 = cell.cls := Option.some.inj (f1.symm.trans r3)
    have e2 : t0 = comp := Option.some.inj (f2.symm.trans k3)
    subst e1; subst e2
    exact W.aast X.1.1 X.1.2.1 hc (fun q h => by cases h) (fun h => by cases h) k1 k2 rfl hkE ⟨h0, by show _ < (arrV _ _ _).slots.size; rw [arrV_size]; exact hlt⟩ r1 (fun q h => by rw [h] at r2; cases r2) hkC f3 rfl rfl hdg fun H1 e1 z oq => kk H1 _ (done H1 e1 z oq)
/-- an object's class -/
def isC (σ : St) (a ci : Nat) : Option Unit := match σ.1 a with
  | some (_, .inr (ci', _)) => if ci' = ci then some () else none
  | _ => none
theorem isC_in {ci : Nat} {u : Unit} (h : isC σ a ci = some u) : ∃ fl fs, σ.1 a = some (fl, .inr (ci, fs)) := by
  unfold isC at h
  split at h
  · rename_i fl ci' fs hs
    split at h
    · rename_i hh; subst hh; exact ⟨fl, fs, hs⟩
    · cases h
  · cases h
theorem g_cast (X : MX E p s m args meth c cc nL ret own nm) (I : WI E R s σ H locs cells slots) {index ci : Nat} {vw : vw_C} {u : Unit} (hc : CL[ci]? = some vw) (hl : Cond.classLink own index vw.1 ∈ lw_all) (h : isC σ a ci = some u) (hdg : decode cc pc = .ok (.checkcast index, 3))
    (kk : W p l e R s m args below meth c H locs cells slots Q (F0 m (pc + 3) ls (.ref a :: rest))) : W p l e R s m args below meth c H locs cells slots Q (F0 m pc ls (.ref a :: rest)) := by
  obtain ⟨fl, fs, h1⟩ := isC_in h
  exact va_castE X.1.1 X.1.2.1 X.1.2.2.2.1 (X.1.2.2.2.2 _ hl) (KW.recv X.2.2.2.1 I.1.1 hc h1) hdg kk
theorem g_inst (X : MX E p s m args meth c cc nL ret own nm) (I : WI E R s σ H locs cells slots) {index ci : Nat} {vw : vw_C} {u : Unit} (hc : CL[ci]? = some vw) (hl : Cond.classLink own index vw.1 ∈ lw_all) (h : isC σ a ci = some u) (hdg : decode cc pc = .ok (.instanceof index, 3))
    (kk : W p l e R s m args below meth c H locs cells slots Q (F0 m (pc + 3) ls (.int 1 :: rest))) : W p l e R s m args below meth c H locs cells slots Q (F0 m pc ls (.ref a :: rest)) := by
  obtain ⟨fl, fs, h1⟩ := isC_in h
  exact va_instE X.1.1 X.1.2.1 X.1.2.2.2.1 (X.1.2.2.2.2 _ hl) (KW.recv X.2.2.2.1 I.1.1 hc h1) hdg kk
/-- a call of a constructor -/
theorem cm_I {y : MethodName} {ycc : ByteArray} {maxL f lo n index : Nat} {As rs : List Value} {b : Nat} (X : MX E p s m args meth c cc nL ret own nm) (I : WI E R s σ H locs cells slots)
    (hM : CM E l y (ws_ y ycc maxL none) f lo (.ref b :: As) σ none σ') (hT : GoodIn lw_all (ws_ y ycc maxL none) ∧ Cond.initialized y.cls ∈ lw_all ∧ Cond.methodLink own index y ∈ lw_all ∧ Cond.instanceMethod y ∈ lw_all ∧ y.name = "<init>")
    (hd : y.cls ≠ "java/lang/invoke/MethodHandle" ∧ y.cls ≠ "java/lang/invoke/VarHandle" ∧ (parseMethodDescriptor y.desc).map (fun d => d.parameters.length) = some n) (hR : f + 1 ≤ R.frames ∧ 8 + (maxL + 11) + lo ≤ R.locals)
    (hn : As.length = n) (hsize : ls.size = nL) (hstack : st0 = As.reverse ++ .ref b :: rest) (hW : (rest.map fun v => v.category).sum ≤ 8) (hrs : rest = rs) (hdg : decode cc pc = .ok (.invokespecial index, 3))
    (kk : ∀ (H : Heap) (locs : List Loc) (cells slots : Nat), WI E R s σ' H locs cells slots → W p l e R s m args below meth c H locs cells slots Q (F0 m (pc + 3) ls rs)) : W p l e R s m args below meth c H locs cells slots Q (F0 m pc ls st0) := by
  subst hrs
  obtain ⟨S, x1, x2, hK, hE, x3, x4⟩ := X
  have hf : cells + σ.2.2.1 ≤ R.cells ∧ slots + σ.2.2.2 ≤ R.slots := ⟨by have := I.2.2.1; omega, by have := I.2.2.2.1; omega⟩
  exact cm_call I (va_runI (rest := rest) (As := As) S hM (cwI n S.2.2.2.2 hT.1 rfl rfl rfl (S.2.2.2.2 _ hT.2.1) (S.2.2.2.2 _ hT.2.2.1) (S.2.2.2.2 _ hT.2.2.2.1) hT.2.2.2.2 hd hR) ⟨Wd.blind hE, fun U hU hW => ⟨rfl, KW.warm hE hW hK, by rw [hU]; exact I.1⟩⟩ rfl hn hsize hstack (by show 2 * 0 + _ ≤ 8; omega) hdg hf) kk
/-- a call through an interface -/
theorem cm_F {x y : MethodName} {ycc : ByteArray} {maxL f lo n index count : Nat} {yret : Option FieldType} {As rs : List Value} {b ci : Nat} {fs : List Value} {fl : Bool} {r : Option Value} {vw : vw_C} (hX : XK E) (X : MX E p s m args meth c cc nL ret own nm) (I : WI E R s σ H locs cells slots)
    (ha : σ.1 b = some (fl, .inr (ci, fs))) (hc : CL[ci]? = some vw) (hM : CM E l y (ws_ y ycc maxL yret) f lo (.ref b :: As) σ r σ') (hT : GoodIn lw_all (va_wsF own index vw.1 x y (ws_ y ycc maxL yret)) ∧ (vw.1, x, y) ∈ FWL)
    (hd : x.cls ≠ "java/lang/invoke/MethodHandle" ∧ x.cls ≠ "java/lang/invoke/VarHandle" ∧ (parseMethodDescriptor x.desc).map (fun d => d.parameters.length) = some n) (hR : f + 1 ≤ R.frames ∧ 8 + (maxL + 11) + lo ≤ R.locals)
    (hn : As.length = n) (hsize : ls.size = nL) (hstack : st0 = As.reverse ++ .ref b :: rest) (hW : (rest.map fun v => v.category).sum ≤ 8) (hrs : r.toList ++ rest = rs) (hdg : decode cc pc = .ok (.invokeinterface index count, 5))
    (kk : ∀ (H : Heap) (locs : List Loc) (cells slots : Nat), WI E R s σ' H locs cells slots → W p l e R s m args below meth c H locs cells slots Q (F0 m (pc + 5) ls rs)) : W p l e R s m args below meth c H locs cells slots Q (F0 m pc ls st0) := by
  subst hrs
  have hF := (X.xf hX).2.1 _ hT.2
  obtain ⟨S, x1, x2, hK, hE, x3, x4⟩ := X
  have hf : cells + σ.2.2.1 ≤ R.cells ∧ slots + σ.2.2.2 ≤ R.slots := ⟨by have := I.2.2.1; omega, by have := I.2.2.2.1; omega⟩
  exact cm_call5 I (va_runF (rest := rest) (As := As) (hK.1.1 ci vw hc).2 S hM (va_cwF n S.2.2.2.2 hT.1 rfl rfl rfl hF hd hR) ⟨Wd.blind hE, KW.recv hK I.1.1 hc ha, fun U hU hW => ⟨rfl, KW.warm hE hW hK, by rw [hU]; exact I.1⟩⟩ rfl hn hsize hstack (by show 2 * 0 + _ ≤ 8; omega) hdg hf) kk
/-- a static call of a nest mate's private method -/
theorem cm_SN {y : MethodName} {host : String} {ycc : ByteArray} {maxL f lo n index : Nat} {yret : Option FieldType} {As rs : List Value} {r : Option Value} (hX : XK E) (X : MX E p s m args meth c cc nL ret own nm) (I : WI E R s σ H locs cells slots)
    (hM : CM E l y (ws_ y ycc maxL yret) f lo As σ r σ') (hT : GoodIn lw_all (ws_ y ycc maxL yret) ∧ Cond.methodLinkNest own index y host ∈ lw_tbl ∧ Cond.initialized y.cls ∈ lw_all ∧ Cond.static y ∈ lw_all)
    (hd : y.cls ≠ "java/lang/invoke/MethodHandle" ∧ y.cls ≠ "java/lang/invoke/VarHandle" ∧ (parseMethodDescriptor y.desc).map (fun d => d.parameters.length) = some n) (hR : f + 1 ≤ R.frames ∧ 8 + (maxL + 11) + lo ≤ R.locals)
    (hn : As.length = n) (hsize : ls.size = nL) (hstack : st0 = As.reverse ++ rest) (hW : (rest.map fun v => v.category).sum ≤ 8) (hrs : r.toList ++ rest = rs) (hdg : decode cc pc = .ok (.invokestatic index, 3))
    (kk : ∀ (H : Heap) (locs : List Loc) (cells slots : Nat), WI E R s σ' H locs cells slots → W p l e R s m args below meth c H locs cells slots Q (F0 m (pc + 3) ls rs)) : W p l e R s m args below meth c H locs cells slots Q (F0 m pc ls st0) := by
  subst hrs
  have hN := (X.xf hX).1 _ hT.2.1 rfl
  obtain ⟨S, x1, x2, hK, hE, x3, x4⟩ := X
  have hf : cells + σ.2.2.1 ≤ R.cells ∧ slots + σ.2.2.2 ≤ R.slots := ⟨by have := I.2.2.1; omega, by have := I.2.2.2.1; omega⟩
  exact cm_call I (va_runSN (rest := rest) (As := As) S hM ⟨va_cnB n S.2.2.2.2 hT.1 rfl rfl rfl hN (S.2.2.2.2 _ hT.2.2.1) hd hR, S.2.2.2.2 _ hT.2.2.2, trivial⟩ ⟨Wd.blind hE, fun U hU hW => ⟨rfl, KW.warm hE hW hK, by rw [hU]; exact I.1⟩⟩ rfl hn hsize hstack (by show 2 * 0 + _ ≤ 8; omega) hdg hf) kk
/-- a text constant -/
theorem g_ldcS (hX : XK E) (X : MX E p s m args meth c cc nL ret own nm) {index k : Nat} {tx : String} (h : (own, index, tx, k) ∈ SKL) (hdg : decode cc pc = .ok (.ldc index, 2))
    (kk : W p l e R s m args below meth c H locs cells slots Q (F0 m (pc + 2) ls (.ref (E.2.2.2.1 k) :: rest))) : W p l e R s m args below meth c H locs cells slots Q (F0 m pc ls rest) :=
  va_ldcS X.1.1 X.1.2.1 X.1.2.2.2.1 ((X.xf hX).2.2.2.2.1 _ h) hdg kk
/-- a static field -/
theorem g_gets (hX : XK E) (X : MX E p s m args meth c cc nL ret own nm) (I : WI E R s σ H locs cells slots) {index : Nat} {C n d ref : String} {v : (Nat → Nat) → Value} {w : Value} (h : (C, n, d, v) ∈ STL) (hw : v E.2.2.2.1 = w) (hl : Cond.fieldLink own index C n d ∈ lw_all) (hdg : decode cc pc = .ok (.getstatic index, 3))
    (kk : W p l e R s m args below meth c H locs cells slots Q (F0 m (pc + 3) ls (w :: rest))) : W p l e R s m args below meth c H locs cells slots Q (F0 m pc ls rest) := by
  subst hw
  have hZ := (X.xf hX).2.2.2.2.2.1 _ h
  have hZ : va_Z C n d (v E.2.2.2.1) (fr E) s s.heap := hZ.kept (fun q h1 h2 => X.2.2.2.2.2.2.1 q h1)
  exact va_gets X.1.1 X.1.2.1 hZ (I.vS X) X.1.2.2.2.1 (X.1.2.2.2.2 _ hl) (fun _ h => h) hdg kk
end GR3
