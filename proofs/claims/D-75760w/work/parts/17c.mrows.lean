/-! ROWS: clone, arrays of arrays, class objects, statics that may be null -/
set_option maxRecDepth 100000
section MR
variable {p : Program} {l : Launch} {e : Env} {R : Room} {s : State} {m : MethodId} {args : Array Value} {below : List Frame} {meth : Method} {c : Code} {H : Heap} {locs : List Loc} {cells slots : Nat} {Q : State → Prop}
variable {E : EV} {σ σ' : St} {cc : ByteArray} {nL pc a : Nat} {ret : Option FieldType} {own nm : String} {ls : Array Slot} {rest st0 : List Value}
theorem nm_o {x y : Option Nat} (h : x = y) (k : W p l e R s m args below meth c H locs cells slots Q (F0 m pc ls (va_rf y :: rest))) : W p l e R s m args below meth c H locs cells slots Q (F0 m pc ls (va_rf x :: rest)) := h ▸ k
/-- clone of an array of bytes -/
def clB (σ : St) (a : Nat) : Option (Nat × St) := match σ.1 a with
  | some (true, .inl (t, n, .inl f)) => if t = 1 ∧ bfit f 0 n = true then nH σ n (.inl (1, n, .inl f)) else none
  | _ => none
theorem clB_in {q : Nat} (h : clB σ a = some (q, σ')) : ∃ (n : Nat) (f : Nat → Int32), σ.1 a = some (true, .inl (1, n, .inl f)) ∧ bfit f 0 n = true ∧ nH σ n (.inl (1, n, .inl f)) = some (q, σ') := by
  unfold clB at h
  split at h
  · rename_i t n f hs
    split at h
    · rename_i hh
      obtain ⟨rfl, h2⟩ := hh
      exact ⟨n, f, hs, h2, h⟩
    · cases h
  · cases h
theorem g_clone (hX : XK E) (X : MX E p s m args meth c cc nL ret own nm) (I : WI E R s σ H locs cells slots) {index q : Nat} (hl : Cond.methodLink own index ⟨"[B", "clone", "()Ljava/lang/Object;"⟩ ∈ lw_all) (h : clB σ a = some (q, σ')) (hsize : ls.size = nL) (hR : 1 ≤ R.frames ∧ 22 ≤ R.locals) (hW : (rest.map fun v => v.category).sum ≤ 8) (hdg : decode cc pc = .ok (.invokevirtual index, 3))
    (kk : ∀ (H : Heap) (locs : List Loc) (cells slots : Nat), WI E R s σ' H locs cells slots → W p l e R s m args below meth c H locs cells slots Q (F0 m (pc + 3) ls (.ref q :: rest))) : W p l e R s m args below meth c H locs cells slots Q (F0 m pc ls (.ref a :: rest)) := by
  obtain ⟨n, f, ha, hf8, h⟩ := clB_in h
  have hXF := X.xf hX
  obtain ⟨⟨hx, hb, hml, hown, hts⟩, -, -, hK, -, -, -⟩ := X
  obtain ⟨n1, n2, n3, n4⟩ := nH_in h
  have i1 := I.2.2.1
  have i2 := I.2.2.2.1
  have hq : q = H.size := by rw [n3, I.1.2.2.1]
  subst hq
  have hcell : H[a]? = some (vp_cell (E.2.1 1) (n, .inl f)) := (I.1.1 a _ ha).rw
  have hnm : s.vm.findClass "[B" = some (E.2.1 1) := (hK.2.1 1 (by decide)).2
  obtain ⟨c0, t0', f1, f2, f3⟩ := Cond.castable_spec (va_Nw.use (A := args) rfl (hXF.1 _ q577 rfl))
  cases hnm.symm.trans f1
  obtain ⟨-, kS, hkS, compS, hkindS⟩ := (hK.2.1 1 (by decide)).1 0 (fun _ => .null)
  have hsz : (vp_cell (E.2.1 1) (n, .inl f)).slots.size = n := arrV_size _ _ _
  intro T hT Z
  obtain ⟨-, kA, hkA, comp, hkind⟩ := State.isArrayOf_alike Z.warmed.alike ((hK.2.1 1 (by decide)).1 0 (fun _ => .null))
  obtain ⟨vm', X', st⟩ := Z.cloneArray hx hown (hts _ hl) (hts _ q573) (hts _ q574) (hts _ q575) (hts _ q576) (a := a) (cell := vp_cell (E.2.1 1) (n, .inl f)) (by rw [hT]; exact hcell) (fun k h => by cases h) (fun h => by cases h) hnm f2 f3
    (fun i v hv => by
      have hk' : T.vm.classes[E.2.1 1]? = some kA := hkA
      have hfit : fits (aty 1) v = true := by
        by_cases hi : i < n
        · have hv : (arrV (E.2.1 1) n (fun j => .int (f j))).slots[i]? = some v := hv
          rw [arrV_read _ _ hi] at hv
          cases hv
          have h8 := List.all_eq_true.mp hf8 i (List.mem_range.mpr hi)
          have h8 := of_decide_eq_true h8
          rw [Nat.zero_add] at h8
          show fits .byte (.int (f i)) = true
          rw [← h8]
          exact pk_fb _
        · have hv : (arrV (E.2.1 1) n (fun j => .int (f j))).slots[i]? = some v := hv
          rw [Array.getElem?_eq_none (by rw [arrV_size]; omega)] at hv
          cases hv
      show T.fitsSlot (E.2.1 1) .none i v = true
      simpa [State.fitsSlot, State.slotType?, hk', hkind] using hfit)
    (g := F0 m pc ls (.ref a :: rest)) rfl (by rw [hml]; exact hsize) rfl (by rw [hb]; exact hdg) hR.1 (by show 2 * 0 + _ + 14 ≤ _; omega) (by omega) (by rw [hsz]; omega) (hloader := Vm.clonesLoader_of_array hkS hkindS)
  rw [hsz] at X'
  have z1 : (H.push (vp_cell (E.2.1 1) (n, .inl f))).size = H.size + 1 := Array.size_push ..
  have o1 : ∀ q : Nat, q < H.size → (H.push (vp_cell (E.2.1 1) (n, .inl f)))[q]? = H[q]? := fun q hq => by rw [Array.getElem?_push, if_neg (Nat.ne_of_lt hq)]
  have e1 : (H.push (vp_cell (E.2.1 1) (n, .inl f)))[H.size]? = some (vp_cell (E.2.1 1) (n, .inl f)) := Array.getElem?_push_size ..
  obtain ⟨t, b1, b2⟩ := (WI.push (c := c) I h e1 z1 o1 (fun J => kk _ _ _ _ J) : W p l e R s m args below meth c _ locs (cells + 1) (slots + n) Q _) ((T.setVm vm').pushCell (vp_cell (E.2.1 1) (n, .inl f))) (by rw [← hT]; rfl) X'
  exact ⟨t, st t (by rw [hT]; exact b1), b2⟩
/-- an array of n arrays of k ints -/
def nM (σ : St) (n k : Nat) : Option (Nat × St) := if 1 + n ≤ σ.2.2.1 ∧ n + n * k ≤ σ.2.2.2 then
  some (σ.2.1, (fun b => if b = σ.2.1 then some (true, .inl (5, n, .inr (.inr (.inr (.inr fun j => if j < n then some (σ.2.1 + 1 + j) else none))))) else if σ.2.1 < b ∧ b < σ.2.1 + 1 + n then some (true, .inl (0, z0 0 k)) else σ.1 b, σ.2.1 + 1 + n, σ.2.2.1 - (1 + n), σ.2.2.2 - (n + n * k))) else none
theorem nM_in {n k q : Nat} (h : nM σ n k = some (q, σ')) : 1 + n ≤ σ.2.2.1 ∧ n + n * k ≤ σ.2.2.2 ∧ q = σ.2.1 ∧ σ' = (fun b => if b = σ.2.1 then some (true, .inl (5, n, .inr (.inr (.inr (.inr fun j => if j < n then some (σ.2.1 + 1 + j) else none))))) else if σ.2.1 < b ∧ b < σ.2.1 + 1 + n then some (true, .inl (0, z0 0 k)) else σ.1 b, σ.2.1 + 1 + n, σ.2.2.1 - (1 + n), σ.2.2.2 - (n + n * k)) := by
  unfold nM at h
  split at h
  · rename_i hh
    cases h
    exact ⟨hh.1, hh.2, rfl, rfl⟩
  · cases h
theorem WI.pushM {H1 : Heap} {n k q : Nat} {g : JFrame} (I : WI E R s σ H locs cells slots) (h : nM σ n k = some (q, σ')) (hx : H1[H.size]? = some (vp_cell (E.2.1 5) (n, .inr (.inr (.inr (.inr fun j => if j < n then some (H.size + 1 + j) else none)))))) (hy : ∀ j, j < n → H1[H.size + 1 + j]? = some (vp_cell (E.2.1 0) (z0 0 k))) (hz : H1.size = H.size + 1 + n) (ho : ∀ q, q < H.size → H1[q]? = H[q]?)
    (kk : WI E R s σ' H1 locs (cells + 1 + n) (slots + n + n * k) → W p l e R s m args below meth c H1 locs (cells + 1 + n) (slots + n + n * k) Q g) : W p l e R s m args below meth c H1 locs (cells + 1 + n) (slots + n + n * k) Q g := by
  obtain ⟨n1, n2, rfl, rfl⟩ := nM_in h
  obtain ⟨h1, h2, h3, h4, h5, h6, h7⟩ := I
  obtain ⟨g1, g2, g3, g4, g5, g6⟩ := h1
  refine W_bd fun b1 b2 b3 => kk ?_
  unfold WI HW
  refine ⟨⟨fun b z hb => ?_, fun b z hb => ?_, by show _ = σ.2.1 + 1 + n; omega, fun b hb1 hb2 => ?_, fun q hq => ?_, by omega⟩, h2, by show _ + (σ.2.2.1 - (1 + n)) = _; omega, by show _ + (σ.2.2.2 - (n + n * k)) = _; omega, by show _ + (σ.2.2.1 - (1 + n)) ≤ _; omega, by show _ + (σ.2.2.2 - (n + n * k)) ≤ _; omega, b3⟩
  · dsimp only at hb
    split at hb
    · rename_i hba
      cases hb
      subst hba
      rw [← g3]
      exact hx
    · split at hb
      · rename_i hba hbb
        cases hb
        have := hy (b - (H.size + 1)) (by omega)
        rw [show H.size + 1 + (b - (H.size + 1)) = b by omega] at this
        exact this
      · have := g1 b z hb
        exact this.kept (ho b this.lt)
  · dsimp only at hb
    split at hb
    · omega
    · split at hb
      · omega
      · exact g2 b z hb
  · dsimp only
    split
    · exact ⟨_, rfl⟩
    · split
      · exact ⟨_, rfl⟩
      · refine g4 b hb1 ?_
        have : b < σ.2.1 + 1 + n := hb2
        omega
  · rw [ho q (by omega)]
    exact g5 q hq
theorem outerC_plain' (c : ClassId) (N h0 : Nat) : ∀ i, (Jvm.Free.Multi.outerC c N h0 i).monitor = {} ∧ (Jvm.Free.Multi.outerC c N h0 i).hash = none
  | 0 => ⟨rfl, rfl⟩
  | i + 1 => by
    obtain ⟨a, b⟩ := outerC_plain' c N h0 i
    exact ⟨by simp [Jvm.Free.Multi.outerC, Cell.setSlot, a], by simp [Jvm.Free.Multi.outerC, Cell.setSlot, b]⟩
theorem outer_eq (cA : ClassId) (n h0 : Nat) : Jvm.Free.Multi.outerC cA n h0 n = vp_cell cA (n, .inr (.inr (.inr (.inr fun j => if j < n then some (h0 + 1 + j) else none)))) := by
  obtain ⟨a1, a2, a3⟩ := Jvm.Free.Multi.outerC_facts cA n h0 n
  obtain ⟨a4, a5⟩ := outerC_plain' cA n h0 n
  have hs : (Jvm.Free.Multi.outerC cA n h0 n).slots = (vp_cell cA (n, .inr (.inr (.inr (.inr fun j => if j < n then some (h0 + 1 + j) else none))))).slots := by
    apply Array.ext_getElem?
    intro j
    by_cases hj : j < n
    · rw [Jvm.Free.Multi.outerC_slot cA n h0 n j hj, if_pos hj]
      show _ = (arrV _ _ _).slots[j]?
      rw [arrV_read _ _ hj]
      show _ = some (va_rf (if j < n then some (h0 + 1 + j) else none))
      rw [if_pos hj]
      rfl
    · rw [Array.getElem?_eq_none (by omega), Array.getElem?_eq_none (by show (arrV _ _ _).slots.size ≤ _; rw [arrV_size]; omega)]
  generalize hX : Jvm.Free.Multi.outerC cA n h0 n = X at *
  obtain ⟨x1, x2, x3, x4, x5⟩ := X
  simp only at a1 a2 a4 a5 hs
  subst a1 a2 a4 a5 hs
  rfl
theorem inner_eq (cA : ClassId) (k : Nat) : Jvm.Free.Multi.innerC cA k (.int 0) = vp_cell cA (z0 0 k) := by
  show Jvm.Free.Multi.innerC cA k (.int 0) = arrV cA k (fun _ => .int 0)
  have hs : (Array.replicate k (Value.int 0)) = (arrV cA k (fun _ => .int 0)).slots := by
    apply Array.ext_getElem?
    intro j
    by_cases hj : j < k
    · rw [arrV_read _ _ hj]; simp [hj]
    · rw [Array.getElem?_eq_none (by simp; omega), Array.getElem?_eq_none (by rw [arrV_size]; omega)]
  unfold Jvm.Free.Multi.innerC
  rw [hs]
  rfl
theorem g_multi (hX : XK E) (X : MX E p s m args meth c cc nL ret own nm) (I : WI E R s σ H locs cells slots) {index n0 k0 q : Nat} {n k : Int32} (hl : Cond.classLink own index "[[I" ∈ lw_all) (hn : an n = some n0) (hk : an k = some k0) (h : nM σ n0 k0 = some (q, σ')) (hdg : decode cc pc = .ok (.multianewarray index 2, 4))
    (kk : ∀ (H : Heap) (locs : List Loc) (cells slots : Nat), WI E R s σ' H locs cells slots → W p l e R s m args below meth c H locs cells slots Q (F0 m (pc + 4) ls (.ref q :: rest))) : W p l e R s m args below meth c H locs cells slots Q (F0 m pc ls (.int k :: .int n :: rest)) := by
  have hXF := X.xf hX
  obtain ⟨⟨hx, hb, hml, hown, hts⟩, -, -, hK, -, -, -⟩ := X
  obtain ⟨a1, a2, a3⟩ := an_in hn
  obtain ⟨b1, b2, b3⟩ := an_in hk
  obtain ⟨n1, n2, n3, n4⟩ := nM_in h
  have i1 := I.2.2.1
  have i2 := I.2.2.2.1
  have hq : q = H.size := by rw [n3, I.1.2.2.1]
  subst hq
  intro T hT Z
  obtain ⟨vm₁, cA, comp, hW, hfA, hfC, -, -, X1, step⟩ := Z.multianewarray2F (ty := .int) hx hown (hts _ hl) hXF.2.2.2.2.2.2.2.2.1 (hts _ q198) (g := F0 m pc ls (.int k :: .int n :: rest)) rfl (by rw [hb]; exact hdg) rfl a1 b1 (by rw [a2]; omega) (by rw [b2]; show k0 * 4 ≤ _; omega) (by rw [b2]; omega) rfl rfl (by rw [a2]; omega) (by rw [a2, b2]; omega)
  rw [a2, b2] at X1 step
  have hcA : cA = E.2.1 5 := Option.some.inj (hfA.symm.trans (hK.2.1 5 (by decide)).2)
  have hcC : comp = E.2.1 0 := Option.some.inj (hfC.symm.trans (hK.2.1 0 (by decide)).2)
  subst hcA hcC
  have hTz : (T.setVm vm₁).heap.size = H.size := by rw [← hT]; rfl
  obtain ⟨f1, f2, f3, f4⟩ := Jvm.Free.Multi.fill_facts (T.setVm vm₁) (E.2.1 5) (E.2.1 0) n0 k0 (defaultValue .int) n0
  rw [hTz] at f1 f2
  obtain ⟨t, c1, c2⟩ := (WI.pushM (c := c) I h (by rw [f2, outer_eq]) (fun j hj => by
      have := Jvm.Free.Multi.fill_inner (T.setVm vm₁) (E.2.1 5) (E.2.1 0) n0 k0 (defaultValue .int) n0 j hj
      rw [hTz] at this
      rw [this]
      exact congrArg some (inner_eq _ _)) f1 (fun q hq => by
      rw [Jvm.Free.Multi.fill_old _ _ _ _ _ _ (by rw [hTz]; exact hq), ← hT]
      rfl) (fun J => kk _ _ _ _ J) : W p l e R s m args below meth c _ locs (cells + 1 + n0) (slots + n0 + n0 * k0) Q _) _ rfl X1
  exact ⟨t, step t (by rw [hT]; exact c1), c2⟩
/-- a cast of an array that was made here -/
def isA (σ : St) (a t : Nat) : Option Unit := match σ.1 a with
  | some (true, .inl (t', _)) => if t' = t then some () else none
  | _ => none
theorem isA_in {t : Nat} {u : Unit} (h : isA σ a t = some u) : ∃ y : vp_A, σ.1 a = some (true, .inl (t, y)) := by
  unfold isA at h
  split at h
  · rename_i t' y hs
    split at h
    · rename_i ht
      subst ht
      exact ⟨y, hs⟩
    · cases h
  · cases h
abbrev gcO : MethodName := ⟨"java/lang/Object", "getClass", "()Ljava/lang/Class;"⟩
abbrev gcC : MethodName := ⟨"java/util/Collection", "getClass", "()Ljava/lang/Class;"⟩
theorem sel_i {C : String} {U : State} {A : Array Value} (h1 : (Cond.selects C gcO gcO).before A U = true) (h2 : (Cond.interfaceMethod gcC.cls "java/lang/Object" gcC.name gcC.desc).before A U = true) (h3 : (Cond.sameMethod "java/lang/Object" "java/lang/Object" gcO.name gcO.desc).before A U = true) : (Cond.selects C gcC gcO).before A U = true := by
  obtain ⟨c2, r2, m2, q1, q2, q3, q4, mk, q5, q6⟩ := Cond.selects_spec h1
  obtain ⟨cL, kL, r1, hcL, hkL, hiL, hfoundL, hn1⟩ := Cond.interfaceMethod_spec h2
  have z := (Cond.sameMethod_spec (findClass_of_methodNamed q3) q2 h3).1
  have e : m2 = r2 := Option.some.inj (q3.symm.trans z)
  subst e
  have e : r1 = m2 := Option.some.inj (hn1.symm.trans q3)
  subst e
  simp only [Cond.before, Cond.holds, Cond.value]
  have hf : U.methodFound? gcC.cls gcC.name gcC.desc = some r1 := hfoundL
  rw [q1, hf, q3]
  simp [q4, q5, q6]
/-- the class of an array of objects; of an ArrayList -/
theorem g_getCA (hX : XK E) (X : MX E p s m args meth c cc nL ret own nm) (I : WI E R s σ H locs cells slots) {index : Nat} {u : Unit} (hl : Cond.methodLink own index ⟨"java/lang/Object", "getClass", "()Ljava/lang/Class;"⟩ ∈ lw_all) (ha : isA σ a 3 = some u) (hsize : ls.size = nL) (hR : 1 ≤ R.frames ∧ 22 ≤ R.locals) (hW : (rest.map fun v => v.category).sum ≤ 8) (hdg : decode cc pc = .ok (.invokevirtual index, 3))
    (kk : W p l e R s m args below meth c H locs cells slots Q (F0 m (pc + 3) ls (.ref (E.2.2.2.1 10) :: rest))) : W p l e R s m args below meth c H locs cells slots Q (F0 m pc ls (.ref a :: rest)) := by
  have hXF := X.xf hX
  obtain ⟨y, ha⟩ := isA_in ha
  obtain ⟨⟨hx, hb, hml, hown, hts⟩, -, -, hK, -, -, -⟩ := X
  exact va_getC (C := "[Ljava/lang/Object;") hx hb (by rw [hml]; exact hsize.symm) hown (hts _ hl) (va_Nw.use rfl (hXF.1 _ q1910 rfl)) (hts _ q3389) (hts _ q1026) (hts _ q1062) (hXF.2.2.2.2.2.2.2.2.2.1 _ List.mem_cons_self) ⟨_, (I.1.1 a _ ha).rw, (by obtain ⟨n, f | f | f | f | f⟩ := y <;> rfl), (by rw [show (vp_cell (E.2.1 3) y).cls = E.2.1 3 by obtain ⟨n, f | f | f | f | f⟩ := y <;> rfl]; exact va_nmO (hK.2.1 3 (by decide)).2 rfl)⟩ hR.1 (by omega) hdg kk
theorem g_ldcM (hX : XK E) (X : MX E p s m args meth c cc nL ret own nm) {C : String} {index k : Nat} (hl : Cond.classLink own index C ∈ lw_all) (hm : (C, k) ∈ MIL) (hdg : decode cc pc = .ok (.ldc index, 2))
    (kk : W p l e R s m args below meth c H locs cells slots Q (F0 m (pc + 2) ls (.ref (E.2.2.2.1 k) :: rest))) : W p l e R s m args below meth c H locs cells slots Q (F0 m pc ls rest) := by
  have hXF := X.xf hX
  obtain ⟨⟨hx, hb, hml, hown, hts⟩, -, -, hK, -, -, -⟩ := X
  exact va_ldcM hx hb hown (hts _ hl) (hXF.2.2.2.2.2.2.2.2.2.1 _ hm) hdg kk
theorem g_getCI (hX : XK E) (X : MX E p s m args meth c cc nL ret own nm) (I : WI E R s σ H locs cells slots) {index count : Nat} {u : Unit} (hl : Cond.methodLink own index ⟨"java/util/Collection", "getClass", "()Ljava/lang/Class;"⟩ ∈ lw_all) (ha : isC σ a ciJ2 = some u) (hsize : ls.size = nL) (hR : 1 ≤ R.frames ∧ 22 ≤ R.locals) (hW : (rest.map fun v => v.category).sum ≤ 8) (hdg : decode cc pc = .ok (.invokeinterface index count, 5))
    (kk : W p l e R s m args below meth c H locs cells slots Q (F0 m (pc + 5) ls (.ref (E.2.2.2.1 11) :: rest))) : W p l e R s m args below meth c H locs cells slots Q (F0 m pc ls (.ref a :: rest)) := by
  have hXF := X.xf hX
  obtain ⟨fl, fs, h1⟩ := isC_in ha
  have hr := KW.recv X.2.2.2.1 I.1.1 (ci := ciJ2) (r := (RJ2, TJ2, 3)) rfl h1
  obtain ⟨⟨hx, hb, hml, hown, hts⟩, -, -, hK, -, -, -⟩ := X
  obtain ⟨c0, k0, m1, m2, m3⟩ := hXF.2.2.2.2.2.2.2.2.2.1 ("java/util/ArrayList", 11) (List.mem_cons_of_mem _ List.mem_cons_self)
  intro T hT Z
  obtain ⟨cell, g1, g2, g3⟩ := hr
  have g3 : s.vm.findClass "java/util/ArrayList" = some cell.cls := g3
  cases m1.symm.trans g3
  obtain ⟨vm', X', st⟩ := Z.getClassOfI (C := "java/util/ArrayList") (xi := ⟨"java/util/Collection", "getClass", "()Ljava/lang/Class;"⟩) hx hown (hts _ hl) (va_Nw.use rfl (hXF.1 _ q1910 rfl)) (va_any rfl hXF.2.2.2.2.2.2.2.2.2.2.1) (sel_i (hts _ q1058) (va_any rfl hXF.2.2.2.2.2.2.2.2.2.2.1) (hts _ q1027)) (hts _ q1026) (va_any rfl hXF.2.2.2.2.2.2.2.2.2.2.2.1) (va_any rfl hXF.2.2.2.2.2.2.2.2.2.2.2.2.1) (va_Nw.use rfl (hXF.1 _ q1016 rfl)) (hts _ q1062) (by decide) (by decide) rfl rfl m1 m2 ⟨cell, by rw [hT]; exact g1, rfl, g2⟩ m3 (g := F0 m pc ls (.ref a :: rest)) rfl (by rw [hml]; exact hsize) rfl (by rw [hb]; exact hdg) hR.1 (by show 2 * 0 + _ + _ ≤ _; have hw : nativeFrameWords "java/lang/Object" "getClass" 1 = 3 := (by decide); omega)
  obtain ⟨t, a1, b1⟩ := kk (T.setVm vm') hT X'
  exact ⟨t, st t a1, b1⟩
theorem g_castA (X : MX E p s m args meth c cc nL ret own nm) (I : WI E R s σ H locs cells slots) {index t : Nat} {an : String} {u : Unit} (hl : Cond.classLink own index an ∈ lw_all) (ha : isA σ a t = some u) (hn : KW E s → s.vm.findClass an = some (E.2.1 t)) (hdg : decode cc pc = .ok (.checkcast index, 3))
    (kk : W p l e R s m args below meth c H locs cells slots Q (F0 m (pc + 3) ls (.ref a :: rest))) : W p l e R s m args below meth c H locs cells slots Q (F0 m pc ls (.ref a :: rest)) := by
  obtain ⟨y, h1⟩ := isA_in ha
  obtain ⟨⟨hx, hb, hml, hown, hts⟩, -, -, hK, -, -, -⟩ := X
  refine va_castA (D := E.1) (cl := CL) (ws := [(a, .inl (E.2.1 t, y))]) hx hb hown (hts _ hl) (fun k z hz => ?_) 0 rfl (hn hK) hdg kk
  have hk : k < 1 := (List.getElem?_eq_some_iff.mp hz).1
  rw [show k = 0 by omega] at hz
  cases hz
  exact (I.1.1 a _ h1).rw
theorem an1 (hK : KW E s) : s.vm.findClass "[B" = some (E.2.1 1) := (hK.2.1 1 (by decide)).2
theorem an3 (hK : KW E s) : s.vm.findClass "[Ljava/lang/Object;" = some (E.2.1 3) := va_nmO (hK.2.1 3 (by decide)).2 rfl
theorem lk_out {d x : Int} : ∀ {ps : List (Int × Int)}, (∀ q ∈ ps, x ≠ q.1) → Op.lookupswitch.offset ps d x = d
  | [], _ => rfl
  | (a, o) :: r, h => by
    rw [Op.lookupswitch.offset_cons, if_neg (fun e => h _ List.mem_cons_self e.symm)]
    exact lk_out fun q hq => h q (List.mem_cons_of_mem _ hq)
theorem i32_ne {x y : Int32} {n : Int} (h : ¬ x = y) (e : y.toInt = n) : x.toInt ≠ n := fun z => h (Int32.toInt.inj (z.trans e.symm))
/-- a call whose named method is abstract -/
theorem cg_A {x y : MethodName} {owner : String} {ycc : ByteArray} {maxL f lo n index : Nat} {yret : Option FieldType} {As rs : List Value} {b ci : Nat} {r : Option Value} {vw : vw_C} {u : Unit} (hX : XK E) (X : MX E p s m args meth c cc nL ret own nm) (I : WI E R s σ H locs cells slots)
    (ha : isC σ b ci = some u) (hc : CL[ci]? = some vw) (hM : CM E l y (ws_ y ycc maxL yret) f lo (.ref b :: As) σ r σ') (hT : GoodIn lw_all (va_wsU own index vw.1 owner x y (ws_ y ycc maxL yret)) ∧ Cond.declares ⟨owner, x.name, x.desc⟩ ∈ lw_tbl)
    (hd : owner ≠ "java/lang/invoke/MethodHandle" ∧ owner ≠ "java/lang/invoke/VarHandle" ∧ (parseMethodDescriptor x.desc).map (fun d => d.parameters.length) = some n) (hR : f + 1 ≤ R.frames ∧ 8 + (maxL + 11) + lo ≤ R.locals)
    (hn : As.length = n) (hsize : ls.size = nL) (hstack : st0 = As.reverse ++ .ref b :: rest) (hW : (rest.map fun v => v.category).sum ≤ 8) (hrs : r.toList ++ rest = rs) (hdg : decode cc pc = .ok (.invokevirtual index, 3))
    (kk : ∀ (H : Heap) (locs : List Loc) (cells slots : Nat), WI E R s σ' H locs cells slots → W p l e R s m args below meth c H locs cells slots Q (F0 m (pc + 3) ls rs)) : W p l e R s m args below meth c H locs cells slots Q (F0 m pc ls st0) := by
  subst hrs
  obtain ⟨fl, fs, h1⟩ := isC_in ha
  have hz := (X.xf hX).1 _ hT.2 rfl
  obtain ⟨S, x1, x2, hK, hE, x3, x4⟩ := X
  have hf : cells + σ.2.2.1 ≤ R.cells ∧ slots + σ.2.2.2 ≤ R.slots := ⟨by have := I.2.2.1; omega, by have := I.2.2.2.1; omega⟩
  exact cm_call I (va_runU (rest := rest) (As := As) S hM (va_cwA n S.2.2.2.2 hT.1 rfl rfl rfl hz hd hR) ⟨Wd.blind hE, KW.recv hK I.1.1 hc h1, fun U hU hW => ⟨rfl, KW.warm hE hW hK, by rw [hU]; exact I.1⟩⟩ rfl hn hsize hstack (by show 2 * 0 + _ ≤ 8; omega) hdg hf) kk
theorem clsX_is {q ci : Nat} (h : clsX σ q = some ci) : isC σ q ci = some () := by
  obtain ⟨fs, h1⟩ := clsX_in h
  unfold isC
  rw [h1]
  simp
/-- a private method of a class above -/
theorem cg_UP {y : MethodName} {ycc : ByteArray} {maxL f lo n index : Nat} {yret : Option FieldType} {As rs : List Value} {b : Nat} {r : Option Value} {u : Unit} (hX : XK E) (X : MX E p s m args meth c cc nL ret own nm) (I : WI E R s σ H locs cells slots)
    (ha : isC σ b ciJ9 = some u) (hM : CM E l y (ws_ y ycc maxL yret) f lo (.ref b :: As) σ r σ') (hT : Cond.methodLink own index y ∈ lw_all ∧ Cond.sameMethod y.cls y.cls y.name y.desc ∈ lw_all ∧ Cond.instanceMethod y ∈ lw_all ∧ Cond.initialized y.cls ∈ lw_all ∧ Cond.code y ycc maxL yret ∈ lw_all ∧ y ∈ PVL)
    (hd : y.cls ≠ "java/lang/invoke/MethodHandle" ∧ y.cls ≠ "java/lang/invoke/VarHandle" ∧ (parseMethodDescriptor y.desc).map (fun d => d.parameters.length) = some n) (hR : f + 1 ≤ R.frames ∧ 8 + (maxL + 11) + lo ≤ R.locals)
    (hn : As.length = n) (hsize : ls.size = nL) (hstack : st0 = As.reverse ++ .ref b :: rest) (hW : (rest.map fun v => v.category).sum ≤ 8) (hrs : r.toList ++ rest = rs) (hdg : decode cc pc = .ok (.invokevirtual index, 3))
    (kk : ∀ (H : Heap) (locs : List Loc) (cells slots : Nat), WI E R s σ' H locs cells slots → W p l e R s m args below meth c H locs cells slots Q (F0 m (pc + 3) ls rs)) : W p l e R s m args below meth c H locs cells slots Q (F0 m pc ls st0) := by
  subst hrs
  obtain ⟨fl, fs, h1⟩ := isC_in ha
  have hz : (Cond.selects "java/lang/StringBuilder" y y).before args s = true := va_any rfl ((X.xf hX).2.2.2.2.2.2.2.2.2.2.2.2.2 _ hT.2.2.2.2.2)
  obtain ⟨S, x1, x2, hK, hE, x3, x4⟩ := X
  have hf : cells + σ.2.2.1 ≤ R.cells ∧ slots + σ.2.2.2 ≤ R.slots := ⟨by have := I.2.2.1; omega, by have := I.2.2.2.1; omega⟩
  have w1 := S.2.2.2.2 _ hT.1
  have w2 := S.2.2.2.2 _ hT.2.1
  have w3 := S.2.2.2.2 _ hT.2.2.1
  have w4 := S.2.2.2.2 _ hT.2.2.2.1
  have w5 := S.2.2.2.2 _ hT.2.2.2.2.1
  have hCU : va_CU R s args own RJ9 y.cls index y y ycc maxL yret (ws_ y ycc maxL yret) (rm_ f lo σ) σ.2.2.1 σ.2.2.2 n := by
    refine ⟨⟨rfl, rfl, hR.1, hR.2, pay_in S.2.2.2.2 (lw_meth hT.2.2.2.2.1), List.mem_cons_self⟩, w5, w4, ⟨hd.1, hd.2.1⟩, fun sig h => ?_, w1, w2, va_Decl.of w3 w5, hz, w3⟩
    have h2 := hd.2.2
    rw [h] at h2
    exact (Option.some.inj h2).symm
  exact cm_call I (va_runU (rest := rest) (As := As) S hM hCU ⟨Wd.blind hE, KW.recv hK I.1.1 (r := (RJ9, TJ9, 4)) rfl h1, fun U hU hW => ⟨rfl, KW.warm hE hW hK, by rw [hU]; exact I.1⟩⟩ rfl hn hsize hstack (by show 2 * 0 + _ ≤ 8; omega) hdg hf) kk
theorem xr_F {x y : MethodName} {ycc : ByteArray} {maxL f lo n index count : Nat} {yret : Option FieldType} {As : List Value} {b ci : Nat} {rv : Option (Option Value)} {rx : Option Nat} {vw : vw_C} {u : Unit} (hX : XK E) (X : MX E p s m args meth c cc nL ret own nm) (I : WI E R s σ H locs cells slots)
    (ha : isC σ b ci = some u) (hc : CL[ci]? = some vw) (hM : CX E l y (ws_ y ycc maxL yret) f lo (.ref b :: As) σ rv rx σ') (hT : GoodIn lw_all (va_wsF own index vw.1 x y (ws_ y ycc maxL yret)) ∧ (vw.1, x, y) ∈ FWL)
    (hd : x.cls ≠ "java/lang/invoke/MethodHandle" ∧ x.cls ≠ "java/lang/invoke/VarHandle" ∧ (parseMethodDescriptor x.desc).map (fun d => d.parameters.length) = some n) (hR : f + 1 ≤ R.frames ∧ 8 + (maxL + 11) + lo ≤ R.locals)
    (hn : As.length = n) (hsize : ls.size = nL) (hstack : st0 = As.reverse ++ .ref b :: rest) (hW : (rest.map fun v => v.category).sum ≤ 8) (hdg : decode cc pc = .ok (.invokeinterface index count, 5)) :
    vx_Run5 p l e R s m args below meth c H locs cells slots σ.2.2.1 σ.2.2.2 (F0 m pc ls st0) rest (QS E σ.2.2.1 σ.2.2.2 rv σ' (Value.ref b :: As).toArray) (XS E σ.2.2.1 σ.2.2.2 rx σ') (fr E) := by
  obtain ⟨fl, fs, h1⟩ := isC_in ha
  have hF := (X.xf hX).2.1 _ hT.2
  obtain ⟨S, x1, x2, hK, hE, x3, x4⟩ := X
  have hf : cells + σ.2.2.1 ≤ R.cells ∧ slots + σ.2.2.2 ≤ R.slots := ⟨by have := I.2.2.1; omega, by have := I.2.2.2.1; omega⟩
  exact vx_runF (rest := rest) (As := As) (hK.1.1 ci vw hc).2 S hM (va_cwF n S.2.2.2.2 hT.1 rfl rfl rfl hF hd hR) ⟨Wd.blind hE, KW.recv hK I.1.1 hc h1, fun U hU hW => ⟨rfl, KW.warm hE hW hK, by rw [hU]; exact I.1⟩⟩ rfl hn hsize hstack (by show 2 * 0 + _ ≤ 8; omega) hdg hf
theorem g_ldcSW (hX : XK E) (X0 : MX E p s m args meth c cc nL ret own nm) {index k : Nat} {tx : String} (h : (own, index, tx, k) ∈ SKL) (hdg : decode cc pc = .ok (.ldc_w index, 3))
    (kk : W p l e R s m args below meth c H locs cells slots Q (F0 m (pc + 3) ls (.ref (E.2.2.2.1 k) :: rest))) : W p l e R s m args below meth c H locs cells slots Q (F0 m pc ls rest) := by
  have hZ := (X0.xf hX).2.2.2.2.1 _ h
  intro T hT X
  obtain ⟨t, a1, b1⟩ := kk T hT X
  exact ⟨t, X.ldcStringW X0.1.1 X0.1.2.2.2.1 (text := tx) (a := E.2.2.2.1 k) hZ.1 hZ.2 (g := F0 m pc ls rest) rfl (by rw [X0.1.2.1]; exact hdg) t a1, b1⟩
end MR
