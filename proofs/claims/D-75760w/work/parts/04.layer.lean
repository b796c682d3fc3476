/-! THE LAYER: an abstract heap (a map from addresses to cells), and rows of the machine over it -/
set_option maxRecDepth 100000
/-- a cell: may it be written; an array (its kind, its contents) or an object (its class's number, its fields) -/
abbrev HE : Type := Bool × ((Nat × vp_A) ⊕ (Nat × List Value))
abbrev Hp : Type := Nat → Option HE
/-- heap map, next address, cells left, slots left -/
abbrev St : Type := Hp × Nat × Nat × Nat
/-- class tables, array classes, the start's heap, constants' addresses, what is known of the tables besides -/
abbrev EV : Type := va_G × (Nat → ClassId) × Heap × (Nat → Nat) × (State → Prop)
def aty : Nat → FieldType := fun t => match t with
  | 0 => .int
  | 1 => .byte
  | 2 => .long
  | 3 => .object "java/lang/Object"
  | 4 => .object "SharedTaxis$Test"
  | 5 => .array .int
  | 6 => .object "java/lang/Integer"
  | _ => .int
def hup (g : Hp) (a : Nat) (e : HE) : Hp := fun b => if b = a then some e else g b
theorem hup_s (g : Hp) (a : Nat) (e : HE) : hup g a e a = some e := by simp [hup]
theorem hup_n {g : Hp} {a b : Nat} {e : HE} (h : b ≠ a) : hup g a e b = g b := by simp [hup, h]
def mRo (E : EV) (a : Nat) (x : (Nat × vp_A) ⊕ (Nat × List Value)) (H : Heap) : Prop := match x with
  | .inl (t, y) => ∃ cell : Cell, H[a]? = some cell ∧ cell.cls = E.2.1 t ∧ cell.vm ≠ .unknown ∧ (∀ q, cell.vm ≠ .statics q) ∧ y.1 ≤ cell.slots.size ∧ cell.slots.size.toInt32 = Int32.ofNat y.1 ∧ ∀ j, j < y.1 → cell.slots[j]? = (vp_cell 0 y).slots[j]?
  | .inr (ci, fs) => ∃ (r : vw_C) (cell : Cell), CLX[ci]? = some r ∧ H[a]? = some cell ∧ cell.cls = E.1.1 ci ∧ cell.vm ≠ .unknown ∧ cell.vm.isStatics = false ∧ ∀ k, k < r.2.2 → cell.slots[E.1.2 ci k]? = some (vp_V fs k)
def mRw (E : EV) (a : Nat) (x : (Nat × vp_A) ⊕ (Nat × List Value)) (H : Heap) : Prop := match x with
  | .inl (t, y) => H[a]? = some (vp_cell (E.2.1 t) y)
  | .inr (ci, fs) => ∃ r : vw_C, CLX[ci]? = some r ∧ t_OB a (E.1.1 ci) r.2.2 (E.1.2 ci) H (vp_V fs)
def mAt (E : EV) (a : Nat) (h : HE) (H : Heap) : Prop := if h.1 = true then mRw E a h.2 H else mRo E a h.2 H
theorem mAt.kept {E : EV} {a : Nat} {h : HE} {H H1 : Heap} (k : mAt E a h H) (hq : H1[a]? = H[a]?) : mAt E a h H1 := by
  obtain ⟨b, x⟩ := h
  cases b with
  | true =>
    have k : mRw E a x H := k
    show mRw E a x H1
    cases x with
    | inl y => exact hq.trans k
    | inr o =>
      obtain ⟨r, h1, h2⟩ := k
      exact ⟨r, h1, h2.kept hq⟩
  | false =>
    have k : mRo E a x H := k
    show mRo E a x H1
    cases x with
    | inl y =>
      obtain ⟨cell, h1, h2⟩ := k
      exact ⟨cell, hq.trans h1, h2⟩
    | inr o =>
      obtain ⟨r, cell, h0, h1, h2⟩ := k
      exact ⟨r, cell, h0, hq.trans h1, h2⟩
theorem mAt.lt {E : EV} {a : Nat} {h : HE} {H : Heap} (k : mAt E a h H) : a < H.size := by
  obtain ⟨b, x⟩ := h
  cases b with
  | true =>
    have k : mRw E a x H := k
    cases x with
    | inl y => exact (Array.getElem?_eq_some_iff.mp k).1
    | inr o =>
      obtain ⟨r, h1, cell, h2, -⟩ := k
      exact (Array.getElem?_eq_some_iff.mp h2).1
  | false =>
    have k : mRo E a x H := k
    cases x with
    | inl y =>
      obtain ⟨cell, h1, h2⟩ := k
      exact (Array.getElem?_eq_some_iff.mp h1).1
    | inr o =>
      obtain ⟨r, cell, h0, h1, h2⟩ := k
      exact (Array.getElem?_eq_some_iff.mp h1).1
def mapP (E : EV) (g : Hp) (H : Heap) : Prop := ∀ (a : Nat) (h : HE), g a = some h → mAt E a h H
def hsum (H : Heap) : Nat := (H.toList.map (fun c => c.slots.size)).sum
theorem hsum_same {H H1 : Heap} (hz : H1.size = H.size) (h : ∀ (q : Nat) (c c1 : Cell), H[q]? = some c → H1[q]? = some c1 → c1.slots.size = c.slots.size) : hsum H1 = hsum H := by
  unfold hsum
  congr 1
  apply List.ext_getElem
  · simp [hz]
  · intro i h1 h2
    simp only [List.getElem_map]
    have l1 : i < H1.size := by simpa using h1
    have l2 : i < H.size := by simpa using h2
    exact h i H[i] H1[i] (Array.getElem?_eq_getElem l2) (Array.getElem?_eq_getElem l1)
theorem hsum_push {H H1 : Heap} {c : Cell} (hz : H1.size = H.size + 1) (hc : H1[H.size]? = some c) (ho : ∀ q, q < H.size → H1[q]? = H[q]?) : hsum H1 = hsum H + c.slots.size := by
  have e : H1 = H.push c := by
    apply Array.ext
    · simp [hz]
    · intro i h1 h2
      by_cases hi : i < H.size
      · have := ho i hi
        rw [Array.getElem?_eq_getElem h1, Array.getElem?_eq_getElem hi] at this
        rw [Array.getElem_push_lt hi]
        exact Option.some.inj this
      · have hi2 : i = H.size := by omega
        subst hi2
        rw [Array.getElem?_eq_getElem h1] at hc
        rw [Array.getElem_push_eq]
        exact Option.some.inj hc
  rw [e]
  simp [hsum]
/-- the tables, as they are known all through -/
abbrev KW (E : EV) (U : State) : Prop := va_K E.1 CL [] U ∧ (∀ t, t < 7 → ArrOfT U (E.2.1 t) (aty t) ∧ va_RA U (E.2.1 t) (aty t)) ∧ E.2.2.2.2 U
abbrev EK (E : EV) : Prop := (∀ s U : State, s.WarmedH U.vm → E.2.2.2.2 s → E.2.2.2.2 U) ∧ ∀ s U : State, U.vm = s.vm → E.2.2.2.2 s → E.2.2.2.2 U
theorem KW.warm {E : EV} {s U : State} (hE : EK E) (hW : s.WarmedH U.vm) (h : KW E s) : KW E U :=
  ⟨va_K.moved hW.alike h.1, fun t ht => ⟨arrOfT_moved hW.alike (h.2.1 t ht).1, (h.2.1 t ht).2.moved hW.alike⟩, hE.1 s U hW h.2.2⟩
theorem KW.same {E : EV} {s U : State} (hE : EK E) (hv : U.vm = s.vm) (h : KW E s) : KW E U := by
  have hA : s.vm.Alike U.vm := by rw [hv]; exact Vm.Alike.refl s.vm
  exact ⟨va_K.moved hA h.1, fun t ht => ⟨arrOfT_moved hA (h.2.1 t ht).1, (h.2.1 t ht).2.moved hA⟩, hE.2 s U hv h.2.2⟩
/-- the abstract state and the heap -/
def HW (E : EV) (σ : St) (H : Heap) : Prop := mapP E σ.1 H ∧ (∀ (a : Nat) (x : (Nat × vp_A) ⊕ (Nat × List Value)), σ.1 a = some (true, x) → E.2.2.1.size ≤ a) ∧ H.size = σ.2.1 ∧ (∀ a, E.2.2.1.size ≤ a → a < σ.2.1 → ∃ x, σ.1 a = some (true, x)) ∧ (∀ q, q < E.2.2.1.size → H[q]? = E.2.2.1[q]?) ∧ E.2.2.1.size ≤ H.size
abbrev Wd (E : EV) (σ : St) (U : State) : Prop := KW E U ∧ HW E σ U.heap
/-- inside a method that began at s -/
def WI (E : EV) (R : Room) (s : State) (σ : St) (H : Heap) (locs : List Loc) (cells slots : Nat) : Prop := HW E σ H ∧ (∀ q ∈ locs, E.2.2.1.size ≤ q.base) ∧ cells + σ.2.2.1 = R.cells ∧ slots + σ.2.2.2 = R.slots ∧ H.size + σ.2.2.1 ≤ s.heap.size + R.cells ∧ hsum H + σ.2.2.2 ≤ hsum s.heap + R.slots ∧ s.heap.size ≤ H.size
/-- the method's own facts -/
abbrev MX (E : EV) (p : Program) (s : State) (m : MethodId) (args : Array Value) (meth : Method) (c : Code) (cc : ByteArray) (nL : Nat) (ret : Option FieldType) (own nm : String) : Prop :=
  CallFix p m c cc nL s args lw_all own ∧ meth.sig.returnType = ret ∧ meth.locks = false ∧ KW E s ∧ EK E ∧ meth.name = nm ∧ (∀ q, q < E.2.2.1.size → s.heap[q]? = E.2.2.1[q]?) ∧ E.2.2.1.size ≤ s.heap.size
/-- what a method used of cells and slots -/
def Us (bc bs : Nat) (σ : St) (st t : State) : Prop := t.heap.size + σ.2.2.1 ≤ st.heap.size + bc ∧ hsum t.heap + σ.2.2.2 ≤ hsum st.heap + bs ∧ σ.2.2.1 ≤ bc ∧ σ.2.2.2 ≤ bs ∧ st.heap.size ≤ t.heap.size
/-- a method's end: what it answers, and the world -/
def Qd (E : EV) (bc bs : Nat) (r : Option Value) (σ : St) : Array Value → State → Outcome → State → Prop := fun _ st o t => o = .returned r ∧ Wd E σ t ∧ Us bc bs σ st t
abbrev fr (E : EV) : Nat → Prop := fun q => E.2.2.1.size ≤ q
abbrev rm_ (f lo : Nat) (σ : St) : Room := { frames := f, cells := σ.2.2.1, slots := σ.2.2.2, locals := lo }
/-- a contract -/
def CM (E : EV) (l : Launch) (y : MethodName) (ws : List Cond) (f lo : Nat) (args : List Value) (σ : St) (r : Option Value) (σ' : St) : Prop :=
  Met l y ws (rm_ f lo σ) (va_Pc args (Wd E σ)) (Qd E σ.2.2.1 σ.2.2.2 r σ') σ.2.2.1 σ.2.2.2 (fr E)
theorem Wd.blind {E : EV} {σ : St} {av : List Value} (hE : EK E) : FrameBlind (va_Pc av (Wd E σ)) := fun a U g mk h => ⟨h.1, KW.same (s := U) (U := U.calling g mk a) hE rfl h.2.1, h.2.2⟩
section LAY
variable {p : Program} {l : Launch} {e : Env} {R : Room} {s : State} {m : MethodId} {args : Array Value} {below : List Frame} {meth : Method} {c : Code} {H : Heap} {locs : List Loc} {cells slots : Nat} {Q : State → Prop}
variable {E : EV} {σ σ' : St} {cc : ByteArray} {nL pc : Nat} {ret : Option FieldType} {own nm : String} {ls : Array Slot} {rest st0 : List Value}
theorem drop_hsum {s T : State} {L : List Loc} {k n : Nat} (h : s.sameButNew T L k n) : ((T.heap.toList.drop s.heap.size).map (fun c => c.slots.size)).sum + hsum s.heap = hsum T.heap := by
  obtain ⟨-, h1, -, -, -, h5⟩ := h
  have e : hsum T.heap = ((T.heap.toList.take s.heap.size).map (fun c => c.slots.size)).sum + ((T.heap.toList.drop s.heap.size).map (fun c => c.slots.size)).sum := by
    unfold hsum
    rw [← List.sum_append, ← List.map_append, List.take_append_drop]
  have e2 : ((T.heap.toList.take s.heap.size).map (fun c => c.slots.size)) = s.heap.toList.map (fun c => c.slots.size) := by
    apply List.ext_getElem
    · simp; omega
    · intro i q1 q2
      have l2 : i < s.heap.size := by simpa using q2
      obtain ⟨c', g1, -, g3, -⟩ := h5 i _ (Array.getElem?_eq_getElem l2)
      have l1 : i < T.heap.size := by omega
      rw [Array.getElem?_eq_getElem l1] at g1
      simp only [List.getElem_map, List.getElem_take, Array.getElem_toList]
      rw [Option.some.inj g1]
      exact g3
  rw [e, e2, hsum]
  omega
/-- the counts are what the heap says -/
theorem W_narrow {g : JFrame} {k n k' n' : Nat} (hc : H.size ≤ s.heap.size + k') (hs : hsum H ≤ hsum s.heap + n')
    (kk : W p l e R s m args below meth c H locs k' n' Q g) : W p l e R s m args below meth c H locs k n Q g := by
  intro T hT X
  refine kk T hT { X with same := ?_ }
  have h0 := drop_hsum X.same
  obtain ⟨a1, a2, a3, a4, a5, a6⟩ := X.same
  have hT' : (T.setVm s.vm).heap = H := hT
  refine ⟨a1, a2, by rw [hT']; exact hc, a4, ?_, a6⟩
  rw [hT'] at h0 ⊢
  omega
theorem WI.of (hR : R.cells = σ.2.2.1 ∧ R.slots = σ.2.2.2) (h : Wd E σ s) : WI E R s σ s.heap [] 0 0 := by
  obtain ⟨-, h1⟩ := h
  unfold WI
  exact ⟨h1, (fun q hq => by cases hq), by rw [hR.1]; omega, by rw [hR.2]; omega, by rw [hR.1]; omega, by rw [hR.2]; omega, Nat.le_refl _⟩
/-- a contract out of a walk -/
theorem CM.of {y : MethodName} {f lo maxL : Nat} {av : List Value} {r : Option Value} (hE : EK E) (hy : plainName y.cls = true) (hown : y.cls = own) (hnm : y.name = nm) (hn : (lg_sl av).length ≤ maxL)
    (body : ∀ (p : Program) (e : Env) (s : State) (m : MethodId) (below : List Frame) (meth : Method) (c : Code), MX E p s m av.toArray meth c cc maxL ret own nm → WI E (rm_ f lo σ) s σ s.heap [] 0 0 → ∀ ls, lv_has ls maxL (lv_args 0 av) →
      W p l e (rm_ f lo σ) s m av.toArray below meth c s.heap [] 0 0 (MQ below (Qd E σ.2.2.1 σ.2.2.2 r σ') av.toArray s σ.2.2.1 σ.2.2.2 (fr E)) (F0 m 0 ls [])) :
    CM E l y (ws_ y cc maxL ret) f lo av σ r σ' := by
  refine Met.ofW (cc := cc) (maxL := maxL) (ret := ret) hy rfl ?_
  intro p e s m args below meth c s₁ B hml hv
  obtain ⟨rfl, hW⟩ := hv
  have hts := atoms_spec (ws := ws_ y cc maxL ret) B.pre
  have hl := lv_entry av (n := maxL) hn
  rw [lg_entry_eq]
  subst hown
  subst hnm
  exact body p e s m below meth c ⟨⟨B.exec, B.bytes, hml, findClass_of_methodNamed B.named, fun w h => hts w (List.mem_cons_of_mem _ h)⟩, B.returns, B.notSynchronized, hW.1, hE, (name_of_methodNamed B.named B.method).1, hW.2.2.2.2.2.1, hW.2.2.2.2.2.2⟩ (WI.of ⟨rfl, rfl⟩ hW) _ hl
/-- behind a call: its state, and the counts -/
theorem WI.behind {T' : State} {L : List Loc} {st : State} (I : WI E R s σ H locs cells slots) (X' : Stand p l e R s m args below meth c T' (locs ++ L) (cells + σ.2.2.1) (slots + σ.2.2.2)) (hL : ∀ q ∈ L, fr E q.base) (hq : HW E σ' T'.heap) (h0 : st.heap = H) {t : State} (e1 : T'.heap = t.heap) (hu : Us σ.2.2.1 σ.2.2.2 σ' st t) :
    WI E R s σ' T'.heap (locs ++ L) (R.cells - σ'.2.2.1) (R.slots - σ'.2.2.2) ∧ T'.heap.size ≤ s.heap.size + (R.cells - σ'.2.2.1) ∧ hsum T'.heap ≤ hsum s.heap + (R.slots - σ'.2.2.2) := by
  obtain ⟨hI, hlo, hc, hs, hz, hw, hz2⟩ := I
  obtain ⟨u1, u2, u3, u4, u5⟩ := hu
  rw [h0, ← e1] at u1 u2
  have u5 : H.size ≤ T'.heap.size := by rw [e1, ← h0]; exact u5
  unfold WI
  refine ⟨⟨hq, fun q hq => ?_, by omega, by omega, by omega, by omega, by omega⟩, by omega, by omega⟩
  rcases List.mem_append.mp hq with h | h
  · exact hlo q h
  · exact hL q h
/-- behind a call -/
theorem cm_call {r : Option Value} {a : Array Value} (I : WI E R s σ H locs cells slots) (hr : va_Run p l e R s m args below meth c H locs cells slots σ.2.2.1 σ.2.2.2 (F0 m pc ls st0) rest (Qd E σ.2.2.1 σ.2.2.2 r σ' a) (fr E))
    (kk : ∀ (H : Heap) (locs : List Loc) (cells slots : Nat), WI E R s σ' H locs cells slots → W p l e R s m args below meth c H locs cells slots Q (F0 m (pc + 3) ls (r.toList ++ rest))) : W p l e R s m args below meth c H locs cells slots Q (F0 m pc ls st0) := by
  intro T hT X0
  obtain ⟨v, st₀, t, T', L, h0, X', hL, e1, e2, ⟨hv, hq, hu⟩, st⟩ := hr T hT X0
  cases hv
  obtain ⟨J, j1, j2⟩ := WI.behind I X' hL (by rw [e1]; exact hq.2) h0 e1 hu
  obtain ⟨t2, a1, b1⟩ := W_narrow (k := cells + σ.2.2.1) (n := slots + σ.2.2.2) j1 j2 (kk _ _ _ _ J) T' rfl X'
  exact ⟨t2, st t2 a1, b1⟩
/-- behind a call through an interface -/
theorem cm_call5 {r : Option Value} {a : Array Value} (I : WI E R s σ H locs cells slots) (hr : va_Run5 p l e R s m args below meth c H locs cells slots σ.2.2.1 σ.2.2.2 (F0 m pc ls st0) rest (Qd E σ.2.2.1 σ.2.2.2 r σ' a) (fr E))
    (kk : ∀ (H : Heap) (locs : List Loc) (cells slots : Nat), WI E R s σ' H locs cells slots → W p l e R s m args below meth c H locs cells slots Q (F0 m (pc + 5) ls (r.toList ++ rest))) : W p l e R s m args below meth c H locs cells slots Q (F0 m pc ls st0) := by
  intro T hT X0
  obtain ⟨v, st₀, t, T', L, h0, X', hL, e1, e2, ⟨hv, hq, hu⟩, st⟩ := hr T hT X0
  cases hv
  obtain ⟨J, j1, j2⟩ := WI.behind I X' hL (by rw [e1]; exact hq.2) h0 e1 hu
  obtain ⟨t2, a1, b1⟩ := W_narrow (k := cells + σ.2.2.1) (n := slots + σ.2.2.2) j1 j2 (kk _ _ _ _ J) T' rfl X'
  exact ⟨t2, st t2 a1, b1⟩
theorem KW.recv {a ci : Nat} {r : vw_C} {b : Bool} {fs : List Value} (hK : KW E s) (hP : mapP E σ.1 H) (hc : CL[ci]? = some r) (ha : σ.1 a = some (b, .inr (ci, fs))) : ∃ cell : Cell, H[a]? = some cell ∧ cell.vm.isStatics = false ∧ s.vm.findClass r.1 = some cell.cls := by
  have h := hP a _ ha
  have hcl : s.vm.findClass r.1 = some (E.1.1 ci) := (hK.1.1 ci r hc).2.1
  cases b with
  | true =>
    obtain ⟨r', h1, cell, g1, g2, g3, -⟩ := (h : mRw E a (.inr (ci, fs)) H)
    exact ⟨cell, g1, by rw [g3]; rfl, by rw [g2]; exact hcl⟩
  | false =>
    obtain ⟨r', cell, h1, g1, g2, g3, g4, -⟩ := (h : mRo E a (.inr (ci, fs)) H)
    exact ⟨cell, g1, g4, by rw [g2]; exact hcl⟩
/-- a call through an object: of its own class -/
theorem cm_V {y : MethodName} {ycc : ByteArray} {maxL f lo n index : Nat} {yret : Option FieldType} {As : List Value} {b ci : Nat} {fs : List Value} {fl : Bool} {r : Option Value} {vw : vw_C} (X : MX E p s m args meth c cc nL ret own nm) (I : WI E R s σ H locs cells slots)
    (ha : σ.1 b = some (fl, .inr (ci, fs))) (hc : CL[ci]? = some vw) (hM : CM E l y (ws_ y ycc maxL yret) f lo (.ref b :: As) σ r σ') (hT : GoodIn lw_all (wsV own index vw.1 y (ws_ y ycc maxL yret)))
    (hd : y.cls = vw.1 ∧ y.cls ≠ "java/lang/invoke/MethodHandle" ∧ y.cls ≠ "java/lang/invoke/VarHandle" ∧ (parseMethodDescriptor y.desc).map (fun d => d.parameters.length) = some n) (hR : f + 1 ≤ R.frames ∧ 8 + (maxL + 11) + lo ≤ R.locals)
    (hn : As.length = n) (hsize : ls.size = nL) (hstack : st0 = As.reverse ++ .ref b :: rest) (hW : (rest.map fun v => v.category).sum ≤ 8) (hdg : decode cc pc = .ok (.invokevirtual index, 3))
    (kk : ∀ (H : Heap) (locs : List Loc) (cells slots : Nat), WI E R s σ' H locs cells slots → W p l e R s m args below meth c H locs cells slots Q (F0 m (pc + 3) ls (r.toList ++ rest))) : W p l e R s m args below meth c H locs cells slots Q (F0 m pc ls st0) := by
  obtain ⟨S, x1, x2, hK, hE, x3, x4⟩ := X
  have hf : cells + σ.2.2.1 ≤ R.cells ∧ slots + σ.2.2.2 ≤ R.slots := ⟨by have := I.2.2.1; omega, by have := I.2.2.2.1; omega⟩
  exact cm_call I (va_runV (rest := rest) (As := As) S hM (cwV n S.2.2.2.2 hT rfl rfl rfl hd hR) ⟨Wd.blind hE, KW.recv hK I.1.1 hc ha, fun U hU hW => ⟨rfl, KW.warm hE hW hK, by rw [hU]; exact I.1⟩⟩ rfl hn hsize hstack (by show 2 * 0 + _ ≤ 8; omega) hdg hf) kk
/-- a static call of the own class -/
theorem cm_S {y : MethodName} {ycc : ByteArray} {maxL f lo n index : Nat} {yret : Option FieldType} {As : List Value} {r : Option Value} (X : MX E p s m args meth c cc nL ret own nm) (I : WI E R s σ H locs cells slots)
    (hM : CM E l y (ws_ y ycc maxL yret) f lo As σ r σ') (hT : GoodIn lw_all (va_wsS own index y (ws_ y ycc maxL yret)))
    (hd : y.cls ≠ "java/lang/invoke/MethodHandle" ∧ y.cls ≠ "java/lang/invoke/VarHandle" ∧ (parseMethodDescriptor y.desc).map (fun d => d.parameters.length) = some n) (hR : f + 1 ≤ R.frames ∧ 8 + (maxL + 11) + lo ≤ R.locals)
    (hn : As.length = n) (hsize : ls.size = nL) (hstack : st0 = As.reverse ++ rest) (hW : (rest.map fun v => v.category).sum ≤ 8) (hdg : decode cc pc = .ok (.invokestatic index, 3))
    (kk : ∀ (H : Heap) (locs : List Loc) (cells slots : Nat), WI E R s σ' H locs cells slots → W p l e R s m args below meth c H locs cells slots Q (F0 m (pc + 3) ls (r.toList ++ rest))) : W p l e R s m args below meth c H locs cells slots Q (F0 m pc ls st0) := by
  obtain ⟨S, x1, x2, hK, hE, x3, x4⟩ := X
  have hf : cells + σ.2.2.1 ≤ R.cells ∧ slots + σ.2.2.2 ≤ R.slots := ⟨by have := I.2.2.1; omega, by have := I.2.2.2.1; omega⟩
  exact cm_call I (va_runS (rest := rest) (As := As) S hM (va_cwS n S.2.2.2.2 hT rfl rfl rfl hd hR) ⟨Wd.blind hE, fun U hU hW => ⟨rfl, KW.warm hE hW hK, by rw [hU]; exact I.1⟩⟩ rfl hn hsize hstack (by show 2 * 0 + _ ≤ 8; omega) hdg hf) kk
end LAY
