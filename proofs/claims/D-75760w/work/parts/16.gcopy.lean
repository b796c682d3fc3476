/-! ROWS: System.arraycopy -/
set_option maxRecDepth 100000
theorem qAN : Cond.native arraycopyName ∈ lw_all := q584
theorem qAS : Cond.static arraycopyName ∈ lw_all := q583
theorem qAI : Cond.initialized "java/lang/System" ∈ lw_all := q134
theorem nn_of {z : Int32} (hz : ¬ z < 0) : z.toInt = (z.toNatClampNeg : Int) := by
  have hz0 : (0 : Int) ≤ z.toInt := by
    have := Int32.not_lt.mp hz
    simpa using Int32.le_iff_toInt_le.mp this
  show z.toInt = ((z.toInt.toNat : Nat) : Int)
  omega
/-- the bounds of a copy: from, to, how many -/
def cpk (sp dp n : Int32) (n0 n1 : Nat) : Bool := decide (¬ sp < 0) && decide (¬ dp < 0) && decide (¬ n < 0) && decide (sp.toNatClampNeg + n.toNatClampNeg ≤ n0) && decide (dp.toNatClampNeg + n.toNatClampNeg ≤ n1)
/-- bytes are bytes -/
def bfit (f : Nat → Int32) (sp n : Nat) : Bool := (List.range n).all fun i => decide ((f (sp + i)).toInt8.toInt32 = f (sp + i))
/-- numbers: kind t (0 ints, 1 bytes) -/
def cpI (σ : St) (a0 t : Nat) (sp : Int32) (a : Nat) (dp n : Int32) : Option St := match σ.1 a0, σ.1 a with
  | some (_, .inl (t0, n0, .inl f)), some (true, .inl (t1, n1, .inl g)) => if t0 = t ∧ t1 = t ∧ cpk sp dp n n0 n1 = true ∧ (t = 0 ∨ bfit f sp.toNatClampNeg n.toNatClampNeg = true) then some (hup σ.1 a (true, .inl (t, n1, .inl (va_cpy f g sp.toNatClampNeg dp.toNatClampNeg n.toNatClampNeg))), σ.2) else none
  | _, _ => none
/-- what lies there may lie in an array of kind t -/
def elok (σ : St) (t : Nat) (f : Nat → Option Nat) (sp n : Nat) : Bool := (List.range n).all fun i => match f (sp + i) with
  | none => true
  | some y => match σ.1 y with
    | some (_, .inr (ci, _)) => okc t ci
    | _ => false
def cpR (σ : St) (a0 t : Nat) (sp : Int32) (a : Nat) (dp n : Int32) : Option St := match σ.1 a0, σ.1 a with
  | some (true, .inl (t0, n0, .inr (.inr (.inr (.inr f))))), some (true, .inl (t1, n1, .inr (.inr (.inr (.inr g))))) => if t0 = t ∧ t1 = t ∧ cpk sp dp n n0 n1 = true ∧ elok σ t f sp.toNatClampNeg n.toNatClampNeg = true then some (hup σ.1 a (true, .inl (t, n1, .inr (.inr (.inr (.inr (va_cpy f g sp.toNatClampNeg dp.toNatClampNeg n.toNatClampNeg)))))), σ.2) else none
  | _, _ => none
theorem cpk_in {sp dp n : Int32} {n0 n1 : Nat} (h : cpk sp dp n n0 n1 = true) : ¬ sp < 0 ∧ ¬ dp < 0 ∧ ¬ n < 0 ∧ sp.toNatClampNeg + n.toNatClampNeg ≤ n0 ∧ dp.toNatClampNeg + n.toNatClampNeg ≤ n1 := by
  simp only [cpk, Bool.and_eq_true, decide_eq_true_eq] at h
  exact ⟨h.1.1.1.1, h.1.1.1.2, h.1.1.2, h.1.2, h.2⟩
section GCP
variable {p : Program} {l : Launch} {e : Env} {R : Room} {s : State} {m : MethodId} {args : Array Value} {below : List Frame} {meth : Method} {c : Code} {H : Heap} {locs : List Loc} {cells slots : Nat} {Q : State → Prop}
variable {E : EV} {σ σ' : St} {cc : ByteArray} {nL pc a : Nat} {ret : Option FieldType} {own nm : String} {ls : Array Slot} {rest st0 : List Value}
theorem WI.setL {H1 : Heap} {L : List Loc} {x y : (Nat × vp_A) ⊕ (Nat × List Value)} (I : WI E R s σ H locs cells slots) (ha : σ.1 a = some (true, x)) (he : mRw E a y H1) (hz : H1.size = H.size) (ho : ∀ q, q ≠ a → H1[q]? = H[q]?) (hs : ∀ c c1 : Cell, H[a]? = some c → H1[a]? = some c1 → c1.slots.size = c.slots.size) (hL : ∀ q ∈ L, q.base = a) :
    WI E R s (hup σ.1 a (true, y), σ.2) H1 (locs ++ L) cells slots := by
  have J := I.set (i := 0) ha he hz ho hs
  obtain ⟨h1, h2, h3⟩ := J
  unfold WI
  refine ⟨h1, fun q hq => ?_, h3⟩
  rcases List.mem_append.mp hq with h | h
  · exact h2 q (List.mem_append_left _ h)
  · have := h2 ⟨a, 0⟩ (List.mem_append_right _ (List.mem_singleton.mpr rfl))
    rw [hL q h]; exact this
theorem g_copyI (X0 : MX E p s m args meth c cc nL ret own nm) (I : WI E R s σ H locs cells slots) {index a0 t : Nat} {sp dp n : Int32} (ht : t < 2) (hlink : Cond.methodLink own index arraycopyName ∈ lw_all) (h : cpI σ a0 t sp a dp n = some σ') (hsize : ls.size = nL) (hR : 1 ≤ R.frames ∧ 40 ≤ R.locals) (hW : (rest.map fun v => v.category).sum ≤ 8) (hdg : decode cc pc = .ok (.invokestatic index, 3))
    (kk : ∀ (H : Heap) (locs : List Loc), WI E R s σ' H locs cells slots → W p l e R s m args below meth c H locs cells slots Q (F0 m (pc + 3) ls rest)) : W p l e R s m args below meth c H locs cells slots Q (F0 m pc ls (.int n :: .int dp :: .ref a :: .int sp :: .ref a0 :: rest)) := by
  unfold cpI at h
  split at h
  · rename_i fl t0 n0 f t1 n1 g hs0 hs1
    split at h
    · rename_i hh
      obtain ⟨e0, e9, hk, hfit⟩ := hh
      have e0 := e0.symm
      subst e0
      have e9 := e9.symm
      subst e9
      cases h
      obtain ⟨h1, h2, h3, h4, h5⟩ := cpk_in hk
      obtain ⟨⟨hx, hb, hml, hown, hts⟩, -, -, hK, -, -, -⟩ := X0
      have hc1 : H[a]? = some (vp_cell (E.2.1 t) (n1, .inl g)) := (I.1.1 a _ hs1).rw
      have src : ∃ cs : Cell, H[a0]? = some cs ∧ cs.cls = E.2.1 t ∧ cs.vm ≠ .unknown ∧ (∀ q, cs.vm ≠ .statics q) ∧ n0 ≤ cs.slots.size ∧ ∀ j, j < n0 → cs.slots[j]? = some (.int (f j)) := by
        cases fl with
        | true =>
          refine ⟨_, (I.1.1 a0 _ hs0).rw, rfl, (fun h => by cases h), (fun q h => by cases h), ?_, fun j hj => ?_⟩
          · show n0 ≤ (arrV _ _ _).slots.size
            rw [arrV_size]; exact Nat.le_refl _
          · show (arrV _ _ _).slots[j]? = _
            rw [arrV_read _ _ hj]
        | false =>
          obtain ⟨cs, q1, q2, q3, q4, q5, q6, q7⟩ := (I.1.1 a0 _ hs0).ro
          refine ⟨cs, q1, q2, q3, q4, q5, fun j hj => ?_⟩
          rw [q7 j hj]
          show (arrV _ _ _).slots[j]? = _
          rw [arrV_read _ _ hj]
      obtain ⟨cs, c1, c2, c3, c4, c5, c6⟩ := src
      have hA := isArr hK (by omega) c2 c4
      obtain ⟨-, k0, hk0, cm0, hkk0⟩ := hA
      obtain ⟨-, k1, hk1, cm1, hkk1⟩ := (hK.2.1 t (by omega)).1 n1 (fun j => .int (g j))
      intro T hT X
      obtain ⟨vm', X', step⟩ := X.arraycopy hx hown (hts _ hlink) (hts _ qAN) (hts _ qAS) (hts _ qAI) (src := a0) (dst := a) (cs := cs) (cd := vp_cell (E.2.1 t) (n1, .inl g)) (srcPos := sp) (destPos := dp) (n := n) (by rw [hT]; exact c1) (by rw [hT]; exact hc1)
        c4 (fun _ h => by cases h) c3 (fun h => by cases h) hk0 hk1 hkk0 hkk1 (by match t, ht with | 0, _ => rfl | 1, _ => rfl) h1 h2 h3
        (by rw [nn_of h1, nn_of h3]; omega)
        (by rw [nn_of h2, nn_of h3]; show ¬ _ > ((arrV _ n1 (fun j => .int (g j))).slots.size : Int); rw [arrV_size]; omega)
        (fun vm₁ _ i hi => by
          have e : cs.slots.getD (sp.toNatClampNeg + i) .null = .int (f (sp.toNatClampNeg + i)) := by
            rw [Array.getD_eq_getD_getElem?, c6 _ (by omega)]
            rfl
          rw [e]
          refine ⟨?_, ?_⟩
          · match t, ht, hfit with
            | 0, _, _ => rfl
            | 1, _, hfit =>
              have hf := hfit.resolve_left (by decide)
              have := List.all_eq_true.mp hf i (List.mem_range.mpr hi)
              have := of_decide_eq_true this
              show fits .byte (.int _) = true
              rw [← this]
              exact pk_fb _
          · match t, ht with
            | 0, _ => exact trivial
            | 1, _ => exact trivial)
        (g := F0 m pc ls (.int n :: .int dp :: .ref a :: .int sp :: .ref a0 :: rest)) rfl (by rw [hml]; exact hsize) (rest := rest) rfl (by rw [hb]; exact hdg) hR.1 (Nat.le_trans (show 2 * 0 + _ + (nativeFrameWords "java/lang/System" "arraycopy" 5 + 11) ≤ 8 + (nativeFrameWords "java/lang/System" "arraycopy" 5 + 11) by omega) (Nat.le_trans (Nat.le_of_ble_eq_true rfl) hR.2))
      have e1 : copied cs (vp_cell (E.2.1 t) (n1, .inl g)) sp dp n = vp_cell (E.2.1 t) (n1, .inl (va_cpy f g sp.toNatClampNeg dp.toNatClampNeg n.toNatClampNeg)) := va_copiedX (fun z => .int z) cs _ f g c6 h4
      rw [e1] at X' step
      have hl : a < H.size := (Array.getElem?_eq_some_iff.mp hc1).1
      have hheap : ((T.setVm vm').setCell a (vp_cell (E.2.1 t) (n1, .inl (va_cpy f g sp.toNatClampNeg dp.toNatClampNeg n.toNatClampNeg)))).heap = H.setIfInBounds a (vp_cell (E.2.1 t) (n1, .inl (va_cpy f g sp.toNatClampNeg dp.toNatClampNeg n.toNatClampNeg))) := by rw [← hT]; rfl
      obtain ⟨t, b1, b2⟩ := kk _ _ (WI.setL I hs1 (y := .inl (t, n1, .inl (va_cpy f g sp.toNatClampNeg dp.toNatClampNeg n.toNatClampNeg))) (show (H.setIfInBounds a _)[a]? = some _ by simp [Array.getElem?_setIfInBounds, hl]) (by simp) (fun q hq => by simp [Array.getElem?_setIfInBounds, Ne.symm hq]) (fun d d1 g1 g2 => by
        rw [hc1] at g1; cases g1
        have : (H.setIfInBounds a (vp_cell (E.2.1 t) (n1, .inl (va_cpy f g sp.toNatClampNeg dp.toNatClampNeg n.toNatClampNeg))))[a]? = some (vp_cell (E.2.1 t) (n1, .inl (va_cpy f g sp.toNatClampNeg dp.toNatClampNeg n.toNatClampNeg))) := by simp [Array.getElem?_setIfInBounds, hl]
        rw [this] at g2; cases g2
        show (arrV _ _ _).slots.size = (arrV _ _ _).slots.size
        rw [arrV_size, arrV_size]) (fun q hq => by obtain ⟨z, -, hz⟩ := List.mem_map.mp hq; rw [← hz])) _ hheap X'
      exact ⟨t, step t b1, b2⟩
    · cases h
  · cases h
theorem g_copyR (hX : XK E) (X0 : MX E p s m args meth c cc nL ret own nm) (I : WI E R s σ H locs cells slots) {index a0 t : Nat} {sp dp n : Int32} (ht : t = 3 ∨ t = 4) (hlink : Cond.methodLink own index arraycopyName ∈ lw_all) (h : cpR σ a0 t sp a dp n = some σ') (hsize : ls.size = nL) (hR : 1 ≤ R.frames ∧ 40 ≤ R.locals) (hW : (rest.map fun v => v.category).sum ≤ 8) (hdg : decode cc pc = .ok (.invokestatic index, 3))
    (kk : ∀ (H : Heap) (locs : List Loc), WI E R s σ' H locs cells slots → W p l e R s m args below meth c H locs cells slots Q (F0 m (pc + 3) ls rest)) : W p l e R s m args below meth c H locs cells slots Q (F0 m pc ls (.int n :: .int dp :: .ref a :: .int sp :: .ref a0 :: rest)) := by
  unfold cpR at h
  split at h
  · rename_i t0 n0 f t1 n1 g hs0 hs1
    split at h
    · rename_i hh
      obtain ⟨e0, e9, hk, hel⟩ := hh
      have e0 := e0.symm
      subst e0
      have e9 := e9.symm
      subst e9
      cases h
      obtain ⟨h1, h2, h3, h4, h5⟩ := cpk_in hk
      have hXF := X0.xf hX
      obtain ⟨⟨hx, hb, hml, hown, hts⟩, -, -, hK, -, -, -⟩ := X0
      have hc0 : H[a0]? = some (vp_cell (E.2.1 t) (n0, .inr (.inr (.inr (.inr f))))) := (I.1.1 a0 _ hs0).rw
      have hc1 : H[a]? = some (vp_cell (E.2.1 t) (n1, .inr (.inr (.inr (.inr g))))) := (I.1.1 a _ hs1).rw
      have ht6 : t < 7 := by omega
      have hty : aty t = .object (lt6 t) := by rcases ht with rfl | rfl <;> rfl
      have hA := hK.2.1 t ht6
      rw [hty] at hA
      obtain ⟨-, k0, hk0, cm0, hkk0⟩ := hA.1 n0 (fun j => va_rf (f j))
      obtain ⟨kA, comp, r1, r2, r3, -⟩ := hA.2
      have hk1 : s.vm.classes[(vp_cell (E.2.1 t) (n1, .inr (.inr (.inr (.inr g))))).cls]? = some kA := r1
      intro T hT X
      obtain ⟨vm', X', step⟩ := X.arraycopy hx hown (hts _ hlink) (hts _ qAN) (hts _ qAS) (hts _ qAI) (src := a0) (dst := a) (cs := vp_cell (E.2.1 t) (n0, .inr (.inr (.inr (.inr f))))) (cd := vp_cell (E.2.1 t) (n1, .inr (.inr (.inr (.inr g))))) (srcPos := sp) (destPos := dp) (n := n) (by rw [hT]; exact hc0) (by rw [hT]; exact hc1)
        (fun _ h => by cases h) (fun _ h => by cases h) (fun h => by cases h) (fun h => by cases h) hk0 hk1 hkk0 r2 rfl h1 h2 h3
        (by rw [nn_of h1, nn_of h3]; show ¬ _ > ((arrV _ n0 (fun j => va_rf (f j))).slots.size : Int); rw [arrV_size]; omega)
        (by rw [nn_of h2, nn_of h3]; show ¬ _ > ((arrV _ n1 (fun j => va_rf (g j))).slots.size : Int); rw [arrV_size]; omega)
        (fun vm₁ hal i hi => by
          have e : (vp_cell (E.2.1 t) (n0, .inr (.inr (.inr (.inr f))))).slots.getD (sp.toNatClampNeg + i) .null = va_rf (f (sp.toNatClampNeg + i)) := by
            show (arrV _ n0 (fun j => va_rf (f j))).slots.getD _ _ = _
            rw [Array.getD_eq_getD_getElem?, arrV_read _ _ (by omega)]
            rfl
          rw [e]
          have hE := List.all_eq_true.mp hel i (List.mem_range.mpr hi)
          cases hy : f (sp.toNatClampNeg + i) with
          | none => exact ⟨rfl, trivial⟩
          | some y =>
            simp only [hy] at hE
            split at hE
            · rename_i fl ci fs hsy
              obtain ⟨vw, g1, g2⟩ := okc_ok _ (okc_in hE)
              obtain ⟨cell, q1, q2, q3⟩ := KW.recv hK I.1.1 g1 hsy
              obtain ⟨c0, t0, f1, f2, f3⟩ := Cond.castable_spec (va_Nw.use (A := args) rfl (hXF.1 _ g2 rfl))
              obtain ⟨kC, hkC, -⟩ := Vm.findClass_spec q3
              have e1 : c0 = cell.cls := Option.some.inj (f1.symm.trans q3)
              have e2 : t0 = comp := Option.some.inj (f2.symm.trans r3)
              subst e1; subst e2
              obtain ⟨kE, hkE, -⟩ := Vm.findClass_spec r3
              obtain ⟨kC', hkC', -⟩ := hal.2.2 _ _ hkC
              obtain ⟨kE', hkE', -⟩ := hal.2.2 _ _ hkE
              refine ⟨rfl, cell, (show T.heap[y]? = some cell by rw [hT]; exact q1), (fun q h => by rw [h] at q2; cases q2), ⟨kC', hkC'⟩, ?_, ?_⟩
              · exact ⟨kE', hkE'⟩
              · show vm₁.assignable _ _ = true
                rw [hal.assignable]
                exact f3
            · cases hE)
        (g := F0 m pc ls (.int n :: .int dp :: .ref a :: .int sp :: .ref a0 :: rest)) rfl (by rw [hml]; exact hsize) (rest := rest) rfl (by rw [hb]; exact hdg) hR.1 (Nat.le_trans (show 2 * 0 + _ + (nativeFrameWords "java/lang/System" "arraycopy" 5 + 11) ≤ 8 + (nativeFrameWords "java/lang/System" "arraycopy" 5 + 11) by omega) (Nat.le_trans (Nat.le_of_ble_eq_true rfl) hR.2))
      have e1 : copied (vp_cell (E.2.1 t) (n0, .inr (.inr (.inr (.inr f))))) (vp_cell (E.2.1 t) (n1, .inr (.inr (.inr (.inr g))))) sp dp n = vp_cell (E.2.1 t) (n1, .inr (.inr (.inr (.inr (va_cpy f g sp.toNatClampNeg dp.toNatClampNeg n.toNatClampNeg))))) := va_copied va_rf _ _ f g h4
      rw [e1] at X' step
      have hl : a < H.size := (Array.getElem?_eq_some_iff.mp hc1).1
      have hheap : ((T.setVm vm').setCell a (vp_cell (E.2.1 t) (n1, .inr (.inr (.inr (.inr (va_cpy f g sp.toNatClampNeg dp.toNatClampNeg n.toNatClampNeg))))))).heap = H.setIfInBounds a (vp_cell (E.2.1 t) (n1, .inr (.inr (.inr (.inr (va_cpy f g sp.toNatClampNeg dp.toNatClampNeg n.toNatClampNeg)))))) := by rw [← hT]; rfl
      obtain ⟨t9, b1, b2⟩ := kk _ _ (WI.setL I hs1 (y := .inl (t, n1, .inr (.inr (.inr (.inr (va_cpy f g sp.toNatClampNeg dp.toNatClampNeg n.toNatClampNeg)))))) (show (H.setIfInBounds a _)[a]? = some _ by simp [Array.getElem?_setIfInBounds, hl]) (by simp) (fun q hq => by simp [Array.getElem?_setIfInBounds, Ne.symm hq]) (fun d d1 g1 g2 => by
        rw [hc1] at g1; cases g1
        have : (H.setIfInBounds a (vp_cell (E.2.1 t) (n1, .inr (.inr (.inr (.inr (va_cpy f g sp.toNatClampNeg dp.toNatClampNeg n.toNatClampNeg)))))))[a]? = some (vp_cell (E.2.1 t) (n1, .inr (.inr (.inr (.inr (va_cpy f g sp.toNatClampNeg dp.toNatClampNeg n.toNatClampNeg)))))) := by simp [Array.getElem?_setIfInBounds, hl]
        rw [this] at g2; cases g2
        show (arrV _ _ _).slots.size = (arrV _ _ _).slots.size
        rw [arrV_size, arrV_size]) (fun q hq => by obtain ⟨z, -, hz⟩ := List.mem_map.mp hq; rw [← hz])) _ hheap X'
      exact ⟨t9, step t9 b1, b2⟩
    · cases h
  · cases h
theorem g_mmax (X : MX E p s m args meth c cc nL ret own nm) (I : WI E R s σ H locs cells slots) (hR : 1 ≤ R.frames ∧ 21 ≤ R.locals) {index : Nat} {x y : Int32} (hl : Cond.methodLink own index Lib.Math.max.name ∈ lw_all) (hsize : ls.size = nL) (hW : (rest.map fun v => v.category).sum ≤ 8) (hdg : decode cc pc = .ok (.invokestatic index, 3))
    (kk : W p l e R s m args below meth c H locs cells slots Q (F0 m (pc + 3) ls (.int (if x < y then y else x) :: rest))) : W p l e R s m args below meth c H locs cells slots Q (F0 m pc ls (.int y :: .int x :: rest)) := by
  obtain ⟨⟨hx, hb, hml, hown, hts⟩, -⟩ := X
  exact va_mmax hx hb (by rw [hml, hsize]) hown (hts _ hl) (hts _ q562) (hts _ q132) (hts _ q563) hR.1 (by omega) (by have := I.2.2.1; omega) (by have := I.2.2.2.1; omega) hdg kk
theorem g_mmin (X : MX E p s m args meth c cc nL ret own nm) (I : WI E R s σ H locs cells slots) (hR : 1 ≤ R.frames ∧ 21 ≤ R.locals) {index : Nat} {x y : Int32} (hl : Cond.methodLink own index Lib.Math.min.name ∈ lw_all) (hsize : ls.size = nL) (hW : (rest.map fun v => v.category).sum ≤ 8) (hdg : decode cc pc = .ok (.invokestatic index, 3))
    (kk : W p l e R s m args below meth c H locs cells slots Q (F0 m (pc + 3) ls (.int (if y < x then y else x) :: rest))) : W p l e R s m args below meth c H locs cells slots Q (F0 m pc ls (.int y :: .int x :: rest)) := by
  obtain ⟨⟨hx, hb, hml, hown, hts⟩, -⟩ := X
  exact va_mmin hx hb (by rw [hml, hsize]) hown (hts _ hl) (hts _ q580) (hts _ q132) (hts _ q581) hR.1 (by omega) (by have := I.2.2.1; omega) (by have := I.2.2.2.1; omega) hdg kk
end GCP
