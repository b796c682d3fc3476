/-! ROWS: arrays, new cells, casts, calls -/
set_option maxRecDepth 100000
section GR2
variable {p : Program} {l : Launch} {e : Env} {R : Room} {s : State} {m : MethodId} {args : Array Value} {below : List Frame} {meth : Method} {c : Code} {H : Heap} {locs : List Loc} {cells slots : Nat} {Q : State → Prop}
variable {E : EV} {σ σ' : St} {cc : ByteArray} {nL pc a : Nat} {ret : Option FieldType} {own nm : String} {ls : Array Slot} {rest st0 : List Value}
/-- what the counts say of the heap -/
theorem W_bd {g : JFrame} (k : H.size ≤ s.heap.size + cells → hsum H ≤ hsum s.heap + slots → s.heap.size ≤ H.size → W p l e R s m args below meth c H locs cells slots Q g) : W p l e R s m args below meth c H locs cells slots Q g := by
  intro T hT X
  have h0 := drop_hsum X.same
  obtain ⟨a1, a2, a3, a4, a5, a6⟩ := X.same
  have hT' : (T.setVm s.vm).heap = H := hT
  rw [hT'] at h0 a2 a3 a5
  exact k a3 (by omega) a2 T hT X
/-- a new cell -/
def nH (σ : St) (n : Nat) (x : (Nat × vp_A) ⊕ (Nat × List Value)) : Option (Nat × St) := if 1 ≤ σ.2.2.1 ∧ n ≤ σ.2.2.2 then some (σ.2.1, (hup σ.1 σ.2.1 (true, x), σ.2.1 + 1, σ.2.2.1 - 1, σ.2.2.2 - n)) else none
theorem nH_in {n q : Nat} {x : (Nat × vp_A) ⊕ (Nat × List Value)} (h : nH σ n x = some (q, σ')) : 1 ≤ σ.2.2.1 ∧ n ≤ σ.2.2.2 ∧ q = σ.2.1 ∧ σ' = (hup σ.1 σ.2.1 (true, x), σ.2.1 + 1, σ.2.2.1 - 1, σ.2.2.2 - n) := by
  unfold nH at h
  split at h
  · rename_i hh
    cases h
    exact ⟨hh.1, hh.2, rfl, rfl⟩
  · cases h
theorem WI.push {H1 : Heap} {n q : Nat} {x : (Nat × vp_A) ⊕ (Nat × List Value)} {g : JFrame} (I : WI E R s σ H locs cells slots) (h : nH σ n x = some (q, σ')) (hx : mRw E H.size x H1) (hz : H1.size = H.size + 1) (ho : ∀ q, q < H.size → H1[q]? = H[q]?)
    (kk : WI E R s σ' H1 locs (cells + 1) (slots + n) → W p l e R s m args below meth c H1 locs (cells + 1) (slots + n) Q g) : W p l e R s m args below meth c H1 locs (cells + 1) (slots + n) Q g := by
  obtain ⟨n1, n2, rfl, rfl⟩ := nH_in h
  obtain ⟨h1, h2, h3, h4, h5, h6, h7⟩ := I
  obtain ⟨g1, g2, g3, g4, g5, g6⟩ := h1
  refine W_bd fun b1 b2 b3 => kk ?_
  unfold WI HW
  refine ⟨⟨fun b z hb => ?_, fun b z hb => ?_, by show _ = σ.2.1 + 1; omega, fun b hb1 hb2 => ?_, fun q hq => ?_, by omega⟩, h2, by show _ + (σ.2.2.1 - 1) = _; omega, by show _ + (σ.2.2.2 - n) = _; omega, by show _ + (σ.2.2.1 - 1) ≤ _; omega, by show _ + (σ.2.2.2 - n) ≤ _; omega, b3⟩
  · have hb : hup σ.1 σ.2.1 (true, x) b = some z := hb
    by_cases hba : b = σ.2.1
    · subst hba
      rw [hup_s] at hb
      cases hb
      rw [← g3]
      exact hx
    · rw [hup_n hba] at hb
      have := g1 b z hb
      exact this.kept (ho b this.lt)
  · have hb : hup σ.1 σ.2.1 (true, x) b = some (true, z) := hb
    by_cases hba : b = σ.2.1
    · omega
    · rw [hup_n hba] at hb
      exact g2 b z hb
  · show ∃ z, hup σ.1 σ.2.1 (true, x) b = some (true, z)
    by_cases hba : b = σ.2.1
    · subst hba; exact ⟨x, hup_s _ _ _⟩
    · rw [hup_n hba]
      exact g4 b hb1 (by have : b < σ.2.1 + 1 := hb2; omega)
  · rw [ho q (by omega)]
    exact g5 q hq
/-- new: an object of class ci -/
def NO (own : String) (index : Nat) (ci n : Nat) (fs : List Value) : Prop := ∃ (C : String) (T : u_T) (ty : Nat → FieldType), CL[ci]? = some (C, T, n) ∧ (∀ w ∈ u_ws C T n, w ∈ lw_all) ∧ (∀ k, k < n → parseFieldDescriptor (T k).2.2.1 = some (ty k)) ∧ (∀ j, j < n → defaultValue (ty j) = vp_V fs j) ∧ Cond.classLink own index C ∈ lw_all ∧ Cond.instantiable C n ∈ lw_all ∧ Cond.initialized C ∈ lw_all
theorem g_new (X : MX E p s m args meth c cc nL ret own nm) (I : WI E R s σ H locs cells slots) {index ci n q : Nat} {fs : List Value} (hN : NO own index ci n fs) (h : nH σ n (.inr (ci, fs)) = some (q, σ')) (hdg : decode cc pc = .ok (.new index, 3))
    (kk : ∀ (H : Heap) (locs : List Loc) (cells slots : Nat), WI E R s σ' H locs cells slots → W p l e R s m args below meth c H locs cells slots Q (F0 m (pc + 3) ls (.ref q :: rest))) : W p l e R s m args below meth c H locs cells slots Q (F0 m pc ls rest) := by
  obtain ⟨C, T, ty, g1, g2, g3, g4, g5, g6, g7⟩ := hN
  obtain ⟨⟨hx, hb, hml, hown, hts⟩, -, -, hK, -, -, -⟩ := X
  have hKn := hK.1.1 ci _ g1
  obtain ⟨n1, n2, n3, n4⟩ := nH_in h
  have i1 := I.2.2.1
  have i2 := I.2.2.2.1
  refine W.newcK hx hb hown (hts _ g5) (hts _ g6) (hts _ g7) rfl hdg (by omega) (by omega) hKn.2.1 rfl fun H1 kC hkC e1 z1 o1 => ?_
  have hq : q = H.size := by rw [n3, I.1.2.2.1]
  subst hq
  exact WI.push I h ⟨_, clu g1, (u_born ty hts g2 hKn hkC e1 g3).to g4⟩ z1 o1 (fun J => kk _ _ _ _ J)
/-- new arrays of numbers: kind t -/
theorem arr_cls {t : Nat} {cA : ClassId} (hK : KW E s) (ht : t < 3) (h : s.vm.findClass ("[" ++ (aty t).toString) = some cA) : cA = E.2.1 t := by
  have h1 := (hK.2.1 t (by omega)).2
  match t, ht with
  | 0, _ => exact Option.some.inj (h.symm.trans h1)
  | 1, _ => exact Option.some.inj (h.symm.trans h1)
  | 2, _ => exact Option.some.inj (h.symm.trans h1)
def z0 (t : Nat) (n : Nat) : vp_A := if t = 2 then (n, .inr (.inl fun _ => 0)) else (n, .inl fun _ => 0)
/-- the length asked: not negative, not too many -/
def an (n : Int32) : Option Nat := if n < 0 ∨ 1000000 < n.toNatClampNeg then none else some n.toNatClampNeg
theorem an_in {n : Int32} {k : Nat} (h : an n = some k) : ¬ n < 0 ∧ n.toNatClampNeg = k ∧ k ≤ 1000000 := by
  unfold an at h
  split at h
  · cases h
  · rename_i hh
    cases h
    exact ⟨fun q => hh (Or.inl q), rfl, Nat.not_lt.mp fun q => hh (Or.inr q)⟩
theorem g_newa (X : MX E p s m args meth c cc nL ret own nm) (I : WI E R s σ H locs cells slots) {atype : ArrayType} {t k q : Nat} {n : Int32} (ht : t < 3) (hat : newarray.typeOf atype = aty t) (hw : Cond.arrayClass (aty t) ∈ lw_all) (hn : an n = some k) (h : nH σ k (.inl (t, z0 t k)) = some (q, σ')) (hdg : decode cc pc = .ok (.newarray atype, 2))
    (kk : ∀ (H : Heap) (locs : List Loc) (cells slots : Nat), WI E R s σ' H locs cells slots → W p l e R s m args below meth c H locs cells slots Q (F0 m (pc + 2) ls (.ref q :: rest))) : W p l e R s m args below meth c H locs cells slots Q (F0 m pc ls (.int n :: rest)) := by
  obtain ⟨⟨hx, hb, hml, hown, hts⟩, -, -, hK, -, -, -⟩ := X
  obtain ⟨a1, a2, a3⟩ := an_in hn
  obtain ⟨n1, n2, n3, n4⟩ := nH_in h
  have i1 := I.2.2.1
  have i2 := I.2.2.2.1
  have hcb : k * componentBytes (newarray.typeOf atype) ≤ 536870912 := by
    rw [hat]
    have : componentBytes (aty t) ≤ 8 := by
      match t, ht with
      | 0, _ => decide
      | 1, _ => decide
      | 2, _ => decide
    exact Nat.le_trans (Nat.mul_le_mul a3 this) (by decide)
  refine va_newaK hx hb (by rw [hat]; exact hts _ hw) rfl hdg rfl a1 a2 hcb (by omega) (by omega) rfl fun H1 cA e1 z1 o1 hAr hNm => ?_
  have hq : q = H.size := by rw [n3, I.1.2.2.1]
  subst hq
  rw [hat] at e1 hNm
  have hcA := arr_cls hK ht hNm
  subst hcA
  refine WI.push I h ?_ z1 o1 (fun J => kk _ _ _ _ J)
  show H1[H.size]? = some (vp_cell _ _)
  rw [e1]
  match t, ht with
  | 0, _ => rfl
  | 1, _ => rfl
  | 2, _ => rfl
/-- reading an array of ints, bytes -/
def aI (σ : St) (a t : Nat) (i : Int32) : Option Int32 := match σ.1 a with
  | some (_, .inl (t', n, .inl f)) => if t' = t then rd f n i else none
  | _ => none
theorem aI_in {t : Nat} {i v : Int32} (h : aI σ a t i = some v) : ∃ (fl : Bool) (n : Nat) (f : Nat → Int32), σ.1 a = some (fl, .inl (t, n, .inl f)) ∧ vp_in i n ∧ f i.toNatClampNeg = v := by
  unfold aI at h
  split at h
  · rename_i fl t' n f hs
    split at h
    · rename_i ht
      subst ht
      obtain ⟨h1, h2⟩ := rd_in h
      exact ⟨fl, n, f, hs, h1, h2⟩
    · cases h
  · cases h
theorem isArr {t : Nat} {cell : Cell} (hK : KW E s) (ht : t < 7) (hc : cell.cls = E.2.1 t) (hv : ∀ q, cell.vm ≠ .statics q) : s.isArrayOf cell (aty t) := by
  obtain ⟨-, kA, h1, h2⟩ := (hK.2.1 t ht).1 0 (fun _ => .null)
  exact ⟨hv, kA, by rw [hc]; exact h1, h2⟩
theorem a_cell {t : Nat} {i v : Int32} (X : MX E p s m args meth c cc nL ret own nm) (I : WI E R s σ H locs cells slots) (ht : t < 7) (h : aI σ a t i = some v) :
    ∃ cell : Cell, H[a]? = some cell ∧ s.isArrayOf cell (aty t) ∧ cell.vm ≠ .unknown ∧ ¬ (i < 0 ∨ cell.slots.size ≤ i.toNatClampNeg) ∧ cell.slots[i.toNatClampNeg]? = some (.int v) := by
  obtain ⟨fl, n, f, h1, h2, h3⟩ := aI_in h
  have hlt : i.toNatClampNeg < n := Nat.not_le.mp fun q => h2 (Or.inr q)
  subst h3
  cases fl with
  | true => exact r_ald X I ht rfl h1 h2
  | false =>
    obtain ⟨cell, q1, q2, q3, q4, q5, q6, q7⟩ := (I.1.1 a _ h1).ro
    refine ⟨cell, q1, isArr X.2.2.2.1 ht q2 q4, q3, ?_, ?_⟩
    · intro hh
      rcases hh with hh | hh
      · exact h2 (Or.inl hh)
      · have : n ≤ cell.slots.size := q5
        omega
    · rw [q7 _ hlt]
      show (arrV _ _ _).slots[_]? = _
      rw [arrV_read _ _ hlt]
theorem g_iald (X : MX E p s m args meth c cc nL ret own nm) (I : WI E R s σ H locs cells slots) {i v : Int32} (h : aI σ a 0 i = some v) (hdg : decode cc pc = .ok (.iaload, 1))
    (kk : W p l e R s m args below meth c H locs cells slots Q (F0 m (pc + 1) ls (.int v :: rest))) : W p l e R s m args below meth c H locs cells slots Q (F0 m pc ls (.int i :: .ref a :: rest)) := by
  obtain ⟨cell, h1, h2, h3, h4, h5⟩ := a_cell X I (by decide) h
  exact W.iald X.1.1 X.1.2.1 h1 h2 h3 h4 h5 rfl rfl hdg kk
theorem g_bald (X : MX E p s m args meth c cc nL ret own nm) (I : WI E R s σ H locs cells slots) {i v : Int32} (h : aI σ a 1 i = some v) (hdg : decode cc pc = .ok (.baload, 1))
    (kk : W p l e R s m args below meth c H locs cells slots Q (F0 m (pc + 1) ls (.int v :: rest))) : W p l e R s m args below meth c H locs cells slots Q (F0 m pc ls (.int i :: .ref a :: rest)) := by
  obtain ⟨cell, h1, h2, h3, h4, h5⟩ := a_cell X I (by decide) h
  exact W.bald X.1.1 X.1.2.1 h1 h2 h3 h4 h5 rfl rfl hdg kk
/-- writing one -/
def sI (σ : St) (a t : Nat) (i v : Int32) : Option St := match σ.1 a with
  | some (true, .inl (t', n, .inl f)) => if t' = t then (if i < 0 ∨ n ≤ i.toNatClampNeg then none else some (hup σ.1 a (true, .inl (t, n, .inl (upd f i.toNatClampNeg v))), σ.2)) else none
  | _ => none
theorem sI_in {t : Nat} {i v : Int32} (h : sI σ a t i v = some σ') : ∃ (n : Nat) (f : Nat → Int32), σ.1 a = some (true, .inl (t, n, .inl f)) ∧ vp_in i n ∧ σ' = (hup σ.1 a (true, .inl (t, n, .inl (upd f i.toNatClampNeg v))), σ.2) := by
  unfold sI at h
  split at h
  · rename_i t' n f hs
    split at h
    · rename_i ht
      subst ht
      split at h
      · cases h
      · rename_i hh
        exact ⟨n, f, hs, hh, (Option.some.inj h).symm⟩
    · cases h
  · cases h
theorem g_iast (X : MX E p s m args meth c cc nL ret own nm) (I : WI E R s σ H locs cells slots) {i v : Int32} (h : sI σ a 0 i v = some σ') (hdg : decode cc pc = .ok (.iastore, 1))
    (kk : ∀ (H : Heap) (locs : List Loc), WI E R s σ' H locs cells slots → W p l e R s m args below meth c H locs cells slots Q (F0 m (pc + 1) ls rest)) : W p l e R s m args below meth c H locs cells slots Q (F0 m pc ls (.int v :: .int i :: .ref a :: rest)) := by
  obtain ⟨n, f, h1, h2, rfl⟩ := sI_in h
  exact r_iast X I h1 h2 hdg kk
theorem g_bast (X : MX E p s m args meth c cc nL ret own nm) (I : WI E R s σ H locs cells slots) {i v w : Int32} (hv : v.toInt8.toInt32 = w) (h : sI σ a 1 i w = some σ') (hdg : decode cc pc = .ok (.bastore, 1))
    (kk : ∀ (H : Heap) (locs : List Loc), WI E R s σ' H locs cells slots → W p l e R s m args below meth c H locs cells slots Q (F0 m (pc + 1) ls rest)) : W p l e R s m args below meth c H locs cells slots Q (F0 m pc ls (.int v :: .int i :: .ref a :: rest)) := by
  obtain ⟨n, f, h1, h2, rfl⟩ := sI_in h
  exact r_bast X I h1 h2 hv hdg kk
/-- arrays of references: kind t (3 Object, 4 Test, 5 int[]) -/
def aR (σ : St) (a t : Nat) (i : Int32) : Option (Option Nat) := match σ.1 a with
  | some (_, .inl (t', n, .inr (.inr (.inr (.inr f))))) => if t' = t then (if i < 0 ∨ n ≤ i.toNatClampNeg then none else some (f i.toNatClampNeg)) else none
  | _ => none
theorem aR_in {t : Nat} {i : Int32} {v : Option Nat} (h : aR σ a t i = some v) : ∃ (fl : Bool) (n : Nat) (f : Nat → Option Nat), σ.1 a = some (fl, .inl (t, n, .inr (.inr (.inr (.inr f))))) ∧ vp_in i n ∧ f i.toNatClampNeg = v := by
  unfold aR at h
  split at h
  · rename_i fl t' n f hs
    split at h
    · rename_i ht
      subst ht
      split at h
      · cases h
      · rename_i hh
        exact ⟨fl, n, f, hs, hh, Option.some.inj h⟩
    · cases h
  · cases h
theorem g_aald (X : MX E p s m args meth c cc nL ret own nm) (I : WI E R s σ H locs cells slots) {t : Nat} {i : Int32} {v : Option Nat} (ht : t < 7) (hr : (aty t).isReference = true) (h : aR σ a t i = some v) (hdg : decode cc pc = .ok (.aaload, 1))
    (kk : W p l e R s m args below meth c H locs cells slots Q (F0 m (pc + 1) ls (va_rf v :: rest))) : W p l e R s m args below meth c H locs cells slots Q (F0 m pc ls (.int i :: .ref a :: rest)) := by
  obtain ⟨fl, n, f, h1, h2, h3⟩ := aR_in h
  have hlt : i.toNatClampNeg < n := Nat.not_le.mp fun q => h2 (Or.inr q)
  subst h3
  cases fl with
  | true =>
    exact W.aald (v := va_rf (f i.toNatClampNeg)) X.1.1 X.1.2.1 (I.1.1 a _ h1).rw ((X.2.2.2.1.2.1 t ht).1 n (fun j => va_rf (f j))) hr (fun q => by cases q) (by show ¬ (i < 0 ∨ (arrV _ _ _).slots.size ≤ _); rw [arrV_size]; exact h2) (by show (arrV _ _ _).slots[_]? = _; rw [arrV_read _ _ hlt]) rfl rfl hdg kk
  | false =>
    obtain ⟨cell, q1, q2, q3, q4, q5, q6, q7⟩ := (I.1.1 a _ h1).ro
    refine W.aald (v := va_rf (f i.toNatClampNeg)) X.1.1 X.1.2.1 q1 (isArr X.2.2.2.1 ht q2 q4) hr q3 ?_ ?_ rfl rfl hdg kk
    · intro hh
      rcases hh with hh | hh
      · exact h2 (Or.inl hh)
      · have : n ≤ cell.slots.size := q5
        omega
    · rw [q7 _ hlt]
      show (arrV _ _ _).slots[_]? = _
      rw [arrV_read _ _ hlt]
/-- an array's length -/
def aL (σ : St) (a : Nat) : Option Int32 := match σ.1 a with
  | some (_, .inl (t, n, _)) => if t < 7 then some (Int32.ofNat n) else none
  | _ => none
theorem g_alen (X : MX E p s m args meth c cc nL ret own nm) (I : WI E R s σ H locs cells slots) {v : Int32} (h : aL σ a = some v) (hdg : decode cc pc = .ok (.arraylength, 1))
    (kk : W p l e R s m args below meth c H locs cells slots Q (F0 m (pc + 1) ls (.int v :: rest))) : W p l e R s m args below meth c H locs cells slots Q (F0 m pc ls (.ref a :: rest)) := by
  unfold aL at h
  split at h
  · rename_i fl t n x hs
    split at h
    · rename_i ht
      have hv := Option.some.inj h
      cases fl with
      | true =>
        have h1 : H[a]? = some (vp_cell (E.2.1 t) (n, x)) := (I.1.1 a _ hs).rw
        have key : (vp_cell (E.2.1 t) (n, x)).cls = E.2.1 t ∧ (∀ q, (vp_cell (E.2.1 t) (n, x)).vm ≠ .statics q) ∧ (vp_cell (E.2.1 t) (n, x)).slots.size = n := by
          match x with
          | .inl f => exact ⟨rfl, (fun q h => by cases h), arrV_size _ _ _⟩
          | .inr (.inl f) => exact ⟨rfl, (fun q h => by cases h), arrV_size _ _ _⟩
          | .inr (.inr (.inl f)) => exact ⟨rfl, (fun q h => by cases h), arrV_size _ _ _⟩
          | .inr (.inr (.inr (.inl f))) => exact ⟨rfl, (fun q h => by cases h), arrV_size _ _ _⟩
          | .inr (.inr (.inr (.inr f))) => exact ⟨rfl, (fun q h => by cases h), arrV_size _ _ _⟩
        exact W.alen X.1.1 X.1.2.1 h1 (isArr X.2.2.2.1 ht key.1 key.2.1) (by rw [key.2.2]; exact hv) rfl rfl hdg kk
      | false =>
        obtain ⟨cell, q1, q2, q3, q4, q5, q6, q7⟩ := (I.1.1 a _ hs).ro
        exact W.alen X.1.1 X.1.2.1 q1 (isArr X.2.2.2.1 ht q2 q4) (by rw [q6]; exact hv) rfl rfl hdg kk
    · cases h
  · cases h
end GR2
