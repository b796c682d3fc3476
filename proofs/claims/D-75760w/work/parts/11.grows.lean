/-! ROWS of the layer for objects of any class -/
set_option maxRecDepth 100000
def nwk (w : Cond) : Bool := match w with
  | .fieldLinkNest _ _ _ _ _ _ => true
  | .methodLinkNest _ _ _ _ => true
  | .castable _ _ => true
  | .declares _ => true
  | _ => false
/-- what is known of the tables besides: words that don't ride, interfaces, array classes, pairs that can't be cast, texts, statics -/
def XF (E : EV) (s : State) : Prop := (∀ w ∈ lw_tbl, nwk w = true → va_Nw w s) ∧ (∀ q ∈ FWL, va_Fw q.1 q.2.1 q.2.2 s) ∧ (∀ C ∈ AOL, va_AO C s) ∧ (∀ q ∈ NCL, va_Nc q.1 q.2 s) ∧ (∀ q ∈ SKL, vk_R q.1 q.2.1 q.2.2.1 (E.2.2.2.1 q.2.2.2) s) ∧ (∀ q ∈ STL, va_Z q.1 q.2.1 q.2.2.1 (q.2.2.2 E.2.2.2.1) (fr E) s E.2.2.1) ∧ vx_Zq Bundle.tN "UNASSIGNED_STACK" Bundle.steD (fr E) s E.2.2.1 ∧ vx_Zq Bundle.tN "SUPPRESSED_SENTINEL" Bundle.listD (fr E) s E.2.2.1 ∧ (Cond.arrayOver (.array .int)).before #[] s = true ∧ (∀ q ∈ MIL, va_Mi q.1 (E.2.2.2.1 q.2) s) ∧ (Cond.interfaceMethod "java/util/Collection" "java/lang/Object" "getClass" "()Ljava/lang/Class;").before #[] s = true ∧ (Cond.publicMethod ⟨"java/lang/Object", "getClass", "()Ljava/lang/Class;"⟩).before #[] s = true ∧ (Cond.unhidden "java/util/ArrayList" "getClass" "()Ljava/lang/Class;").before #[] s = true ∧ (∀ y ∈ PVL, (Cond.selects "java/lang/StringBuilder" y y).before #[] s = true)
abbrev XK (E : EV) : Prop := EK E ∧ ∀ s : State, E.2.2.2.2 s → XF E s
section GR
variable {p : Program} {l : Launch} {e : Env} {R : Room} {s : State} {m : MethodId} {args : Array Value} {below : List Frame} {meth : Method} {c : Code} {H : Heap} {locs : List Loc} {cells slots : Nat} {Q : State → Prop}
variable {E : EV} {σ σ' : St} {cc : ByteArray} {nL pc a : Nat} {ret : Option FieldType} {own nm : String} {ls : Array Slot} {rest st0 : List Value}
theorem MX.xf (X : MX E p s m args meth c cc nL ret own nm) (hX : XK E) : XF E s := hX.2 s X.2.2.2.1.2.2
theorem WI.vS (X : MX E p s m args meth c cc nL ret own nm) (I : WI E R s σ H locs cells slots) : va_S (fr E) s.heap H locs := by
  obtain ⟨h1, h2, -, -, -, -, h7⟩ := I
  refine ⟨h7, fun q hq hA => ?_, h2⟩
  have hq2 : q < E.2.2.1.size := Nat.not_le.mp hA
  rw [h1.2.2.2.2.1 q hq2, X.2.2.2.2.2.2.1 q hq2]
/-- a field: which classes may stand there, and the place in each -/
def gF (σ : St) (a : Nat) (L : List (Nat × Nat)) : Option Value := match σ.1 a with
  | some (_, .inr (ci, fs)) => (L.find? (fun q => q.1 == ci)).bind fun q => fs[q.2]?
  | _ => none
def gI (σ : St) (a : Nat) (L : List (Nat × Nat)) : Option Int32 := (gF σ a L).bind fun v => match v with
  | .int x => some x
  | _ => none
def gR (σ : St) (a : Nat) (L : List (Nat × Nat)) : Option (Option Nat) := (gF σ a L).bind fun v => match v with
  | .ref x => some (some x)
  | .null => some none
  | _ => none
theorem gF_in {L : List (Nat × Nat)} {v : Value} (h : gF σ a L = some v) : ∃ (fl : Bool) (ci k : Nat) (fs : List Value), σ.1 a = some (fl, .inr (ci, fs)) ∧ (ci, k) ∈ L ∧ fs[k]? = some v := by
  unfold gF at h
  split at h
  · rename_i fl ci fs hs
    obtain ⟨q, h1, h2⟩ := Option.bind_eq_some_iff.mp h
    have h3 := List.find?_some h1
    have h4 := List.mem_of_find?_eq_some h1
    have h5 : q.1 = ci := by simpa using h3
    subst h5
    exact ⟨fl, q.1, q.2, fs, hs, h4, h2⟩
  · cases h
theorem gI_in {L : List (Nat × Nat)} {v : Int32} (h : gI σ a L = some v) : gF σ a L = some (.int v) := by
  obtain ⟨w, h1, h2⟩ := Option.bind_eq_some_iff.mp h
  cases w <;> simp at h2
  subst h2
  exact h1
theorem gR_in {L : List (Nat × Nat)} {v : Option Nat} (h : gR σ a L = some v) : gF σ a L = some (va_rf v) := by
  obtain ⟨w, h1, h2⟩ := Option.bind_eq_some_iff.mp h
  cases w <;> simp at h2 <;> (subst h2; exact h1)
theorem o_cell {C : String} {T : u_T} {N ci k : Nat} {fl : Bool} {fs : List Value} {v : Value} (X : MX E p s m args meth c cc nL ret own nm) (I : WI E R s σ H locs cells slots) (hin : ∀ w ∈ u_ws C T N, w ∈ lw_all) (hc : CL[ci]? = some (C, T, N)) (ha : σ.1 a = some (fl, .inr (ci, fs))) (hk : k < N) (hv : fs[k]? = some v) :
    ∃ (x : ClassId × Class × Nat × Field) (cell : Cell), s.fieldFound? (T k).1 (T k).2.1 (T k).2.2.1 = some x ∧ x.2.2.2.isStatic = false ∧ H[a]? = some cell ∧ cell.vm ≠ .unknown ∧ cell.slots[x.2.2.2.slot]? = some v := by
  obtain ⟨⟨hx, hb, hml, hown, hts⟩, -, -, hK, -, -, -⟩ := X
  obtain ⟨hS, hfc, kC, hkC, hkind⟩ := hK.1.1 ci _ hc
  obtain ⟨cf, kf, fi, f, hi, hsl⟩ := hS k hk
  have h0 := I.1.1 a _ ha
  have hst := (u_facts hfc hkC (u_lays hts hin hk) hi).1
  cases fl with
  | true =>
    obtain ⟨r, h1, cell, q1, q2, q3, q4⟩ := h0.rw
    have hr : r = (C, T, N) := clx h1 hc
    subst hr
    refine ⟨_, cell, hi, hst, q1, (by rw [q3]; exact fun h => by cases h), ?_⟩
    show cell.slots[f.slot]? = _
    rw [hsl, q4 k hk]
    simp [vp_V, hv]
  | false =>
    obtain ⟨r, cell, h1, q1, q2, q3, q4, q5⟩ := h0.ro
    have hr : r = (C, T, N) := clx h1 hc
    subst hr
    refine ⟨_, cell, hi, hst, q1, q3, ?_⟩
    show cell.slots[f.slot]? = _
    rw [hsl, q5 k hk]
    simp [vp_V, hv]
/-- a field's row of the tables: by a plain link -/
def GF (own : String) (index : Nat) (q : Nat × Nat) : Prop := ∃ (C : String) (T : u_T) (N : Nat) (ref : String), CL[q.1]? = some (C, T, N) ∧ (∀ w ∈ u_ws C T N, w ∈ lw_all) ∧ q.2 < N ∧ Cond.fieldLink own index ref (T q.2).2.1 (T q.2).2.2.1 ∈ lw_all ∧ ((T q.2).1 = ref ∨ Cond.sameField ref (T q.2).1 (T q.2).2.1 (T q.2).2.2.1 ∈ lw_all)
/-- by a nest mate's -/
def GN (own : String) (index : Nat) (q : Nat × Nat) : Prop := ∃ (C : String) (T : u_T) (N : Nat) (host : String), CL[q.1]? = some (C, T, N) ∧ (∀ w ∈ u_ws C T N, w ∈ lw_all) ∧ q.2 < N ∧ Cond.fieldLinkNest own index (T q.2).1 (T q.2).2.1 (T q.2).2.2.1 host ∈ lw_tbl
theorem gf_same {T : u_T} {k : Nat} {ref : String} (hts : ∀ w ∈ lw_all, w.before args s = true) (h : (T k).1 = ref ∨ Cond.sameField ref (T k).1 (T k).2.1 (T k).2.2.1 ∈ lw_all) : ∀ x, s.fieldFound? (T k).1 (T k).2.1 (T k).2.2.1 = some x → s.fieldFound? ref (T k).2.1 (T k).2.2.1 = some x := by
  rcases h with h | h
  · subst h; exact fun _ h => h
  · exact fun x hx => u_same (hts _ h) x hx
theorem g_get (X : MX E p s m args meth c cc nL ret own nm) (I : WI E R s σ H locs cells slots) {index : Nat} {L : List (Nat × Nat)} {v : Value} (hL : ∀ q ∈ L, GF own index q) (h : gF σ a L = some v) (hdg : decode cc pc = .ok (.getfield index, 3))
    (kk : W p l e R s m args below meth c H locs cells slots Q (F0 m (pc + 3) ls (v :: rest))) : W p l e R s m args below meth c H locs cells slots Q (F0 m pc ls (.ref a :: rest)) := by
  obtain ⟨fl, ci, k, fs, h1, h2, h3⟩ := gF_in h
  obtain ⟨C, T, N, ref, g1, g2, g3, g4, g5⟩ := hL _ h2
  obtain ⟨x, cell, q1, q2, q3, q4, q5⟩ := o_cell X I g2 g1 h1 g3 h3
  exact W.getf X.1.1 X.1.2.1 X.1.2.2.2.1 (X.1.2.2.2.2 _ g4) (gf_same X.1.2.2.2.2 g5 _ q1) q2 q3 q4 q5 rfl rfl hdg kk
theorem g_getN (hX : XK E) (X : MX E p s m args meth c cc nL ret own nm) (I : WI E R s σ H locs cells slots) {index : Nat} {L : List (Nat × Nat)} {v : Value} (hL : ∀ q ∈ L, GN own index q) (h : gF σ a L = some v) (hdg : decode cc pc = .ok (.getfield index, 3))
    (kk : W p l e R s m args below meth c H locs cells slots Q (F0 m (pc + 3) ls (v :: rest))) : W p l e R s m args below meth c H locs cells slots Q (F0 m pc ls (.ref a :: rest)) := by
  obtain ⟨fl, ci, k, fs, h1, h2, h3⟩ := gF_in h
  obtain ⟨C, T, N, host, g1, g2, g3, g4⟩ := hL _ h2
  obtain ⟨x, cell, q1, q2, q3, q4, q5⟩ := o_cell X I g2 g1 h1 g3 h3
  exact va_Wgetf X.1.1 X.1.2.1 X.1.2.2.2.1 (va_Nw.use rfl ((X.xf hX).1 _ g4 rfl)) q1 q2 q3 q4 q5 rfl rfl hdg kk
/-- writing a field -/
def pV (σ : St) (a : Nat) (L : List (Nat × Nat)) (v : Value) : Option St := match σ.1 a with
  | some (true, .inr (ci, fs)) => (L.find? (fun q => q.1 == ci)).bind fun q => if q.2 < fs.length then some (hup σ.1 a (true, .inr (ci, fs.set q.2 v)), σ.2) else none
  | _ => none
theorem pV_in {L : List (Nat × Nat)} {v : Value} (h : pV σ a L v = some σ') : ∃ (ci k : Nat) (fs : List Value), σ.1 a = some (true, .inr (ci, fs)) ∧ (ci, k) ∈ L ∧ k < fs.length ∧ σ' = (hup σ.1 a (true, .inr (ci, fs.set k v)), σ.2) := by
  unfold pV at h
  split at h
  · rename_i ci fs hs
    obtain ⟨q, h1, h2⟩ := Option.bind_eq_some_iff.mp h
    have h3 := List.find?_some h1
    have h4 := List.mem_of_find?_eq_some h1
    have h5 : q.1 = ci := by simpa using h3
    subst h5
    split at h2
    · rename_i hl
      exact ⟨q.1, q.2, fs, hs, h4, hl, (Option.some.inj h2).symm⟩
    · cases h2
  · cases h
def PF (own : String) (index : Nat) (ty : FieldType) (q : Nat × Nat) : Prop := ∃ (C : String) (T : u_T) (N : Nat) (ref : String) (ty0 : Nat → FieldType), CL[q.1]? = some (C, T, N) ∧ (∀ w ∈ u_ws C T N, w ∈ lw_all) ∧ q.2 < N ∧ Cond.fieldLink own index ref (T q.2).2.1 (T q.2).2.2.1 ∈ lw_all ∧ ((T q.2).1 = ref ∨ Cond.sameField ref (T q.2).1 (T q.2).2.1 (T q.2).2.2.1 ∈ lw_all) ∧ (∀ k, k < N → parseFieldDescriptor (T k).2.2.1 = some (ty0 k)) ∧ (∀ a, a < N → ∀ b, b < N → a ≠ b → (T a).2.1 ≠ (T b).2.1) ∧ ty0 q.2 = ty ∧ (T q.2).2.2.2 = false
def PN (own : String) (index : Nat) (ty : FieldType) (q : Nat × Nat) : Prop := ∃ (C : String) (T : u_T) (N : Nat) (host : String) (ty0 : Nat → FieldType), CL[q.1]? = some (C, T, N) ∧ (∀ w ∈ u_ws C T N, w ∈ lw_all) ∧ q.2 < N ∧ Cond.fieldLinkNest own index (T q.2).1 (T q.2).2.1 (T q.2).2.2.1 host ∈ lw_tbl ∧ (∀ k, k < N → parseFieldDescriptor (T k).2.2.1 = some (ty0 k)) ∧ (∀ a, a < N → ∀ b, b < N → a ≠ b → (T a).2.1 ≠ (T b).2.1) ∧ ty0 q.2 = ty ∧ (T q.2).2.2.2 = false
/-- a final field in a constructor -/
def PI (own : String) (index : Nat) (ty : FieldType) (q : Nat × Nat) : Prop := ∃ (C : String) (T : u_T) (N : Nat) (ty0 : Nat → FieldType), CL[q.1]? = some (C, T, N) ∧ (∀ w ∈ u_ws C T N, w ∈ lw_all) ∧ q.2 < N ∧ Cond.fieldLink own index (T q.2).1 (T q.2).2.1 (T q.2).2.2.1 ∈ lw_all ∧ (T q.2).1 = own ∧ (∀ k, k < N → parseFieldDescriptor (T k).2.2.1 = some (ty0 k)) ∧ (∀ a, a < N → ∀ b, b < N → a ≠ b → (T a).2.1 ≠ (T b).2.1) ∧ ty0 q.2 = ty ∧ (T q.2).2.2.2 = true
theorem o_put {C : String} {T : u_T} {N ci k : Nat} {fs : List Value} {v : Value} {ty : FieldType} {ty0 : Nat → FieldType} (X : MX E p s m args meth c cc nL ret own nm) (I : WI E R s σ H locs cells slots) (hin : ∀ w ∈ u_ws C T N, w ∈ lw_all) (hc : CL[ci]? = some (C, T, N)) (ha : σ.1 a = some (true, .inr (ci, fs))) (hk : k < N)
    (hty : ∀ k, k < N → parseFieldDescriptor (T k).2.2.1 = some (ty0 k)) (hnm : ∀ a, a < N → ∀ b, b < N → a ≠ b → (T a).2.1 ≠ (T b).2.1) (hd : ty0 k = ty) (hn : narrow ty v = v) (hfit : fits ty v = true) (hl : k < fs.length) :
    ∃ (x : ClassId × Class × Nat × Field) (cell : Cell), s.fieldFound? (T k).1 (T k).2.1 (T k).2.2.1 = some x ∧ x.2.2.2.isStatic = false ∧ H[a]? = some cell ∧ cell.vm = .none ∧ x.2.2.2.slot < cell.slots.size ∧ ((T k).2.2.2 = false → k2_Sd s x.2.2.2 cell.cls v) ∧ ((T k).2.2.2 = true → (T k).1 = own → m.cls = x.1 ∧ narrow x.2.2.2.type v = v ∧ s.fitsSlot cell.cls .none x.2.2.2.slot v = true) ∧
      ∀ H' : Heap, H'[a]? = some (cell.setSlot x.2.2.2.slot v) → H'.size = H.size → (∀ q, q ≠ a → H'[q]? = H[q]?) → WI E R s (hup σ.1 a (true, .inr (ci, fs.set k v)), σ.2) H' (locs ++ [⟨a, x.2.2.2.slot⟩]) cells slots := by
  obtain ⟨⟨hx, hb, hml, hown, hts⟩, -, -, hK, -, -, -⟩ := X
  have hap := va_apart (own := own) (args := args) (s := s) hts hin ty0 hty hnm hK.1 hc
  obtain ⟨hS, hfc, kC, hkC, hkind⟩ := hK.1.1 ci _ hc
  obtain ⟨cf, kf, fi, f, hi, hsl⟩ := hS k hk
  obtain ⟨r, h1, cell, q1, q2, q3, q4⟩ := (I.1.1 a _ ha).rw
  have hr : r = (C, T, N) := clx h1 hc
  subst hr
  have hlay := hts _ (hin _ (u_in_lay hk))
  unfold u_lay at hlay
  have hst := (u_facts hfc hkC (u_lays hts hin hk) hi).1
  refine ⟨_, cell, hi, hst, q1, q3, (by show f.slot < _; rw [hsl]; exact k2_hasslot (q4 k hk)), fun hf => ?_, fun hf hdecl => ?_, fun H' e1 e2 e3 => ?_⟩
  · rw [if_neg (by rw [hf]; decide)] at hlay
    have h6 := u_store hfc hkC hkind hlay hi (by rw [hty k hk, hd]) hn hfit
    rw [q2]; exact h6
  · rw [if_pos hf] at hlay
    have hcf : m.cls = cf := by
      obtain ⟨_, _, c', _, _, _, -, -, hf', -, -, -, hown2, -⟩ := Cond.laysFinal_spec hlay
      have e1 : c' = cf := by have := hi.symm.trans hf'; simp at this; exact this.1.symm
      rw [hdecl] at hown2
      rw [← e1]; exact Option.some.inj (hown.symm.trans hown2)
    have h6 := u_fits hfc hkC hkind (Or.inr hlay) hi (by rw [hty k hk, hd]) hn hfit
    exact ⟨hcf, by rw [q2]; exact h6⟩
  · have e1 : H'[a]? = some (cell.setSlot (E.1.2 ci k) v) := by rw [← hsl]; exact e1
    refine I.set ha ⟨_, clu hc, t_OB.to (V := updV (vp_V fs) k v) ⟨_, e1, q2, q3, t_set q4 hap hk v⟩ (fun j _ => vp_updV_set hl v j)⟩ e2 e3 ?_
    intro c c1 g1 g2
    rw [q1] at g1; cases g1
    rw [e1] at g2; cases g2
    simp [Cell.setSlot]
theorem g_put (X : MX E p s m args meth c cc nL ret own nm) (I : WI E R s σ H locs cells slots) {index : Nat} {L : List (Nat × Nat)} {v : Value} {ty : FieldType} (hL : ∀ q ∈ L, PF own index ty q) (hn : narrow ty v = v) (hfit : fits ty v = true) (h : pV σ a L v = some σ') (hdg : decode cc pc = .ok (.putfield index, 3))
    (kk : ∀ (H : Heap) (locs : List Loc), WI E R s σ' H locs cells slots → W p l e R s m args below meth c H locs cells slots Q (F0 m (pc + 3) ls rest)) : W p l e R s m args below meth c H locs cells slots Q (F0 m pc ls (v :: .ref a :: rest)) := by
  obtain ⟨ci, k, fs, h1, h2, h3, rfl⟩ := pV_in h
  obtain ⟨C, T, N, ref, ty0, g1, g2, g3, g4, g5, g6, g7, g8, g9⟩ := hL _ h2
  obtain ⟨x, cell, q1, q2, q3, q4, q5, q6, q7, q8⟩ := o_put X I g2 g1 h1 g3 g6 g7 g8 hn hfit h3
  exact W.putK X.1.1 X.1.2.1 (f := x.2.2.2) ⟨X.1.2.2.2.1, X.1.2.2.2.2 _ g4, ⟨_, _, _, gf_same X.1.2.2.2.2 g5 _ q1⟩, q2⟩ (q6 g9) q3 q4 q5 rfl rfl hdg fun H' e1 e2 e3 => kk H' _ (q8 H' e1 e2 e3)
theorem g_putN (hX : XK E) (X : MX E p s m args meth c cc nL ret own nm) (I : WI E R s σ H locs cells slots) {index : Nat} {L : List (Nat × Nat)} {v : Value} {ty : FieldType} (hL : ∀ q ∈ L, PN own index ty q) (hn : narrow ty v = v) (hfit : fits ty v = true) (h : pV σ a L v = some σ') (hdg : decode cc pc = .ok (.putfield index, 3))
    (kk : ∀ (H : Heap) (locs : List Loc), WI E R s σ' H locs cells slots → W p l e R s m args below meth c H locs cells slots Q (F0 m (pc + 3) ls rest)) : W p l e R s m args below meth c H locs cells slots Q (F0 m pc ls (v :: .ref a :: rest)) := by
  obtain ⟨ci, k, fs, h1, h2, h3, rfl⟩ := pV_in h
  obtain ⟨C, T, N, host, ty0, g1, g2, g3, g4, g6, g7, g8, g9⟩ := hL _ h2
  obtain ⟨x, cell, q1, q2, q3, q4, q5, q6, q7, q8⟩ := o_put X I g2 g1 h1 g3 g6 g7 g8 hn hfit h3
  exact va_WputK X.1.1 X.1.2.1 (f := x.2.2.2) X.1.2.2.2.1 (va_Nw.use rfl ((X.xf hX).1 _ g4 rfl)) q1 q2 (q6 g9) q3 q4 q5 rfl rfl hdg fun H' e1 e2 e3 => kk H' _ (q8 H' e1 e2 e3)
theorem g_putI (X : MX E p s m args meth c cc nL ret own "<init>") (I : WI E R s σ H locs cells slots) {index : Nat} {L : List (Nat × Nat)} {v : Value} {ty : FieldType} (hL : ∀ q ∈ L, PI own index ty q) (hn : narrow ty v = v) (hfit : fits ty v = true) (h : pV σ a L v = some σ') (hdg : decode cc pc = .ok (.putfield index, 3))
    (kk : ∀ (H : Heap) (locs : List Loc), WI E R s σ' H locs cells slots → W p l e R s m args below meth c H locs cells slots Q (F0 m (pc + 3) ls rest)) : W p l e R s m args below meth c H locs cells slots Q (F0 m pc ls (v :: .ref a :: rest)) := by
  obtain ⟨ci, k, fs, h1, h2, h3, rfl⟩ := pV_in h
  obtain ⟨C, T, N, ty0, g1, g2, g3, g4, g5, g6, g7, g8, g9⟩ := hL _ h2
  obtain ⟨x, cell, q1, q2, q3, q4, q5, q6, q7, q8⟩ := o_put X I g2 g1 h1 g3 g6 g7 g8 hn hfit h3
  obtain ⟨z1, z2, z3⟩ := q7 g9 g5
  exact W.putFinK X.1.1 X.1.2.1 X.1.2.2.2.1 (X.1.2.2.2.2 _ g4) q1 q2 z1 X.2.2.2.2.2.1 ⟨z2, z3⟩ q3 q4 q5 rfl rfl hdg fun H' e1 e2 e3 => kk H' _ (q8 H' e1 e2 e3)
end GR
