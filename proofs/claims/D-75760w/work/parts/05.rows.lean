/-! ROWS of the layer: fields and arrays of numbers -/
section ROWS
variable {p : Program} {l : Launch} {e : Env} {R : Room} {s : State} {m : MethodId} {args : Array Value} {below : List Frame} {meth : Method} {c : Code} {H : Heap} {locs : List Loc} {cells slots : Nat} {Q : State → Prop}
variable {E : EV} {σ σ' : St} {cc : ByteArray} {nL pc a : Nat} {ret : Option FieldType} {own nm : String} {ls : Array Slot} {rest st0 : List Value}
theorem r_get (X : MX E p s m args meth c cc nL ret own nm) (I : WI E R s σ H locs cells slots) {ref C : String} {T : u_T} {N ci index k : Nat} {fl : Bool} {fs : List Value} {v : Value} (hin : ∀ w ∈ u_ws C T N, w ∈ lw_all) (hc : CL[ci]? = some (C, T, N)) (ha : σ.1 a = some (fl, .inr (ci, fs)))
    (hk : k < N) (hlink : Cond.fieldLink own index ref (T k).2.1 (T k).2.2.1 ∈ lw_all) (hsame : ∀ x, s.fieldFound? (T k).1 (T k).2.1 (T k).2.2.1 = some x → s.fieldFound? ref (T k).2.1 (T k).2.2.1 = some x) (hv : fs[k]? = some v) (hdg : decode cc pc = .ok (.getfield index, 3))
    (kk : W p l e R s m args below meth c H locs cells slots Q (F0 m (pc + 3) ls (v :: rest))) : W p l e R s m args below meth c H locs cells slots Q (F0 m pc ls (.ref a :: rest)) := by
  obtain ⟨⟨hx, hb, hml, hown, hts⟩, -, -, hK, -, -, -⟩ := X
  obtain ⟨hS, hfc, kC, hkC, hkind⟩ := hK.1.1 ci _ hc
  obtain ⟨cf, kf, fi, f, hi, hsl⟩ := hS k hk
  have h0 := I.1.1 a _ ha
  have hst := (u_facts hfc hkC (u_lays hts hin hk) hi).1
  cases fl with
  | true =>
    obtain ⟨r, h1, cell, q1, q2, q3, q4⟩ := (h0 : mRw E a (.inr (ci, fs)) H)
    have hr : r = (C, T, N) := clx h1 hc
    subst hr
    refine W.getf hx hb hown (hts _ hlink) (hsame _ hi) hst q1 (by rw [q3]; exact fun h => by cases h) (v := v) ?_ rfl rfl hdg kk
    rw [hsl, q4 k hk]
    simp [vp_V, hv]
  | false =>
    obtain ⟨r, cell, h1, q1, q2, q3, q4, q5⟩ := (h0 : mRo E a (.inr (ci, fs)) H)
    have hr : r = (C, T, N) := clx h1 hc
    subst hr
    refine W.getf hx hb hown (hts _ hlink) (hsame _ hi) hst q1 q3 (v := v) ?_ rfl rfl hdg kk
    rw [hsl, q5 k hk]
    simp [vp_V, hv]
theorem mAt.rw {x : (Nat × vp_A) ⊕ (Nat × List Value)} (h : mAt E a (true, x) H) : mRw E a x H := h
theorem mAt.ro {x : (Nat × vp_A) ⊕ (Nat × List Value)} (h : mAt E a (false, x) H) : mRo E a x H := h
theorem HW.set {H1 : Heap} {x y : (Nat × vp_A) ⊕ (Nat × List Value)} (h : HW E σ H) (ha : σ.1 a = some (true, x)) (he : mRw E a y H1) (hz : H1.size = H.size) (ho : ∀ q, q ≠ a → H1[q]? = H[q]?) : HW E (hup σ.1 a (true, y), σ.2) H1 := by
  obtain ⟨h1, h2, h3, h4, h6, h7⟩ := h
  have hlo := h2 a x ha
  unfold HW
  refine ⟨fun b z hb => ?_, fun b z hb => ?_, hz.trans h3, fun b hb1 hb2 => ?_, fun q hq => ?_, by omega⟩
  · by_cases hba : b = a
    · subst hba
      have hb : hup σ.1 b (true, y) b = some z := hb
      rw [hup_s] at hb
      cases hb
      exact he
    · have hb : hup σ.1 a (true, y) b = some z := hb
      rw [hup_n hba] at hb
      exact (h1 b z hb).kept (ho b hba)
  · by_cases hba : b = a
    · subst hba; exact hlo
    · have hb : hup σ.1 a (true, y) b = some (true, z) := hb
      rw [hup_n hba] at hb
      exact h2 b z hb
  · by_cases hba : b = a
    · subst hba; exact ⟨y, hup_s _ _ _⟩
    · obtain ⟨z, hz⟩ := h4 b hb1 hb2
      exact ⟨z, by rw [← hz]; exact hup_n hba⟩
  · rw [ho q (by omega)]
    exact h6 q hq
theorem WI.set {H1 : Heap} {i : Nat} {x y : (Nat × vp_A) ⊕ (Nat × List Value)} (I : WI E R s σ H locs cells slots) (ha : σ.1 a = some (true, x)) (he : mRw E a y H1) (hz : H1.size = H.size) (ho : ∀ q, q ≠ a → H1[q]? = H[q]?) (hs : ∀ c c1 : Cell, H[a]? = some c → H1[a]? = some c1 → c1.slots.size = c.slots.size) :
    WI E R s (hup σ.1 a (true, y), σ.2) H1 (locs ++ [⟨a, i⟩]) cells slots := by
  obtain ⟨h1, h2, h3, h4, h5, h6, h7⟩ := I
  have hh : hsum H1 = hsum H := hsum_same hz (fun q c c1 g1 g2 => by
    by_cases hq : q = a
    · subst hq; exact hs c c1 g1 g2
    · rw [ho q hq, g1] at g2
      cases g2; rfl)
  unfold WI
  refine ⟨h1.set ha he hz ho, fun q hq => ?_, h3, h4, by rw [hz]; exact h5, by rw [hh]; exact h6, by rw [hz]; exact h7⟩
  rcases List.mem_append.mp hq with h | h
  · exact h2 q h
  · rw [List.mem_singleton] at h
    subst h
    exact h1.2.1 a x ha
theorem r_put (X : MX E p s m args meth c cc nL ret own nm) (I : WI E R s σ H locs cells slots) {ref C : String} {T : u_T} {N ci index k : Nat} {fs : List Value} {v : Value} {ty : FieldType} (hin : ∀ w ∈ u_ws C T N, w ∈ lw_all) (ty0 : Nat → FieldType) (hty : ∀ k, k < N → parseFieldDescriptor (T k).2.2.1 = some (ty0 k)) (hnm : ∀ a, a < N → ∀ b, b < N → a ≠ b → (T a).2.1 ≠ (T b).2.1) (hc : CL[ci]? = some (C, T, N)) (ha : σ.1 a = some (true, .inr (ci, fs)))
    (hk : k < N) (hlink : Cond.fieldLink own index ref (T k).2.1 (T k).2.2.1 ∈ lw_all) (hsame : ∀ x, s.fieldFound? (T k).1 (T k).2.1 (T k).2.2.1 = some x → s.fieldFound? ref (T k).2.1 (T k).2.2.1 = some x) (hfin : (T k).2.2.2 = false) (hd : ty0 k = ty) (hn : narrow ty v = v) (hfit : fits ty v = true) (hl : k < fs.length) (hdg : decode cc pc = .ok (.putfield index, 3))
    (kk : ∀ (H : Heap) (locs : List Loc), WI E R s (hup σ.1 a (true, .inr (ci, fs.set k v)), σ.2) H locs cells slots → W p l e R s m args below meth c H locs cells slots Q (F0 m (pc + 3) ls rest)) : W p l e R s m args below meth c H locs cells slots Q (F0 m pc ls (v :: .ref a :: rest)) := by
  obtain ⟨⟨hx, hb, hml, hown, hts⟩, -, -, hK, -, -, -⟩ := X
  have hap := va_apart (own := own) (args := args) (s := s) hts hin ty0 hty hnm hK.1 hc
  obtain ⟨hS, hfc, kC, hkC, hkind⟩ := hK.1.1 ci _ hc
  obtain ⟨cf, kf, fi, f, hi, hsl⟩ := hS k hk
  obtain ⟨r, h1, cell, q1, q2, q3, q4⟩ := (I.1.1 a _ ha : mRw E a (.inr (ci, fs)) H)
  have hr : r = (C, T, N) := clx h1 hc
  subst hr
  have hlay := hts _ (hin _ (u_in_lay hk))
  unfold u_lay at hlay
  rw [if_neg (by rw [hfin]; decide)] at hlay
  have hst := (u_facts hfc hkC (u_lays hts hin hk) hi).1
  have h6 := u_store hfc hkC hkind hlay hi (by rw [hty k hk, hd]) hn hfit
  refine W.putK hx hb (f := f) ⟨hown, hts _ hlink, ⟨_, _, _, hsame _ hi⟩, hst⟩ (by rw [q2]; exact h6) q1 q3 (by rw [hsl]; exact k2_hasslot (q4 k hk)) rfl rfl hdg fun H' e1 e2 e3 => ?_
  rw [hsl] at e1 ⊢
  refine kk H' _ (I.set ha ⟨_, clu hc, t_OB.to (V := updV (vp_V fs) k v) ⟨_, e1, q2, q3, t_set q4 hap hk v⟩ (fun j _ => vp_updV_set hl v j)⟩ e2 e3 ?_)
  intro c c1 g1 g2
  rw [q1] at g1; cases g1
  rw [e1] at g2; cases g2
  simp [Cell.setSlot]
theorem r_ald (X : MX E p s m args meth c cc nL ret own nm) (I : WI E R s σ H locs cells slots) {t n : Nat} {f : Nat → Int32} {i : Int32} {ty : FieldType} (ht : t < 7) (hty : aty t = ty) (ha : σ.1 a = some (true, .inl (t, n, .inl f))) (hin : vp_in i n) :
    ∃ cell : Cell, H[a]? = some cell ∧ s.isArrayOf cell ty ∧ cell.vm ≠ .unknown ∧ ¬ (i < 0 ∨ cell.slots.size ≤ i.toNatClampNeg) ∧ cell.slots[i.toNatClampNeg]? = some (.int (f i.toNatClampNeg)) := by
  have hlt : i.toNatClampNeg < n := Nat.not_le.mp fun q => hin (Or.inr q)
  subst hty
  refine ⟨_, (I.1.1 a _ ha).rw, (X.2.2.2.1.2.1 t ht).1 n (fun j => .int (f j)), (fun q => by cases q), ?_, ?_⟩
  · show ¬ (i < 0 ∨ (arrV _ _ _).slots.size ≤ _)
    rw [arrV_size]; exact hin
  · show (arrV _ _ _).slots[_]? = _
    rw [arrV_read _ _ hlt]
theorem r_iald (X : MX E p s m args meth c cc nL ret own nm) (I : WI E R s σ H locs cells slots) {n : Nat} {f : Nat → Int32} {i : Int32} (ha : σ.1 a = some (true, .inl (0, n, .inl f))) (hin : vp_in i n) (hdg : decode cc pc = .ok (.iaload, 1))
    (kk : W p l e R s m args below meth c H locs cells slots Q (F0 m (pc + 1) ls (.int (f i.toNatClampNeg) :: rest))) : W p l e R s m args below meth c H locs cells slots Q (F0 m pc ls (.int i :: .ref a :: rest)) := by
  obtain ⟨cell, h1, h2, h3, h4, h5⟩ := r_ald (ty := .int) X I (by decide) rfl ha hin
  exact W.iald X.1.1 X.1.2.1 h1 h2 h3 h4 h5 rfl rfl hdg kk
theorem r_bald (X : MX E p s m args meth c cc nL ret own nm) (I : WI E R s σ H locs cells slots) {n : Nat} {f : Nat → Int32} {i : Int32} (ha : σ.1 a = some (true, .inl (1, n, .inl f))) (hin : vp_in i n) (hdg : decode cc pc = .ok (.baload, 1))
    (kk : W p l e R s m args below meth c H locs cells slots Q (F0 m (pc + 1) ls (.int (f i.toNatClampNeg) :: rest))) : W p l e R s m args below meth c H locs cells slots Q (F0 m pc ls (.int i :: .ref a :: rest)) := by
  obtain ⟨cell, h1, h2, h3, h4, h5⟩ := r_ald (ty := .byte) X I (by decide) rfl ha hin
  exact W.bald X.1.1 X.1.2.1 h1 h2 h3 h4 h5 rfl rfl hdg kk
theorem r_arrset {H1 : Heap} {t n k : Nat} {f : Nat → Int32} {x : Int32} (e : H1[a]? = some ((vp_cell (E.2.1 t) (n, .inl f)).setSlot k (.int x))) : mRw E a (.inl (t, n, .inl (upd f k x))) H1 := by
  show H1[a]? = some (vp_cell _ _)
  rw [e, vp_cell_i, vp_cell_i, arrV_store]
  congr 2
  funext q
  by_cases hq : q = k
  · subst hq
    simp [updV, upd]
  · simp [updV, upd, hq]
theorem r_iast (X : MX E p s m args meth c cc nL ret own nm) (I : WI E R s σ H locs cells slots) {n : Nat} {f : Nat → Int32} {i x : Int32} (ha : σ.1 a = some (true, .inl (0, n, .inl f))) (hin : vp_in i n) (hdg : decode cc pc = .ok (.iastore, 1))
    (kk : ∀ (H : Heap) (locs : List Loc), WI E R s (hup σ.1 a (true, .inl (0, n, .inl (upd f i.toNatClampNeg x))), σ.2) H locs cells slots → W p l e R s m args below meth c H locs cells slots Q (F0 m (pc + 1) ls rest)) : W p l e R s m args below meth c H locs cells slots Q (F0 m pc ls (.int x :: .int i :: .ref a :: rest)) := by
  have h1 : H[a]? = some (vp_cell (E.2.1 0) (n, .inl f)) := (I.1.1 a _ ha).rw
  refine W.iast X.1.1 X.1.2.1 h1 ((X.2.2.2.1.2.1 0 (by decide)).1 n (fun j => .int (f j))) (fun q => by cases q) (by show ¬ (i < 0 ∨ (arrV _ _ _).slots.size ≤ _); rw [arrV_size]; exact hin) rfl rfl hdg fun H1 e z oq => ?_
  refine kk H1 _ (I.set ha (r_arrset e) z oq ?_)
  intro c c1 g1 g2
  rw [h1] at g1; cases g1
  rw [e] at g2; cases g2
  simp [Cell.setSlot]
theorem r_bast (X : MX E p s m args meth c cc nL ret own nm) (I : WI E R s σ H locs cells slots) {n : Nat} {f : Nat → Int32} {i x y : Int32} (ha : σ.1 a = some (true, .inl (1, n, .inl f))) (hin : vp_in i n) (hy : x.toInt8.toInt32 = y) (hdg : decode cc pc = .ok (.bastore, 1))
    (kk : ∀ (H : Heap) (locs : List Loc), WI E R s (hup σ.1 a (true, .inl (1, n, .inl (upd f i.toNatClampNeg y))), σ.2) H locs cells slots → W p l e R s m args below meth c H locs cells slots Q (F0 m (pc + 1) ls rest)) : W p l e R s m args below meth c H locs cells slots Q (F0 m pc ls (.int x :: .int i :: .ref a :: rest)) := by
  have h1 : H[a]? = some (vp_cell (E.2.1 1) (n, .inl f)) := (I.1.1 a _ ha).rw
  refine W.bast X.1.1 X.1.2.1 h1 ((X.2.2.2.1.2.1 1 (by decide)).1 n (fun j => .int (f j))) (fun q => by cases q) (by show ¬ (i < 0 ∨ (arrV _ _ _).slots.size ≤ _); rw [arrV_size]; exact hin) rfl rfl hdg fun H1 e z oq => ?_
  have e : H1[a]? = some ((vp_cell (E.2.1 1) (n, .inl f)).setSlot i.toNatClampNeg (.int y)) := by
    rw [e, ← hy]; rfl
  refine kk H1 _ (I.set ha (r_arrset e) z oq ?_)
  intro c c1 g1 g2
  rw [h1] at g1; cases g1
  rw [e] at g2; cases g2
  simp [Cell.setSlot]
theorem WI.us {t : State} (I : WI E R s σ H locs cells slots) (ht : t.heap = H) : Us R.cells R.slots σ s t := by
  obtain ⟨-, -, h3, h4, h5, h6, h7⟩ := I
  unfold Us
  rw [ht]
  exact ⟨h5, h6, by omega, by omega, h7⟩
/-- the ends -/
theorem r_iret {r : Int32} (X : MX E p s m args meth c cc nL (some .int) own nm) (I : WI E R s σ H locs cells slots) (hdg : decode cc pc = .ok (.ireturn, 1)) : W p l e R s m args below meth c H locs cells slots (MQ below (Qd E R.cells R.slots (some (.int r)) σ) args s R.cells R.slots (fr E)) (F0 m pc ls [.int r]) := by
  obtain ⟨⟨hx, hb, hml, hown, hts⟩, hr, hlocks, hK, hE, -, -⟩ := X
  refine W.widen (k := R.cells) (n := R.slots) (by have := I.2.2.1; omega) (by have := I.2.2.2.1; omega) ?_
  exact W.iret hx hb hr (fun t ht hW => ⟨rfl, ⟨KW.warm hE hW hK, by rw [ht]; exact I.1⟩, I.us ht⟩) I.2.1 hdg
theorem r_zret {r : Int32} (X : MX E p s m args meth c cc nL (some .boolean) own nm) (I : WI E R s σ H locs cells slots) (h01 : r = 0 ∨ r = 1) (hdg : decode cc pc = .ok (.ireturn, 1)) : W p l e R s m args below meth c H locs cells slots (MQ below (Qd E R.cells R.slots (some (.int r)) σ) args s R.cells R.slots (fr E)) (F0 m pc ls [.int r]) := by
  obtain ⟨⟨hx, hb, hml, hown, hts⟩, hr, hlocks, hK, hE, -, -⟩ := X
  refine W.widen (k := R.cells) (n := R.slots) (by have := I.2.2.1; omega) (by have := I.2.2.2.1; omega) ?_
  exact W.zret hx hb hr (by rcases h01 with h | h <;> (subst h; rfl)) (fun t ht hW => ⟨rfl, ⟨KW.warm hE hW hK, by rw [ht]; exact I.1⟩, I.us ht⟩) I.2.1 hdg
theorem r_vret (X : MX E p s m args meth c cc nL none own nm) (I : WI E R s σ H locs cells slots) (hdg : decode cc pc = .ok (.return_, 1)) : W p l e R s m args below meth c H locs cells slots (MQ below (Qd E R.cells R.slots none σ) args s R.cells R.slots (fr E)) (F0 m pc ls []) := by
  obtain ⟨⟨hx, hb, hml, hown, hts⟩, hr, hlocks, hK, hE, -, -⟩ := X
  refine W.widen (k := R.cells) (n := R.slots) (by have := I.2.2.1; omega) (by have := I.2.2.2.1; omega) ?_
  exact W.vret hx hb hr (fun t ht hW => ⟨rfl, ⟨KW.warm hE hW hK, by rw [ht]; exact I.1⟩, I.us ht⟩) I.2.1 hdg
theorem r_dret {r : UInt64} (X : MX E p s m args meth c cc nL (some .double) own nm) (I : WI E R s σ H locs cells slots) (hdg : decode cc pc = .ok (.dreturn, 1)) : W p l e R s m args below meth c H locs cells slots (MQ below (Qd E R.cells R.slots (some (.double r)) σ) args s R.cells R.slots (fr E)) (F0 m pc ls [.double r]) := by
  obtain ⟨⟨hx, hb, hml, hown, hts⟩, hr, hlocks, hK, hE, -, -⟩ := X
  refine W.widen (k := R.cells) (n := R.slots) (by have := I.2.2.1; omega) (by have := I.2.2.2.1; omega) ?_
  exact W.dret hx hb hr (fun t ht hW => ⟨rfl, ⟨KW.warm hE hW hK, by rw [ht]; exact I.1⟩, I.us ht⟩) I.2.1 hdg
theorem r_fret {r : UInt32} (X : MX E p s m args meth c cc nL (some .float) own nm) (I : WI E R s σ H locs cells slots) (hdg : decode cc pc = .ok (.freturn, 1)) : W p l e R s m args below meth c H locs cells slots (MQ below (Qd E R.cells R.slots (some (.float r)) σ) args s R.cells R.slots (fr E)) (F0 m pc ls [.float r]) := by
  obtain ⟨⟨hx, hb, hml, hown, hts⟩, hr, hlocks, hK, hE, -, -⟩ := X
  refine W.widen (k := R.cells) (n := R.slots) (by have := I.2.2.1; omega) (by have := I.2.2.2.1; omega) ?_
  exact W.fret hx hb hr (fun t ht hW => ⟨rfl, ⟨KW.warm hE hW hK, by rw [ht]; exact I.1⟩, I.us ht⟩) I.2.1 hdg
end ROWS
