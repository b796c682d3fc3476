/-! ROWS: arrays of longs -/
set_option maxRecDepth 100000
section LR
variable {p : Program} {l : Launch} {e : Env} {R : Room} {s : State} {m : MethodId} {args : Array Value} {below : List Frame} {meth : Method} {c : Code} {H : Heap} {locs : List Loc} {cells slots : Nat} {Q : State → Prop}
variable {E : EV} {σ σ' : St} {cc : ByteArray} {nL pc a : Nat} {ret : Option FieldType} {own nm : String} {ls : Array Slot} {rest st0 : List Value}
def aJ (σ : St) (a : Nat) (i : Int32) : Option Int64 := match σ.1 a with
  | some (true, .inl (t', n, .inr (.inl f))) => if t' = 2 then (if i < 0 ∨ n ≤ i.toNatClampNeg then none else some (f i.toNatClampNeg)) else none
  | _ => none
theorem aJ_in {i : Int32} {v : Int64} (h : aJ σ a i = some v) : ∃ (n : Nat) (f : Nat → Int64), σ.1 a = some (true, .inl (2, n, .inr (.inl f))) ∧ vp_in i n ∧ f i.toNatClampNeg = v := by
  unfold aJ at h
  split at h
  · rename_i t' n f hs
    split at h
    · rename_i ht
      subst ht
      split at h
      · cases h
      · rename_i hh
        exact ⟨n, f, hs, hh, Option.some.inj h⟩
    · cases h
  · cases h
theorem g_lald (X : MX E p s m args meth c cc nL ret own nm) (I : WI E R s σ H locs cells slots) {i : Int32} {v : Int64} (h : aJ σ a i = some v) (hdg : decode cc pc = .ok (.laload, 1))
    (kk : W p l e R s m args below meth c H locs cells slots Q (F0 m (pc + 1) ls (.long v :: rest))) : W p l e R s m args below meth c H locs cells slots Q (F0 m pc ls (.int i :: .ref a :: rest)) := by
  obtain ⟨n, f, h1, hin, rfl⟩ := aJ_in h
  have hlt : i.toNatClampNeg < n := Nat.not_le.mp fun q => hin (Or.inr q)
  exact W.lald (v := .long (f i.toNatClampNeg)) X.1.1 X.1.2.1 (I.1.1 a _ h1).rw ((X.2.2.2.1.2.1 2 (by decide)).1 n (fun j => .long (f j))) (fun q => by cases q) (by show ¬ (i < 0 ∨ (arrV _ _ _).slots.size ≤ _); rw [arrV_size]; exact hin) (by show (arrV _ _ _).slots[_]? = _; rw [arrV_read _ _ hlt]) rfl rfl hdg kk
def sJ (σ : St) (a : Nat) (i : Int32) (v : Int64) : Option St := match σ.1 a with
  | some (true, .inl (t', n, .inr (.inl f))) => if t' = 2 then (if i < 0 ∨ n ≤ i.toNatClampNeg then none else some (hup σ.1 a (true, .inl (2, n, .inr (.inl (vp_updL f i.toNatClampNeg v)))), σ.2)) else none
  | _ => none
theorem sJ_in {i : Int32} {v : Int64} (h : sJ σ a i v = some σ') : ∃ (n : Nat) (f : Nat → Int64), σ.1 a = some (true, .inl (2, n, .inr (.inl f))) ∧ vp_in i n ∧ σ' = (hup σ.1 a (true, .inl (2, n, .inr (.inl (vp_updL f i.toNatClampNeg v)))), σ.2) := by
  unfold sJ at h
  split at h
  · rename_i t' n f hs
    split at h
    · rename_i ht
      subst ht
      split at h
      · cases h
      · rename_i hh
        exact ⟨n, f, hs, hh, (Option.some.inj h).symm⟩
    · cases h
  · cases h
theorem g_last (X : MX E p s m args meth c cc nL ret own nm) (I : WI E R s σ H locs cells slots) {i : Int32} {v : Int64} (h : sJ σ a i v = some σ') (hdg : decode cc pc = .ok (.lastore, 1))
    (kk : ∀ (H : Heap) (locs : List Loc), WI E R s σ' H locs cells slots → W p l e R s m args below meth c H locs cells slots Q (F0 m (pc + 1) ls rest)) : W p l e R s m args below meth c H locs cells slots Q (F0 m pc ls (.long v :: .int i :: .ref a :: rest)) := by
  obtain ⟨n, f, ha, hin, rfl⟩ := sJ_in h
  have h1 : H[a]? = some (vp_cell (E.2.1 2) (n, .inr (.inl f))) := (I.1.1 a _ ha).rw
  refine W.last X.1.1 X.1.2.1 h1 ((X.2.2.2.1.2.1 2 (by decide)).1 n (fun j => .long (f j))) (fun q => by cases q) (by show ¬ (i < 0 ∨ (arrV _ _ _).slots.size ≤ _); rw [arrV_size]; exact hin) rfl rfl hdg fun H1 e z oq => ?_
  refine kk H1 _ (I.set ha ?_ z oq ?_)
  · show H1[a]? = some (vp_cell _ _)
    rw [e, vp_cell_l, vp_cell_l, arrV_store]
    congr 2
    funext q
    by_cases hq : q = i.toNatClampNeg
    · subst hq
      simp [updV, vp_updL]
    · simp [updV, vp_updL, hq]
  · intro c c1 g1 g2
    rw [h1] at g1; cases g1
    rw [e] at g2; cases g2
    simp [Cell.setSlot]
/-- a byte, a char as the answer -/
theorem r_nretB {r : Int32} (X : MX E p s m args meth c cc nL (some .byte) own nm) (I : WI E R s σ H locs cells slots) (h : r.toInt8.toInt32 = r) (hdg : decode cc pc = .ok (.ireturn, 1)) : W p l e R s m args below meth c H locs cells slots (MQ below (Qd E R.cells R.slots (some (.int r)) σ) args s R.cells R.slots (fr E)) (F0 m pc ls [.int r]) := by
  obtain ⟨⟨hx, hb, hml, hown, hts⟩, hr, hlocks, hK, hE, -, -⟩ := X
  refine W.widen (k := R.cells) (n := R.slots) (by have := I.2.2.1; omega) (by have := I.2.2.2.1; omega) ?_
  exact W.zret hx hb hr (congrArg Value.int h) (fun t ht hW => ⟨rfl, ⟨KW.warm hE hW hK, by rw [ht]; exact I.1⟩, I.us ht⟩) I.2.1 hdg
theorem r_nretC {r : Int32} (X : MX E p s m args meth c cc nL (some .char) own nm) (I : WI E R s σ H locs cells slots) (h : (r.toUInt32 % 65536).toInt32 = r) (hdg : decode cc pc = .ok (.ireturn, 1)) : W p l e R s m args below meth c H locs cells slots (MQ below (Qd E R.cells R.slots (some (.int r)) σ) args s R.cells R.slots (fr E)) (F0 m pc ls [.int r]) := by
  obtain ⟨⟨hx, hb, hml, hown, hts⟩, hr, hlocks, hK, hE, -, -⟩ := X
  refine W.widen (k := R.cells) (n := R.slots) (by have := I.2.2.1; omega) (by have := I.2.2.2.1; omega) ?_
  exact W.zret hx hb hr (congrArg Value.int h) (fun t ht hW => ⟨rfl, ⟨KW.warm hE hW hK, by rw [ht]; exact I.1⟩, I.us ht⟩) I.2.1 hdg
end LR
