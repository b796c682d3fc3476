/-! THE REFERENCE's object: its state as numbers, and its rows -/
set_option maxRecDepth 100000
abbrev TS : Type := (Nat → Nat → Int32) × Int64
def su (σ : TS) (k i : Nat) (v : Int32) : TS := (fun a b => if a = k ∧ b = i then v else σ.1 a b, σ.2)
def sw (σ : TS) (w : Int64) : TS := (σ.1, w)
/-- array fields by their order (0: none) -/
def twj : Nat → Nat := fun k => match k with
  | 1 => 1
  | 2 => 2
  | 3 => 3
  | 4 => 4
  | 11 => 5
  | 12 => 6
  | 13 => 7
  | 14 => 8
  | 19 => 9
  | 20 => 10
  | 21 => 11
  | 22 => 12
  | 32 => 13
  | 33 => 14
  | 34 => 15
  | 35 => 16
  | 36 => 17
  | 37 => 18
  | 38 => 19
  | 45 => 20
  | 46 => 21
  | 48 => 22
  | 49 => 23
  | 50 => 24
  | _ => 0
def twlen : Nat → Nat := fun j => match j with
  | 1 => 581
  | 2 => 581
  | 3 => 581
  | 4 => 5810
  | 5 => 64
  | 6 => 4
  | 7 => 4
  | 8 => 4
  | 9 => 64
  | 10 => 4
  | 11 => 4
  | 12 => 800
  | 13 => 14
  | 14 => 14
  | 15 => 14
  | 16 => 14
  | 17 => 14
  | 18 => 14
  | 19 => 24
  | 20 => 40
  | 21 => 120
  | _ => 200
def twV (h : Nat) (σ : TS) (k : Nat) : Value := if k = 29 then .long σ.2 else if twj k = 0 then .int (σ.1 0 k) else .ref (h + twj k)
def twF (h : Nat) (σ : TS) : List Value := (List.range 54).map (twV h σ)
theorem twF_len (h : Nat) (σ : TS) : (twF h σ).length = 54 := by simp [twF]
theorem twF_at (h : Nat) (σ : TS) {k : Nat} (hk : k < 54) : (twF h σ)[k]? = some (twV h σ k) := by simp [twF, hk]
theorem twF_put (h : Nat) (σ : TS) {k : Nat} (v : Int32) (hk : k < 54) (h1 : k ≠ 29) (h2 : twj k = 0) : (twF h σ).set k (.int v) = twF h (su σ 0 k v) := by
  apply List.ext_getElem?
  intro j
  by_cases hj : j < 54
  · rw [twF_at h _ hj]
    by_cases hjk : j = k
    · subst hjk
      rw [List.getElem?_set_self (by rw [twF_len]; exact hj)]
      simp [twV, h1, h2, su]
    · rw [List.getElem?_set_ne (Ne.symm hjk), twF_at h _ hj]
      simp [twV, su, hjk]
  · rw [List.getElem?_eq_none (by simp [twF_len]; omega), List.getElem?_eq_none (by simp [twF_len]; omega)]
theorem twF_putL (h : Nat) (σ : TS) (v : Int64) : (twF h σ).set 29 (.long v) = twF h (sw σ v) := by
  apply List.ext_getElem?
  intro j
  by_cases hj : j < 54
  · rw [twF_at h _ hj]
    by_cases hjk : j = 29
    · subst hjk
      rw [List.getElem?_set_self (by rw [twF_len]; exact hj)]
      simp [twV, sw]
    · rw [List.getElem?_set_ne (Ne.symm hjk), twF_at h _ hj]
      simp [twV, sw, hjk]
  · rw [List.getElem?_eq_none (by simp [twF_len]; omega), List.getElem?_eq_none (by simp [twF_len]; omega)]
def twE (h : Nat) (σ : TS) (j : Nat) : HE := (true, if j = 0 then .inr (ciX4, twF h σ) else .inl (if j = 21 then 1 else 0, twlen j, .inl (σ.1 j)))
def tw (h : Nat) (σ : TS) (g : Hp) : Hp := fun a => if h ≤ a ∧ a < h + 25 then some (twE h σ (a - h)) else g a
def twS (h : Nat) (σ : TS) (S : St) : St := (tw h σ S.1, S.2)
theorem tw_0 (h : Nat) (σ : TS) (S : St) : (twS h σ S).1 h = some (true, .inr (ciX4, twF h σ)) := by simp [twS, tw, twE]
theorem tw_j (h : Nat) (σ : TS) (S : St) {j : Nat} (h1 : j < 25) (h2 : j ≠ 0) (h3 : j ≠ 21) : (twS h σ S).1 (h + j) = some (true, .inl (0, twlen j, .inl (σ.1 j))) := by
  have : h ≤ h + j ∧ h + j < h + 25 := by omega
  simp [twS, tw, twE, h1, h2, h3]
theorem tw_21 (h : Nat) (σ : TS) (S : St) : (twS h σ S).1 (h + 21) = some (true, .inl (1, 120, .inl (σ.1 21))) := by
  have : h ≤ h + 21 ∧ h + 21 < h + 25 := by omega
  simp [twS, tw, twE, twlen]
theorem twS_put (h : Nat) (σ : TS) (S : St) {k : Nat} (v : Int32) (hk : k < 54) (h1 : k ≠ 29) (h2 : twj k = 0) : (hup (twS h σ S).1 h (true, .inr (ciX4, (twF h σ).set k (.int v))), (twS h σ S).2) = twS h (su σ 0 k v) S := by
  rw [twF_put h σ v hk h1 h2]
  refine Prod.ext ?_ rfl
  funext a
  simp only [twS, tw, hup]
  by_cases ha : a = h
  · subst ha
    simp [twE]
  · simp only [ha, if_false]
    by_cases hb : h ≤ a ∧ a < h + 25
    · have : a - h ≠ 0 := by omega
      simp [hb, twE, this, su]
    · simp [hb]
theorem twS_putL (h : Nat) (σ : TS) (S : St) (v : Int64) : (hup (twS h σ S).1 h (true, .inr (ciX4, (twF h σ).set 29 (.long v))), (twS h σ S).2) = twS h (sw σ v) S := by
  rw [twF_putL h σ v]
  refine Prod.ext ?_ rfl
  funext a
  simp only [twS, tw, hup]
  by_cases ha : a = h
  · subst ha
    simp [twE]
  · simp only [ha, if_false]
    by_cases hb : h ≤ a ∧ a < h + 25
    · have : a - h ≠ 0 := by omega
      simp [hb, twE, this, sw]
    · simp [hb]
theorem twS_arr (h : Nat) (σ : TS) (S : St) {j t n k : Nat} {v : Int32} (hj : j < 25) (h0 : j ≠ 0) (ht : t = if j = 21 then 1 else 0) (hn : n = twlen j) : (hup (twS h σ S).1 (h + j) (true, .inl (t, n, .inl (upd (σ.1 j) k v))), (twS h σ S).2) = twS h (su σ j k v) S := by
  refine Prod.ext ?_ rfl
  funext a
  simp only [twS, tw, hup]
  by_cases ha : a = h + j
  · subst ha
    have : h ≤ h + j ∧ h + j < h + 25 := by omega
    simp only [this, and_self, if_true, Nat.add_sub_cancel_left]
    have e : (su σ j k v).1 j = upd (σ.1 j) k v := by
      funext b
      simp [upd, su]
    simp only [twE, h0, if_false, ht, hn, e]
  · simp only [ha, if_false]
    by_cases hb : h ≤ a ∧ a < h + 25
    · have hne : a - h ≠ j := by omega
      simp only [hb, and_self, if_true]
      by_cases hz : a - h = 0
      · simp only [twE, hz, if_true]
        have : twF h (su σ j k v) = twF h σ := by
          simp only [twF]
          apply List.map_congr_left
          intro q _
          have : ¬ (0 = j) := fun z => h0 z.symm
          simp [twV, su, this]
        rw [this]
      · have e : (su σ j k v).1 (a - h) = σ.1 (a - h) := by
          funext b
          simp [su, hne]
        simp only [twE, hz, if_false, e]
    · simp [hb]
/-- reading and writing an array -/
def rd (f : Nat → Int32) (n : Nat) (i : Int32) : Option Int32 := if i < 0 ∨ n ≤ i.toNatClampNeg then none else some (f i.toNatClampNeg)
def wr (σ : TS) (j n : Nat) (i v : Int32) : Option TS := if i < 0 ∨ n ≤ i.toNatClampNeg then none else some (su σ j i.toNatClampNeg v)
theorem rd_in {f : Nat → Int32} {n : Nat} {i v : Int32} (h : rd f n i = some v) : vp_in i n ∧ f i.toNatClampNeg = v := by
  unfold rd at h
  split at h
  · cases h
  · rename_i q; exact ⟨q, Option.some.inj h⟩
theorem wr_in {σ σ' : TS} {j n : Nat} {i v : Int32} (h : wr σ j n i v = some σ') : vp_in i n ∧ su σ j i.toNatClampNeg v = σ' := by
  unfold wr at h
  split at h
  · cases h
  · rename_i q; exact ⟨q, Option.some.inj h⟩
def lt {α : Type} {β : Type} (a : α) (f : α → β) : β := f a
theorem ob {α β : Type} {o : Option α} {f : α → Option β} {r : β} (h : o.bind f = some r) : ∃ v, o = some v ∧ f v = some r := by
  cases o with
  | none => cases h
  | some v => exact ⟨v, rfl, h⟩
theorem ol {α β : Type} {a : α} {f : α → Option β} {r : β} (h : lt a f = some r) : ∃ v, a = v ∧ f v = some r := ⟨a, rfl, h⟩
theorem ip {c : Prop} [Decidable c] {β : Type} {a b : Option β} {r : β} (hc : c) (h : (if c then a else b) = some r) : a = some r := by rw [if_pos hc] at h; exact h
theorem im {c : Prop} [Decidable c] {β : Type} {a b : Option β} {r : β} (hc : ¬ c) (h : (if c then a else b) = some r) : b = some r := by rw [if_neg hc] at h; exact h
theorem os {β : Type} {a r : β} (h : some a = some r) : a = r := Option.some.inj h
theorem sw_out {x : Int32} (lo hi : Int) (h : ∀ k : Int, lo ≤ k → k ≤ hi → ¬ x = Int32.ofInt k) : x.toInt < lo ∨ hi < x.toInt := by
  by_cases q : x.toInt < lo
  · exact Or.inl q
  · by_cases r : hi < x.toInt
    · exact Or.inr r
    · exact absurd (Int32.ofInt_toInt x).symm (h _ (by omega) (by omega))
def nn64 (r : UInt64) : Bool := decide (r &&& 0x7fffffffffffffff ≤ 0x7ff0000000000000)
def nn32 (r : UInt32) : Bool := decide (r &&& 0x7fffffff ≤ 0x7f800000)
theorem nn64_ok {r : UInt64} (h : nn64 r = true) : vf_n64 r := by unfold nn64 at h; unfold vf_n64; exact of_decide_eq_true h
theorem nn32_ok {r : UInt32} (h : nn32 r = true) : vf_n32 r := by unfold nn32 at h; unfold vf_n32; exact of_decide_eq_true h
section TW
variable {p : Program} {l : Launch} {e : Env} {R : Room} {s : State} {m : MethodId} {args : Array Value} {below : List Frame} {meth : Method} {c : Code} {H : Heap} {locs : List Loc} {cells slots : Nat} {Q : State → Prop}
variable {E : EV} {h : Nat} {σ σ' : TS} {S : St} {cc : ByteArray} {nL pc : Nat} {ret : Option FieldType} {own nm : String} {ls : Array Slot} {rest st0 : List Value}
theorem nm_i {x y : Int32} (h : x = y) (k : W p l e R s m args below meth c H locs cells slots Q (F0 m pc ls (.int y :: rest))) : W p l e R s m args below meth c H locs cells slots Q (F0 m pc ls (.int x :: rest)) := h ▸ k
theorem nm_j {x y : Int64} (h : x = y) (k : W p l e R s m args below meth c H locs cells slots Q (F0 m pc ls (.long y :: rest))) : W p l e R s m args below meth c H locs cells slots Q (F0 m pc ls (.long x :: rest)) := h ▸ k
theorem nm_d {x y : UInt64} (h : x = y) (k : W p l e R s m args below meth c H locs cells slots Q (F0 m pc ls (.double y :: rest))) : W p l e R s m args below meth c H locs cells slots Q (F0 m pc ls (.double x :: rest)) := h ▸ k
theorem tw_get (X : MX E p s m args meth c cc nL ret RX4 nm) (I : WI E R s (twS h σ S) H locs cells slots) {index : Nat} (k : Nat) {v : Value} (hk : k < 54) (hlink : Cond.fieldLink RX4 index (TX4 k).1 (TX4 k).2.1 (TX4 k).2.2.1 ∈ lw_all) (hv : twV h σ k = v) (hdg : decode cc pc = .ok (.getfield index, 3))
    (kk : W p l e R s m args below meth c H locs cells slots Q (F0 m (pc + 3) ls (v :: rest))) : W p l e R s m args below meth c H locs cells slots Q (F0 m pc ls (.ref h :: rest)) :=
  r_get (C := RX4) (T := TX4) (N := 54) (ci := ciX4) X I in_X4 rfl (tw_0 h σ S) hk hlink (fun _ h => h) (by rw [twF_at h σ hk, hv]) hdg kk
theorem tw_put (X : MX E p s m args meth c cc nL ret RX4 nm) (I : WI E R s (twS h σ S) H locs cells slots) {index : Nat} (k : Nat) {v : Int32} {ty : FieldType} (hk : k < 54) (h1 : k ≠ 29) (h2 : twj k = 0) (hlink : Cond.fieldLink RX4 index (TX4 k).1 (TX4 k).2.1 (TX4 k).2.2.1 ∈ lw_all) (hfin : (TX4 k).2.2.2 = false) (hd : tyX4 k = ty) (hn : narrow ty (.int v) = .int v) (hfit : fits ty (.int v) = true) (he : su σ 0 k v = σ') (hdg : decode cc pc = .ok (.putfield index, 3))
    (kk : ∀ (H : Heap) (locs : List Loc), WI E R s (twS h σ' S) H locs cells slots → W p l e R s m args below meth c H locs cells slots Q (F0 m (pc + 3) ls rest)) : W p l e R s m args below meth c H locs cells slots Q (F0 m pc ls (.int v :: .ref h :: rest)) :=
  r_put (C := RX4) (T := TX4) (N := 54) (ci := ciX4) X I in_X4 tyX4 tyX4_ok nmX4 rfl (tw_0 h σ S) hk hlink (fun _ h => h) hfin hd hn hfit (by rw [twF_len]; exact hk) hdg (fun H locs J => kk H locs (by rw [twS_put h σ S v hk h1 h2, he] at J; exact J))
theorem tw_putL (X : MX E p s m args meth c cc nL ret RX4 nm) (I : WI E R s (twS h σ S) H locs cells slots) {index : Nat} {v : Int64} (hlink : Cond.fieldLink RX4 index (TX4 29).1 (TX4 29).2.1 (TX4 29).2.2.1 ∈ lw_all) (he : sw σ v = σ') (hdg : decode cc pc = .ok (.putfield index, 3))
    (kk : ∀ (H : Heap) (locs : List Loc), WI E R s (twS h σ' S) H locs cells slots → W p l e R s m args below meth c H locs cells slots Q (F0 m (pc + 3) ls rest)) : W p l e R s m args below meth c H locs cells slots Q (F0 m pc ls (.long v :: .ref h :: rest)) :=
  r_put (C := RX4) (T := TX4) (N := 54) (ci := ciX4) (ty := .long) X I in_X4 tyX4 tyX4_ok nmX4 rfl (tw_0 h σ S) (by decide) hlink (fun _ h => h) rfl rfl rfl rfl (by rw [twF_len]; decide) hdg (fun H locs J => kk H locs (by rw [twS_putL h σ S v, he] at J; exact J))
theorem tw_ald (X : MX E p s m args meth c cc nL ret own nm) (I : WI E R s (twS h σ S) H locs cells slots) (j : Nat) {i v : Int32} (hj : j < 25) (h0 : j ≠ 0) (h1 : j ≠ 21) (hr : rd (σ.1 j) (twlen j) i = some v) (hdg : decode cc pc = .ok (.iaload, 1))
    (kk : W p l e R s m args below meth c H locs cells slots Q (F0 m (pc + 1) ls (.int v :: rest))) : W p l e R s m args below meth c H locs cells slots Q (F0 m pc ls (.int i :: .ref (h + j) :: rest)) := by
  obtain ⟨q1, q2⟩ := rd_in hr
  exact r_iald X I (tw_j h σ S hj h0 h1) q1 hdg (by rw [q2]; exact kk)
theorem tw_bald (X : MX E p s m args meth c cc nL ret own nm) (I : WI E R s (twS h σ S) H locs cells slots) {i v : Int32} (hr : rd (σ.1 21) 120 i = some v) (hdg : decode cc pc = .ok (.baload, 1))
    (kk : W p l e R s m args below meth c H locs cells slots Q (F0 m (pc + 1) ls (.int v :: rest))) : W p l e R s m args below meth c H locs cells slots Q (F0 m pc ls (.int i :: .ref (h + 21) :: rest)) := by
  obtain ⟨q1, q2⟩ := rd_in hr
  exact r_bald X I (tw_21 h σ S) q1 hdg (by rw [q2]; exact kk)
theorem tw_ast (X : MX E p s m args meth c cc nL ret own nm) (I : WI E R s (twS h σ S) H locs cells slots) (j : Nat) {i v : Int32} (hj : j < 25) (h0 : j ≠ 0) (h1 : j ≠ 21) (hr : wr σ j (twlen j) i v = some σ') (hdg : decode cc pc = .ok (.iastore, 1))
    (kk : ∀ (H : Heap) (locs : List Loc), WI E R s (twS h σ' S) H locs cells slots → W p l e R s m args below meth c H locs cells slots Q (F0 m (pc + 1) ls rest)) : W p l e R s m args below meth c H locs cells slots Q (F0 m pc ls (.int v :: .int i :: .ref (h + j) :: rest)) := by
  obtain ⟨q1, q2⟩ := wr_in hr
  exact r_iast X I (tw_j h σ S hj h0 h1) q1 hdg (fun H locs J => kk H locs (by rw [twS_arr h σ S hj h0 (by rw [if_neg h1]) rfl, q2] at J; exact J))
theorem tw_bast (X : MX E p s m args meth c cc nL ret own nm) (I : WI E R s (twS h σ S) H locs cells slots) {i v w : Int32} (hv : v.toInt8.toInt32 = w) (hr : wr σ 21 120 i w = some σ') (hdg : decode cc pc = .ok (.bastore, 1))
    (kk : ∀ (H : Heap) (locs : List Loc), WI E R s (twS h σ' S) H locs cells slots → W p l e R s m args below meth c H locs cells slots Q (F0 m (pc + 1) ls rest)) : W p l e R s m args below meth c H locs cells slots Q (F0 m pc ls (.int v :: .int i :: .ref (h + 21) :: rest)) := by
  obtain ⟨q1, q2⟩ := wr_in hr
  exact r_bast X I (tw_21 h σ S) q1 hv hdg (fun H locs J => kk H locs (by rw [twS_arr (j := 21) (t := 1) (n := 120) h σ S (by decide) (by decide) rfl rfl, q2] at J; exact J))
/-- a call of a method of the own object: of the row r (an int, nothing, or what it answers) -/
theorem tw_V {y : MethodName} {ycc : ByteArray} {maxL f lo n index : Nat} {yret : Option FieldType} {As : List Value} (r : Option Value) {rs : List Value} (X : MX E p s m args meth c cc nL ret RX4 nm) (I : WI E R s (twS h σ S) H locs cells slots)
    (hM : CM E l y (ws_ y ycc maxL yret) f lo (.ref h :: As) (twS h σ S) r (twS h σ' S)) (hT : GoodIn lw_all (wsV RX4 index RX4 y (ws_ y ycc maxL yret)))
    (hd : y.cls = RX4 ∧ y.cls ≠ "java/lang/invoke/MethodHandle" ∧ y.cls ≠ "java/lang/invoke/VarHandle" ∧ (parseMethodDescriptor y.desc).map (fun d => d.parameters.length) = some n) (hR : f + 1 ≤ R.frames ∧ 8 + (maxL + 11) + lo ≤ R.locals)
    (hn : As.length = n) (hsize : ls.size = nL) (hstack : st0 = As.reverse ++ .ref h :: rest) (hW : (rest.map fun v => v.category).sum ≤ 8) (hrs : r.toList ++ rest = rs) (hdg : decode cc pc = .ok (.invokevirtual index, 3))
    (kk : ∀ (H : Heap) (locs : List Loc) (cells slots : Nat), WI E R s (twS h σ' S) H locs cells slots → W p l e R s m args below meth c H locs cells slots Q (F0 m (pc + 3) ls rs)) : W p l e R s m args below meth c H locs cells slots Q (F0 m pc ls st0) := by
  subst hrs
  exact cm_V (ci := ciX4) (vw := (RX4, TX4, 54)) X I (tw_0 h σ S) rfl hM hT hd hR hn hsize hstack hW hdg kk
theorem tw_S {y : MethodName} {ycc : ByteArray} {maxL f lo n index : Nat} {yret : Option FieldType} {As : List Value} (r : Option Value) {rs : List Value} (X : MX E p s m args meth c cc nL ret own nm) (I : WI E R s (twS h σ S) H locs cells slots)
    (hM : CM E l y (ws_ y ycc maxL yret) f lo As (twS h σ S) r (twS h σ S)) (hT : GoodIn lw_all (va_wsS own index y (ws_ y ycc maxL yret)))
    (hd : y.cls ≠ "java/lang/invoke/MethodHandle" ∧ y.cls ≠ "java/lang/invoke/VarHandle" ∧ (parseMethodDescriptor y.desc).map (fun d => d.parameters.length) = some n) (hR : f + 1 ≤ R.frames ∧ 8 + (maxL + 11) + lo ≤ R.locals)
    (hn : As.length = n) (hsize : ls.size = nL) (hstack : st0 = As.reverse ++ rest) (hW : (rest.map fun v => v.category).sum ≤ 8) (hrs : r.toList ++ rest = rs) (hdg : decode cc pc = .ok (.invokestatic index, 3))
    (kk : ∀ (H : Heap) (locs : List Loc) (cells slots : Nat), WI E R s (twS h σ S) H locs cells slots → W p l e R s m args below meth c H locs cells slots Q (F0 m (pc + 3) ls rs)) : W p l e R s m args below meth c H locs cells slots Q (F0 m pc ls st0) := by
  subst hrs
  exact cm_S X I hM hT hd hR hn hsize hstack hW hdg kk
end TW
