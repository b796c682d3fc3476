/-! walks over the abstract heap (printed by gen/gwalk.py) -/
set_option maxRecDepth 100000
/-! SharedTaxis.inRange(JJJ)Z imp=False fuel=False kap=False rt=I thr=False -/
def fX1_inRange (σ : St) (x0 : Int64) (x2 : Int64) (x4 : Int64) : Option Int32 := if 0 < (lg_cmp x2 x0) then some (0 : Int32) else if 0 < (lg_cmp x0 x4) then some (0 : Int32) else some (1 : Int32)
theorem wX1_inRange_0 {E : EV} {l : Launch} {p : Program} {e : Env} {s : State} {m : MethodId} {args : Array Value} {below : List Frame} {meth : Method} {c : Code} {R : Room} {σ : St} {res : Int32} (hX : XK E) (hR : 0 ≤ R.frames ∧ 0 ≤ R.locals) (X : MX E p s m args meth c cX1_inRange 6 (some .boolean) RX1 "inRange") : ∀ (x0 : Int64) (x2 : Int64) (x4 : Int64) (H : Heap) (locs : List Loc) (cells slots : Nat) (ls : Array Slot), WI E R s σ H locs cells slots → lv_has ls 6 [(0, .long x0), (2, .long x2), (4, .long x4)] → fX1_inRange σ x0 x2 x4 = some res → W p l e R s m args below meth c H locs cells slots (MQ below (Qd E R.cells R.slots (some (.int res)) σ) args s R.cells R.slots (fr E)) (F0 m 0 ls []) := by
  intro x0 x2 x4 H locs cells slots ls I hl hf
  obtain ⟨⟨hx, hb, hml, hown, hts⟩, -⟩ := id X
  unfold fX1_inRange at hf
  refine lv_lload_n hx hb dX1_inRange_0 rfl (lv_at hl 1 rfl) ?_
  refine lv_lload_n hx hb dX1_inRange_1 rfl (lv_at hl 0 rfl) ?_
  refine W.lcmp hx hb dX1_inRange_2 ?_
  refine lv_if_gt (tgt := 17) hx hb dX1_inRange_3 (by decide) (fun c_3 => ?_) (fun c_3 => ?_)
  · have hf := ip c_3 hf
    refine lv_iconst (v := 0) hx hb dX1_inRange_17 (by decide) ?_
    cases os hf
    exact r_zret X I (Or.inl rfl) dX1_inRange_18
  · have hf := im c_3 hf
    refine lv_lload_n hx hb dX1_inRange_6 rfl (lv_at hl 0 rfl) ?_
    refine lv_lload hx hb dX1_inRange_7 (lv_at hl 2 rfl) ?_
    refine W.lcmp hx hb dX1_inRange_9 ?_
    refine lv_if_gt (tgt := 17) hx hb dX1_inRange_10 (by decide) (fun c_10 => ?_) (fun c_10 => ?_)
    · have hf := ip c_10 hf
      refine lv_iconst (v := 0) hx hb dX1_inRange_17 (by decide) ?_
      cases os hf
      exact r_zret X I (Or.inl rfl) dX1_inRange_18
    · have hf := im c_10 hf
      refine lv_iconst (v := 1) hx hb dX1_inRange_13 (by decide) ?_
      refine lv_goto (tgt := 18) hx hb dX1_inRange_14 (by decide) ?_
      cases os hf
      exact r_zret X I (Or.inr rfl) dX1_inRange_18
theorem mX1_inRange {E : EV} {l : Launch} {σ : St} {x0 : Int64} {x2 : Int64} {x4 : Int64} {res : Int32} (hX : XK E) (hf : fX1_inRange σ x0 x2 x4 = some res) : CM E l yX1_inRange (ws_ yX1_inRange cX1_inRange 6 (some .boolean)) 0 0 [.long x0, .long x2, .long x4] σ (some (.int res)) σ := by
  refine CM.of hX.1 (by decide) rfl rfl (Nat.le_of_ble_eq_true rfl) ?_
  intro p e s m below meth c X I ls hl
  exact wX1_inRange_0 hX ⟨Nat.le_refl _, Nat.le_refl _⟩ X _ _ _ _ _ _ _ _ I hl hf
/-! SharedTaxis.require(Z)V imp=True fuel=False kap=False rt=None thr=True -/
def fX1_require (σ : St) (x0 : Int32) : Option ((Unit ⊕ Nat) × St) := if x0 = 0 then (nH σ 6 (.inr (35, []))).bind fun (q_1a, q_1s) => (isX q_1s q_1a).bind fun u_2 : Unit => some (.inr q_1a, q_1s) else some (.inl (), σ)
theorem wX1_require_0 {E : EV} {l : Launch} {p : Program} {e : Env} {s : State} {m : MethodId} {args : Array Value} {below : List Frame} {meth : Method} {c : Code} {R : Room} {res : ((Unit ⊕ Nat) × St)} (hX : XK E) (hR : 6 ≤ R.frames ∧ 89 ≤ R.locals) (X : MX E p s m args meth c cX1_require 1 none RX1 "require") (XH : MH c []) (hS : l.stackTraces = false) : ∀ (x0 : Int32) (σ : St) (H : Heap) (locs : List Loc) (cells slots : Nat) (ls : Array Slot), WI E R s σ H locs cells slots → lv_has ls 1 [(0, .int x0)] → fX1_require σ x0 = some res → W p l e R s m args below meth c H locs cells slots (vx_MQ below (QS E R.cells R.slots (sv (fun v => none) res.1) res.2) (XS E R.cells R.slots (sx res.1) res.2) args s R.cells R.slots (fr E)) (F0 m 0 ls []) := by
  intro x0 σ H locs cells slots ls I hl hf
  obtain ⟨⟨hx, hb, hml, hown, hts⟩, -⟩ := id X
  unfold fX1_require at hf
  refine lv_iload_n hx hb dX1_require_0 rfl (lv_at hl 0 rfl) ?_
  refine lv_if_ne (tgt := 12) hx hb dX1_require_1 (by decide) (fun c_1 => ?_) (fun c_1 => ?_)
  · have hf := im c_1 hf
    cases os hf
    exact x_ret (r_vret X I dX1_require_12)
  · have hf := ip c_1 hf
    obtain ⟨⟨q_1a, q_1s⟩, eq_1, hf⟩ := ob hf
    refine x_make (cls := RJ7) (names := xnm) (ik := 7) (ic := 9) hX hS X I rfl (by decide) xnm_fit q1206 q124 xat_E7 eq_1 hl.1 ⟨Nat.le_trans (Nat.le_of_ble_eq_true rfl) hR.1, Nat.le_trans (Nat.le_of_ble_eq_true rfl) hR.2⟩ (Nat.le_of_ble_eq_true rfl) dX1_require_4 dX1_require_7 dX1_require_8 (fun H locs cells slots I => ?_)
    obtain ⟨u_2, eu_2, hf⟩ := ob hf
    cases os hf
    exact x_athrow X XH rfl I eu_2 dX1_require_11
theorem mX1_require {E : EV} {l : Launch} {σ : St} {x0 : Int32} {res : ((Unit ⊕ Nat) × St)} (hX : XK E) (hS : l.stackTraces = false) (hf : fX1_require σ x0 = some res) : CX E l yX1_require (ws_ yX1_require cX1_require 1 none) 6 89 [.int x0] σ (sv (fun v => none) res.1) (sx res.1) res.2 := by
  refine CX.of hX.1 (by decide) rfl rfl (Nat.le_of_ble_eq_true rfl) ?_
  intro p e s m below meth c X XH I ls hl
  exact wX1_require_0 hX ⟨Nat.le_refl _, Nat.le_refl _⟩ X XH hS _ _ _ _ _ _ _ I hl hf
/-! SharedTaxis$Scanner.isBetween(III)Z imp=False fuel=False kap=False rt=I thr=False -/
theorem gfX6_19 : ∀ q ∈ ([(5, 1)] : List (Nat × Nat)), GF RX6 19 q := List.forall_mem_cons.mpr ⟨⟨RX6, TX6, 8, _, rfl, in_X6, by decide, q1302, Or.inl rfl⟩, fun _ h => by cases h⟩
theorem gfX6_15 : ∀ q ∈ ([(5, 0)] : List (Nat × Nat)), GF RX6 15 q := List.forall_mem_cons.mpr ⟨⟨RX6, TX6, 8, _, rfl, in_X6, by decide, q1301, Or.inl rfl⟩, fun _ h => by cases h⟩
def fX6_isBetween (σ : St) (x0 : Nat) (x1 : Int32) (x2 : Int32) (x3 : Int32) : Option Int32 := (gI σ x0 [(5, 1)]).bind fun v_1 : Int32 => if v_1 ≤ x1 then some (0 : Int32) else (gR σ x0 [(5, 0)]).bind fun v_2 : Option Nat => (v_2).bind fun a_3 : Nat => (aI σ a_3 1 x1).bind fun v_4 : Int32 => if v_4 < x2 then some (0 : Int32) else (gR σ x0 [(5, 0)]).bind fun v_5 : Option Nat => (v_5).bind fun a_6 : Nat => (aI σ a_6 1 x1).bind fun v_7 : Int32 => if x3 < v_7 then some (0 : Int32) else some (1 : Int32)
theorem wX6_isBetween_0 {E : EV} {l : Launch} {p : Program} {e : Env} {s : State} {m : MethodId} {args : Array Value} {below : List Frame} {meth : Method} {c : Code} {R : Room} {σ : St} {res : Int32} (hX : XK E) (hR : 0 ≤ R.frames ∧ 0 ≤ R.locals) (X : MX E p s m args meth c cX6_isBetween 4 (some .boolean) RX6 "isBetween") : ∀ (x0 : Nat) (x1 : Int32) (x2 : Int32) (x3 : Int32) (H : Heap) (locs : List Loc) (cells slots : Nat) (ls : Array Slot), WI E R s σ H locs cells slots → lv_has ls 4 [(0, .ref x0), (1, .int x1), (2, .int x2), (3, .int x3)] → fX6_isBetween σ x0 x1 x2 x3 = some res → W p l e R s m args below meth c H locs cells slots (MQ below (Qd E R.cells R.slots (some (.int res)) σ) args s R.cells R.slots (fr E)) (F0 m 0 ls []) := by
  intro x0 x1 x2 x3 H locs cells slots ls I hl hf
  obtain ⟨⟨hx, hb, hml, hown, hts⟩, -⟩ := id X
  unfold fX6_isBetween at hf
  refine lv_iload_n hx hb dX6_isBetween_0 rfl (lv_at hl 1 rfl) ?_
  refine lv_aload_n hx hb dX6_isBetween_1 rfl (lv_at hl 0 rfl) ?_
  obtain ⟨v_1, ev_1, hf⟩ := ob hf
  refine g_get X I gfX6_19 (gI_in ev_1) dX6_isBetween_2 ?_
  refine lv_icmp_ge (tgt := 32) hx hb dX6_isBetween_5 (by decide) (fun c_5 => ?_) (fun c_5 => ?_)
  · have hf := ip c_5 hf
    refine lv_iconst (v := 0) hx hb dX6_isBetween_32 (by decide) ?_
    cases os hf
    exact r_zret X I (Or.inl rfl) dX6_isBetween_33
  · have hf := im c_5 hf
    refine lv_aload_n hx hb dX6_isBetween_8 rfl (lv_at hl 0 rfl) ?_
    obtain ⟨v_2, ev_2, hf⟩ := ob hf
    refine g_get X I gfX6_15 (gR_in ev_2) dX6_isBetween_9 ?_
    refine lv_iload_n hx hb dX6_isBetween_12 rfl (lv_at hl 1 rfl) ?_
    obtain ⟨a_3, ea_3, hga_3⟩ := ob hf
    have hla_3 := hl
    have Ia_3 := I
    subst ea_3
    have hf := hga_3
    have hl := hla_3
    have I := Ia_3
    obtain ⟨v_4, ev_4, hf⟩ := ob hf
    refine g_bald X I ev_4 dX6_isBetween_13 ?_
    refine lv_iload_n hx hb dX6_isBetween_14 rfl (lv_at hl 2 rfl) ?_
    refine lv_icmp_lt (tgt := 32) hx hb dX6_isBetween_15 (by decide) (fun c_15 => ?_) (fun c_15 => ?_)
    · have hf := ip c_15 hf
      refine lv_iconst (v := 0) hx hb dX6_isBetween_32 (by decide) ?_
      cases os hf
      exact r_zret X I (Or.inl rfl) dX6_isBetween_33
    · have hf := im c_15 hf
      refine lv_aload_n hx hb dX6_isBetween_18 rfl (lv_at hl 0 rfl) ?_
      obtain ⟨v_5, ev_5, hf⟩ := ob hf
      refine g_get X I gfX6_15 (gR_in ev_5) dX6_isBetween_19 ?_
      refine lv_iload_n hx hb dX6_isBetween_22 rfl (lv_at hl 1 rfl) ?_
      obtain ⟨a_6, ea_6, hga_6⟩ := ob hf
      have hla_6 := hl
      have Ia_6 := I
      subst ea_6
      have hf := hga_6
      have hl := hla_6
      have I := Ia_6
      obtain ⟨v_7, ev_7, hf⟩ := ob hf
      refine g_bald X I ev_7 dX6_isBetween_23 ?_
      refine lv_iload_n hx hb dX6_isBetween_24 rfl (lv_at hl 3 rfl) ?_
      refine lv_icmp_gt (tgt := 32) hx hb dX6_isBetween_25 (by decide) (fun c_25 => ?_) (fun c_25 => ?_)
      · have hf := ip c_25 hf
        refine lv_iconst (v := 0) hx hb dX6_isBetween_32 (by decide) ?_
        cases os hf
        exact r_zret X I (Or.inl rfl) dX6_isBetween_33
      · have hf := im c_25 hf
        refine lv_iconst (v := 1) hx hb dX6_isBetween_28 (by decide) ?_
        refine lv_goto (tgt := 33) hx hb dX6_isBetween_29 (by decide) ?_
        cases os hf
        exact r_zret X I (Or.inr rfl) dX6_isBetween_33
theorem mX6_isBetween {E : EV} {l : Launch} {σ : St} {x0 : Nat} {x1 : Int32} {x2 : Int32} {x3 : Int32} {res : Int32} (hX : XK E) (hf : fX6_isBetween σ x0 x1 x2 x3 = some res) : CM E l yX6_isBetween (ws_ yX6_isBetween cX6_isBetween 4 (some .boolean)) 0 0 [.ref x0, .int x1, .int x2, .int x3] σ (some (.int res)) σ := by
  refine CM.of hX.1 (by decide) rfl rfl (Nat.le_of_ble_eq_true rfl) ?_
  intro p e s m below meth c X I ls hl
  exact wX6_isBetween_0 hX ⟨Nat.le_refl _, Nat.le_refl _⟩ X _ _ _ _ _ _ _ _ _ I hl hf
/-! java/lang/StringUTF16.newBytesLength(I)I imp=True fuel=False kap=False rt=I thr=False -/
def fJ11_newBytesLength (σ : St) (x0 : Int32) : Option (Int32 × St) := if 0 ≤ x0 then if x0 < (1073741823 : Int32) then some ((x0 <<< ((1 : Int32) &&& 31)), σ) else none else none
theorem wJ11_newBytesLength_0 {E : EV} {l : Launch} {p : Program} {e : Env} {s : State} {m : MethodId} {args : Array Value} {below : List Frame} {meth : Method} {c : Code} {R : Room} {res : (Int32 × St)} (hX : XK E) (hR : 0 ≤ R.frames ∧ 0 ≤ R.locals) (X : MX E p s m args meth c cJ11_newBytesLength 1 (some .int) RJ11 "newBytesLength") : ∀ (x0 : Int32) (σ : St) (H : Heap) (locs : List Loc) (cells slots : Nat) (ls : Array Slot), WI E R s σ H locs cells slots → lv_has ls 1 [(0, .int x0)] → fJ11_newBytesLength σ x0 = some res → W p l e R s m args below meth c H locs cells slots (MQ below (Qd E R.cells R.slots (some (.int res.1)) res.2) args s R.cells R.slots (fr E)) (F0 m 0 ls []) := by
  intro x0 σ H locs cells slots ls I hl hf
  obtain ⟨⟨hx, hb, hml, hown, hts⟩, -⟩ := id X
  unfold fJ11_newBytesLength at hf
  refine lv_iload_n hx hb dJ11_newBytesLength_0 rfl (lv_at hl 0 rfl) ?_
  refine lv_if_ge (tgt := 12) hx hb dJ11_newBytesLength_1 (by decide) (fun c_1 => ?_) (fun c_1 => ?_)
  · have hf := ip c_1 hf
    refine lv_iload_n hx hb dJ11_newBytesLength_12 rfl (lv_at hl 0 rfl) ?_
    refine lv_ldc (v := 1073741823) hx hb hown (hts _ q523) dJ11_newBytesLength_13 ?_
    refine lv_icmp_lt (tgt := 55) hx hb dJ11_newBytesLength_15 (by decide) (fun c_15 => ?_) (fun c_15 => ?_)
    · have hf := ip c_15 hf
      refine lv_iload_n hx hb dJ11_newBytesLength_55 rfl (lv_at hl 0 rfl) ?_
      refine lv_iconst (v := 1) hx hb dJ11_newBytesLength_56 (by decide) ?_
      refine lv_ishl hx hb dJ11_newBytesLength_57 ?_
      cases os hf
      exact r_iret X I dJ11_newBytesLength_58
    · have hf := im c_15 hf
      exact nomatch hf
  · have hf := im c_1 hf
    exact nomatch hf
theorem mJ11_newBytesLength {E : EV} {l : Launch} {σ : St} {x0 : Int32} {res : (Int32 × St)} (hX : XK E) (hf : fJ11_newBytesLength σ x0 = some res) : CM E l yJ11_newBytesLength (ws_ yJ11_newBytesLength cJ11_newBytesLength 1 (some .int)) 0 0 [.int x0] σ (some (.int res.1)) res.2 := by
  refine CM.of hX.1 (by decide) rfl rfl (Nat.le_of_ble_eq_true rfl) ?_
  intro p e s m below meth c X I ls hl
  exact wJ11_newBytesLength_0 hX ⟨Nat.le_refl _, Nat.le_refl _⟩ X _ _ _ _ _ _ _ I hl hf
/-! java/lang/StringUTF16.newBytesFor(I)[B imp=True fuel=False kap=False rt=N thr=False -/
theorem lvJ11_11 : GoodIn lw_all (va_wsS RJ11 11 yJ11_newBytesLength (ws_ yJ11_newBytesLength cJ11_newBytesLength 1 (some .int))) := lw_S q520 q521 q130 q522
theorem hdJ11_11 : yJ11_newBytesLength.cls ≠ "java/lang/invoke/MethodHandle" ∧ yJ11_newBytesLength.cls ≠ "java/lang/invoke/VarHandle" ∧ (parseMethodDescriptor yJ11_newBytesLength.desc).map (fun d => d.parameters.length) = some 1 := by decide +kernel
def fJ11_newBytesFor (σ : St) (x0 : Int32) : Option (Nat × St) := (fJ11_newBytesLength σ x0).bind fun (v_1, σ_2) => (an v_1).bind fun k_3 : Nat => (nH σ_2 k_3 (.inl (1, z0 1 k_3))).bind fun (q_4a, q_4s) => some ((q_4a), q_4s)
theorem wJ11_newBytesFor_0 {E : EV} {l : Launch} {p : Program} {e : Env} {s : State} {m : MethodId} {args : Array Value} {below : List Frame} {meth : Method} {c : Code} {R : Room} {res : (Nat × St)} (hX : XK E) (hR : 1 ≤ R.frames ∧ 20 ≤ R.locals) (X : MX E p s m args meth c cJ11_newBytesFor 1 (some (.array .byte)) RJ11 "newBytesFor") : ∀ (x0 : Int32) (σ : St) (H : Heap) (locs : List Loc) (cells slots : Nat) (ls : Array Slot), WI E R s σ H locs cells slots → lv_has ls 1 [(0, .int x0)] → fJ11_newBytesFor σ x0 = some res → W p l e R s m args below meth c H locs cells slots (MQ below (Qd E R.cells R.slots (some (.ref res.1)) res.2) args s R.cells R.slots (fr E)) (F0 m 0 ls []) := by
  intro x0 σ H locs cells slots ls I hl hf
  obtain ⟨⟨hx, hb, hml, hown, hts⟩, -⟩ := id X
  unfold fJ11_newBytesFor at hf
  refine lv_iload_n hx hb dJ11_newBytesFor_0 rfl (lv_at hl 0 rfl) ?_
  obtain ⟨⟨v_1, σ_2⟩, ev_1, hf⟩ := ob hf
  refine cg_S (r := (some (.int v_1))) (σ' := σ_2) (rs := [.int v_1]) (rest := []) (As := [.int x0]) X I (mJ11_newBytesLength hX ev_1) lvJ11_11 hdJ11_11 ⟨Nat.le_trans (Nat.le_of_ble_eq_true rfl) hR.1, Nat.le_trans (Nat.le_of_ble_eq_true rfl) hR.2⟩ rfl hl.1 rfl (Nat.le_of_ble_eq_true rfl) rfl dJ11_newBytesFor_1 (fun H locs cells slots I => ?_)
  obtain ⟨k_3, ek_3, hf⟩ := ob hf
  obtain ⟨⟨q_4a, q_4s⟩, eq_4, hf⟩ := ob hf
  refine g_newa (atype := .byte) (t := 1) X I (by decide) rfl q197 ek_3 eq_4 dJ11_newBytesFor_4 (fun H locs cells slots I => ?_)
  cases os hf
  exact r_aret X I (Or.inr ⟨_, rfl⟩) (Or.inr ⟨_, rfl⟩) dJ11_newBytesFor_6
theorem mJ11_newBytesFor {E : EV} {l : Launch} {σ : St} {x0 : Int32} {res : (Nat × St)} (hX : XK E) (hf : fJ11_newBytesFor σ x0 = some res) : CM E l yJ11_newBytesFor (ws_ yJ11_newBytesFor cJ11_newBytesFor 1 (some (.array .byte))) 1 20 [.int x0] σ (some (.ref res.1)) res.2 := by
  refine CM.of hX.1 (by decide) rfl rfl (Nat.le_of_ble_eq_true rfl) ?_
  intro p e s m below meth c X I ls hl
  exact wJ11_newBytesFor_0 hX ⟨Nat.le_refl _, Nat.le_refl _⟩ X _ _ _ _ _ _ _ I hl hf
/-! java/lang/AbstractStringBuilder.<init>(I)V imp=True fuel=False kap=True rt=None thr=False -/
theorem lvJ8_26 : GoodIn lw_all (va_wsS RJ8 26 yJ11_newBytesFor (ws_ yJ11_newBytesFor cJ11_newBytesFor 1 (some (.array .byte)))) := lw_S q517 q518 q130 q519
theorem hdJ8_26 : yJ11_newBytesFor.cls ≠ "java/lang/invoke/MethodHandle" ∧ yJ11_newBytesFor.cls ≠ "java/lang/invoke/VarHandle" ∧ (parseMethodDescriptor yJ11_newBytesFor.desc).map (fun d => d.parameters.length) = some 1 := by decide +kernel
theorem pfJ8_15 : ∀ q ∈ ([(25, 0)] : List (Nat × Nat)), PF RJ8 15 (.array .byte) q := List.forall_mem_cons.mpr ⟨⟨RJ9, TJ9, 4, _, tyJ9, rfl, in_J9, by decide, q524, Or.inl rfl, tyJ9_ok, nmJ9, rfl, rfl⟩, fun _ h => by cases h⟩
theorem pfJ8_22 : ∀ q ∈ ([(25, 1)] : List (Nat × Nat)), PF RJ8 22 .byte q := List.forall_mem_cons.mpr ⟨⟨RJ9, TJ9, 4, _, tyJ9, rfl, in_J9, by decide, q525, Or.inl rfl, tyJ9_ok, nmJ9, rfl, rfl⟩, fun _ h => by cases h⟩
def fJ8_init (κ : Nat → Nat) (σ : St) (x0 : Nat) (x1 : Int32) : Option St := if (1 : Int32) = 0 then (fJ11_newBytesFor σ x1).bind fun (v_1, σ_2) => (pV σ_2 x0 [(25, 0)] (.ref v_1)).bind fun σ_3 : St => (pV σ_3 x0 [(25, 1)] (.int (1 : Int32))).bind fun σ_4 : St => some σ_4 else (an x1).bind fun k_5 : Nat => (nH σ k_5 (.inl (1, z0 1 k_5))).bind fun (q_6a, q_6s) => (pV q_6s x0 [(25, 0)] (.ref q_6a)).bind fun σ_7 : St => (pV σ_7 x0 [(25, 1)] (.int (0 : Int32))).bind fun σ_8 : St => some σ_8
theorem wJ8_init_0 {E : EV} {l : Launch} {p : Program} {e : Env} {s : State} {m : MethodId} {args : Array Value} {below : List Frame} {meth : Method} {c : Code} {R : Room} {res : St} (hX : XK E) (hR : 2 ≤ R.frames ∧ 40 ≤ R.locals) (X : MX E p s m args meth c cJ8_init 2 none RJ8 "<init>") : ∀ (x0 : Nat) (x1 : Int32) (σ : St) (H : Heap) (locs : List Loc) (cells slots : Nat) (ls : Array Slot), WI E R s σ H locs cells slots → lv_has ls 2 [(0, .ref x0), (1, .int x1)] → fJ8_init E.2.2.2.1 σ x0 x1 = some res → W p l e R s m args below meth c H locs cells slots (MQ below (Qd E R.cells R.slots none res) args s R.cells R.slots (fr E)) (F0 m 0 ls []) := by
  intro x0 x1 σ H locs cells slots ls I hl hf
  obtain ⟨⟨hx, hb, hml, hown, hts⟩, -⟩ := id X
  unfold fJ8_init at hf
  refine lv_aload_n hx hb dJ8_init_0 rfl (lv_at hl 0 rfl) ?_
  refine g_objInit X ⟨Nat.le_trans (Nat.le_of_ble_eq_true rfl) hR.1, Nat.le_trans (Nat.le_of_ble_eq_true rfl) hR.2⟩ q514 hl.1 (Nat.le_of_ble_eq_true rfl) dJ8_init_1 ?_
  refine g_gets (ref := "java/lang/String") (w := .int (1 : Int32)) hX X I (List.mem_of_getElem? (i := 0) rfl) rfl q515 dJ8_init_4 ?_
  refine lv_if_eq (tgt := 25) hx hb dJ8_init_7 (by decide) (fun c_7 => ?_) (fun c_7 => ?_)
  · have hf := ip c_7 hf
    refine lv_aload_n hx hb dJ8_init_25 rfl (lv_at hl 0 rfl) ?_
    refine lv_iload_n hx hb dJ8_init_26 rfl (lv_at hl 1 rfl) ?_
    obtain ⟨⟨v_1, σ_2⟩, ev_1, hf⟩ := ob hf
    refine cg_S (r := (some (.ref v_1))) (σ' := σ_2) (rs := [.ref v_1, .ref x0]) (rest := [.ref x0]) (As := [.int x1]) X I (mJ11_newBytesFor hX ev_1) lvJ8_26 hdJ8_26 ⟨Nat.le_trans (Nat.le_of_ble_eq_true rfl) hR.1, Nat.le_trans (Nat.le_of_ble_eq_true rfl) hR.2⟩ rfl hl.1 rfl (Nat.le_of_ble_eq_true rfl) rfl dJ8_init_27 (fun H locs cells slots I => ?_)
    obtain ⟨σ_3, eσ_3, hf⟩ := ob hf
    refine g_put X I pfJ8_15 rfl rfl eσ_3 dJ8_init_30 (fun H locs I => ?_)
    refine lv_aload_n hx hb dJ8_init_33 rfl (lv_at hl 0 rfl) ?_
    refine lv_iconst (v := 1) hx hb dJ8_init_34 (by decide) ?_
    obtain ⟨σ_4, eσ_4, hf⟩ := ob hf
    refine g_put X I pfJ8_22 rfl rfl eσ_4 dJ8_init_35 (fun H locs I => ?_)
    cases os hf
    exact r_vret X I dJ8_init_38
  · have hf := im c_7 hf
    refine lv_aload_n hx hb dJ8_init_10 rfl (lv_at hl 0 rfl) ?_
    refine lv_iload_n hx hb dJ8_init_11 rfl (lv_at hl 1 rfl) ?_
    obtain ⟨k_5, ek_5, hf⟩ := ob hf
    obtain ⟨⟨q_6a, q_6s⟩, eq_6, hf⟩ := ob hf
    refine g_newa (atype := .byte) (t := 1) X I (by decide) rfl q197 ek_5 eq_6 dJ8_init_12 (fun H locs cells slots I => ?_)
    obtain ⟨σ_7, eσ_7, hf⟩ := ob hf
    refine g_put X I pfJ8_15 rfl rfl eσ_7 dJ8_init_14 (fun H locs I => ?_)
    refine lv_aload_n hx hb dJ8_init_17 rfl (lv_at hl 0 rfl) ?_
    refine lv_iconst (v := 0) hx hb dJ8_init_18 (by decide) ?_
    obtain ⟨σ_8, eσ_8, hf⟩ := ob hf
    refine g_put X I pfJ8_22 rfl rfl eσ_8 dJ8_init_19 (fun H locs I => ?_)
    refine lv_goto (tgt := 38) hx hb dJ8_init_22 (by decide) ?_
    cases os hf
    exact r_vret X I dJ8_init_38
theorem mJ8_init {E : EV} {l : Launch} {σ : St} {x0 : Nat} {x1 : Int32} {res : St} (hX : XK E) (hf : fJ8_init E.2.2.2.1 σ x0 x1 = some res) : CM E l yJ8_init (ws_ yJ8_init cJ8_init 2 none) 2 40 [.ref x0, .int x1] σ none res := by
  refine CM.of hX.1 (by decide) rfl rfl (Nat.le_of_ble_eq_true rfl) ?_
  intro p e s m below meth c X I ls hl
  exact wJ8_init_0 hX ⟨Nat.le_refl _, Nat.le_refl _⟩ X _ _ _ _ _ _ _ _ I hl hf
/-! java/lang/StringBuilder.<init>()V imp=True fuel=False kap=True rt=None thr=False -/
theorem lvJ9_1 : GoodIn lw_all (ws_ yJ8_init cJ8_init 2 none) ∧ Cond.initialized yJ8_init.cls ∈ lw_all ∧ Cond.methodLink RJ9 1 yJ8_init ∈ lw_all ∧ Cond.instanceMethod yJ8_init ∈ lw_all ∧ yJ8_init.name = "<init>" := ⟨lw_meth q513, q127, q511, q512, rfl⟩
theorem hdJ9_1 : yJ8_init.cls ≠ "java/lang/invoke/MethodHandle" ∧ yJ8_init.cls ≠ "java/lang/invoke/VarHandle" ∧ (parseMethodDescriptor yJ8_init.desc).map (fun d => d.parameters.length) = some 1 := by decide +kernel
def fJ9_init (κ : Nat → Nat) (σ : St) (x0 : Nat) : Option St := (fJ8_init κ σ x0 (16 : Int32)).bind fun σ_2 : St => some σ_2
theorem wJ9_init_0 {E : EV} {l : Launch} {p : Program} {e : Env} {s : State} {m : MethodId} {args : Array Value} {below : List Frame} {meth : Method} {c : Code} {R : Room} {res : St} (hX : XK E) (hR : 3 ≤ R.frames ∧ 61 ≤ R.locals) (X : MX E p s m args meth c cJ9_init 1 none RJ9 "<init>") : ∀ (x0 : Nat) (σ : St) (H : Heap) (locs : List Loc) (cells slots : Nat) (ls : Array Slot), WI E R s σ H locs cells slots → lv_has ls 1 [(0, .ref x0)] → fJ9_init E.2.2.2.1 σ x0 = some res → W p l e R s m args below meth c H locs cells slots (MQ below (Qd E R.cells R.slots none res) args s R.cells R.slots (fr E)) (F0 m 0 ls []) := by
  intro x0 σ H locs cells slots ls I hl hf
  obtain ⟨⟨hx, hb, hml, hown, hts⟩, -⟩ := id X
  unfold fJ9_init at hf
  refine lv_aload_n hx hb dJ9_init_0 rfl (lv_at hl 0 rfl) ?_
  refine lv_bipush (v := 16) hx hb dJ9_init_1 (by decide) ?_
  obtain ⟨σ_2, ev_1, hf⟩ := ob hf
  refine cm_I (σ' := σ_2) (rs := []) (rest := []) (As := [.int (16 : Int32)]) X I (mJ8_init hX ev_1) lvJ9_1 hdJ9_1 ⟨Nat.le_trans (Nat.le_of_ble_eq_true rfl) hR.1, Nat.le_trans (Nat.le_of_ble_eq_true rfl) hR.2⟩ rfl hl.1 rfl (Nat.le_of_ble_eq_true rfl) rfl dJ9_init_3 (fun H locs cells slots I => ?_)
  cases os hf
  exact r_vret X I dJ9_init_6
theorem mJ9_init {E : EV} {l : Launch} {σ : St} {x0 : Nat} {res : St} (hX : XK E) (hf : fJ9_init E.2.2.2.1 σ x0 = some res) : CM E l yJ9_init (ws_ yJ9_init cJ9_init 1 none) 3 61 [.ref x0] σ none res := by
  refine CM.of hX.1 (by decide) rfl rfl (Nat.le_of_ble_eq_true rfl) ?_
  intro p e s m below meth c X I ls hl
  exact wJ9_init_0 hX ⟨Nat.le_refl _, Nat.le_refl _⟩ X _ _ _ _ _ _ _ I hl hf
/-! jdk/internal/util/ArraysSupport.newLength(III)I imp=False fuel=False kap=False rt=I thr=False -/
def fJ12_newLength_21 (σ : St) (x0 : Int32) (x1 : Int32) : Option Int32 := none
def fJ12_newLength (σ : St) (x0 : Int32) (x1 : Int32) (x2 : Int32) : Option Int32 := lt (x0 + (if x1 < x2 then x2 else x1)) fun x3_1 : Int32 => if x3_1 ≤ (0 : Int32) then fJ12_newLength_21 σ x0 x1 else if (2147483639 : Int32) < x3_1 then fJ12_newLength_21 σ x0 x1 else some x3_1
theorem wJ12_newLength_21 {E : EV} {l : Launch} {p : Program} {e : Env} {s : State} {m : MethodId} {args : Array Value} {below : List Frame} {meth : Method} {c : Code} {R : Room} {σ : St} {res : Int32} (hX : XK E) (hR : 1 ≤ R.frames ∧ 21 ≤ R.locals) (X : MX E p s m args meth c cJ12_newLength 4 (some .int) RJ12 "newLength") : ∀ (x0 : Int32) (x1 : Int32) (H : Heap) (locs : List Loc) (cells slots : Nat) (ls : Array Slot), WI E R s σ H locs cells slots → lv_has ls 4 [(0, .int x0), (1, .int x1)] → fJ12_newLength_21 σ x0 x1 = some res → W p l e R s m args below meth c H locs cells slots (MQ below (Qd E R.cells R.slots (some (.int res)) σ) args s R.cells R.slots (fr E)) (F0 m 21 ls []) := by
  intro x0 x1 H locs cells slots ls I hl hf
  obtain ⟨⟨hx, hb, hml, hown, hts⟩, -⟩ := id X
  unfold fJ12_newLength_21 at hf
  refine lv_iload_n hx hb dJ12_newLength_21 rfl (lv_at hl 0 rfl) ?_
  refine lv_iload_n hx hb dJ12_newLength_22 rfl (lv_at hl 1 rfl) ?_
  exact nomatch hf
theorem wJ12_newLength_0 {E : EV} {l : Launch} {p : Program} {e : Env} {s : State} {m : MethodId} {args : Array Value} {below : List Frame} {meth : Method} {c : Code} {R : Room} {σ : St} {res : Int32} (hX : XK E) (hR : 1 ≤ R.frames ∧ 21 ≤ R.locals) (X : MX E p s m args meth c cJ12_newLength 4 (some .int) RJ12 "newLength") : ∀ (x0 : Int32) (x1 : Int32) (x2 : Int32) (H : Heap) (locs : List Loc) (cells slots : Nat) (ls : Array Slot), WI E R s σ H locs cells slots → lv_has ls 4 [(0, .int x0), (1, .int x1), (2, .int x2)] → fJ12_newLength σ x0 x1 x2 = some res → W p l e R s m args below meth c H locs cells slots (MQ below (Qd E R.cells R.slots (some (.int res)) σ) args s R.cells R.slots (fr E)) (F0 m 0 ls []) := by
  intro x0 x1 x2 H locs cells slots ls I hl hf
  obtain ⟨⟨hx, hb, hml, hown, hts⟩, -⟩ := id X
  unfold fJ12_newLength at hf
  refine lv_iload_n hx hb dJ12_newLength_0 rfl (lv_at hl 0 rfl) ?_
  refine lv_iload_n hx hb dJ12_newLength_1 rfl (lv_at hl 1 rfl) ?_
  refine lv_iload_n hx hb dJ12_newLength_2 rfl (lv_at hl 2 rfl) ?_
  refine g_mmax X I ⟨Nat.le_trans (Nat.le_of_ble_eq_true rfl) hR.1, Nat.le_trans (Nat.le_of_ble_eq_true rfl) hR.2⟩ q561 hl.1 (Nat.le_of_ble_eq_true rfl) dJ12_newLength_3 ?_
  refine lv_iadd hx hb dJ12_newLength_6 ?_
  obtain ⟨x3_1, ex3_1, hf⟩ := ol hf
  refine nm_i ex3_1 ?_
  refine lv_istore_n (lv' := [(3, .int x3_1), (0, .int x0), (1, .int x1), (2, .int x2)]) hx hb dJ12_newLength_7 rfl hl (by decide) rfl (fun ls hl => ?_)
  refine lv_iconst (v := 0) hx hb dJ12_newLength_8 (by decide) ?_
  refine lv_iload_n hx hb dJ12_newLength_9 rfl (lv_at hl 0 rfl) ?_
  refine lv_icmp_ge (tgt := 21) hx hb dJ12_newLength_10 (by decide) (fun c_10 => ?_) (fun c_10 => ?_)
  · have hf := ip c_10 hf
    exact wJ12_newLength_21 hX hR X x0 x1 _ _ _ _ _ I (lv_sub hl [1, 2] rfl) hf
  · have hf := im c_10 hf
    refine lv_iload_n hx hb dJ12_newLength_13 rfl (lv_at hl 0 rfl) ?_
    refine lv_ldc (v := 2147483639) hx hb hown (hts _ q564) dJ12_newLength_14 ?_
    refine lv_icmp_gt (tgt := 21) hx hb dJ12_newLength_16 (by decide) (fun c_16 => ?_) (fun c_16 => ?_)
    · have hf := ip c_16 hf
      exact wJ12_newLength_21 hX hR X x0 x1 _ _ _ _ _ I (lv_sub hl [1, 2] rfl) hf
    · have hf := im c_16 hf
      refine lv_iload_n hx hb dJ12_newLength_19 rfl (lv_at hl 0 rfl) ?_
      cases os hf
      exact r_iret X I dJ12_newLength_20
theorem mJ12_newLength {E : EV} {l : Launch} {σ : St} {x0 : Int32} {x1 : Int32} {x2 : Int32} {res : Int32} (hX : XK E) (hf : fJ12_newLength σ x0 x1 x2 = some res) : CM E l yJ12_newLength (ws_ yJ12_newLength cJ12_newLength 4 (some .int)) 1 21 [.int x0, .int x1, .int x2] σ (some (.int res)) σ := by
  refine CM.of hX.1 (by decide) rfl rfl (Nat.le_of_ble_eq_true rfl) ?_
  intro p e s m below meth c X I ls hl
  exact wJ12_newLength_0 hX ⟨Nat.le_refl _, Nat.le_refl _⟩ X _ _ _ _ _ _ _ _ I hl hf
/-! java/lang/AbstractStringBuilder.newCapacity(I)I imp=True fuel=False kap=False rt=I thr=False -/
theorem gfJ8_15 : ∀ q ∈ ([(25, 0)] : List (Nat × Nat)), GF RJ8 15 q := List.forall_mem_cons.mpr ⟨⟨RJ9, TJ9, 4, _, rfl, in_J9, by decide, q524, Or.inl rfl⟩, fun _ h => by cases h⟩
theorem gfJ8_22 : ∀ q ∈ ([(25, 1)] : List (Nat × Nat)), GF RJ8 22 q := List.forall_mem_cons.mpr ⟨⟨RJ9, TJ9, 4, _, rfl, in_J9, by decide, q525, Or.inl rfl⟩, fun _ h => by cases h⟩
theorem lvJ8_114 : GoodIn lw_all (va_wsS RJ8 114 yJ12_newLength (ws_ yJ12_newLength cJ12_newLength 4 (some .int))) := lw_S q558 q559 q131 q560
theorem hdJ8_114 : yJ12_newLength.cls ≠ "java/lang/invoke/MethodHandle" ∧ yJ12_newLength.cls ≠ "java/lang/invoke/VarHandle" ∧ (parseMethodDescriptor yJ12_newLength.desc).map (fun d => d.parameters.length) = some 3 := by decide +kernel
def fJ8_newCapacity (σ : St) (x0 : Nat) (x1 : Int32) : Option (Int32 × St) := (gR σ x0 [(25, 0)]).bind fun v_1 : Option Nat => (v_1).bind fun a_2 : Nat => (aL σ a_2).bind fun v_3 : Int32 => (gI σ x0 [(25, 1)]).bind fun v_4 : Int32 => lt (x1 <<< (v_4 &&& 31)) fun x3_5 : Int32 => lt (x3_5 - v_3) fun x4_6 : Int32 => (gI σ x0 [(25, 1)]).bind fun v_7 : Int32 => (fJ12_newLength σ v_3 x4_6 (v_3 + ((2 : Int32) <<< (v_7 &&& 31)))).bind fun v_8 : Int32 => if v_8 = (2147483647 : Int32) then none else (gI σ x0 [(25, 1)]).bind fun v_10 : Int32 => some ((v_8 >>> (v_10 &&& 31)), σ)
theorem wJ8_newCapacity_0 {E : EV} {l : Launch} {p : Program} {e : Env} {s : State} {m : MethodId} {args : Array Value} {below : List Frame} {meth : Method} {c : Code} {R : Room} {res : (Int32 × St)} (hX : XK E) (hR : 2 ≤ R.frames ∧ 44 ≤ R.locals) (X : MX E p s m args meth c cJ8_newCapacity 6 (some .int) RJ8 "newCapacity") : ∀ (x0 : Nat) (x1 : Int32) (σ : St) (H : Heap) (locs : List Loc) (cells slots : Nat) (ls : Array Slot), WI E R s σ H locs cells slots → lv_has ls 6 [(0, .ref x0), (1, .int x1)] → fJ8_newCapacity σ x0 x1 = some res → W p l e R s m args below meth c H locs cells slots (MQ below (Qd E R.cells R.slots (some (.int res.1)) res.2) args s R.cells R.slots (fr E)) (F0 m 0 ls []) := by
  intro x0 x1 σ H locs cells slots ls I hl hf
  obtain ⟨⟨hx, hb, hml, hown, hts⟩, -⟩ := id X
  unfold fJ8_newCapacity at hf
  refine lv_aload_n hx hb dJ8_newCapacity_0 rfl (lv_at hl 0 rfl) ?_
  obtain ⟨v_1, ev_1, hf⟩ := ob hf
  refine g_get X I gfJ8_15 (gR_in ev_1) dJ8_newCapacity_1 ?_
  obtain ⟨a_2, ea_2, hga_2⟩ := ob hf
  have hla_2 := hl
  have Ia_2 := I
  subst ea_2
  have hf := hga_2
  have hl := hla_2
  have I := Ia_2
  obtain ⟨v_3, ev_3, hf⟩ := ob hf
  refine g_alen X I ev_3 dJ8_newCapacity_4 ?_
  refine lv_istore_n (lv' := [(2, .int v_3), (0, .ref x0), (1, .int x1)]) hx hb dJ8_newCapacity_5 rfl hl (by decide) rfl (fun ls hl => ?_)
  refine lv_iload_n hx hb dJ8_newCapacity_6 rfl (lv_at hl 2 rfl) ?_
  refine lv_aload_n hx hb dJ8_newCapacity_7 rfl (lv_at hl 1 rfl) ?_
  obtain ⟨v_4, ev_4, hf⟩ := ob hf
  refine g_get X I gfJ8_22 (gI_in ev_4) dJ8_newCapacity_8 ?_
  refine lv_ishl hx hb dJ8_newCapacity_11 ?_
  obtain ⟨x3_5, ex3_5, hf⟩ := ol hf
  refine nm_i ex3_5 ?_
  refine lv_istore_n (lv' := [(3, .int x3_5), (2, .int v_3), (0, .ref x0), (1, .int x1)]) hx hb dJ8_newCapacity_12 rfl hl (by decide) rfl (fun ls hl => ?_)
  refine lv_iload_n hx hb dJ8_newCapacity_13 rfl (lv_at hl 0 rfl) ?_
  refine lv_iload_n hx hb dJ8_newCapacity_14 rfl (lv_at hl 1 rfl) ?_
  refine lv_isub hx hb dJ8_newCapacity_15 ?_
  obtain ⟨x4_6, ex4_6, hf⟩ := ol hf
  refine nm_i ex4_6 ?_
  refine lv_istore (lv' := [(4, .int x4_6), (3, .int x3_5), (2, .int v_3), (0, .ref x0), (1, .int x1)]) hx hb dJ8_newCapacity_16 hl (by decide) rfl (fun ls hl => ?_)
  refine lv_iload_n hx hb dJ8_newCapacity_18 rfl (lv_at hl 2 rfl) ?_
  refine lv_iload hx hb dJ8_newCapacity_19 (lv_at hl 0 rfl) ?_
  refine lv_iload_n hx hb dJ8_newCapacity_21 rfl (lv_at hl 2 rfl) ?_
  refine lv_iconst (v := 2) hx hb dJ8_newCapacity_22 (by decide) ?_
  refine lv_aload_n hx hb dJ8_newCapacity_23 rfl (lv_at hl 3 rfl) ?_
  obtain ⟨v_7, ev_7, hf⟩ := ob hf
  refine g_get X I gfJ8_22 (gI_in ev_7) dJ8_newCapacity_24 ?_
  refine lv_ishl hx hb dJ8_newCapacity_27 ?_
  refine lv_iadd hx hb dJ8_newCapacity_28 ?_
  obtain ⟨v_8, ev_8, hf⟩ := ob hf
  refine cg_S (r := (some (.int v_8))) (σ' := σ) (rs := [.int v_8]) (rest := []) (As := [.int v_3, .int x4_6, .int (v_3 + ((2 : Int32) <<< (v_7 &&& 31)))]) X I (mJ12_newLength hX ev_8) lvJ8_114 hdJ8_114 ⟨Nat.le_trans (Nat.le_of_ble_eq_true rfl) hR.1, Nat.le_trans (Nat.le_of_ble_eq_true rfl) hR.2⟩ rfl hl.1 rfl (Nat.le_of_ble_eq_true rfl) rfl dJ8_newCapacity_29 (fun H locs cells slots I => ?_)
  refine lv_istore (lv' := [(5, .int v_8), (4, .int x4_6), (3, .int x3_5), (2, .int v_3), (0, .ref x0), (1, .int x1)]) hx hb dJ8_newCapacity_32 hl (by decide) rfl (fun ls hl => ?_)
  refine lv_iload hx hb dJ8_newCapacity_34 (lv_at hl 0 rfl) ?_
  refine lv_ldc (v := 2147483647) hx hb hown (hts _ q568) dJ8_newCapacity_36 ?_
  refine lv_icmp_ne (tgt := 51) hx hb dJ8_newCapacity_38 (by decide) (fun c_38 => ?_) (fun c_38 => ?_)
  · have hf := im c_38 hf
    refine lv_iload hx hb dJ8_newCapacity_51 (lv_at hl 0 rfl) ?_
    refine lv_aload_n hx hb dJ8_newCapacity_53 rfl (lv_at hl 4 rfl) ?_
    obtain ⟨v_10, ev_10, hf⟩ := ob hf
    refine g_get X I gfJ8_22 (gI_in ev_10) dJ8_newCapacity_54 ?_
    refine lv_ishr hx hb dJ8_newCapacity_57 ?_
    cases os hf
    exact r_iret X I dJ8_newCapacity_58
  · have hf := ip c_38 hf
    exact nomatch hf
theorem mJ8_newCapacity {E : EV} {l : Launch} {σ : St} {x0 : Nat} {x1 : Int32} {res : (Int32 × St)} (hX : XK E) (hf : fJ8_newCapacity σ x0 x1 = some res) : CM E l yJ8_newCapacity (ws_ yJ8_newCapacity cJ8_newCapacity 6 (some .int)) 2 44 [.ref x0, .int x1] σ (some (.int res.1)) res.2 := by
  refine CM.of hX.1 (by decide) rfl rfl (Nat.le_of_ble_eq_true rfl) ?_
  intro p e s m below meth c X I ls hl
  exact wJ8_newCapacity_0 hX ⟨Nat.le_refl _, Nat.le_refl _⟩ X _ _ _ _ _ _ _ _ I hl hf
/-! java/util/Arrays.copyOf([BI)[B imp=True fuel=False kap=False rt=N thr=False -/
def fJ14_copyOf (σ : St) (x0 : Nat) (x1 : Int32) : Option (Nat × St) := (aL σ x0).bind fun v_1 : Int32 => if x1 = v_1 then (clB σ x0).bind fun (q_6a, q_6s) => (isA q_6s q_6a 1).bind fun u_7 : Unit => some ((q_6a), q_6s) else (an x1).bind fun k_2 : Nat => (nH σ k_2 (.inl (1, z0 1 k_2))).bind fun (q_3a, q_3s) => (aL q_3s x0).bind fun v_4 : Int32 => (cpI q_3s x0 1 (0 : Int32) q_3a (0 : Int32) (if x1 < v_4 then x1 else v_4)).bind fun σ_5 : St => some ((q_3a), σ_5)
theorem wJ14_copyOf_0 {E : EV} {l : Launch} {p : Program} {e : Env} {s : State} {m : MethodId} {args : Array Value} {below : List Frame} {meth : Method} {c : Code} {R : Room} {res : (Nat × St)} (hX : XK E) (hR : 1 ≤ R.frames ∧ 40 ≤ R.locals) (X : MX E p s m args meth c cJ14_copyOf 3 (some (.array .byte)) RJ14 "copyOf") : ∀ (x0 : Nat) (x1 : Int32) (σ : St) (H : Heap) (locs : List Loc) (cells slots : Nat) (ls : Array Slot), WI E R s σ H locs cells slots → lv_has ls 3 [(0, .ref x0), (1, .int x1)] → fJ14_copyOf σ x0 x1 = some res → W p l e R s m args below meth c H locs cells slots (MQ below (Qd E R.cells R.slots (some (.ref res.1)) res.2) args s R.cells R.slots (fr E)) (F0 m 0 ls []) := by
  intro x0 x1 σ H locs cells slots ls I hl hf
  obtain ⟨⟨hx, hb, hml, hown, hts⟩, -⟩ := id X
  unfold fJ14_copyOf at hf
  refine lv_iload_n hx hb dJ14_copyOf_0 rfl (lv_at hl 1 rfl) ?_
  refine lv_aload_n hx hb dJ14_copyOf_1 rfl (lv_at hl 0 rfl) ?_
  obtain ⟨v_1, ev_1, hf⟩ := ob hf
  refine g_alen X I ev_1 dJ14_copyOf_2 ?_
  refine lv_icmp_ne (tgt := 14) hx hb dJ14_copyOf_3 (by decide) (fun c_3 => ?_) (fun c_3 => ?_)
  · have hf := im c_3 hf
    refine lv_iload_n hx hb dJ14_copyOf_14 rfl (lv_at hl 1 rfl) ?_
    obtain ⟨k_2, ek_2, hf⟩ := ob hf
    obtain ⟨⟨q_3a, q_3s⟩, eq_3, hf⟩ := ob hf
    refine g_newa (atype := .byte) (t := 1) X I (by decide) rfl q197 ek_2 eq_3 dJ14_copyOf_15 (fun H locs cells slots I => ?_)
    refine lv_astore_n (lv' := [(2, .ref q_3a), (0, .ref x0), (1, .int x1)]) hx hb dJ14_copyOf_17 rfl hl (by decide) rfl (fun ls hl => ?_)
    refine lv_aload_n hx hb dJ14_copyOf_18 rfl (lv_at hl 1 rfl) ?_
    refine lv_iconst (v := 0) hx hb dJ14_copyOf_19 (by decide) ?_
    refine lv_aload_n hx hb dJ14_copyOf_20 rfl (lv_at hl 0 rfl) ?_
    refine lv_iconst (v := 0) hx hb dJ14_copyOf_21 (by decide) ?_
    refine lv_aload_n hx hb dJ14_copyOf_22 rfl (lv_at hl 1 rfl) ?_
    obtain ⟨v_4, ev_4, hf⟩ := ob hf
    refine g_alen X I ev_4 dJ14_copyOf_23 ?_
    refine lv_iload_n hx hb dJ14_copyOf_24 rfl (lv_at hl 2 rfl) ?_
    refine g_mmin X I ⟨Nat.le_trans (Nat.le_of_ble_eq_true rfl) hR.1, Nat.le_trans (Nat.le_of_ble_eq_true rfl) hR.2⟩ q579 hl.1 (Nat.le_of_ble_eq_true rfl) dJ14_copyOf_25 ?_
    obtain ⟨σ_5, eσ_5, hf⟩ := ob hf
    refine g_copyI X I (by decide) q582 eσ_5 hl.1 ⟨Nat.le_trans (Nat.le_of_ble_eq_true rfl) hR.1, Nat.le_trans (Nat.le_of_ble_eq_true rfl) hR.2⟩ (Nat.le_of_ble_eq_true rfl) dJ14_copyOf_28 (fun H locs I => ?_)
    refine lv_aload_n hx hb dJ14_copyOf_31 rfl (lv_at hl 0 rfl) ?_
    cases os hf
    exact r_aret X I (Or.inr ⟨_, rfl⟩) (Or.inr ⟨_, rfl⟩) dJ14_copyOf_32
  · have hf := ip c_3 hf
    refine lv_aload_n hx hb dJ14_copyOf_6 rfl (lv_at hl 0 rfl) ?_
    obtain ⟨⟨q_6a, q_6s⟩, eq_6, hf⟩ := ob hf
    refine g_clone hX X I q572 eq_6 hl.1 ⟨Nat.le_trans (Nat.le_of_ble_eq_true rfl) hR.1, Nat.le_trans (Nat.le_of_ble_eq_true rfl) hR.2⟩ (Nat.le_of_ble_eq_true rfl) dJ14_copyOf_7 (fun H locs cells slots I => ?_)
    obtain ⟨u_7, eu_7, hf⟩ := ob hf
    refine g_castA X I q578 eu_7 an1 dJ14_copyOf_10 ?_
    cases os hf
    exact r_aret X I (Or.inr ⟨_, rfl⟩) (Or.inr ⟨_, rfl⟩) dJ14_copyOf_13
theorem mJ14_copyOf {E : EV} {l : Launch} {σ : St} {x0 : Nat} {x1 : Int32} {res : (Nat × St)} (hX : XK E) (hf : fJ14_copyOf σ x0 x1 = some res) : CM E l yJ14_copyOf (ws_ yJ14_copyOf cJ14_copyOf 3 (some (.array .byte))) 1 40 [.ref x0, .int x1] σ (some (.ref res.1)) res.2 := by
  refine CM.of hX.1 (by decide) rfl rfl (Nat.le_of_ble_eq_true rfl) ?_
  intro p e s m below meth c X I ls hl
  exact wJ14_copyOf_0 hX ⟨Nat.le_refl _, Nat.le_refl _⟩ X _ _ _ _ _ _ _ _ I hl hf
/-! java/lang/AbstractStringBuilder.ensureCapacityInternal(I)V imp=True fuel=False kap=False rt=None thr=False -/
theorem lvJ8_104 : Cond.methodLink RJ8 104 yJ8_newCapacity ∈ lw_all ∧ Cond.sameMethod yJ8_newCapacity.cls yJ8_newCapacity.cls yJ8_newCapacity.name yJ8_newCapacity.desc ∈ lw_all ∧ Cond.instanceMethod yJ8_newCapacity ∈ lw_all ∧ Cond.initialized yJ8_newCapacity.cls ∈ lw_all ∧ Cond.code yJ8_newCapacity cJ8_newCapacity 6 (some .int) ∈ lw_all ∧ yJ8_newCapacity ∈ PVL := ⟨q554, q3340, q556, q127, q557, List.mem_of_getElem? (i := 4) rfl⟩
theorem hdJ8_104 : yJ8_newCapacity.cls ≠ "java/lang/invoke/MethodHandle" ∧ yJ8_newCapacity.cls ≠ "java/lang/invoke/VarHandle" ∧ (parseMethodDescriptor yJ8_newCapacity.desc).map (fun d => d.parameters.length) = some 1 := by decide +kernel
theorem lvJ8_108 : GoodIn lw_all (va_wsS RJ8 108 yJ14_copyOf (ws_ yJ14_copyOf cJ14_copyOf 3 (some (.array .byte)))) := lw_S q569 q570 q133 q571
theorem hdJ8_108 : yJ14_copyOf.cls ≠ "java/lang/invoke/MethodHandle" ∧ yJ14_copyOf.cls ≠ "java/lang/invoke/VarHandle" ∧ (parseMethodDescriptor yJ14_copyOf.desc).map (fun d => d.parameters.length) = some 2 := by decide +kernel
def fJ8_ensureCapacityInternal (σ : St) (x0 : Nat) (x1 : Int32) : Option St := (gR σ x0 [(25, 0)]).bind fun v_1 : Option Nat => (v_1).bind fun a_2 : Nat => (aL σ a_2).bind fun v_3 : Int32 => (gI σ x0 [(25, 1)]).bind fun v_4 : Int32 => lt (v_3 >>> (v_4 &&& 31)) fun x2_5 : Int32 => if (x1 - x2_5) ≤ 0 then some σ else (gR σ x0 [(25, 0)]).bind fun v_6 : Option Nat => (isC σ x0 25).bind fun u_7 : Unit => (fJ8_newCapacity σ x0 x1).bind fun (v_8, σ_9) => (gI σ_9 x0 [(25, 1)]).bind fun v_10 : Int32 => (v_6).bind fun a_11 : Nat => (fJ14_copyOf σ_9 a_11 (v_8 <<< (v_10 &&& 31))).bind fun (v_12, σ_13) => (pV σ_13 x0 [(25, 0)] (.ref v_12)).bind fun σ_14 : St => some σ_14
theorem wJ8_ensureCapacityInternal_0 {E : EV} {l : Launch} {p : Program} {e : Env} {s : State} {m : MethodId} {args : Array Value} {below : List Frame} {meth : Method} {c : Code} {R : Room} {res : St} (hX : XK E) (hR : 3 ≤ R.frames ∧ 69 ≤ R.locals) (X : MX E p s m args meth c cJ8_ensureCapacityInternal 3 none RJ8 "ensureCapacityInternal") : ∀ (x0 : Nat) (x1 : Int32) (σ : St) (H : Heap) (locs : List Loc) (cells slots : Nat) (ls : Array Slot), WI E R s σ H locs cells slots → lv_has ls 3 [(0, .ref x0), (1, .int x1)] → fJ8_ensureCapacityInternal σ x0 x1 = some res → W p l e R s m args below meth c H locs cells slots (MQ below (Qd E R.cells R.slots none res) args s R.cells R.slots (fr E)) (F0 m 0 ls []) := by
  intro x0 x1 σ H locs cells slots ls I hl hf
  obtain ⟨⟨hx, hb, hml, hown, hts⟩, -⟩ := id X
  unfold fJ8_ensureCapacityInternal at hf
  refine lv_aload_n hx hb dJ8_ensureCapacityInternal_0 rfl (lv_at hl 0 rfl) ?_
  obtain ⟨v_1, ev_1, hf⟩ := ob hf
  refine g_get X I gfJ8_15 (gR_in ev_1) dJ8_ensureCapacityInternal_1 ?_
  obtain ⟨a_2, ea_2, hga_2⟩ := ob hf
  have hla_2 := hl
  have Ia_2 := I
  subst ea_2
  have hf := hga_2
  have hl := hla_2
  have I := Ia_2
  obtain ⟨v_3, ev_3, hf⟩ := ob hf
  refine g_alen X I ev_3 dJ8_ensureCapacityInternal_4 ?_
  refine lv_aload_n hx hb dJ8_ensureCapacityInternal_5 rfl (lv_at hl 0 rfl) ?_
  obtain ⟨v_4, ev_4, hf⟩ := ob hf
  refine g_get X I gfJ8_22 (gI_in ev_4) dJ8_ensureCapacityInternal_6 ?_
  refine lv_ishr hx hb dJ8_ensureCapacityInternal_9 ?_
  obtain ⟨x2_5, ex2_5, hf⟩ := ol hf
  refine nm_i ex2_5 ?_
  refine lv_istore_n (lv' := [(2, .int x2_5), (0, .ref x0), (1, .int x1)]) hx hb dJ8_ensureCapacityInternal_10 rfl hl (by decide) rfl (fun ls hl => ?_)
  refine lv_iload_n hx hb dJ8_ensureCapacityInternal_11 rfl (lv_at hl 2 rfl) ?_
  refine lv_iload_n hx hb dJ8_ensureCapacityInternal_12 rfl (lv_at hl 0 rfl) ?_
  refine lv_isub hx hb dJ8_ensureCapacityInternal_13 ?_
  refine lv_if_le (tgt := 38) hx hb dJ8_ensureCapacityInternal_14 (by decide) (fun c_14 => ?_) (fun c_14 => ?_)
  · have hf := ip c_14 hf
    cases os hf
    exact r_vret X I dJ8_ensureCapacityInternal_38
  · have hf := im c_14 hf
    refine lv_aload_n hx hb dJ8_ensureCapacityInternal_17 rfl (lv_at hl 1 rfl) ?_
    refine lv_aload_n hx hb dJ8_ensureCapacityInternal_18 rfl (lv_at hl 1 rfl) ?_
    obtain ⟨v_6, ev_6, hf⟩ := ob hf
    refine g_get X I gfJ8_15 (gR_in ev_6) dJ8_ensureCapacityInternal_19 ?_
    refine lv_aload_n hx hb dJ8_ensureCapacityInternal_22 rfl (lv_at hl 1 rfl) ?_
    refine lv_iload_n hx hb dJ8_ensureCapacityInternal_23 rfl (lv_at hl 2 rfl) ?_
    obtain ⟨u_7, eu_7, hf⟩ := ob hf
    obtain ⟨⟨v_8, σ_9⟩, ev_8, hf⟩ := ob hf
    refine cg_UP (r := (some (.int v_8))) (σ' := σ_9) (rs := [.int v_8, va_rf v_6, .ref x0]) (rest := [va_rf v_6, .ref x0]) (As := [.int x1]) hX X I eu_7 (mJ8_newCapacity hX ev_8) lvJ8_104 hdJ8_104 ⟨Nat.le_trans (Nat.le_of_ble_eq_true rfl) hR.1, Nat.le_trans (Nat.le_of_ble_eq_true rfl) hR.2⟩ rfl hl.1 rfl (by rcases v_6 with _ | _ <;> exact (Nat.le_of_ble_eq_true rfl)) rfl dJ8_ensureCapacityInternal_24 (fun H locs cells slots I => ?_)
    refine lv_aload_n hx hb dJ8_ensureCapacityInternal_27 rfl (lv_at hl 1 rfl) ?_
    obtain ⟨v_10, ev_10, hf⟩ := ob hf
    refine g_get X I gfJ8_22 (gI_in ev_10) dJ8_ensureCapacityInternal_28 ?_
    refine lv_ishl hx hb dJ8_ensureCapacityInternal_31 ?_
    obtain ⟨a_11, ea_11, hga_11⟩ := ob hf
    have hla_11 := hl
    have Ia_11 := I
    subst ea_11
    have hf := hga_11
    have hl := hla_11
    have I := Ia_11
    obtain ⟨⟨v_12, σ_13⟩, ev_12, hf⟩ := ob hf
    refine cg_S (r := (some (.ref v_12))) (σ' := σ_13) (rs := [.ref v_12, .ref x0]) (rest := [.ref x0]) (As := [.ref a_11, .int (v_8 <<< (v_10 &&& 31))]) X I (mJ14_copyOf hX ev_12) lvJ8_108 hdJ8_108 ⟨Nat.le_trans (Nat.le_of_ble_eq_true rfl) hR.1, Nat.le_trans (Nat.le_of_ble_eq_true rfl) hR.2⟩ rfl hl.1 rfl (Nat.le_of_ble_eq_true rfl) rfl dJ8_ensureCapacityInternal_32 (fun H locs cells slots I => ?_)
    obtain ⟨σ_14, eσ_14, hf⟩ := ob hf
    refine g_put X I pfJ8_15 rfl rfl eσ_14 dJ8_ensureCapacityInternal_35 (fun H locs I => ?_)
    cases os hf
    exact r_vret X I dJ8_ensureCapacityInternal_38
theorem mJ8_ensureCapacityInternal {E : EV} {l : Launch} {σ : St} {x0 : Nat} {x1 : Int32} {res : St} (hX : XK E) (hf : fJ8_ensureCapacityInternal σ x0 x1 = some res) : CM E l yJ8_ensureCapacityInternal (ws_ yJ8_ensureCapacityInternal cJ8_ensureCapacityInternal 3 none) 3 69 [.ref x0, .int x1] σ none res := by
  refine CM.of hX.1 (by decide) rfl rfl (Nat.le_of_ble_eq_true rfl) ?_
  intro p e s m below meth c X I ls hl
  exact wJ8_ensureCapacityInternal_0 hX ⟨Nat.le_refl _, Nat.le_refl _⟩ X _ _ _ _ _ _ _ _ I hl hf
/-! java/lang/AbstractStringBuilder.isLatin1()Z imp=False fuel=False kap=True rt=I thr=False -/
def fJ8_isLatin1 (κ : Nat → Nat) (σ : St) (x0 : Nat) : Option Int32 := if (1 : Int32) = 0 then some (0 : Int32) else (gI σ x0 [(25, 1)]).bind fun v_1 : Int32 => if v_1 = 0 then some (1 : Int32) else some (0 : Int32)
theorem wJ8_isLatin1_0 {E : EV} {l : Launch} {p : Program} {e : Env} {s : State} {m : MethodId} {args : Array Value} {below : List Frame} {meth : Method} {c : Code} {R : Room} {σ : St} {res : Int32} (hX : XK E) (hR : 0 ≤ R.frames ∧ 0 ≤ R.locals) (X : MX E p s m args meth c cJ8_isLatin1 1 (some .boolean) RJ8 "isLatin1") : ∀ (x0 : Nat) (H : Heap) (locs : List Loc) (cells slots : Nat) (ls : Array Slot), WI E R s σ H locs cells slots → lv_has ls 1 [(0, .ref x0)] → fJ8_isLatin1 E.2.2.2.1 σ x0 = some res → W p l e R s m args below meth c H locs cells slots (MQ below (Qd E R.cells R.slots (some (.int res)) σ) args s R.cells R.slots (fr E)) (F0 m 0 ls []) := by
  intro x0 H locs cells slots ls I hl hf
  obtain ⟨⟨hx, hb, hml, hown, hts⟩, -⟩ := id X
  unfold fJ8_isLatin1 at hf
  refine g_gets (ref := "java/lang/String") (w := .int (1 : Int32)) hX X I (List.mem_of_getElem? (i := 0) rfl) rfl q515 dJ8_isLatin1_0 ?_
  refine lv_if_eq (tgt := 17) hx hb dJ8_isLatin1_3 (by decide) (fun c_3 => ?_) (fun c_3 => ?_)
  · have hf := ip c_3 hf
    refine lv_iconst (v := 0) hx hb dJ8_isLatin1_17 (by decide) ?_
    cases os hf
    exact r_zret X I (Or.inl rfl) dJ8_isLatin1_18
  · have hf := im c_3 hf
    refine lv_aload_n hx hb dJ8_isLatin1_6 rfl (lv_at hl 0 rfl) ?_
    obtain ⟨v_1, ev_1, hf⟩ := ob hf
    refine g_get X I gfJ8_22 (gI_in ev_1) dJ8_isLatin1_7 ?_
    refine lv_if_ne (tgt := 17) hx hb dJ8_isLatin1_10 (by decide) (fun c_10 => ?_) (fun c_10 => ?_)
    · have hf := im c_10 hf
      refine lv_iconst (v := 0) hx hb dJ8_isLatin1_17 (by decide) ?_
      cases os hf
      exact r_zret X I (Or.inl rfl) dJ8_isLatin1_18
    · have hf := ip c_10 hf
      refine lv_iconst (v := 1) hx hb dJ8_isLatin1_13 (by decide) ?_
      refine lv_goto (tgt := 18) hx hb dJ8_isLatin1_14 (by decide) ?_
      cases os hf
      exact r_zret X I (Or.inr rfl) dJ8_isLatin1_18
theorem mJ8_isLatin1 {E : EV} {l : Launch} {σ : St} {x0 : Nat} {res : Int32} (hX : XK E) (hf : fJ8_isLatin1 E.2.2.2.1 σ x0 = some res) : CM E l yJ8_isLatin1 (ws_ yJ8_isLatin1 cJ8_isLatin1 1 (some .boolean)) 0 0 [.ref x0] σ (some (.int res)) σ := by
  refine CM.of hX.1 (by decide) rfl rfl (Nat.le_of_ble_eq_true rfl) ?_
  intro p e s m below meth c X I ls hl
  exact wJ8_isLatin1_0 hX ⟨Nat.le_refl _, Nat.le_refl _⟩ X _ _ _ _ _ _ I hl hf
/-! java/lang/StringLatin1.canEncode(C)Z imp=False fuel=False kap=False rt=I thr=False -/
def fJ15_canEncode (σ : St) (x0 : Int32) : Option Int32 := if (255 : Int32) < x0 then some (0 : Int32) else some (1 : Int32)
theorem wJ15_canEncode_0 {E : EV} {l : Launch} {p : Program} {e : Env} {s : State} {m : MethodId} {args : Array Value} {below : List Frame} {meth : Method} {c : Code} {R : Room} {σ : St} {res : Int32} (hX : XK E) (hR : 0 ≤ R.frames ∧ 0 ≤ R.locals) (X : MX E p s m args meth c cJ15_canEncode 1 (some .boolean) RJ15 "canEncode") : ∀ (x0 : Int32) (H : Heap) (locs : List Loc) (cells slots : Nat) (ls : Array Slot), WI E R s σ H locs cells slots → lv_has ls 1 [(0, .int x0)] → fJ15_canEncode σ x0 = some res → W p l e R s m args below meth c H locs cells slots (MQ below (Qd E R.cells R.slots (some (.int res)) σ) args s R.cells R.slots (fr E)) (F0 m 0 ls []) := by
  intro x0 H locs cells slots ls I hl hf
  obtain ⟨⟨hx, hb, hml, hown, hts⟩, -⟩ := id X
  unfold fJ15_canEncode at hf
  refine lv_iload_n hx hb dJ15_canEncode_0 rfl (lv_at hl 0 rfl) ?_
  refine lv_sipush (v := 255) hx hb dJ15_canEncode_1 (by decide) ?_
  refine lv_icmp_gt (tgt := 11) hx hb dJ15_canEncode_4 (by decide) (fun c_4 => ?_) (fun c_4 => ?_)
  · have hf := ip c_4 hf
    refine lv_iconst (v := 0) hx hb dJ15_canEncode_11 (by decide) ?_
    cases os hf
    exact r_zret X I (Or.inl rfl) dJ15_canEncode_12
  · have hf := im c_4 hf
    refine lv_iconst (v := 1) hx hb dJ15_canEncode_7 (by decide) ?_
    refine lv_goto (tgt := 12) hx hb dJ15_canEncode_8 (by decide) ?_
    cases os hf
    exact r_zret X I (Or.inr rfl) dJ15_canEncode_12
theorem mJ15_canEncode {E : EV} {l : Launch} {σ : St} {x0 : Int32} {res : Int32} (hX : XK E) (hf : fJ15_canEncode σ x0 = some res) : CM E l yJ15_canEncode (ws_ yJ15_canEncode cJ15_canEncode 1 (some .boolean)) 0 0 [.int x0] σ (some (.int res)) σ := by
  refine CM.of hX.1 (by decide) rfl rfl (Nat.le_of_ble_eq_true rfl) ?_
  intro p e s m below meth c X I ls hl
  exact wJ15_canEncode_0 hX ⟨Nat.le_refl _, Nat.le_refl _⟩ X _ _ _ _ _ _ I hl hf
/-! java/lang/StringUTF16.length([B)I imp=False fuel=False kap=False rt=I thr=False -/
def fJ11_length (σ : St) (x0 : Nat) : Option Int32 := (aL σ x0).bind fun v_1 : Int32 => some (v_1 >>> ((1 : Int32) &&& 31))
theorem wJ11_length_0 {E : EV} {l : Launch} {p : Program} {e : Env} {s : State} {m : MethodId} {args : Array Value} {below : List Frame} {meth : Method} {c : Code} {R : Room} {σ : St} {res : Int32} (hX : XK E) (hR : 0 ≤ R.frames ∧ 0 ≤ R.locals) (X : MX E p s m args meth c cJ11_length 1 (some .int) RJ11 "length") : ∀ (x0 : Nat) (H : Heap) (locs : List Loc) (cells slots : Nat) (ls : Array Slot), WI E R s σ H locs cells slots → lv_has ls 1 [(0, .ref x0)] → fJ11_length σ x0 = some res → W p l e R s m args below meth c H locs cells slots (MQ below (Qd E R.cells R.slots (some (.int res)) σ) args s R.cells R.slots (fr E)) (F0 m 0 ls []) := by
  intro x0 H locs cells slots ls I hl hf
  obtain ⟨⟨hx, hb, hml, hown, hts⟩, -⟩ := id X
  unfold fJ11_length at hf
  refine lv_aload_n hx hb dJ11_length_0 rfl (lv_at hl 0 rfl) ?_
  obtain ⟨v_1, ev_1, hf⟩ := ob hf
  refine g_alen X I ev_1 dJ11_length_1 ?_
  refine lv_iconst (v := 1) hx hb dJ11_length_2 (by decide) ?_
  refine lv_ishr hx hb dJ11_length_3 ?_
  cases os hf
  exact r_iret X I dJ11_length_4
theorem mJ11_length {E : EV} {l : Launch} {σ : St} {x0 : Nat} {res : Int32} (hX : XK E) (hf : fJ11_length σ x0 = some res) : CM E l yJ11_length (ws_ yJ11_length cJ11_length 1 (some .int)) 0 0 [.ref x0] σ (some (.int res)) σ := by
  refine CM.of hX.1 (by decide) rfl rfl (Nat.le_of_ble_eq_true rfl) ?_
  intro p e s m below meth c X I ls hl
  exact wJ11_length_0 hX ⟨Nat.le_refl _, Nat.le_refl _⟩ X _ _ _ _ _ _ I hl hf
/-! jdk/internal/util/Preconditions.checkFromIndexSize(IIILjava/util/function/BiFunction;)I imp=False fuel=False kap=False rt=I thr=False -/
def fJ16_checkFromIndexSize_15 (σ : St) (x0 : Int32) (x1 : Int32) (x2 : Int32) (x3 : Option Nat) : Option Int32 := none
def fJ16_checkFromIndexSize (σ : St) (x0 : Int32) (x1 : Int32) (x2 : Int32) (x3 : Option Nat) : Option Int32 := if ((x2 ||| x0) ||| x1) < 0 then fJ16_checkFromIndexSize_15 σ x0 x1 x2 x3 else if x1 ≤ (x2 - x0) then some x0 else fJ16_checkFromIndexSize_15 σ x0 x1 x2 x3
theorem wJ16_checkFromIndexSize_15 {E : EV} {l : Launch} {p : Program} {e : Env} {s : State} {m : MethodId} {args : Array Value} {below : List Frame} {meth : Method} {c : Code} {R : Room} {σ : St} {res : Int32} (hX : XK E) (hR : 0 ≤ R.frames ∧ 0 ≤ R.locals) (X : MX E p s m args meth c cJ16_checkFromIndexSize 4 (some .int) RJ16 "checkFromIndexSize") : ∀ (x0 : Int32) (x1 : Int32) (x2 : Int32) (x3 : Option Nat) (H : Heap) (locs : List Loc) (cells slots : Nat) (ls : Array Slot), WI E R s σ H locs cells slots → lv_has ls 4 [(0, .int x0), (1, .int x1), (2, .int x2), (3, va_rf x3)] → fJ16_checkFromIndexSize_15 σ x0 x1 x2 x3 = some res → W p l e R s m args below meth c H locs cells slots (MQ below (Qd E R.cells R.slots (some (.int res)) σ) args s R.cells R.slots (fr E)) (F0 m 15 ls []) := by
  intro x0 x1 x2 x3 H locs cells slots ls I hl hf
  obtain ⟨⟨hx, hb, hml, hown, hts⟩, -⟩ := id X
  unfold fJ16_checkFromIndexSize_15 at hf
  refine lo_aload_n (x := x3) hx hb dJ16_checkFromIndexSize_15 rfl (lv_at hl 3 rfl) ?_
  refine lv_iload_n hx hb dJ16_checkFromIndexSize_16 rfl (lv_at hl 0 rfl) ?_
  refine lv_iload_n hx hb dJ16_checkFromIndexSize_17 rfl (lv_at hl 1 rfl) ?_
  refine lv_iload_n hx hb dJ16_checkFromIndexSize_18 rfl (lv_at hl 2 rfl) ?_
  exact nomatch hf
theorem wJ16_checkFromIndexSize_0 {E : EV} {l : Launch} {p : Program} {e : Env} {s : State} {m : MethodId} {args : Array Value} {below : List Frame} {meth : Method} {c : Code} {R : Room} {σ : St} {res : Int32} (hX : XK E) (hR : 0 ≤ R.frames ∧ 0 ≤ R.locals) (X : MX E p s m args meth c cJ16_checkFromIndexSize 4 (some .int) RJ16 "checkFromIndexSize") : ∀ (x0 : Int32) (x1 : Int32) (x2 : Int32) (x3 : Option Nat) (H : Heap) (locs : List Loc) (cells slots : Nat) (ls : Array Slot), WI E R s σ H locs cells slots → lv_has ls 4 [(0, .int x0), (1, .int x1), (2, .int x2), (3, va_rf x3)] → fJ16_checkFromIndexSize σ x0 x1 x2 x3 = some res → W p l e R s m args below meth c H locs cells slots (MQ below (Qd E R.cells R.slots (some (.int res)) σ) args s R.cells R.slots (fr E)) (F0 m 0 ls []) := by
  intro x0 x1 x2 x3 H locs cells slots ls I hl hf
  obtain ⟨⟨hx, hb, hml, hown, hts⟩, -⟩ := id X
  unfold fJ16_checkFromIndexSize at hf
  refine lv_iload_n hx hb dJ16_checkFromIndexSize_0 rfl (lv_at hl 2 rfl) ?_
  refine lv_iload_n hx hb dJ16_checkFromIndexSize_1 rfl (lv_at hl 0 rfl) ?_
  refine lv_ior hx hb dJ16_checkFromIndexSize_2 ?_
  refine lv_iload_n hx hb dJ16_checkFromIndexSize_3 rfl (lv_at hl 1 rfl) ?_
  refine lv_ior hx hb dJ16_checkFromIndexSize_4 ?_
  refine lv_if_lt (tgt := 15) hx hb dJ16_checkFromIndexSize_5 (by decide) (fun c_5 => ?_) (fun c_5 => ?_)
  · have hf := ip c_5 hf
    exact wJ16_checkFromIndexSize_15 hX hR X x0 x1 x2 x3 _ _ _ _ _ I (lv_sub hl [0, 1, 2, 3] rfl) hf
  · have hf := im c_5 hf
    refine lv_iload_n hx hb dJ16_checkFromIndexSize_8 rfl (lv_at hl 1 rfl) ?_
    refine lv_iload_n hx hb dJ16_checkFromIndexSize_9 rfl (lv_at hl 2 rfl) ?_
    refine lv_iload_n hx hb dJ16_checkFromIndexSize_10 rfl (lv_at hl 0 rfl) ?_
    refine lv_isub hx hb dJ16_checkFromIndexSize_11 ?_
    refine lv_icmp_le (tgt := 23) hx hb dJ16_checkFromIndexSize_12 (by decide) (fun c_12 => ?_) (fun c_12 => ?_)
    · have hf := ip c_12 hf
      refine lv_iload_n hx hb dJ16_checkFromIndexSize_23 rfl (lv_at hl 0 rfl) ?_
      cases os hf
      exact r_iret X I dJ16_checkFromIndexSize_24
    · have hf := im c_12 hf
      exact wJ16_checkFromIndexSize_15 hX hR X x0 x1 x2 x3 _ _ _ _ _ I (lv_sub hl [0, 1, 2, 3] rfl) hf
theorem mJ16_checkFromIndexSize {E : EV} {l : Launch} {σ : St} {x0 : Int32} {x1 : Int32} {x2 : Int32} {x3 : Option Nat} {res : Int32} (hX : XK E) (hf : fJ16_checkFromIndexSize σ x0 x1 x2 x3 = some res) : CM E l yJ16_checkFromIndexSize (ws_ yJ16_checkFromIndexSize cJ16_checkFromIndexSize 4 (some .int)) 0 0 [.int x0, .int x1, .int x2, va_rf x3] σ (some (.int res)) σ := by
  refine CM.of hX.1 (by decide) rfl rfl (by rcases x3 with _ | _ <;> exact (Nat.le_of_ble_eq_true rfl)) ?_
  intro p e s m below meth c X I ls hl
  exact wJ16_checkFromIndexSize_0 hX ⟨Nat.le_refl _, Nat.le_refl _⟩ X _ _ _ _ _ _ _ _ _ I (by rcases x3 with _ | _ <;> exact hl) hf
/-! java/lang/String.checkBoundsOffCount(III)I imp=False fuel=False kap=True rt=I thr=False -/
theorem lvJ10_1065 : GoodIn lw_all (va_wsS RJ10 1065 yJ16_checkFromIndexSize (ws_ yJ16_checkFromIndexSize cJ16_checkFromIndexSize 4 (some .int))) := lw_S q650 q651 q136 q652
theorem hdJ10_1065 : yJ16_checkFromIndexSize.cls ≠ "java/lang/invoke/MethodHandle" ∧ yJ16_checkFromIndexSize.cls ≠ "java/lang/invoke/VarHandle" ∧ (parseMethodDescriptor yJ16_checkFromIndexSize.desc).map (fun d => d.parameters.length) = some 4 := by decide +kernel
def fJ10_checkBoundsOffCount (κ : Nat → Nat) (σ : St) (x0 : Int32) (x1 : Int32) (x2 : Int32) : Option Int32 := lt (ko (κ 7)) fun v_1 : Option Nat => (fJ16_checkFromIndexSize σ x0 x1 x2 v_1).bind fun v_2 : Int32 => some v_2
theorem wJ10_checkBoundsOffCount_0 {E : EV} {l : Launch} {p : Program} {e : Env} {s : State} {m : MethodId} {args : Array Value} {below : List Frame} {meth : Method} {c : Code} {R : Room} {σ : St} {res : Int32} (hX : XK E) (hR : 1 ≤ R.frames ∧ 23 ≤ R.locals) (X : MX E p s m args meth c cJ10_checkBoundsOffCount 3 (some .int) RJ10 "checkBoundsOffCount") : ∀ (x0 : Int32) (x1 : Int32) (x2 : Int32) (H : Heap) (locs : List Loc) (cells slots : Nat) (ls : Array Slot), WI E R s σ H locs cells slots → lv_has ls 3 [(0, .int x0), (1, .int x1), (2, .int x2)] → fJ10_checkBoundsOffCount E.2.2.2.1 σ x0 x1 x2 = some res → W p l e R s m args below meth c H locs cells slots (MQ below (Qd E R.cells R.slots (some (.int res)) σ) args s R.cells R.slots (fr E)) (F0 m 0 ls []) := by
  intro x0 x1 x2 H locs cells slots ls I hl hf
  obtain ⟨⟨hx, hb, hml, hown, hts⟩, -⟩ := id X
  unfold fJ10_checkBoundsOffCount at hf
  refine lv_iload_n hx hb dJ10_checkBoundsOffCount_0 rfl (lv_at hl 0 rfl) ?_
  refine lv_iload_n hx hb dJ10_checkBoundsOffCount_1 rfl (lv_at hl 1 rfl) ?_
  refine lv_iload_n hx hb dJ10_checkBoundsOffCount_2 rfl (lv_at hl 2 rfl) ?_
  refine g_gets (ref := "jdk/internal/util/Preconditions") (w := va_rf (ko (E.2.2.2.1 7))) hX X I (List.mem_of_getElem? (i := 9) rfl) rfl q602 dJ10_checkBoundsOffCount_3 ?_
  obtain ⟨v_1, ev_1, hf⟩ := ol hf
  refine nm_o ev_1 ?_
  obtain ⟨v_2, ev_2, hf⟩ := ob hf
  refine cg_S (r := (some (.int v_2))) (σ' := σ) (rs := [.int v_2]) (rest := []) (As := [.int x0, .int x1, .int x2, va_rf v_1]) X I (mJ16_checkFromIndexSize hX ev_2) lvJ10_1065 hdJ10_1065 ⟨Nat.le_trans (Nat.le_of_ble_eq_true rfl) hR.1, Nat.le_trans (Nat.le_of_ble_eq_true rfl) hR.2⟩ rfl hl.1 rfl (Nat.le_of_ble_eq_true rfl) rfl dJ10_checkBoundsOffCount_6 (fun H locs cells slots I => ?_)
  cases os hf
  exact r_iret X I dJ10_checkBoundsOffCount_9
theorem mJ10_checkBoundsOffCount {E : EV} {l : Launch} {σ : St} {x0 : Int32} {x1 : Int32} {x2 : Int32} {res : Int32} (hX : XK E) (hf : fJ10_checkBoundsOffCount E.2.2.2.1 σ x0 x1 x2 = some res) : CM E l yJ10_checkBoundsOffCount (ws_ yJ10_checkBoundsOffCount cJ10_checkBoundsOffCount 3 (some .int)) 1 23 [.int x0, .int x1, .int x2] σ (some (.int res)) σ := by
  refine CM.of hX.1 (by decide) rfl rfl (Nat.le_of_ble_eq_true rfl) ?_
  intro p e s m below meth c X I ls hl
  exact wJ10_checkBoundsOffCount_0 hX ⟨Nat.le_refl _, Nat.le_refl _⟩ X _ _ _ _ _ _ _ _ I hl hf
/-! java/lang/StringUTF16.checkBoundsOffCount(II[B)V imp=False fuel=False kap=True rt=None thr=False -/
theorem lvJ11_48 : GoodIn lw_all (va_wsS RJ11 48 yJ11_length (ws_ yJ11_length cJ11_length 1 (some .int))) := lw_S q596 q597 q130 q598
theorem hdJ11_48 : yJ11_length.cls ≠ "java/lang/invoke/MethodHandle" ∧ yJ11_length.cls ≠ "java/lang/invoke/VarHandle" ∧ (parseMethodDescriptor yJ11_length.desc).map (fun d => d.parameters.length) = some 1 := by decide +kernel
theorem lvJ11_419 : GoodIn lw_all (va_wsS RJ11 419 yJ10_checkBoundsOffCount (ws_ yJ10_checkBoundsOffCount cJ10_checkBoundsOffCount 3 (some .int))) := lw_S q647 q648 q129 q649
theorem hdJ11_419 : yJ10_checkBoundsOffCount.cls ≠ "java/lang/invoke/MethodHandle" ∧ yJ10_checkBoundsOffCount.cls ≠ "java/lang/invoke/VarHandle" ∧ (parseMethodDescriptor yJ10_checkBoundsOffCount.desc).map (fun d => d.parameters.length) = some 3 := by decide +kernel
def fJ11_checkBoundsOffCount (κ : Nat → Nat) (σ : St) (x0 : Int32) (x1 : Int32) (x2 : Nat) : Option Unit := (fJ11_length σ x2).bind fun v_1 : Int32 => (fJ10_checkBoundsOffCount κ σ x0 x1 v_1).bind fun v_3 : Int32 => some ()
theorem wJ11_checkBoundsOffCount_0 {E : EV} {l : Launch} {p : Program} {e : Env} {s : State} {m : MethodId} {args : Array Value} {below : List Frame} {meth : Method} {c : Code} {R : Room} {σ : St} {res : Unit} (hX : XK E) (hR : 2 ≤ R.frames ∧ 45 ≤ R.locals) (X : MX E p s m args meth c cJ11_checkBoundsOffCount 3 none RJ11 "checkBoundsOffCount") : ∀ (x0 : Int32) (x1 : Int32) (x2 : Nat) (H : Heap) (locs : List Loc) (cells slots : Nat) (ls : Array Slot), WI E R s σ H locs cells slots → lv_has ls 3 [(0, .int x0), (1, .int x1), (2, .ref x2)] → fJ11_checkBoundsOffCount E.2.2.2.1 σ x0 x1 x2 = some res → W p l e R s m args below meth c H locs cells slots (MQ below (Qd E R.cells R.slots none σ) args s R.cells R.slots (fr E)) (F0 m 0 ls []) := by
  intro x0 x1 x2 H locs cells slots ls I hl hf
  obtain ⟨⟨hx, hb, hml, hown, hts⟩, -⟩ := id X
  unfold fJ11_checkBoundsOffCount at hf
  refine lv_iload_n hx hb dJ11_checkBoundsOffCount_0 rfl (lv_at hl 0 rfl) ?_
  refine lv_iload_n hx hb dJ11_checkBoundsOffCount_1 rfl (lv_at hl 1 rfl) ?_
  refine lv_aload_n hx hb dJ11_checkBoundsOffCount_2 rfl (lv_at hl 2 rfl) ?_
  obtain ⟨v_1, ev_1, hf⟩ := ob hf
  refine cg_S (r := (some (.int v_1))) (σ' := σ) (rs := [.int v_1, .int x1, .int x0]) (rest := [.int x1, .int x0]) (As := [.ref x2]) X I (mJ11_length hX ev_1) lvJ11_48 hdJ11_48 ⟨Nat.le_trans (Nat.le_of_ble_eq_true rfl) hR.1, Nat.le_trans (Nat.le_of_ble_eq_true rfl) hR.2⟩ rfl hl.1 rfl (Nat.le_of_ble_eq_true rfl) rfl dJ11_checkBoundsOffCount_3 (fun H locs cells slots I => ?_)
  obtain ⟨v_3, ev_3, hf⟩ := ob hf
  refine cg_S (r := (some (.int v_3))) (σ' := σ) (rs := [.int v_3]) (rest := []) (As := [.int x0, .int x1, .int v_1]) X I (mJ10_checkBoundsOffCount hX ev_3) lvJ11_419 hdJ11_419 ⟨Nat.le_trans (Nat.le_of_ble_eq_true rfl) hR.1, Nat.le_trans (Nat.le_of_ble_eq_true rfl) hR.2⟩ rfl hl.1 rfl (Nat.le_of_ble_eq_true rfl) rfl dJ11_checkBoundsOffCount_6 (fun H locs cells slots I => ?_)
  refine lv_pop hx hb dJ11_checkBoundsOffCount_9 rfl ?_
  cases os hf
  exact r_vret X I dJ11_checkBoundsOffCount_10
theorem mJ11_checkBoundsOffCount {E : EV} {l : Launch} {σ : St} {x0 : Int32} {x1 : Int32} {x2 : Nat} {res : Unit} (hX : XK E) (hf : fJ11_checkBoundsOffCount E.2.2.2.1 σ x0 x1 x2 = some res) : CM E l yJ11_checkBoundsOffCount (ws_ yJ11_checkBoundsOffCount cJ11_checkBoundsOffCount 3 none) 2 45 [.int x0, .int x1, .ref x2] σ none σ := by
  refine CM.of hX.1 (by decide) rfl rfl (Nat.le_of_ble_eq_true rfl) ?_
  intro p e s m below meth c X I ls hl
  exact wJ11_checkBoundsOffCount_0 hX ⟨Nat.le_refl _, Nat.le_refl _⟩ X _ _ _ _ _ _ _ _ I hl hf
/-! java/lang/StringUTF16.putChar([BII)V imp=False fuel=False kap=False rt=None thr=False -/
def fJ11_putChar (σ : St) (x0 : Nat) (x1 : Int32) (x2 : Int32) : Option Unit := none
theorem wJ11_putChar_0 {E : EV} {l : Launch} {p : Program} {e : Env} {s : State} {m : MethodId} {args : Array Value} {below : List Frame} {meth : Method} {c : Code} {R : Room} {σ : St} {res : Unit} (hX : XK E) (hR : 1 ≤ R.frames ∧ 20 ≤ R.locals) (X : MX E p s m args meth c cJ11_putChar 3 none RJ11 "putChar") : ∀ (x0 : Nat) (x1 : Int32) (x2 : Int32) (H : Heap) (locs : List Loc) (cells slots : Nat) (ls : Array Slot), WI E R s σ H locs cells slots → lv_has ls 3 [(0, .ref x0), (1, .int x1), (2, .int x2)] → fJ11_putChar σ x0 x1 x2 = some res → W p l e R s m args below meth c H locs cells slots (MQ below (Qd E R.cells R.slots none σ) args s R.cells R.slots (fr E)) (F0 m 0 ls []) := by
  intro x0 x1 x2 H locs cells slots ls I hl hf
  obtain ⟨⟨hx, hb, hml, hown, hts⟩, -⟩ := id X
  unfold fJ11_putChar at hf
  exact nomatch hf
theorem mJ11_putChar {E : EV} {l : Launch} {σ : St} {x0 : Nat} {x1 : Int32} {x2 : Int32} {res : Unit} (hX : XK E) (hf : fJ11_putChar σ x0 x1 x2 = some res) : CM E l yJ11_putChar (ws_ yJ11_putChar cJ11_putChar 3 none) 1 20 [.ref x0, .int x1, .int x2] σ none σ := by
  refine CM.of hX.1 (by decide) rfl rfl (Nat.le_of_ble_eq_true rfl) ?_
  intro p e s m below meth c X I ls hl
  exact wJ11_putChar_0 hX ⟨Nat.le_refl _, Nat.le_refl _⟩ X _ _ _ _ _ _ _ _ I hl hf
/-! java/lang/StringUTF16.inflate([BI[BII)V imp=False fuel=True kap=True rt=None thr=False -/
theorem lvJ11_111 : GoodIn lw_all (va_wsS RJ11 111 yJ11_putChar (ws_ yJ11_putChar cJ11_putChar 3 none)) := lw_S q607 q608 q130 q609
theorem hdJ11_111 : yJ11_putChar.cls ≠ "java/lang/invoke/MethodHandle" ∧ yJ11_putChar.cls ≠ "java/lang/invoke/VarHandle" ∧ (parseMethodDescriptor yJ11_putChar.desc).map (fun d => d.parameters.length) = some 3 := by decide +kernel
theorem lvJ11_173 : GoodIn lw_all (va_wsS RJ11 173 yJ11_checkBoundsOffCount (ws_ yJ11_checkBoundsOffCount cJ11_checkBoundsOffCount 3 none)) := lw_S q644 q645 q130 q646
theorem hdJ11_173 : yJ11_checkBoundsOffCount.cls ≠ "java/lang/invoke/MethodHandle" ∧ yJ11_checkBoundsOffCount.cls ≠ "java/lang/invoke/VarHandle" ∧ (parseMethodDescriptor yJ11_checkBoundsOffCount.desc).map (fun d => d.parameters.length) = some 3 := by decide +kernel
def fJ11_inflate_10 (N : Nat) (κ : Nat → Nat) (σ : St) : Nat → Nat → Int32 → Nat → Int32 → Int32 → Int32 → Option Unit
  | 0, _, _, _, _, _, _ => none
  | n + 1, x0, x1, x2, x3, x4, x5 => if x4 ≤ x5 then some () else lt (x3 + 1) fun x3_1 : Int32 => lt (x1 + 1) fun x1_2 : Int32 => (aI σ x0 1 x1).bind fun v_3 : Int32 => (fJ11_putChar σ x2 x3 (v_3 &&& (255 : Int32))).bind fun v_4 : Unit => lt (x5 + 1) fun x5_6 : Int32 => fJ11_inflate_10 N κ σ n x0 x1_2 x2 x3_1 x4 x5_6
def fJ11_inflate (N : Nat) (κ : Nat → Nat) (σ : St) (x0 : Nat) (x1 : Int32) (x2 : Nat) (x3 : Int32) (x4 : Int32) : Option Unit := (fJ11_checkBoundsOffCount κ σ x3 x4 x2).bind fun v_7 : Unit => fJ11_inflate_10 N κ σ N x0 x1 x2 x3 x4 (0 : Int32)
theorem wJ11_inflate_10 {E : EV} {l : Launch} {p : Program} {e : Env} {s : State} {m : MethodId} {args : Array Value} {below : List Frame} {meth : Method} {c : Code} {R : Room} {σ : St} {res : Unit} (hX : XK E) (hR : 3 ≤ R.frames ∧ 67 ≤ R.locals) (X : MX E p s m args meth c cJ11_inflate 6 none RJ11 "inflate") (N : Nat) : ∀ (n : Nat) (x0 : Nat) (x1 : Int32) (x2 : Nat) (x3 : Int32) (x4 : Int32) (x5 : Int32) (H : Heap) (locs : List Loc) (cells slots : Nat) (ls : Array Slot), WI E R s σ H locs cells slots → lv_has ls 6 [(0, .ref x0), (1, .int x1), (2, .ref x2), (3, .int x3), (4, .int x4), (5, .int x5)] → fJ11_inflate_10 N E.2.2.2.1 σ n x0 x1 x2 x3 x4 x5 = some res → W p l e R s m args below meth c H locs cells slots (MQ below (Qd E R.cells R.slots none σ) args s R.cells R.slots (fr E)) (F0 m 10 ls []) := by
  intro n
  induction n with
  | zero => intro x0 x1 x2 x3 x4 x5 H locs cells slots ls I hl hf; exact nomatch (show none = some res from hf)
  | succ n ih =>
    intro x0 x1 x2 x3 x4 x5 H locs cells slots ls I hl hf
    obtain ⟨⟨hx, hb, hml, hown, hts⟩, -⟩ := id X
    rw [fJ11_inflate_10.eq_2] at hf
    refine lv_iload hx hb dJ11_inflate_10 (lv_at hl 5 rfl) ?_
    refine lv_iload hx hb dJ11_inflate_12 (lv_at hl 4 rfl) ?_
    refine lv_icmp_ge (tgt := 41) hx hb dJ11_inflate_14 (by decide) (fun c_14 => ?_) (fun c_14 => ?_)
    · have hf := ip c_14 hf
      cases os hf
      exact r_vret X I dJ11_inflate_41
    · have hf := im c_14 hf
      refine lv_aload_n hx hb dJ11_inflate_17 rfl (lv_at hl 2 rfl) ?_
      refine lv_iload_n hx hb dJ11_inflate_18 rfl (lv_at hl 3 rfl) ?_
      obtain ⟨x3_1, ex3_1, hf⟩ := ol hf
      refine lv_iinc (v := x3_1) (lv' := [(3, .int x3_1), (0, .ref x0), (1, .int x1), (2, .ref x2), (4, .int x4), (5, .int x5)]) hx hb dJ11_inflate_19 hl (k := 3) rfl ex3_1 (by decide) rfl (fun ls hl => ?_)
      refine lv_aload_n hx hb dJ11_inflate_22 rfl (lv_at hl 1 rfl) ?_
      refine lv_iload_n hx hb dJ11_inflate_23 rfl (lv_at hl 2 rfl) ?_
      obtain ⟨x1_2, ex1_2, hf⟩ := ol hf
      refine lv_iinc (v := x1_2) (lv' := [(1, .int x1_2), (3, .int x3_1), (0, .ref x0), (2, .ref x2), (4, .int x4), (5, .int x5)]) hx hb dJ11_inflate_24 hl (k := 2) rfl ex1_2 (by decide) rfl (fun ls hl => ?_)
      obtain ⟨v_3, ev_3, hf⟩ := ob hf
      refine g_bald X I ev_3 dJ11_inflate_27 ?_
      refine lv_sipush (v := 255) hx hb dJ11_inflate_28 (by decide) ?_
      refine lv_iand hx hb dJ11_inflate_31 ?_
      obtain ⟨v_4, ev_4, hf⟩ := ob hf
      refine cg_S (r := none) (σ' := σ) (rs := []) (rest := []) (As := [.ref x2, .int x3, .int (v_3 &&& (255 : Int32))]) X I (mJ11_putChar hX ev_4) lvJ11_111 hdJ11_111 ⟨Nat.le_trans (Nat.le_of_ble_eq_true rfl) hR.1, Nat.le_trans (Nat.le_of_ble_eq_true rfl) hR.2⟩ rfl hl.1 rfl (Nat.le_of_ble_eq_true rfl) rfl dJ11_inflate_32 (fun H locs cells slots I => ?_)
      obtain ⟨x5_6, ex5_6, hf⟩ := ol hf
      refine lv_iinc (v := x5_6) (lv' := [(5, .int x5_6), (1, .int x1_2), (3, .int x3_1), (0, .ref x0), (2, .ref x2), (4, .int x4)]) hx hb dJ11_inflate_35 hl (k := 5) rfl ex5_6 (by decide) rfl (fun ls hl => ?_)
      refine lv_goto (tgt := 10) hx hb dJ11_inflate_38 (by decide) ?_
      exact ih x0 x1_2 x2 x3_1 x4 x5_6 _ _ _ _ _ I (lv_sub hl [3, 1, 4, 2, 5, 0] rfl) hf
theorem wJ11_inflate_0 {E : EV} {l : Launch} {p : Program} {e : Env} {s : State} {m : MethodId} {args : Array Value} {below : List Frame} {meth : Method} {c : Code} {R : Room} {σ : St} {res : Unit} (hX : XK E) (hR : 3 ≤ R.frames ∧ 67 ≤ R.locals) (X : MX E p s m args meth c cJ11_inflate 6 none RJ11 "inflate") (N : Nat) : ∀ (x0 : Nat) (x1 : Int32) (x2 : Nat) (x3 : Int32) (x4 : Int32) (H : Heap) (locs : List Loc) (cells slots : Nat) (ls : Array Slot), WI E R s σ H locs cells slots → lv_has ls 6 [(0, .ref x0), (1, .int x1), (2, .ref x2), (3, .int x3), (4, .int x4)] → fJ11_inflate N E.2.2.2.1 σ x0 x1 x2 x3 x4 = some res → W p l e R s m args below meth c H locs cells slots (MQ below (Qd E R.cells R.slots none σ) args s R.cells R.slots (fr E)) (F0 m 0 ls []) := by
  intro x0 x1 x2 x3 x4 H locs cells slots ls I hl hf
  obtain ⟨⟨hx, hb, hml, hown, hts⟩, -⟩ := id X
  unfold fJ11_inflate at hf
  refine lv_iload_n hx hb dJ11_inflate_0 rfl (lv_at hl 3 rfl) ?_
  refine lv_iload hx hb dJ11_inflate_1 (lv_at hl 4 rfl) ?_
  refine lv_aload_n hx hb dJ11_inflate_3 rfl (lv_at hl 2 rfl) ?_
  obtain ⟨v_7, ev_7, hf⟩ := ob hf
  refine cg_S (r := none) (σ' := σ) (rs := []) (rest := []) (As := [.int x3, .int x4, .ref x2]) X I (mJ11_checkBoundsOffCount hX ev_7) lvJ11_173 hdJ11_173 ⟨Nat.le_trans (Nat.le_of_ble_eq_true rfl) hR.1, Nat.le_trans (Nat.le_of_ble_eq_true rfl) hR.2⟩ rfl hl.1 rfl (Nat.le_of_ble_eq_true rfl) rfl dJ11_inflate_4 (fun H locs cells slots I => ?_)
  refine lv_iconst (v := 0) hx hb dJ11_inflate_7 (by decide) ?_
  refine lv_istore (lv' := [(5, .int (0 : Int32)), (0, .ref x0), (1, .int x1), (2, .ref x2), (3, .int x3), (4, .int x4)]) hx hb dJ11_inflate_8 hl (by decide) rfl (fun ls hl => ?_)
  exact wJ11_inflate_10 hX hR X N N x0 x1 x2 x3 x4 (0 : Int32) _ _ _ _ _ I (lv_sub hl [1, 2, 3, 4, 5, 0] rfl) hf
theorem mJ11_inflate {E : EV} {l : Launch} {N : Nat} {σ : St} {x0 : Nat} {x1 : Int32} {x2 : Nat} {x3 : Int32} {x4 : Int32} {res : Unit} (hX : XK E) (hf : fJ11_inflate N E.2.2.2.1 σ x0 x1 x2 x3 x4 = some res) : CM E l yJ11_inflate (ws_ yJ11_inflate cJ11_inflate 6 none) 3 67 [.ref x0, .int x1, .ref x2, .int x3, .int x4] σ none σ := by
  refine CM.of hX.1 (by decide) rfl rfl (Nat.le_of_ble_eq_true rfl) ?_
  intro p e s m below meth c X I ls hl
  exact wJ11_inflate_0 hX ⟨Nat.le_refl _, Nat.le_refl _⟩ X N _ _ _ _ _ _ _ _ _ _ I hl hf
/-! java/lang/StringLatin1.inflate([BI[BII)V imp=False fuel=True kap=True rt=None thr=False -/
theorem lvJ15_240 : GoodIn lw_all (va_wsS RJ15 240 yJ11_inflate (ws_ yJ11_inflate cJ11_inflate 6 none)) := lw_S q641 q642 q130 q643
theorem hdJ15_240 : yJ11_inflate.cls ≠ "java/lang/invoke/MethodHandle" ∧ yJ11_inflate.cls ≠ "java/lang/invoke/VarHandle" ∧ (parseMethodDescriptor yJ11_inflate.desc).map (fun d => d.parameters.length) = some 5 := by decide +kernel
def fJ15_inflate (N : Nat) (κ : Nat → Nat) (σ : St) (x0 : Nat) (x1 : Int32) (x2 : Nat) (x3 : Int32) (x4 : Int32) : Option Unit := (fJ11_inflate N κ σ x0 x1 x2 x3 x4).bind fun v_1 : Unit => some ()
theorem wJ15_inflate_0 {E : EV} {l : Launch} {p : Program} {e : Env} {s : State} {m : MethodId} {args : Array Value} {below : List Frame} {meth : Method} {c : Code} {R : Room} {σ : St} {res : Unit} (hX : XK E) (hR : 4 ≤ R.frames ∧ 92 ≤ R.locals) (X : MX E p s m args meth c cJ15_inflate 5 none RJ15 "inflate") (N : Nat) : ∀ (x0 : Nat) (x1 : Int32) (x2 : Nat) (x3 : Int32) (x4 : Int32) (H : Heap) (locs : List Loc) (cells slots : Nat) (ls : Array Slot), WI E R s σ H locs cells slots → lv_has ls 5 [(0, .ref x0), (1, .int x1), (2, .ref x2), (3, .int x3), (4, .int x4)] → fJ15_inflate N E.2.2.2.1 σ x0 x1 x2 x3 x4 = some res → W p l e R s m args below meth c H locs cells slots (MQ below (Qd E R.cells R.slots none σ) args s R.cells R.slots (fr E)) (F0 m 0 ls []) := by
  intro x0 x1 x2 x3 x4 H locs cells slots ls I hl hf
  obtain ⟨⟨hx, hb, hml, hown, hts⟩, -⟩ := id X
  unfold fJ15_inflate at hf
  refine lv_aload_n hx hb dJ15_inflate_0 rfl (lv_at hl 0 rfl) ?_
  refine lv_iload_n hx hb dJ15_inflate_1 rfl (lv_at hl 1 rfl) ?_
  refine lv_aload_n hx hb dJ15_inflate_2 rfl (lv_at hl 2 rfl) ?_
  refine lv_iload_n hx hb dJ15_inflate_3 rfl (lv_at hl 3 rfl) ?_
  refine lv_iload hx hb dJ15_inflate_4 (lv_at hl 4 rfl) ?_
  obtain ⟨v_1, ev_1, hf⟩ := ob hf
  refine cg_S (r := none) (σ' := σ) (rs := []) (rest := []) (As := [.ref x0, .int x1, .ref x2, .int x3, .int x4]) X I (mJ11_inflate hX ev_1) lvJ15_240 hdJ15_240 ⟨Nat.le_trans (Nat.le_of_ble_eq_true rfl) hR.1, Nat.le_trans (Nat.le_of_ble_eq_true rfl) hR.2⟩ rfl hl.1 rfl (Nat.le_of_ble_eq_true rfl) rfl dJ15_inflate_6 (fun H locs cells slots I => ?_)
  cases os hf
  exact r_vret X I dJ15_inflate_9
theorem mJ15_inflate {E : EV} {l : Launch} {N : Nat} {σ : St} {x0 : Nat} {x1 : Int32} {x2 : Nat} {x3 : Int32} {x4 : Int32} {res : Unit} (hX : XK E) (hf : fJ15_inflate N E.2.2.2.1 σ x0 x1 x2 x3 x4 = some res) : CM E l yJ15_inflate (ws_ yJ15_inflate cJ15_inflate 5 none) 4 92 [.ref x0, .int x1, .ref x2, .int x3, .int x4] σ none σ := by
  refine CM.of hX.1 (by decide) rfl rfl (Nat.le_of_ble_eq_true rfl) ?_
  intro p e s m below meth c X I ls hl
  exact wJ15_inflate_0 hX ⟨Nat.le_refl _, Nat.le_refl _⟩ X N _ _ _ _ _ _ _ _ _ _ I hl hf
/-! java/lang/AbstractStringBuilder.inflate()V imp=True fuel=True kap=True rt=None thr=False -/
theorem lvJ8_83 : GoodIn lw_all (va_wsU RJ8 83 RJ9 RJ8 yJ8_isLatin1 yJ8_isLatin1 (ws_ yJ8_isLatin1 cJ8_isLatin1 1 (some .boolean))) ∧ yJ8_isLatin1 = ⟨RJ8, yJ8_isLatin1.name, yJ8_isLatin1.desc⟩ := ⟨lw_good (List.forall_mem_cons.mpr ⟨q585, List.forall_mem_cons.mpr ⟨q587, List.forall_mem_cons.mpr ⟨q588, List.forall_mem_cons.mpr ⟨q586, List.forall_mem_cons.mpr ⟨q127, fun w h => (lw_meth q589 w h).1⟩⟩⟩⟩⟩), rfl⟩
theorem hdJ8_83 : RJ8 ≠ "java/lang/invoke/MethodHandle" ∧ RJ8 ≠ "java/lang/invoke/VarHandle" ∧ (parseMethodDescriptor yJ8_isLatin1.desc).map (fun d => d.parameters.length) = some 0 := by decide +kernel
theorem gfJ8_79 : ∀ q ∈ ([(25, 3)] : List (Nat × Nat)), GF RJ8 79 q := List.forall_mem_cons.mpr ⟨⟨RJ9, TJ9, 4, _, rfl, in_J9, by decide, q527, Or.inl rfl⟩, fun _ h => by cases h⟩
theorem lvJ8_125 : GoodIn lw_all (va_wsS RJ8 125 yJ15_inflate (ws_ yJ15_inflate cJ15_inflate 5 none)) := lw_S q638 q639 q135 q640
theorem hdJ8_125 : yJ15_inflate.cls ≠ "java/lang/invoke/MethodHandle" ∧ yJ15_inflate.cls ≠ "java/lang/invoke/VarHandle" ∧ (parseMethodDescriptor yJ15_inflate.desc).map (fun d => d.parameters.length) = some 5 := by decide +kernel
def fJ8_inflate (N : Nat) (κ : Nat → Nat) (σ : St) (x0 : Nat) : Option St := (isC σ x0 25).bind fun u_1 : Unit => (fJ8_isLatin1 κ σ x0).bind fun v_2 : Int32 => if v_2 = 0 then some σ else (gR σ x0 [(25, 0)]).bind fun v_4 : Option Nat => (v_4).bind fun a_5 : Nat => (aL σ a_5).bind fun v_6 : Int32 => (fJ11_newBytesFor σ v_6).bind fun (v_7, σ_8) => (gR σ_8 x0 [(25, 0)]).bind fun v_9 : Option Nat => (gI σ_8 x0 [(25, 3)]).bind fun v_10 : Int32 => (v_9).bind fun a_11 : Nat => (fJ15_inflate N κ σ_8 a_11 (0 : Int32) v_7 (0 : Int32) v_10).bind fun v_12 : Unit => (pV σ_8 x0 [(25, 0)] (.ref v_7)).bind fun σ_14 : St => (pV σ_14 x0 [(25, 1)] (.int (1 : Int32))).bind fun σ_15 : St => some σ_15
theorem wJ8_inflate_0 {E : EV} {l : Launch} {p : Program} {e : Env} {s : State} {m : MethodId} {args : Array Value} {below : List Frame} {meth : Method} {c : Code} {R : Room} {res : St} (hX : XK E) (hR : 5 ≤ R.frames ∧ 116 ≤ R.locals) (X : MX E p s m args meth c cJ8_inflate 2 none RJ8 "inflate") (N : Nat) : ∀ (x0 : Nat) (σ : St) (H : Heap) (locs : List Loc) (cells slots : Nat) (ls : Array Slot), WI E R s σ H locs cells slots → lv_has ls 2 [(0, .ref x0)] → fJ8_inflate N E.2.2.2.1 σ x0 = some res → W p l e R s m args below meth c H locs cells slots (MQ below (Qd E R.cells R.slots none res) args s R.cells R.slots (fr E)) (F0 m 0 ls []) := by
  intro x0 σ H locs cells slots ls I hl hf
  obtain ⟨⟨hx, hb, hml, hown, hts⟩, -⟩ := id X
  unfold fJ8_inflate at hf
  refine lv_aload_n hx hb dJ8_inflate_0 rfl (lv_at hl 0 rfl) ?_
  obtain ⟨u_1, eu_1, hf⟩ := ob hf
  obtain ⟨v_2, ev_2, hf⟩ := ob hf
  refine cg_U (vw := (RJ9, TJ9, 4)) (ci := 25) (r := (some (.int v_2))) (σ' := σ) (rs := [.int v_2]) (rest := []) (As := []) X I eu_1 rfl (mJ8_isLatin1 hX ev_2) lvJ8_83 hdJ8_83 ⟨Nat.le_trans (Nat.le_of_ble_eq_true rfl) hR.1, Nat.le_trans (Nat.le_of_ble_eq_true rfl) hR.2⟩ rfl hl.1 rfl (Nat.le_of_ble_eq_true rfl) rfl dJ8_inflate_1 (fun H locs cells slots I => ?_)
  refine lv_if_ne (tgt := 8) hx hb dJ8_inflate_4 (by decide) (fun c_4 => ?_) (fun c_4 => ?_)
  · have hf := im c_4 hf
    refine lv_aload_n hx hb dJ8_inflate_8 rfl (lv_at hl 0 rfl) ?_
    obtain ⟨v_4, ev_4, hf⟩ := ob hf
    refine g_get X I gfJ8_15 (gR_in ev_4) dJ8_inflate_9 ?_
    obtain ⟨a_5, ea_5, hga_5⟩ := ob hf
    have hla_5 := hl
    have Ia_5 := I
    subst ea_5
    have hf := hga_5
    have hl := hla_5
    have I := Ia_5
    obtain ⟨v_6, ev_6, hf⟩ := ob hf
    refine g_alen X I ev_6 dJ8_inflate_12 ?_
    obtain ⟨⟨v_7, σ_8⟩, ev_7, hf⟩ := ob hf
    refine cg_S (r := (some (.ref v_7))) (σ' := σ_8) (rs := [.ref v_7]) (rest := []) (As := [.int v_6]) X I (mJ11_newBytesFor hX ev_7) lvJ8_26 hdJ8_26 ⟨Nat.le_trans (Nat.le_of_ble_eq_true rfl) hR.1, Nat.le_trans (Nat.le_of_ble_eq_true rfl) hR.2⟩ rfl hl.1 rfl (Nat.le_of_ble_eq_true rfl) rfl dJ8_inflate_13 (fun H locs cells slots I => ?_)
    refine lv_astore_n (lv' := [(1, .ref v_7), (0, .ref x0)]) hx hb dJ8_inflate_16 rfl hl (by decide) rfl (fun ls hl => ?_)
    refine lv_aload_n hx hb dJ8_inflate_17 rfl (lv_at hl 1 rfl) ?_
    obtain ⟨v_9, ev_9, hf⟩ := ob hf
    refine g_get X I gfJ8_15 (gR_in ev_9) dJ8_inflate_18 ?_
    refine lv_iconst (v := 0) hx hb dJ8_inflate_21 (by decide) ?_
    refine lv_aload_n hx hb dJ8_inflate_22 rfl (lv_at hl 0 rfl) ?_
    refine lv_iconst (v := 0) hx hb dJ8_inflate_23 (by decide) ?_
    refine lv_aload_n hx hb dJ8_inflate_24 rfl (lv_at hl 1 rfl) ?_
    obtain ⟨v_10, ev_10, hf⟩ := ob hf
    refine g_get X I gfJ8_79 (gI_in ev_10) dJ8_inflate_25 ?_
    obtain ⟨a_11, ea_11, hga_11⟩ := ob hf
    have hla_11 := hl
    have Ia_11 := I
    subst ea_11
    have hf := hga_11
    have hl := hla_11
    have I := Ia_11
    obtain ⟨v_12, ev_12, hf⟩ := ob hf
    refine cg_S (r := none) (σ' := σ_8) (rs := []) (rest := []) (As := [.ref a_11, .int (0 : Int32), .ref v_7, .int (0 : Int32), .int v_10]) X I (mJ15_inflate hX ev_12) lvJ8_125 hdJ8_125 ⟨Nat.le_trans (Nat.le_of_ble_eq_true rfl) hR.1, Nat.le_trans (Nat.le_of_ble_eq_true rfl) hR.2⟩ rfl hl.1 rfl (Nat.le_of_ble_eq_true rfl) rfl dJ8_inflate_28 (fun H locs cells slots I => ?_)
    refine lv_aload_n hx hb dJ8_inflate_31 rfl (lv_at hl 1 rfl) ?_
    refine lv_aload_n hx hb dJ8_inflate_32 rfl (lv_at hl 0 rfl) ?_
    obtain ⟨σ_14, eσ_14, hf⟩ := ob hf
    refine g_put X I pfJ8_15 rfl rfl eσ_14 dJ8_inflate_33 (fun H locs I => ?_)
    refine lv_aload_n hx hb dJ8_inflate_36 rfl (lv_at hl 1 rfl) ?_
    refine lv_iconst (v := 1) hx hb dJ8_inflate_37 (by decide) ?_
    obtain ⟨σ_15, eσ_15, hf⟩ := ob hf
    refine g_put X I pfJ8_22 rfl rfl eσ_15 dJ8_inflate_38 (fun H locs I => ?_)
    cases os hf
    exact r_vret X I dJ8_inflate_41
  · have hf := ip c_4 hf
    cases os hf
    exact r_vret X I dJ8_inflate_7
theorem mJ8_inflate {E : EV} {l : Launch} {N : Nat} {σ : St} {x0 : Nat} {res : St} (hX : XK E) (hf : fJ8_inflate N E.2.2.2.1 σ x0 = some res) : CM E l yJ8_inflate (ws_ yJ8_inflate cJ8_inflate 2 none) 5 116 [.ref x0] σ none res := by
  refine CM.of hX.1 (by decide) rfl rfl (Nat.le_of_ble_eq_true rfl) ?_
  intro p e s m below meth c X I ls hl
  exact wJ8_inflate_0 hX ⟨Nat.le_refl _, Nat.le_refl _⟩ X N _ _ _ _ _ _ _ I hl hf
/-! jdk/internal/util/Preconditions.checkIndex(IILjava/util/function/BiFunction;)I imp=False fuel=False kap=False rt=I thr=False -/
def fJ16_checkIndex_9 (σ : St) (x0 : Int32) (x1 : Int32) (x2 : Option Nat) : Option Int32 := none
def fJ16_checkIndex (σ : St) (x0 : Int32) (x1 : Int32) (x2 : Option Nat) : Option Int32 := if x0 < 0 then fJ16_checkIndex_9 σ x0 x1 x2 else if x0 < x1 then some x0 else fJ16_checkIndex_9 σ x0 x1 x2
theorem wJ16_checkIndex_9 {E : EV} {l : Launch} {p : Program} {e : Env} {s : State} {m : MethodId} {args : Array Value} {below : List Frame} {meth : Method} {c : Code} {R : Room} {σ : St} {res : Int32} (hX : XK E) (hR : 0 ≤ R.frames ∧ 0 ≤ R.locals) (X : MX E p s m args meth c cJ16_checkIndex 3 (some .int) RJ16 "checkIndex") : ∀ (x0 : Int32) (x1 : Int32) (x2 : Option Nat) (H : Heap) (locs : List Loc) (cells slots : Nat) (ls : Array Slot), WI E R s σ H locs cells slots → lv_has ls 3 [(0, .int x0), (1, .int x1), (2, va_rf x2)] → fJ16_checkIndex_9 σ x0 x1 x2 = some res → W p l e R s m args below meth c H locs cells slots (MQ below (Qd E R.cells R.slots (some (.int res)) σ) args s R.cells R.slots (fr E)) (F0 m 9 ls []) := by
  intro x0 x1 x2 H locs cells slots ls I hl hf
  obtain ⟨⟨hx, hb, hml, hown, hts⟩, -⟩ := id X
  unfold fJ16_checkIndex_9 at hf
  refine lo_aload_n (x := x2) hx hb dJ16_checkIndex_9 rfl (lv_at hl 2 rfl) ?_
  refine lv_iload_n hx hb dJ16_checkIndex_10 rfl (lv_at hl 0 rfl) ?_
  refine lv_iload_n hx hb dJ16_checkIndex_11 rfl (lv_at hl 1 rfl) ?_
  exact nomatch hf
theorem wJ16_checkIndex_0 {E : EV} {l : Launch} {p : Program} {e : Env} {s : State} {m : MethodId} {args : Array Value} {below : List Frame} {meth : Method} {c : Code} {R : Room} {σ : St} {res : Int32} (hX : XK E) (hR : 0 ≤ R.frames ∧ 0 ≤ R.locals) (X : MX E p s m args meth c cJ16_checkIndex 3 (some .int) RJ16 "checkIndex") : ∀ (x0 : Int32) (x1 : Int32) (x2 : Option Nat) (H : Heap) (locs : List Loc) (cells slots : Nat) (ls : Array Slot), WI E R s σ H locs cells slots → lv_has ls 3 [(0, .int x0), (1, .int x1), (2, va_rf x2)] → fJ16_checkIndex σ x0 x1 x2 = some res → W p l e R s m args below meth c H locs cells slots (MQ below (Qd E R.cells R.slots (some (.int res)) σ) args s R.cells R.slots (fr E)) (F0 m 0 ls []) := by
  intro x0 x1 x2 H locs cells slots ls I hl hf
  obtain ⟨⟨hx, hb, hml, hown, hts⟩, -⟩ := id X
  unfold fJ16_checkIndex at hf
  refine lv_iload_n hx hb dJ16_checkIndex_0 rfl (lv_at hl 0 rfl) ?_
  refine lv_if_lt (tgt := 9) hx hb dJ16_checkIndex_1 (by decide) (fun c_1 => ?_) (fun c_1 => ?_)
  · have hf := ip c_1 hf
    exact wJ16_checkIndex_9 hX hR X x0 x1 x2 _ _ _ _ _ I (lv_sub hl [0, 1, 2] rfl) hf
  · have hf := im c_1 hf
    refine lv_iload_n hx hb dJ16_checkIndex_4 rfl (lv_at hl 0 rfl) ?_
    refine lv_iload_n hx hb dJ16_checkIndex_5 rfl (lv_at hl 1 rfl) ?_
    refine lv_icmp_lt (tgt := 16) hx hb dJ16_checkIndex_6 (by decide) (fun c_6 => ?_) (fun c_6 => ?_)
    · have hf := ip c_6 hf
      refine lv_iload_n hx hb dJ16_checkIndex_16 rfl (lv_at hl 0 rfl) ?_
      cases os hf
      exact r_iret X I dJ16_checkIndex_17
    · have hf := im c_6 hf
      exact wJ16_checkIndex_9 hX hR X x0 x1 x2 _ _ _ _ _ I (lv_sub hl [0, 1, 2] rfl) hf
theorem mJ16_checkIndex {E : EV} {l : Launch} {σ : St} {x0 : Int32} {x1 : Int32} {x2 : Option Nat} {res : Int32} (hX : XK E) (hf : fJ16_checkIndex σ x0 x1 x2 = some res) : CM E l yJ16_checkIndex (ws_ yJ16_checkIndex cJ16_checkIndex 3 (some .int)) 0 0 [.int x0, .int x1, va_rf x2] σ (some (.int res)) σ := by
  refine CM.of hX.1 (by decide) rfl rfl (by rcases x2 with _ | _ <;> exact (Nat.le_of_ble_eq_true rfl)) ?_
  intro p e s m below meth c X I ls hl
  exact wJ16_checkIndex_0 hX ⟨Nat.le_refl _, Nat.le_refl _⟩ X _ _ _ _ _ _ _ _ I (by rcases x2 with _ | _ <;> exact hl) hf
/-! java/lang/String.checkIndex(II)V imp=False fuel=False kap=True rt=None thr=False -/
theorem lvJ10_1059 : GoodIn lw_all (va_wsS RJ10 1059 yJ16_checkIndex (ws_ yJ16_checkIndex cJ16_checkIndex 3 (some .int))) := lw_S q828 q498 q136 q499
theorem hdJ10_1059 : yJ16_checkIndex.cls ≠ "java/lang/invoke/MethodHandle" ∧ yJ16_checkIndex.cls ≠ "java/lang/invoke/VarHandle" ∧ (parseMethodDescriptor yJ16_checkIndex.desc).map (fun d => d.parameters.length) = some 3 := by decide +kernel
def fJ10_checkIndex (κ : Nat → Nat) (σ : St) (x0 : Int32) (x1 : Int32) : Option Unit := lt (ko (κ 7)) fun v_1 : Option Nat => (fJ16_checkIndex σ x0 x1 v_1).bind fun v_2 : Int32 => some ()
theorem wJ10_checkIndex_0 {E : EV} {l : Launch} {p : Program} {e : Env} {s : State} {m : MethodId} {args : Array Value} {below : List Frame} {meth : Method} {c : Code} {R : Room} {σ : St} {res : Unit} (hX : XK E) (hR : 1 ≤ R.frames ∧ 22 ≤ R.locals) (X : MX E p s m args meth c cJ10_checkIndex 2 none RJ10 "checkIndex") : ∀ (x0 : Int32) (x1 : Int32) (H : Heap) (locs : List Loc) (cells slots : Nat) (ls : Array Slot), WI E R s σ H locs cells slots → lv_has ls 2 [(0, .int x0), (1, .int x1)] → fJ10_checkIndex E.2.2.2.1 σ x0 x1 = some res → W p l e R s m args below meth c H locs cells slots (MQ below (Qd E R.cells R.slots none σ) args s R.cells R.slots (fr E)) (F0 m 0 ls []) := by
  intro x0 x1 H locs cells slots ls I hl hf
  obtain ⟨⟨hx, hb, hml, hown, hts⟩, -⟩ := id X
  unfold fJ10_checkIndex at hf
  refine lv_iload_n hx hb dJ10_checkIndex_0 rfl (lv_at hl 0 rfl) ?_
  refine lv_iload_n hx hb dJ10_checkIndex_1 rfl (lv_at hl 1 rfl) ?_
  refine g_gets (ref := "jdk/internal/util/Preconditions") (w := va_rf (ko (E.2.2.2.1 7))) hX X I (List.mem_of_getElem? (i := 9) rfl) rfl q602 dJ10_checkIndex_2 ?_
  obtain ⟨v_1, ev_1, hf⟩ := ol hf
  refine nm_o ev_1 ?_
  obtain ⟨v_2, ev_2, hf⟩ := ob hf
  refine cg_S (r := (some (.int v_2))) (σ' := σ) (rs := [.int v_2]) (rest := []) (As := [.int x0, .int x1, va_rf v_1]) X I (mJ16_checkIndex hX ev_2) lvJ10_1059 hdJ10_1059 ⟨Nat.le_trans (Nat.le_of_ble_eq_true rfl) hR.1, Nat.le_trans (Nat.le_of_ble_eq_true rfl) hR.2⟩ rfl hl.1 rfl (Nat.le_of_ble_eq_true rfl) rfl dJ10_checkIndex_5 (fun H locs cells slots I => ?_)
  refine lv_pop hx hb dJ10_checkIndex_8 rfl ?_
  cases os hf
  exact r_vret X I dJ10_checkIndex_9
theorem mJ10_checkIndex {E : EV} {l : Launch} {σ : St} {x0 : Int32} {x1 : Int32} {res : Unit} (hX : XK E) (hf : fJ10_checkIndex E.2.2.2.1 σ x0 x1 = some res) : CM E l yJ10_checkIndex (ws_ yJ10_checkIndex cJ10_checkIndex 2 none) 1 22 [.int x0, .int x1] σ none σ := by
  refine CM.of hX.1 (by decide) rfl rfl (Nat.le_of_ble_eq_true rfl) ?_
  intro p e s m below meth c X I ls hl
  exact wJ10_checkIndex_0 hX ⟨Nat.le_refl _, Nat.le_refl _⟩ X _ _ _ _ _ _ _ I hl hf
/-! java/lang/StringUTF16.checkIndex(I[B)V imp=False fuel=False kap=True rt=None thr=False -/
theorem lvJ11_414 : GoodIn lw_all (va_wsS RJ11 414 yJ10_checkIndex (ws_ yJ10_checkIndex cJ10_checkIndex 2 none)) := lw_S q835 q826 q129 q827
theorem hdJ11_414 : yJ10_checkIndex.cls ≠ "java/lang/invoke/MethodHandle" ∧ yJ10_checkIndex.cls ≠ "java/lang/invoke/VarHandle" ∧ (parseMethodDescriptor yJ10_checkIndex.desc).map (fun d => d.parameters.length) = some 2 := by decide +kernel
def fJ11_checkIndex (κ : Nat → Nat) (σ : St) (x0 : Int32) (x1 : Nat) : Option Unit := (fJ11_length σ x1).bind fun v_1 : Int32 => (fJ10_checkIndex κ σ x0 v_1).bind fun v_3 : Unit => some ()
theorem wJ11_checkIndex_0 {E : EV} {l : Launch} {p : Program} {e : Env} {s : State} {m : MethodId} {args : Array Value} {below : List Frame} {meth : Method} {c : Code} {R : Room} {σ : St} {res : Unit} (hX : XK E) (hR : 2 ≤ R.frames ∧ 43 ≤ R.locals) (X : MX E p s m args meth c cJ11_checkIndex 2 none RJ11 "checkIndex") : ∀ (x0 : Int32) (x1 : Nat) (H : Heap) (locs : List Loc) (cells slots : Nat) (ls : Array Slot), WI E R s σ H locs cells slots → lv_has ls 2 [(0, .int x0), (1, .ref x1)] → fJ11_checkIndex E.2.2.2.1 σ x0 x1 = some res → W p l e R s m args below meth c H locs cells slots (MQ below (Qd E R.cells R.slots none σ) args s R.cells R.slots (fr E)) (F0 m 0 ls []) := by
  intro x0 x1 H locs cells slots ls I hl hf
  obtain ⟨⟨hx, hb, hml, hown, hts⟩, -⟩ := id X
  unfold fJ11_checkIndex at hf
  refine lv_iload_n hx hb dJ11_checkIndex_0 rfl (lv_at hl 0 rfl) ?_
  refine lv_aload_n hx hb dJ11_checkIndex_1 rfl (lv_at hl 1 rfl) ?_
  obtain ⟨v_1, ev_1, hf⟩ := ob hf
  refine cg_S (r := (some (.int v_1))) (σ' := σ) (rs := [.int v_1, .int x0]) (rest := [.int x0]) (As := [.ref x1]) X I (mJ11_length hX ev_1) lvJ11_48 hdJ11_48 ⟨Nat.le_trans (Nat.le_of_ble_eq_true rfl) hR.1, Nat.le_trans (Nat.le_of_ble_eq_true rfl) hR.2⟩ rfl hl.1 rfl (Nat.le_of_ble_eq_true rfl) rfl dJ11_checkIndex_2 (fun H locs cells slots I => ?_)
  obtain ⟨v_3, ev_3, hf⟩ := ob hf
  refine cg_S (r := none) (σ' := σ) (rs := []) (rest := []) (As := [.int x0, .int v_1]) X I (mJ10_checkIndex hX ev_3) lvJ11_414 hdJ11_414 ⟨Nat.le_trans (Nat.le_of_ble_eq_true rfl) hR.1, Nat.le_trans (Nat.le_of_ble_eq_true rfl) hR.2⟩ rfl hl.1 rfl (Nat.le_of_ble_eq_true rfl) rfl dJ11_checkIndex_5 (fun H locs cells slots I => ?_)
  cases os hf
  exact r_vret X I dJ11_checkIndex_8
theorem mJ11_checkIndex {E : EV} {l : Launch} {σ : St} {x0 : Int32} {x1 : Nat} {res : Unit} (hX : XK E) (hf : fJ11_checkIndex E.2.2.2.1 σ x0 x1 = some res) : CM E l yJ11_checkIndex (ws_ yJ11_checkIndex cJ11_checkIndex 2 none) 2 43 [.int x0, .ref x1] σ none σ := by
  refine CM.of hX.1 (by decide) rfl rfl (Nat.le_of_ble_eq_true rfl) ?_
  intro p e s m below meth c X I ls hl
  exact wJ11_checkIndex_0 hX ⟨Nat.le_refl _, Nat.le_refl _⟩ X _ _ _ _ _ _ _ I hl hf
/-! java/lang/StringUTF16.putCharSB([BII)V imp=False fuel=False kap=True rt=None thr=False -/
theorem lvJ11_67 : GoodIn lw_all (va_wsS RJ11 67 yJ11_checkIndex (ws_ yJ11_checkIndex cJ11_checkIndex 2 none)) := lw_S q832 q833 q130 q834
theorem hdJ11_67 : yJ11_checkIndex.cls ≠ "java/lang/invoke/MethodHandle" ∧ yJ11_checkIndex.cls ≠ "java/lang/invoke/VarHandle" ∧ (parseMethodDescriptor yJ11_checkIndex.desc).map (fun d => d.parameters.length) = some 2 := by decide +kernel
def fJ11_putCharSB (κ : Nat → Nat) (σ : St) (x0 : Nat) (x1 : Int32) (x2 : Int32) : Option Unit := (fJ11_checkIndex κ σ x1 x0).bind fun v_1 : Unit => (fJ11_putChar σ x0 x1 x2).bind fun v_3 : Unit => some ()
theorem wJ11_putCharSB_0 {E : EV} {l : Launch} {p : Program} {e : Env} {s : State} {m : MethodId} {args : Array Value} {below : List Frame} {meth : Method} {c : Code} {R : Room} {σ : St} {res : Unit} (hX : XK E) (hR : 3 ≤ R.frames ∧ 64 ≤ R.locals) (X : MX E p s m args meth c cJ11_putCharSB 3 none RJ11 "putCharSB") : ∀ (x0 : Nat) (x1 : Int32) (x2 : Int32) (H : Heap) (locs : List Loc) (cells slots : Nat) (ls : Array Slot), WI E R s σ H locs cells slots → lv_has ls 3 [(0, .ref x0), (1, .int x1), (2, .int x2)] → fJ11_putCharSB E.2.2.2.1 σ x0 x1 x2 = some res → W p l e R s m args below meth c H locs cells slots (MQ below (Qd E R.cells R.slots none σ) args s R.cells R.slots (fr E)) (F0 m 0 ls []) := by
  intro x0 x1 x2 H locs cells slots ls I hl hf
  obtain ⟨⟨hx, hb, hml, hown, hts⟩, -⟩ := id X
  unfold fJ11_putCharSB at hf
  refine lv_iload_n hx hb dJ11_putCharSB_0 rfl (lv_at hl 1 rfl) ?_
  refine lv_aload_n hx hb dJ11_putCharSB_1 rfl (lv_at hl 0 rfl) ?_
  obtain ⟨v_1, ev_1, hf⟩ := ob hf
  refine cg_S (r := none) (σ' := σ) (rs := []) (rest := []) (As := [.int x1, .ref x0]) X I (mJ11_checkIndex hX ev_1) lvJ11_67 hdJ11_67 ⟨Nat.le_trans (Nat.le_of_ble_eq_true rfl) hR.1, Nat.le_trans (Nat.le_of_ble_eq_true rfl) hR.2⟩ rfl hl.1 rfl (Nat.le_of_ble_eq_true rfl) rfl dJ11_putCharSB_2 (fun H locs cells slots I => ?_)
  refine lv_aload_n hx hb dJ11_putCharSB_5 rfl (lv_at hl 0 rfl) ?_
  refine lv_iload_n hx hb dJ11_putCharSB_6 rfl (lv_at hl 1 rfl) ?_
  refine lv_iload_n hx hb dJ11_putCharSB_7 rfl (lv_at hl 2 rfl) ?_
  obtain ⟨v_3, ev_3, hf⟩ := ob hf
  refine cg_S (r := none) (σ' := σ) (rs := []) (rest := []) (As := [.ref x0, .int x1, .int x2]) X I (mJ11_putChar hX ev_3) lvJ11_111 hdJ11_111 ⟨Nat.le_trans (Nat.le_of_ble_eq_true rfl) hR.1, Nat.le_trans (Nat.le_of_ble_eq_true rfl) hR.2⟩ rfl hl.1 rfl (Nat.le_of_ble_eq_true rfl) rfl dJ11_putCharSB_8 (fun H locs cells slots I => ?_)
  cases os hf
  exact r_vret X I dJ11_putCharSB_11
theorem mJ11_putCharSB {E : EV} {l : Launch} {σ : St} {x0 : Nat} {x1 : Int32} {x2 : Int32} {res : Unit} (hX : XK E) (hf : fJ11_putCharSB E.2.2.2.1 σ x0 x1 x2 = some res) : CM E l yJ11_putCharSB (ws_ yJ11_putCharSB cJ11_putCharSB 3 none) 3 64 [.ref x0, .int x1, .int x2] σ none σ := by
  refine CM.of hX.1 (by decide) rfl rfl (Nat.le_of_ble_eq_true rfl) ?_
  intro p e s m below meth c X I ls hl
  exact wJ11_putCharSB_0 hX ⟨Nat.le_refl _, Nat.le_refl _⟩ X _ _ _ _ _ _ _ _ I hl hf
/-! java/lang/AbstractStringBuilder.append(C)Ljava/lang/AbstractStringBuilder; imp=True fuel=True kap=True rt=N thr=False -/
theorem pfJ8_79 : ∀ q ∈ ([(25, 3)] : List (Nat × Nat)), PF RJ8 79 .int q := List.forall_mem_cons.mpr ⟨⟨RJ9, TJ9, 4, _, tyJ9, rfl, in_J9, by decide, q527, Or.inl rfl, tyJ9_ok, nmJ9, rfl, rfl⟩, fun _ h => by cases h⟩
theorem lvJ8_197 : GoodIn lw_all (va_wsS RJ8 197 yJ11_putCharSB (ws_ yJ11_putCharSB cJ11_putCharSB 3 none)) := lw_S q1245 q1246 q130 q1247
theorem hdJ8_197 : yJ11_putCharSB.cls ≠ "java/lang/invoke/MethodHandle" ∧ yJ11_putCharSB.cls ≠ "java/lang/invoke/VarHandle" ∧ (parseMethodDescriptor yJ11_putCharSB.desc).map (fun d => d.parameters.length) = some 3 := by decide +kernel
theorem lvJ8_195 : Cond.methodLink RJ8 195 yJ8_inflate ∈ lw_all ∧ Cond.sameMethod yJ8_inflate.cls yJ8_inflate.cls yJ8_inflate.name yJ8_inflate.desc ∈ lw_all ∧ Cond.instanceMethod yJ8_inflate ∈ lw_all ∧ Cond.initialized yJ8_inflate.cls ∈ lw_all ∧ Cond.code yJ8_inflate cJ8_inflate 2 none ∈ lw_all ∧ yJ8_inflate ∈ PVL := ⟨q634, q3343, q636, q127, q637, List.mem_of_getElem? (i := 2) rfl⟩
theorem hdJ8_195 : yJ8_inflate.cls ≠ "java/lang/invoke/MethodHandle" ∧ yJ8_inflate.cls ≠ "java/lang/invoke/VarHandle" ∧ (parseMethodDescriptor yJ8_inflate.desc).map (fun d => d.parameters.length) = some 0 := by decide +kernel
theorem lvJ8_100 : Cond.methodLink RJ8 100 yJ8_ensureCapacityInternal ∈ lw_all ∧ Cond.sameMethod yJ8_ensureCapacityInternal.cls yJ8_ensureCapacityInternal.cls yJ8_ensureCapacityInternal.name yJ8_ensureCapacityInternal.desc ∈ lw_all ∧ Cond.instanceMethod yJ8_ensureCapacityInternal ∈ lw_all ∧ Cond.initialized yJ8_ensureCapacityInternal.cls ∈ lw_all ∧ Cond.code yJ8_ensureCapacityInternal cJ8_ensureCapacityInternal 3 none ∈ lw_all ∧ yJ8_ensureCapacityInternal ∈ PVL := ⟨q550, q3339, q552, q127, q553, List.mem_of_getElem? (i := 1) rfl⟩
theorem hdJ8_100 : yJ8_ensureCapacityInternal.cls ≠ "java/lang/invoke/MethodHandle" ∧ yJ8_ensureCapacityInternal.cls ≠ "java/lang/invoke/VarHandle" ∧ (parseMethodDescriptor yJ8_ensureCapacityInternal.desc).map (fun d => d.parameters.length) = some 1 := by decide +kernel
theorem lvJ8_191 : GoodIn lw_all (va_wsS RJ8 191 yJ15_canEncode (ws_ yJ15_canEncode cJ15_canEncode 1 (some .boolean))) := lw_S q1242 q1243 q135 q1244
theorem hdJ8_191 : yJ15_canEncode.cls ≠ "java/lang/invoke/MethodHandle" ∧ yJ15_canEncode.cls ≠ "java/lang/invoke/VarHandle" ∧ (parseMethodDescriptor yJ15_canEncode.desc).map (fun d => d.parameters.length) = some 1 := by decide +kernel
def fJ8_append_3_56 (N : Nat) (κ : Nat → Nat) (x0 : Nat) (x1 : Int32) (σ : St) : Option (Nat × St) := (gR σ x0 [(25, 0)]).bind fun v_1 : Option Nat => (gI σ x0 [(25, 3)]).bind fun v_2 : Int32 => (pV σ x0 [(25, 3)] (.int (v_2 + (1 : Int32)))).bind fun σ_3 : St => (v_1).bind fun a_4 : Nat => (fJ11_putCharSB κ σ_3 a_4 v_2 x1).bind fun v_5 : Unit => some ((x0), σ_3)
def fJ8_append_3_45 (N : Nat) (κ : Nat → Nat) (x0 : Nat) (x1 : Int32) (σ : St) : Option (Nat × St) := (isC σ x0 25).bind fun u_7 : Unit => (fJ8_isLatin1 κ σ x0).bind fun v_8 : Int32 => if v_8 = 0 then fJ8_append_3_56 N κ x0 x1 σ else (isC σ x0 25).bind fun u_10 : Unit => (fJ8_inflate N κ σ x0).bind fun σ_12 : St => fJ8_append_3_56 N κ x0 x1 σ_12
def fJ8_append_3 (N : Nat) (κ : Nat → Nat) (σ : St) (x0 : Nat) (x1 : Int32) : Option (Nat × St) := (gI σ x0 [(25, 3)]).bind fun v_13 : Int32 => (isC σ x0 25).bind fun u_14 : Unit => (fJ8_ensureCapacityInternal σ x0 (v_13 + (1 : Int32))).bind fun σ_16 : St => (isC σ_16 x0 25).bind fun u_17 : Unit => (fJ8_isLatin1 κ σ_16 x0).bind fun v_18 : Int32 => if v_18 = 0 then fJ8_append_3_45 N κ x0 x1 σ_16 else (fJ15_canEncode σ_16 x1).bind fun v_20 : Int32 => if v_20 = 0 then fJ8_append_3_45 N κ x0 x1 σ_16 else (gR σ_16 x0 [(25, 0)]).bind fun v_22 : Option Nat => (gI σ_16 x0 [(25, 3)]).bind fun v_23 : Int32 => (pV σ_16 x0 [(25, 3)] (.int (v_23 + (1 : Int32)))).bind fun σ_24 : St => (v_22).bind fun a_25 : Nat => (sI σ_24 a_25 1 v_23 ((x1.toInt8.toInt32).toInt8.toInt32)).bind fun σ_26 : St => some ((x0), σ_26)
theorem wJ8_append_3_56 {E : EV} {l : Launch} {p : Program} {e : Env} {s : State} {m : MethodId} {args : Array Value} {below : List Frame} {meth : Method} {c : Code} {R : Room} {res : (Nat × St)} (hX : XK E) (hR : 6 ≤ R.frames ∧ 137 ≤ R.locals) (X : MX E p s m args meth c cJ8_append_3 2 (some (.object "java/lang/AbstractStringBuilder")) RJ8 "append") (N : Nat) : ∀ (x0 : Nat) (x1 : Int32) (σ : St) (H : Heap) (locs : List Loc) (cells slots : Nat) (ls : Array Slot), WI E R s σ H locs cells slots → lv_has ls 2 [(0, .ref x0), (1, .int x1)] → fJ8_append_3_56 N E.2.2.2.1 x0 x1 σ = some res → W p l e R s m args below meth c H locs cells slots (MQ below (Qd E R.cells R.slots (some (.ref res.1)) res.2) args s R.cells R.slots (fr E)) (F0 m 56 ls []) := by
  intro x0 x1 σ H locs cells slots ls I hl hf
  obtain ⟨⟨hx, hb, hml, hown, hts⟩, -⟩ := id X
  unfold fJ8_append_3_56 at hf
  refine lv_aload_n hx hb dJ8_append_3_56 rfl (lv_at hl 0 rfl) ?_
  obtain ⟨v_1, ev_1, hf⟩ := ob hf
  refine g_get X I gfJ8_15 (gR_in ev_1) dJ8_append_3_57 ?_
  refine lv_aload_n hx hb dJ8_append_3_60 rfl (lv_at hl 0 rfl) ?_
  refine lv_dup hx hb dJ8_append_3_61 rfl ?_
  obtain ⟨v_2, ev_2, hf⟩ := ob hf
  refine g_get X I gfJ8_79 (gI_in ev_2) dJ8_append_3_62 ?_
  refine lv_dup_x1 hx hb dJ8_append_3_65 rfl rfl ?_
  refine lv_iconst (v := 1) hx hb dJ8_append_3_66 (by decide) ?_
  refine lv_iadd hx hb dJ8_append_3_67 ?_
  obtain ⟨σ_3, eσ_3, hf⟩ := ob hf
  refine g_put X I pfJ8_79 rfl rfl eσ_3 dJ8_append_3_68 (fun H locs I => ?_)
  refine lv_iload_n hx hb dJ8_append_3_71 rfl (lv_at hl 1 rfl) ?_
  obtain ⟨a_4, ea_4, hga_4⟩ := ob hf
  have hla_4 := hl
  have Ia_4 := I
  subst ea_4
  have hf := hga_4
  have hl := hla_4
  have I := Ia_4
  obtain ⟨v_5, ev_5, hf⟩ := ob hf
  refine cg_S (r := none) (σ' := σ_3) (rs := []) (rest := []) (As := [.ref a_4, .int v_2, .int x1]) X I (mJ11_putCharSB hX ev_5) lvJ8_197 hdJ8_197 ⟨Nat.le_trans (Nat.le_of_ble_eq_true rfl) hR.1, Nat.le_trans (Nat.le_of_ble_eq_true rfl) hR.2⟩ rfl hl.1 rfl (Nat.le_of_ble_eq_true rfl) rfl dJ8_append_3_72 (fun H locs cells slots I => ?_)
  refine lv_aload_n hx hb dJ8_append_3_75 rfl (lv_at hl 0 rfl) ?_
  cases os hf
  exact r_aret X I (Or.inl ⟨_, rfl⟩) (Or.inr ⟨_, rfl⟩) dJ8_append_3_76
theorem wJ8_append_3_45 {E : EV} {l : Launch} {p : Program} {e : Env} {s : State} {m : MethodId} {args : Array Value} {below : List Frame} {meth : Method} {c : Code} {R : Room} {res : (Nat × St)} (hX : XK E) (hR : 6 ≤ R.frames ∧ 137 ≤ R.locals) (X : MX E p s m args meth c cJ8_append_3 2 (some (.object "java/lang/AbstractStringBuilder")) RJ8 "append") (N : Nat) : ∀ (x0 : Nat) (x1 : Int32) (σ : St) (H : Heap) (locs : List Loc) (cells slots : Nat) (ls : Array Slot), WI E R s σ H locs cells slots → lv_has ls 2 [(0, .ref x0), (1, .int x1)] → fJ8_append_3_45 N E.2.2.2.1 x0 x1 σ = some res → W p l e R s m args below meth c H locs cells slots (MQ below (Qd E R.cells R.slots (some (.ref res.1)) res.2) args s R.cells R.slots (fr E)) (F0 m 45 ls []) := by
  intro x0 x1 σ H locs cells slots ls I hl hf
  obtain ⟨⟨hx, hb, hml, hown, hts⟩, -⟩ := id X
  unfold fJ8_append_3_45 at hf
  refine lv_aload_n hx hb dJ8_append_3_45 rfl (lv_at hl 0 rfl) ?_
  obtain ⟨u_7, eu_7, hf⟩ := ob hf
  obtain ⟨v_8, ev_8, hf⟩ := ob hf
  refine cg_U (vw := (RJ9, TJ9, 4)) (ci := 25) (r := (some (.int v_8))) (σ' := σ) (rs := [.int v_8]) (rest := []) (As := []) X I eu_7 rfl (mJ8_isLatin1 hX ev_8) lvJ8_83 hdJ8_83 ⟨Nat.le_trans (Nat.le_of_ble_eq_true rfl) hR.1, Nat.le_trans (Nat.le_of_ble_eq_true rfl) hR.2⟩ rfl hl.1 rfl (Nat.le_of_ble_eq_true rfl) rfl dJ8_append_3_46 (fun H locs cells slots I => ?_)
  refine lv_if_eq (tgt := 56) hx hb dJ8_append_3_49 (by decide) (fun c_49 => ?_) (fun c_49 => ?_)
  · have hf := ip c_49 hf
    exact wJ8_append_3_56 hX hR X N x0 x1 σ _ _ _ _ _ I (lv_sub hl [0, 1] rfl) hf
  · have hf := im c_49 hf
    refine lv_aload_n hx hb dJ8_append_3_52 rfl (lv_at hl 0 rfl) ?_
    obtain ⟨u_10, eu_10, hf⟩ := ob hf
    obtain ⟨σ_12, ev_11, hf⟩ := ob hf
    refine cg_UP (r := none) (σ' := σ_12) (rs := []) (rest := []) (As := []) hX X I eu_10 (mJ8_inflate hX ev_11) lvJ8_195 hdJ8_195 ⟨Nat.le_trans (Nat.le_of_ble_eq_true rfl) hR.1, Nat.le_trans (Nat.le_of_ble_eq_true rfl) hR.2⟩ rfl hl.1 rfl (Nat.le_of_ble_eq_true rfl) rfl dJ8_append_3_53 (fun H locs cells slots I => ?_)
    exact wJ8_append_3_56 hX hR X N x0 x1 σ_12 _ _ _ _ _ I (lv_sub hl [0, 1] rfl) hf
theorem wJ8_append_3_0 {E : EV} {l : Launch} {p : Program} {e : Env} {s : State} {m : MethodId} {args : Array Value} {below : List Frame} {meth : Method} {c : Code} {R : Room} {res : (Nat × St)} (hX : XK E) (hR : 6 ≤ R.frames ∧ 137 ≤ R.locals) (X : MX E p s m args meth c cJ8_append_3 2 (some (.object "java/lang/AbstractStringBuilder")) RJ8 "append") (N : Nat) : ∀ (x0 : Nat) (x1 : Int32) (σ : St) (H : Heap) (locs : List Loc) (cells slots : Nat) (ls : Array Slot), WI E R s σ H locs cells slots → lv_has ls 2 [(0, .ref x0), (1, .int x1)] → fJ8_append_3 N E.2.2.2.1 σ x0 x1 = some res → W p l e R s m args below meth c H locs cells slots (MQ below (Qd E R.cells R.slots (some (.ref res.1)) res.2) args s R.cells R.slots (fr E)) (F0 m 0 ls []) := by
  intro x0 x1 σ H locs cells slots ls I hl hf
  obtain ⟨⟨hx, hb, hml, hown, hts⟩, -⟩ := id X
  unfold fJ8_append_3 at hf
  refine lv_aload_n hx hb dJ8_append_3_0 rfl (lv_at hl 0 rfl) ?_
  refine lv_aload_n hx hb dJ8_append_3_1 rfl (lv_at hl 0 rfl) ?_
  obtain ⟨v_13, ev_13, hf⟩ := ob hf
  refine g_get X I gfJ8_79 (gI_in ev_13) dJ8_append_3_2 ?_
  refine lv_iconst (v := 1) hx hb dJ8_append_3_5 (by decide) ?_
  refine lv_iadd hx hb dJ8_append_3_6 ?_
  obtain ⟨u_14, eu_14, hf⟩ := ob hf
  obtain ⟨σ_16, ev_15, hf⟩ := ob hf
  refine cg_UP (r := none) (σ' := σ_16) (rs := []) (rest := []) (As := [.int (v_13 + (1 : Int32))]) hX X I eu_14 (mJ8_ensureCapacityInternal hX ev_15) lvJ8_100 hdJ8_100 ⟨Nat.le_trans (Nat.le_of_ble_eq_true rfl) hR.1, Nat.le_trans (Nat.le_of_ble_eq_true rfl) hR.2⟩ rfl hl.1 rfl (Nat.le_of_ble_eq_true rfl) rfl dJ8_append_3_7 (fun H locs cells slots I => ?_)
  refine lv_aload_n hx hb dJ8_append_3_10 rfl (lv_at hl 0 rfl) ?_
  obtain ⟨u_17, eu_17, hf⟩ := ob hf
  obtain ⟨v_18, ev_18, hf⟩ := ob hf
  refine cg_U (vw := (RJ9, TJ9, 4)) (ci := 25) (r := (some (.int v_18))) (σ' := σ_16) (rs := [.int v_18]) (rest := []) (As := []) X I eu_17 rfl (mJ8_isLatin1 hX ev_18) lvJ8_83 hdJ8_83 ⟨Nat.le_trans (Nat.le_of_ble_eq_true rfl) hR.1, Nat.le_trans (Nat.le_of_ble_eq_true rfl) hR.2⟩ rfl hl.1 rfl (Nat.le_of_ble_eq_true rfl) rfl dJ8_append_3_11 (fun H locs cells slots I => ?_)
  refine lv_if_eq (tgt := 45) hx hb dJ8_append_3_14 (by decide) (fun c_14 => ?_) (fun c_14 => ?_)
  · have hf := ip c_14 hf
    exact wJ8_append_3_45 hX hR X N x0 x1 σ_16 _ _ _ _ _ I (lv_sub hl [0, 1] rfl) hf
  · have hf := im c_14 hf
    refine lv_iload_n hx hb dJ8_append_3_17 rfl (lv_at hl 1 rfl) ?_
    obtain ⟨v_20, ev_20, hf⟩ := ob hf
    refine cg_S (r := (some (.int v_20))) (σ' := σ_16) (rs := [.int v_20]) (rest := []) (As := [.int x1]) X I (mJ15_canEncode hX ev_20) lvJ8_191 hdJ8_191 ⟨Nat.le_trans (Nat.le_of_ble_eq_true rfl) hR.1, Nat.le_trans (Nat.le_of_ble_eq_true rfl) hR.2⟩ rfl hl.1 rfl (Nat.le_of_ble_eq_true rfl) rfl dJ8_append_3_18 (fun H locs cells slots I => ?_)
    refine lv_if_eq (tgt := 45) hx hb dJ8_append_3_21 (by decide) (fun c_21 => ?_) (fun c_21 => ?_)
    · have hf := ip c_21 hf
      exact wJ8_append_3_45 hX hR X N x0 x1 σ_16 _ _ _ _ _ I (lv_sub hl [0, 1] rfl) hf
    · have hf := im c_21 hf
      refine lv_aload_n hx hb dJ8_append_3_24 rfl (lv_at hl 0 rfl) ?_
      obtain ⟨v_22, ev_22, hf⟩ := ob hf
      refine g_get X I gfJ8_15 (gR_in ev_22) dJ8_append_3_25 ?_
      refine lv_aload_n hx hb dJ8_append_3_28 rfl (lv_at hl 0 rfl) ?_
      refine lv_dup hx hb dJ8_append_3_29 rfl ?_
      obtain ⟨v_23, ev_23, hf⟩ := ob hf
      refine g_get X I gfJ8_79 (gI_in ev_23) dJ8_append_3_30 ?_
      refine lv_dup_x1 hx hb dJ8_append_3_33 rfl rfl ?_
      refine lv_iconst (v := 1) hx hb dJ8_append_3_34 (by decide) ?_
      refine lv_iadd hx hb dJ8_append_3_35 ?_
      obtain ⟨σ_24, eσ_24, hf⟩ := ob hf
      refine g_put X I pfJ8_79 rfl rfl eσ_24 dJ8_append_3_36 (fun H locs I => ?_)
      refine lv_iload_n hx hb dJ8_append_3_39 rfl (lv_at hl 1 rfl) ?_
      refine lv_i2b hx hb dJ8_append_3_40 rfl ?_
      obtain ⟨a_25, ea_25, hga_25⟩ := ob hf
      have hla_25 := hl
      have Ia_25 := I
      subst ea_25
      have hf := hga_25
      have hl := hla_25
      have I := Ia_25
      obtain ⟨σ_26, eσ_26, hf⟩ := ob hf
      refine g_bast X I rfl eσ_26 dJ8_append_3_41 (fun H locs I => ?_)
      refine lv_goto (tgt := 75) hx hb dJ8_append_3_42 (by decide) ?_
      refine lv_aload_n hx hb dJ8_append_3_75 rfl (lv_at hl 0 rfl) ?_
      cases os hf
      exact r_aret X I (Or.inl ⟨_, rfl⟩) (Or.inr ⟨_, rfl⟩) dJ8_append_3_76
theorem mJ8_append_3 {E : EV} {l : Launch} {N : Nat} {σ : St} {x0 : Nat} {x1 : Int32} {res : (Nat × St)} (hX : XK E) (hf : fJ8_append_3 N E.2.2.2.1 σ x0 x1 = some res) : CM E l yJ8_append_3 (ws_ yJ8_append_3 cJ8_append_3 2 (some (.object "java/lang/AbstractStringBuilder"))) 6 137 [.ref x0, .int x1] σ (some (.ref res.1)) res.2 := by
  refine CM.of hX.1 (by decide) rfl rfl (Nat.le_of_ble_eq_true rfl) ?_
  intro p e s m below meth c X I ls hl
  exact wJ8_append_3_0 hX ⟨Nat.le_refl _, Nat.le_refl _⟩ X N _ _ _ _ _ _ _ _ I hl hf
/-! java/lang/StringBuilder.append(C)Ljava/lang/StringBuilder; imp=True fuel=True kap=True rt=N thr=False -/
theorem lvJ9_50 : GoodIn lw_all (va_wsSU RJ9 50 yJ8_append_3 (ws_ yJ8_append_3 cJ8_append_3 2 (some (.object "java/lang/AbstractStringBuilder")))) := lw_good (List.forall_mem_cons.mpr ⟨q1239, List.forall_mem_cons.mpr ⟨q3345, List.forall_mem_cons.mpr ⟨q536, List.forall_mem_cons.mpr ⟨q1240, List.forall_mem_cons.mpr ⟨q127, fun w h => (lw_meth q1241 w h).1⟩⟩⟩⟩⟩)
theorem hdJ9_50 : yJ8_append_3.name ≠ "<init>" ∧ (parseMethodDescriptor yJ8_append_3.desc).map (fun d => d.parameters.length) = some 1 := by decide +kernel
def fJ9_append_3 (N : Nat) (κ : Nat → Nat) (σ : St) (x0 : Nat) (x1 : Int32) : Option (Nat × St) := (isC σ x0 25).bind fun u_1 : Unit => (fJ8_append_3 N κ σ x0 x1).bind fun (v_2, σ_3) => some ((x0), σ_3)
theorem wJ9_append_3_0 {E : EV} {l : Launch} {p : Program} {e : Env} {s : State} {m : MethodId} {args : Array Value} {below : List Frame} {meth : Method} {c : Code} {R : Room} {res : (Nat × St)} (hX : XK E) (hR : 7 ≤ R.frames ∧ 158 ≤ R.locals) (X : MX E p s m args meth c cJ9_append_3 2 (some (.object "java/lang/StringBuilder")) RJ9 "append") (N : Nat) : ∀ (x0 : Nat) (x1 : Int32) (σ : St) (H : Heap) (locs : List Loc) (cells slots : Nat) (ls : Array Slot), WI E R s σ H locs cells slots → lv_has ls 2 [(0, .ref x0), (1, .int x1)] → fJ9_append_3 N E.2.2.2.1 σ x0 x1 = some res → W p l e R s m args below meth c H locs cells slots (MQ below (Qd E R.cells R.slots (some (.ref res.1)) res.2) args s R.cells R.slots (fr E)) (F0 m 0 ls []) := by
  intro x0 x1 σ H locs cells slots ls I hl hf
  obtain ⟨⟨hx, hb, hml, hown, hts⟩, -⟩ := id X
  unfold fJ9_append_3 at hf
  refine lv_aload_n hx hb dJ9_append_3_0 rfl (lv_at hl 0 rfl) ?_
  refine lv_iload_n hx hb dJ9_append_3_1 rfl (lv_at hl 1 rfl) ?_
  obtain ⟨u_1, eu_1, hf⟩ := ob hf
  obtain ⟨⟨v_2, σ_3⟩, ev_2, hf⟩ := ob hf
  refine cg_SU (vw := (RJ9, TJ9, 4)) (ci := 25) (r := (some (.ref v_2))) (σ' := σ_3) (rs := [.ref v_2]) (rest := []) (As := [.int x1]) X I eu_1 rfl (mJ8_append_3 hX ev_2) lvJ9_50 hdJ9_50 ⟨Nat.le_trans (Nat.le_of_ble_eq_true rfl) hR.1, Nat.le_trans (Nat.le_of_ble_eq_true rfl) hR.2⟩ rfl hl.1 rfl (Nat.le_of_ble_eq_true rfl) rfl dJ9_append_3_2 (fun H locs cells slots I => ?_)
  refine lv_pop hx hb dJ9_append_3_5 rfl ?_
  refine lv_aload_n hx hb dJ9_append_3_6 rfl (lv_at hl 0 rfl) ?_
  cases os hf
  exact r_aret X I (Or.inl ⟨_, rfl⟩) (Or.inr ⟨_, rfl⟩) dJ9_append_3_7
theorem mJ9_append_3 {E : EV} {l : Launch} {N : Nat} {σ : St} {x0 : Nat} {x1 : Int32} {res : (Nat × St)} (hX : XK E) (hf : fJ9_append_3 N E.2.2.2.1 σ x0 x1 = some res) : CM E l yJ9_append_3 (ws_ yJ9_append_3 cJ9_append_3 2 (some (.object "java/lang/StringBuilder"))) 7 158 [.ref x0, .int x1] σ (some (.ref res.1)) res.2 := by
  refine CM.of hX.1 (by decide) rfl rfl (Nat.le_of_ble_eq_true rfl) ?_
  intro p e s m below meth c X I ls hl
  exact wJ9_append_3_0 hX ⟨Nat.le_refl _, Nat.le_refl _⟩ X N _ _ _ _ _ _ _ _ I hl hf
/-! java/lang/AbstractStringBuilder.getValue()[B imp=False fuel=False kap=False rt=O thr=False -/
def fJ8_getValue (σ : St) (x0 : Nat) : Option (Option Nat) := (gR σ x0 [(25, 0)]).bind fun v_1 : Option Nat => some (v_1)
theorem wJ8_getValue_0 {E : EV} {l : Launch} {p : Program} {e : Env} {s : State} {m : MethodId} {args : Array Value} {below : List Frame} {meth : Method} {c : Code} {R : Room} {σ : St} {res : (Option Nat)} (hX : XK E) (hR : 0 ≤ R.frames ∧ 0 ≤ R.locals) (X : MX E p s m args meth c cJ8_getValue 1 (some (.array .byte)) RJ8 "getValue") : ∀ (x0 : Nat) (H : Heap) (locs : List Loc) (cells slots : Nat) (ls : Array Slot), WI E R s σ H locs cells slots → lv_has ls 1 [(0, .ref x0)] → fJ8_getValue σ x0 = some res → W p l e R s m args below meth c H locs cells slots (MQ below (Qd E R.cells R.slots (some (va_rf res)) σ) args s R.cells R.slots (fr E)) (F0 m 0 ls []) := by
  intro x0 H locs cells slots ls I hl hf
  obtain ⟨⟨hx, hb, hml, hown, hts⟩, -⟩ := id X
  unfold fJ8_getValue at hf
  refine lv_aload_n hx hb dJ8_getValue_0 rfl (lv_at hl 0 rfl) ?_
  obtain ⟨v_1, ev_1, hf⟩ := ob hf
  refine g_get X I gfJ8_15 (gR_in ev_1) dJ8_getValue_1 ?_
  cases os hf
  exact r_aret X I (Or.inr ⟨_, rfl⟩) (rf_or _) dJ8_getValue_4
theorem mJ8_getValue {E : EV} {l : Launch} {σ : St} {x0 : Nat} {res : (Option Nat)} (hX : XK E) (hf : fJ8_getValue σ x0 = some res) : CM E l yJ8_getValue (ws_ yJ8_getValue cJ8_getValue 1 (some (.array .byte))) 0 0 [.ref x0] σ (some (va_rf res)) σ := by
  refine CM.of hX.1 (by decide) rfl rfl (Nat.le_of_ble_eq_true rfl) ?_
  intro p e s m below meth c X I ls hl
  exact wJ8_getValue_0 hX ⟨Nat.le_refl _, Nat.le_refl _⟩ X _ _ _ _ _ _ I hl hf
/-! java/lang/AbstractStringBuilder.length()I imp=False fuel=False kap=False rt=I thr=False -/
def fJ8_length (σ : St) (x0 : Nat) : Option Int32 := (gI σ x0 [(25, 3)]).bind fun v_1 : Int32 => some v_1
theorem wJ8_length_0 {E : EV} {l : Launch} {p : Program} {e : Env} {s : State} {m : MethodId} {args : Array Value} {below : List Frame} {meth : Method} {c : Code} {R : Room} {σ : St} {res : Int32} (hX : XK E) (hR : 0 ≤ R.frames ∧ 0 ≤ R.locals) (X : MX E p s m args meth c cJ8_length 1 (some .int) RJ8 "length") : ∀ (x0 : Nat) (H : Heap) (locs : List Loc) (cells slots : Nat) (ls : Array Slot), WI E R s σ H locs cells slots → lv_has ls 1 [(0, .ref x0)] → fJ8_length σ x0 = some res → W p l e R s m args below meth c H locs cells slots (MQ below (Qd E R.cells R.slots (some (.int res)) σ) args s R.cells R.slots (fr E)) (F0 m 0 ls []) := by
  intro x0 H locs cells slots ls I hl hf
  obtain ⟨⟨hx, hb, hml, hown, hts⟩, -⟩ := id X
  unfold fJ8_length at hf
  refine lv_aload_n hx hb dJ8_length_0 rfl (lv_at hl 0 rfl) ?_
  obtain ⟨v_1, ev_1, hf⟩ := ob hf
  refine g_get X I gfJ8_79 (gI_in ev_1) dJ8_length_1 ?_
  cases os hf
  exact r_iret X I dJ8_length_4
theorem mJ8_length {E : EV} {l : Launch} {σ : St} {x0 : Nat} {res : Int32} (hX : XK E) (hf : fJ8_length σ x0 = some res) : CM E l yJ8_length (ws_ yJ8_length cJ8_length 1 (some .int)) 0 0 [.ref x0] σ (some (.int res)) σ := by
  refine CM.of hX.1 (by decide) rfl rfl (Nat.le_of_ble_eq_true rfl) ?_
  intro p e s m below meth c X I ls hl
  exact wJ8_length_0 hX ⟨Nat.le_refl _, Nat.le_refl _⟩ X _ _ _ _ _ _ I hl hf
/-! java/lang/StringBuilder.length()I imp=False fuel=False kap=False rt=I thr=False -/
theorem lvJ9_343 : GoodIn lw_all (va_wsSU RJ9 343 yJ8_length (ws_ yJ8_length cJ8_length 1 (some .int))) := lw_good (List.forall_mem_cons.mpr ⟨q709, List.forall_mem_cons.mpr ⟨q705, List.forall_mem_cons.mpr ⟨q536, List.forall_mem_cons.mpr ⟨q704, List.forall_mem_cons.mpr ⟨q127, fun w h => (lw_meth q710 w h).1⟩⟩⟩⟩⟩)
theorem hdJ9_343 : yJ8_length.name ≠ "<init>" ∧ (parseMethodDescriptor yJ8_length.desc).map (fun d => d.parameters.length) = some 0 := by decide +kernel
def fJ9_length (σ : St) (x0 : Nat) : Option Int32 := (isC σ x0 25).bind fun u_1 : Unit => (fJ8_length σ x0).bind fun v_2 : Int32 => some v_2
theorem wJ9_length_0 {E : EV} {l : Launch} {p : Program} {e : Env} {s : State} {m : MethodId} {args : Array Value} {below : List Frame} {meth : Method} {c : Code} {R : Room} {σ : St} {res : Int32} (hX : XK E) (hR : 1 ≤ R.frames ∧ 20 ≤ R.locals) (X : MX E p s m args meth c cJ9_length 1 (some .int) RJ9 "length") : ∀ (x0 : Nat) (H : Heap) (locs : List Loc) (cells slots : Nat) (ls : Array Slot), WI E R s σ H locs cells slots → lv_has ls 1 [(0, .ref x0)] → fJ9_length σ x0 = some res → W p l e R s m args below meth c H locs cells slots (MQ below (Qd E R.cells R.slots (some (.int res)) σ) args s R.cells R.slots (fr E)) (F0 m 0 ls []) := by
  intro x0 H locs cells slots ls I hl hf
  obtain ⟨⟨hx, hb, hml, hown, hts⟩, -⟩ := id X
  unfold fJ9_length at hf
  refine lv_aload_n hx hb dJ9_length_0 rfl (lv_at hl 0 rfl) ?_
  obtain ⟨u_1, eu_1, hf⟩ := ob hf
  obtain ⟨v_2, ev_2, hf⟩ := ob hf
  refine cg_SU (vw := (RJ9, TJ9, 4)) (ci := 25) (r := (some (.int v_2))) (σ' := σ) (rs := [.int v_2]) (rest := []) (As := []) X I eu_1 rfl (mJ8_length hX ev_2) lvJ9_343 hdJ9_343 ⟨Nat.le_trans (Nat.le_of_ble_eq_true rfl) hR.1, Nat.le_trans (Nat.le_of_ble_eq_true rfl) hR.2⟩ rfl hl.1 rfl (Nat.le_of_ble_eq_true rfl) rfl dJ9_length_1 (fun H locs cells slots I => ?_)
  cases os hf
  exact r_iret X I dJ9_length_4
theorem mJ9_length {E : EV} {l : Launch} {σ : St} {x0 : Nat} {res : Int32} (hX : XK E) (hf : fJ9_length σ x0 = some res) : CM E l yJ9_length (ws_ yJ9_length cJ9_length 1 (some .int)) 1 20 [.ref x0] σ (some (.int res)) σ := by
  refine CM.of hX.1 (by decide) rfl rfl (Nat.le_of_ble_eq_true rfl) ?_
  intro p e s m below meth c X I ls hl
  exact wJ9_length_0 hX ⟨Nat.le_refl _, Nat.le_refl _⟩ X _ _ _ _ _ _ I hl hf
/-! java/util/Arrays.checkLength(II)V imp=False fuel=False kap=False rt=None thr=False -/
def fJ14_checkLength (σ : St) (x0 : Int32) (x1 : Int32) : Option Unit := if x0 ≤ x1 then some () else none
theorem wJ14_checkLength_0 {E : EV} {l : Launch} {p : Program} {e : Env} {s : State} {m : MethodId} {args : Array Value} {below : List Frame} {meth : Method} {c : Code} {R : Room} {σ : St} {res : Unit} (hX : XK E) (hR : 0 ≤ R.frames ∧ 0 ≤ R.locals) (X : MX E p s m args meth c cJ14_checkLength 2 none RJ14 "checkLength") : ∀ (x0 : Int32) (x1 : Int32) (H : Heap) (locs : List Loc) (cells slots : Nat) (ls : Array Slot), WI E R s σ H locs cells slots → lv_has ls 2 [(0, .int x0), (1, .int x1)] → fJ14_checkLength σ x0 x1 = some res → W p l e R s m args below meth c H locs cells slots (MQ below (Qd E R.cells R.slots none σ) args s R.cells R.slots (fr E)) (F0 m 0 ls []) := by
  intro x0 x1 H locs cells slots ls I hl hf
  obtain ⟨⟨hx, hb, hml, hown, hts⟩, -⟩ := id X
  unfold fJ14_checkLength at hf
  refine lv_iload_n hx hb dJ14_checkLength_0 rfl (lv_at hl 1 rfl) ?_
  refine lv_iload_n hx hb dJ14_checkLength_1 rfl (lv_at hl 0 rfl) ?_
  refine lv_icmp_ge (tgt := 37) hx hb dJ14_checkLength_2 (by decide) (fun c_2 => ?_) (fun c_2 => ?_)
  · have hf := ip c_2 hf
    cases os hf
    exact r_vret X I dJ14_checkLength_37
  · have hf := im c_2 hf
    exact nomatch hf
theorem mJ14_checkLength {E : EV} {l : Launch} {σ : St} {x0 : Int32} {x1 : Int32} {res : Unit} (hX : XK E) (hf : fJ14_checkLength σ x0 x1 = some res) : CM E l yJ14_checkLength (ws_ yJ14_checkLength cJ14_checkLength 2 none) 0 0 [.int x0, .int x1] σ none σ := by
  refine CM.of hX.1 (by decide) rfl rfl (Nat.le_of_ble_eq_true rfl) ?_
  intro p e s m below meth c X I ls hl
  exact wJ14_checkLength_0 hX ⟨Nat.le_refl _, Nat.le_refl _⟩ X _ _ _ _ _ _ _ I hl hf
/-! java/util/Arrays.copyOfRangeByte([BII)[B imp=True fuel=False kap=False rt=N thr=False -/
theorem lvJ14_343 : GoodIn lw_all (va_wsS RJ14 343 yJ14_checkLength (ws_ yJ14_checkLength cJ14_checkLength 2 none)) := lw_S q718 q719 q133 q720
theorem hdJ14_343 : yJ14_checkLength.cls ≠ "java/lang/invoke/MethodHandle" ∧ yJ14_checkLength.cls ≠ "java/lang/invoke/VarHandle" ∧ (parseMethodDescriptor yJ14_checkLength.desc).map (fun d => d.parameters.length) = some 2 := by decide +kernel
def fJ14_copyOfRangeByte (σ : St) (x0 : Nat) (x1 : Int32) (x2 : Int32) : Option (Nat × St) := (fJ14_checkLength σ x1 x2).bind fun v_1 : Unit => lt (x2 - x1) fun x3_3 : Int32 => (an x3_3).bind fun k_4 : Nat => (nH σ k_4 (.inl (1, z0 1 k_4))).bind fun (q_5a, q_5s) => (aL q_5s x0).bind fun v_6 : Int32 => (cpI q_5s x0 1 x1 q_5a (0 : Int32) (if x3_3 < (v_6 - x1) then x3_3 else (v_6 - x1))).bind fun σ_7 : St => some ((q_5a), σ_7)
theorem wJ14_copyOfRangeByte_0 {E : EV} {l : Launch} {p : Program} {e : Env} {s : State} {m : MethodId} {args : Array Value} {below : List Frame} {meth : Method} {c : Code} {R : Room} {res : (Nat × St)} (hX : XK E) (hR : 1 ≤ R.frames ∧ 40 ≤ R.locals) (X : MX E p s m args meth c cJ14_copyOfRangeByte 5 (some (.array .byte)) RJ14 "copyOfRangeByte") : ∀ (x0 : Nat) (x1 : Int32) (x2 : Int32) (σ : St) (H : Heap) (locs : List Loc) (cells slots : Nat) (ls : Array Slot), WI E R s σ H locs cells slots → lv_has ls 5 [(0, .ref x0), (1, .int x1), (2, .int x2)] → fJ14_copyOfRangeByte σ x0 x1 x2 = some res → W p l e R s m args below meth c H locs cells slots (MQ below (Qd E R.cells R.slots (some (.ref res.1)) res.2) args s R.cells R.slots (fr E)) (F0 m 0 ls []) := by
  intro x0 x1 x2 σ H locs cells slots ls I hl hf
  obtain ⟨⟨hx, hb, hml, hown, hts⟩, -⟩ := id X
  unfold fJ14_copyOfRangeByte at hf
  refine lv_iload_n hx hb dJ14_copyOfRangeByte_0 rfl (lv_at hl 1 rfl) ?_
  refine lv_iload_n hx hb dJ14_copyOfRangeByte_1 rfl (lv_at hl 2 rfl) ?_
  obtain ⟨v_1, ev_1, hf⟩ := ob hf
  refine cg_S (r := none) (σ' := σ) (rs := []) (rest := []) (As := [.int x1, .int x2]) X I (mJ14_checkLength hX ev_1) lvJ14_343 hdJ14_343 ⟨Nat.le_trans (Nat.le_of_ble_eq_true rfl) hR.1, Nat.le_trans (Nat.le_of_ble_eq_true rfl) hR.2⟩ rfl hl.1 rfl (Nat.le_of_ble_eq_true rfl) rfl dJ14_copyOfRangeByte_2 (fun H locs cells slots I => ?_)
  refine lv_iload_n hx hb dJ14_copyOfRangeByte_5 rfl (lv_at hl 2 rfl) ?_
  refine lv_iload_n hx hb dJ14_copyOfRangeByte_6 rfl (lv_at hl 1 rfl) ?_
  refine lv_isub hx hb dJ14_copyOfRangeByte_7 ?_
  obtain ⟨x3_3, ex3_3, hf⟩ := ol hf
  refine nm_i ex3_3 ?_
  refine lv_istore_n (lv' := [(3, .int x3_3), (0, .ref x0), (1, .int x1), (2, .int x2)]) hx hb dJ14_copyOfRangeByte_8 rfl hl (by decide) rfl (fun ls hl => ?_)
  refine lv_iload_n hx hb dJ14_copyOfRangeByte_9 rfl (lv_at hl 0 rfl) ?_
  obtain ⟨k_4, ek_4, hf⟩ := ob hf
  obtain ⟨⟨q_5a, q_5s⟩, eq_5, hf⟩ := ob hf
  refine g_newa (atype := .byte) (t := 1) X I (by decide) rfl q197 ek_4 eq_5 dJ14_copyOfRangeByte_10 (fun H locs cells slots I => ?_)
  refine lv_astore (lv' := [(4, .ref q_5a), (3, .int x3_3), (0, .ref x0), (1, .int x1), (2, .int x2)]) hx hb dJ14_copyOfRangeByte_12 hl (by decide) rfl (fun ls hl => ?_)
  refine lv_aload_n hx hb dJ14_copyOfRangeByte_14 rfl (lv_at hl 2 rfl) ?_
  refine lv_iload_n hx hb dJ14_copyOfRangeByte_15 rfl (lv_at hl 3 rfl) ?_
  refine lv_aload hx hb dJ14_copyOfRangeByte_16 (lv_at hl 0 rfl) ?_
  refine lv_iconst (v := 0) hx hb dJ14_copyOfRangeByte_18 (by decide) ?_
  refine lv_aload_n hx hb dJ14_copyOfRangeByte_19 rfl (lv_at hl 2 rfl) ?_
  obtain ⟨v_6, ev_6, hf⟩ := ob hf
  refine g_alen X I ev_6 dJ14_copyOfRangeByte_20 ?_
  refine lv_iload_n hx hb dJ14_copyOfRangeByte_21 rfl (lv_at hl 3 rfl) ?_
  refine lv_isub hx hb dJ14_copyOfRangeByte_22 ?_
  refine lv_iload_n hx hb dJ14_copyOfRangeByte_23 rfl (lv_at hl 1 rfl) ?_
  refine g_mmin X I ⟨Nat.le_trans (Nat.le_of_ble_eq_true rfl) hR.1, Nat.le_trans (Nat.le_of_ble_eq_true rfl) hR.2⟩ q579 hl.1 (Nat.le_of_ble_eq_true rfl) dJ14_copyOfRangeByte_24 ?_
  obtain ⟨σ_7, eσ_7, hf⟩ := ob hf
  refine g_copyI X I (by decide) q582 eσ_7 hl.1 ⟨Nat.le_trans (Nat.le_of_ble_eq_true rfl) hR.1, Nat.le_trans (Nat.le_of_ble_eq_true rfl) hR.2⟩ (Nat.le_of_ble_eq_true rfl) dJ14_copyOfRangeByte_27 (fun H locs I => ?_)
  refine lv_aload hx hb dJ14_copyOfRangeByte_30 (lv_at hl 0 rfl) ?_
  cases os hf
  exact r_aret X I (Or.inr ⟨_, rfl⟩) (Or.inr ⟨_, rfl⟩) dJ14_copyOfRangeByte_32
theorem mJ14_copyOfRangeByte {E : EV} {l : Launch} {σ : St} {x0 : Nat} {x1 : Int32} {x2 : Int32} {res : (Nat × St)} (hX : XK E) (hf : fJ14_copyOfRangeByte σ x0 x1 x2 = some res) : CM E l yJ14_copyOfRangeByte (ws_ yJ14_copyOfRangeByte cJ14_copyOfRangeByte 5 (some (.array .byte))) 1 40 [.ref x0, .int x1, .int x2] σ (some (.ref res.1)) res.2 := by
  refine CM.of hX.1 (by decide) rfl rfl (Nat.le_of_ble_eq_true rfl) ?_
  intro p e s m below meth c X I ls hl
  exact wJ14_copyOfRangeByte_0 hX ⟨Nat.le_refl _, Nat.le_refl _⟩ X _ _ _ _ _ _ _ _ _ I hl hf
/-! java/util/Arrays.copyOfRange([BII)[B imp=True fuel=False kap=False rt=N thr=False -/
theorem lvJ14_339 : GoodIn lw_all (va_wsS RJ14 339 yJ14_copyOfRangeByte (ws_ yJ14_copyOfRangeByte cJ14_copyOfRangeByte 5 (some (.array .byte)))) := lw_S q715 q716 q133 q717
theorem hdJ14_339 : yJ14_copyOfRangeByte.cls ≠ "java/lang/invoke/MethodHandle" ∧ yJ14_copyOfRangeByte.cls ≠ "java/lang/invoke/VarHandle" ∧ (parseMethodDescriptor yJ14_copyOfRangeByte.desc).map (fun d => d.parameters.length) = some 3 := by decide +kernel
def fJ14_copyOfRange_10 (x0 : Nat) (x1 : Int32) (x2 : Int32) (σ : St) : Option (Nat × St) := (fJ14_copyOfRangeByte σ x0 x1 x2).bind fun (v_1, σ_2) => some ((v_1), σ_2)
def fJ14_copyOfRange (σ : St) (x0 : Nat) (x1 : Int32) (x2 : Int32) : Option (Nat × St) := if x1 = 0 then (aL σ x0).bind fun v_3 : Int32 => if x2 = v_3 then (clB σ x0).bind fun (q_4a, q_4s) => (isA q_4s q_4a 1).bind fun u_5 : Unit => some ((q_4a), q_4s) else fJ14_copyOfRange_10 x0 x1 x2 σ else fJ14_copyOfRange_10 x0 x1 x2 σ
theorem wJ14_copyOfRange_10 {E : EV} {l : Launch} {p : Program} {e : Env} {s : State} {m : MethodId} {args : Array Value} {below : List Frame} {meth : Method} {c : Code} {R : Room} {res : (Nat × St)} (hX : XK E) (hR : 2 ≤ R.frames ∧ 64 ≤ R.locals) (X : MX E p s m args meth c cJ14_copyOfRange 3 (some (.array .byte)) RJ14 "copyOfRange") : ∀ (x0 : Nat) (x1 : Int32) (x2 : Int32) (σ : St) (H : Heap) (locs : List Loc) (cells slots : Nat) (ls : Array Slot), WI E R s σ H locs cells slots → lv_has ls 3 [(0, .ref x0), (1, .int x1), (2, .int x2)] → fJ14_copyOfRange_10 x0 x1 x2 σ = some res → W p l e R s m args below meth c H locs cells slots (MQ below (Qd E R.cells R.slots (some (.ref res.1)) res.2) args s R.cells R.slots (fr E)) (F0 m 10 ls []) := by
  intro x0 x1 x2 σ H locs cells slots ls I hl hf
  obtain ⟨⟨hx, hb, hml, hown, hts⟩, -⟩ := id X
  unfold fJ14_copyOfRange_10 at hf
  refine lv_aload_n hx hb dJ14_copyOfRange_10 rfl (lv_at hl 0 rfl) ?_
  refine lv_iload_n hx hb dJ14_copyOfRange_11 rfl (lv_at hl 1 rfl) ?_
  refine lv_iload_n hx hb dJ14_copyOfRange_12 rfl (lv_at hl 2 rfl) ?_
  obtain ⟨⟨v_1, σ_2⟩, ev_1, hf⟩ := ob hf
  refine cg_S (r := (some (.ref v_1))) (σ' := σ_2) (rs := [.ref v_1]) (rest := []) (As := [.ref x0, .int x1, .int x2]) X I (mJ14_copyOfRangeByte hX ev_1) lvJ14_339 hdJ14_339 ⟨Nat.le_trans (Nat.le_of_ble_eq_true rfl) hR.1, Nat.le_trans (Nat.le_of_ble_eq_true rfl) hR.2⟩ rfl hl.1 rfl (Nat.le_of_ble_eq_true rfl) rfl dJ14_copyOfRange_13 (fun H locs cells slots I => ?_)
  cases os hf
  exact r_aret X I (Or.inr ⟨_, rfl⟩) (Or.inr ⟨_, rfl⟩) dJ14_copyOfRange_16
theorem wJ14_copyOfRange_0 {E : EV} {l : Launch} {p : Program} {e : Env} {s : State} {m : MethodId} {args : Array Value} {below : List Frame} {meth : Method} {c : Code} {R : Room} {res : (Nat × St)} (hX : XK E) (hR : 2 ≤ R.frames ∧ 64 ≤ R.locals) (X : MX E p s m args meth c cJ14_copyOfRange 3 (some (.array .byte)) RJ14 "copyOfRange") : ∀ (x0 : Nat) (x1 : Int32) (x2 : Int32) (σ : St) (H : Heap) (locs : List Loc) (cells slots : Nat) (ls : Array Slot), WI E R s σ H locs cells slots → lv_has ls 3 [(0, .ref x0), (1, .int x1), (2, .int x2)] → fJ14_copyOfRange σ x0 x1 x2 = some res → W p l e R s m args below meth c H locs cells slots (MQ below (Qd E R.cells R.slots (some (.ref res.1)) res.2) args s R.cells R.slots (fr E)) (F0 m 0 ls []) := by
  intro x0 x1 x2 σ H locs cells slots ls I hl hf
  obtain ⟨⟨hx, hb, hml, hown, hts⟩, -⟩ := id X
  unfold fJ14_copyOfRange at hf
  refine lv_iload_n hx hb dJ14_copyOfRange_0 rfl (lv_at hl 1 rfl) ?_
  refine lv_if_ne (tgt := 10) hx hb dJ14_copyOfRange_1 (by decide) (fun c_1 => ?_) (fun c_1 => ?_)
  · have hf := im c_1 hf
    exact wJ14_copyOfRange_10 hX hR X x0 x1 x2 σ _ _ _ _ _ I (lv_sub hl [0, 1, 2] rfl) hf
  · have hf := ip c_1 hf
    refine lv_iload_n hx hb dJ14_copyOfRange_4 rfl (lv_at hl 2 rfl) ?_
    refine lv_aload_n hx hb dJ14_copyOfRange_5 rfl (lv_at hl 0 rfl) ?_
    obtain ⟨v_3, ev_3, hf⟩ := ob hf
    refine g_alen X I ev_3 dJ14_copyOfRange_6 ?_
    refine lv_icmp_eq (tgt := 17) hx hb dJ14_copyOfRange_7 (by decide) (fun c_7 => ?_) (fun c_7 => ?_)
    · have hf := ip c_7 hf
      refine lv_aload_n hx hb dJ14_copyOfRange_17 rfl (lv_at hl 0 rfl) ?_
      obtain ⟨⟨q_4a, q_4s⟩, eq_4, hf⟩ := ob hf
      refine g_clone hX X I q572 eq_4 hl.1 ⟨Nat.le_trans (Nat.le_of_ble_eq_true rfl) hR.1, Nat.le_trans (Nat.le_of_ble_eq_true rfl) hR.2⟩ (Nat.le_of_ble_eq_true rfl) dJ14_copyOfRange_18 (fun H locs cells slots I => ?_)
      obtain ⟨u_5, eu_5, hf⟩ := ob hf
      refine g_castA X I q578 eu_5 an1 dJ14_copyOfRange_21 ?_
      cases os hf
      exact r_aret X I (Or.inr ⟨_, rfl⟩) (Or.inr ⟨_, rfl⟩) dJ14_copyOfRange_24
    · have hf := im c_7 hf
      exact wJ14_copyOfRange_10 hX hR X x0 x1 x2 σ _ _ _ _ _ I (lv_sub hl [0, 1, 2] rfl) hf
theorem mJ14_copyOfRange {E : EV} {l : Launch} {σ : St} {x0 : Nat} {x1 : Int32} {x2 : Int32} {res : (Nat × St)} (hX : XK E) (hf : fJ14_copyOfRange σ x0 x1 x2 = some res) : CM E l yJ14_copyOfRange (ws_ yJ14_copyOfRange cJ14_copyOfRange 3 (some (.array .byte))) 2 64 [.ref x0, .int x1, .int x2] σ (some (.ref res.1)) res.2 := by
  refine CM.of hX.1 (by decide) rfl rfl (Nat.le_of_ble_eq_true rfl) ?_
  intro p e s m below meth c X I ls hl
  exact wJ14_copyOfRange_0 hX ⟨Nat.le_refl _, Nat.le_refl _⟩ X _ _ _ _ _ _ _ _ _ I hl hf
/-! java/lang/StringUTF16.getChar([BI)C imp=False fuel=False kap=False rt=I thr=False -/
def fJ11_getChar (σ : St) (x0 : Nat) (x1 : Int32) : Option Int32 := none
theorem wJ11_getChar_0 {E : EV} {l : Launch} {p : Program} {e : Env} {s : State} {m : MethodId} {args : Array Value} {below : List Frame} {meth : Method} {c : Code} {R : Room} {σ : St} {res : Int32} (hX : XK E) (hR : 1 ≤ R.frames ∧ 20 ≤ R.locals) (X : MX E p s m args meth c cJ11_getChar 2 (some .char) RJ11 "getChar") : ∀ (x0 : Nat) (x1 : Int32) (H : Heap) (locs : List Loc) (cells slots : Nat) (ls : Array Slot), WI E R s σ H locs cells slots → lv_has ls 2 [(0, .ref x0), (1, .int x1)] → fJ11_getChar σ x0 x1 = some res → W p l e R s m args below meth c H locs cells slots (MQ below (Qd E R.cells R.slots (some (.int res)) σ) args s R.cells R.slots (fr E)) (F0 m 0 ls []) := by
  intro x0 x1 H locs cells slots ls I hl hf
  obtain ⟨⟨hx, hb, hml, hown, hts⟩, -⟩ := id X
  unfold fJ11_getChar at hf
  exact nomatch hf
theorem mJ11_getChar {E : EV} {l : Launch} {σ : St} {x0 : Nat} {x1 : Int32} {res : Int32} (hX : XK E) (hf : fJ11_getChar σ x0 x1 = some res) : CM E l yJ11_getChar (ws_ yJ11_getChar cJ11_getChar 2 (some .char)) 1 20 [.ref x0, .int x1] σ (some (.int res)) σ := by
  refine CM.of hX.1 (by decide) rfl rfl (Nat.le_of_ble_eq_true rfl) ?_
  intro p e s m below meth c X I ls hl
  exact wJ11_getChar_0 hX ⟨Nat.le_refl _, Nat.le_refl _⟩ X _ _ _ _ _ _ _ I hl hf
/-! java/lang/StringUTF16.compress([BI[BII)I imp=True fuel=True kap=True rt=I thr=False -/
theorem lvJ11_71 : GoodIn lw_all (va_wsS RJ11 71 yJ11_getChar (ws_ yJ11_getChar cJ11_getChar 2 (some .char))) := lw_S q756 q757 q130 q758
theorem hdJ11_71 : yJ11_getChar.cls ≠ "java/lang/invoke/MethodHandle" ∧ yJ11_getChar.cls ≠ "java/lang/invoke/VarHandle" ∧ (parseMethodDescriptor yJ11_getChar.desc).map (fun d => d.parameters.length) = some 2 := by decide +kernel
def fJ11_compress_2_10 (N : Nat) (κ : Nat → Nat) : Nat → Nat → Int32 → Nat → Int32 → Int32 → Int32 → St → Option (Int32 × St)
  | 0, _, _, _, _, _, _, _ => none
  | n + 1, x0, x1, x2, x3, x4, x5, σ => if x4 ≤ x5 then some (x4, σ) else (fJ11_getChar σ x0 x1).bind fun v_1 : Int32 => if v_1 ≤ (255 : Int32) then (sI σ x2 1 x3 ((v_1.toInt8.toInt32).toInt8.toInt32)).bind fun σ_3 : St => lt (x1 + 1) fun x1_4 : Int32 => lt (x3 + 1) fun x3_5 : Int32 => lt (x5 + 1) fun x5_6 : Int32 => fJ11_compress_2_10 N κ n x0 x1_4 x2 x3_5 x4 x5_6 σ_3 else some (x5, σ)
def fJ11_compress_2 (N : Nat) (κ : Nat → Nat) (σ : St) (x0 : Nat) (x1 : Int32) (x2 : Nat) (x3 : Int32) (x4 : Int32) : Option (Int32 × St) := (fJ11_checkBoundsOffCount κ σ x1 x4 x0).bind fun v_7 : Unit => fJ11_compress_2_10 N κ N x0 x1 x2 x3 x4 (0 : Int32) σ
theorem wJ11_compress_2_10 {E : EV} {l : Launch} {p : Program} {e : Env} {s : State} {m : MethodId} {args : Array Value} {below : List Frame} {meth : Method} {c : Code} {R : Room} {res : (Int32 × St)} (hX : XK E) (hR : 3 ≤ R.frames ∧ 67 ≤ R.locals) (X : MX E p s m args meth c cJ11_compress_2 7 (some .int) RJ11 "compress") (N : Nat) : ∀ (n : Nat) (x0 : Nat) (x1 : Int32) (x2 : Nat) (x3 : Int32) (x4 : Int32) (x5 : Int32) (σ : St) (H : Heap) (locs : List Loc) (cells slots : Nat) (ls : Array Slot), WI E R s σ H locs cells slots → lv_has ls 7 [(0, .ref x0), (1, .int x1), (2, .ref x2), (3, .int x3), (4, .int x4), (5, .int x5)] → fJ11_compress_2_10 N E.2.2.2.1 n x0 x1 x2 x3 x4 x5 σ = some res → W p l e R s m args below meth c H locs cells slots (MQ below (Qd E R.cells R.slots (some (.int res.1)) res.2) args s R.cells R.slots (fr E)) (F0 m 10 ls []) := by
  intro n
  induction n with
  | zero => intro x0 x1 x2 x3 x4 x5 σ H locs cells slots ls I hl hf; exact nomatch (show none = some res from hf)
  | succ n ih =>
    intro x0 x1 x2 x3 x4 x5 σ H locs cells slots ls I hl hf
    obtain ⟨⟨hx, hb, hml, hown, hts⟩, -⟩ := id X
    rw [fJ11_compress_2_10.eq_2] at hf
    refine lv_iload hx hb dJ11_compress_2_10 (lv_at hl 5 rfl) ?_
    refine lv_iload hx hb dJ11_compress_2_12 (lv_at hl 4 rfl) ?_
    refine lv_icmp_ge (tgt := 53) hx hb dJ11_compress_2_14 (by decide) (fun c_14 => ?_) (fun c_14 => ?_)
    · have hf := ip c_14 hf
      refine lv_iload hx hb dJ11_compress_2_53 (lv_at hl 4 rfl) ?_
      cases os hf
      exact r_iret X I dJ11_compress_2_55
    · have hf := im c_14 hf
      refine lv_aload_n hx hb dJ11_compress_2_17 rfl (lv_at hl 0 rfl) ?_
      refine lv_iload_n hx hb dJ11_compress_2_18 rfl (lv_at hl 1 rfl) ?_
      obtain ⟨v_1, ev_1, hf⟩ := ob hf
      refine cg_S (r := (some (.int v_1))) (σ' := σ) (rs := [.int v_1]) (rest := []) (As := [.ref x0, .int x1]) X I (mJ11_getChar hX ev_1) lvJ11_71 hdJ11_71 ⟨Nat.le_trans (Nat.le_of_ble_eq_true rfl) hR.1, Nat.le_trans (Nat.le_of_ble_eq_true rfl) hR.2⟩ rfl hl.1 rfl (Nat.le_of_ble_eq_true rfl) rfl dJ11_compress_2_19 (fun H locs cells slots I => ?_)
      refine lv_istore (lv' := [(6, .int v_1), (0, .ref x0), (1, .int x1), (2, .ref x2), (3, .int x3), (4, .int x4), (5, .int x5)]) hx hb dJ11_compress_2_22 hl (by decide) rfl (fun ls hl => ?_)
      refine lv_iload hx hb dJ11_compress_2_24 (lv_at hl 0 rfl) ?_
      refine lv_sipush (v := 255) hx hb dJ11_compress_2_26 (by decide) ?_
      refine lv_icmp_le (tgt := 35) hx hb dJ11_compress_2_29 (by decide) (fun c_29 => ?_) (fun c_29 => ?_)
      · have hf := ip c_29 hf
        refine lv_aload_n hx hb dJ11_compress_2_35 rfl (lv_at hl 3 rfl) ?_
        refine lv_iload_n hx hb dJ11_compress_2_36 rfl (lv_at hl 4 rfl) ?_
        refine lv_iload hx hb dJ11_compress_2_37 (lv_at hl 0 rfl) ?_
        refine lv_i2b hx hb dJ11_compress_2_39 rfl ?_
        obtain ⟨σ_3, eσ_3, hf⟩ := ob hf
        refine g_bast X I rfl eσ_3 dJ11_compress_2_40 (fun H locs I => ?_)
        obtain ⟨x1_4, ex1_4, hf⟩ := ol hf
        refine lv_iinc (v := x1_4) (lv' := [(1, .int x1_4), (6, .int v_1), (0, .ref x0), (2, .ref x2), (3, .int x3), (4, .int x4), (5, .int x5)]) hx hb dJ11_compress_2_41 hl (k := 2) rfl ex1_4 (by decide) rfl (fun ls hl => ?_)
        obtain ⟨x3_5, ex3_5, hf⟩ := ol hf
        refine lv_iinc (v := x3_5) (lv' := [(3, .int x3_5), (1, .int x1_4), (6, .int v_1), (0, .ref x0), (2, .ref x2), (4, .int x4), (5, .int x5)]) hx hb dJ11_compress_2_44 hl (k := 4) rfl ex3_5 (by decide) rfl (fun ls hl => ?_)
        obtain ⟨x5_6, ex5_6, hf⟩ := ol hf
        refine lv_iinc (v := x5_6) (lv' := [(5, .int x5_6), (3, .int x3_5), (1, .int x1_4), (6, .int v_1), (0, .ref x0), (2, .ref x2), (4, .int x4)]) hx hb dJ11_compress_2_47 hl (k := 6) rfl ex5_6 (by decide) rfl (fun ls hl => ?_)
        refine lv_goto (tgt := 10) hx hb dJ11_compress_2_50 (by decide) ?_
        exact ih x0 x1_4 x2 x3_5 x4 x5_6 σ_3 _ _ _ _ _ I (lv_sub hl [4, 2, 5, 1, 6, 0] rfl) hf
      · have hf := im c_29 hf
        refine lv_iload hx hb dJ11_compress_2_32 (lv_at hl 6 rfl) ?_
        cases os hf
        exact r_iret X I dJ11_compress_2_34
theorem wJ11_compress_2_0 {E : EV} {l : Launch} {p : Program} {e : Env} {s : State} {m : MethodId} {args : Array Value} {below : List Frame} {meth : Method} {c : Code} {R : Room} {res : (Int32 × St)} (hX : XK E) (hR : 3 ≤ R.frames ∧ 67 ≤ R.locals) (X : MX E p s m args meth c cJ11_compress_2 7 (some .int) RJ11 "compress") (N : Nat) : ∀ (x0 : Nat) (x1 : Int32) (x2 : Nat) (x3 : Int32) (x4 : Int32) (σ : St) (H : Heap) (locs : List Loc) (cells slots : Nat) (ls : Array Slot), WI E R s σ H locs cells slots → lv_has ls 7 [(0, .ref x0), (1, .int x1), (2, .ref x2), (3, .int x3), (4, .int x4)] → fJ11_compress_2 N E.2.2.2.1 σ x0 x1 x2 x3 x4 = some res → W p l e R s m args below meth c H locs cells slots (MQ below (Qd E R.cells R.slots (some (.int res.1)) res.2) args s R.cells R.slots (fr E)) (F0 m 0 ls []) := by
  intro x0 x1 x2 x3 x4 σ H locs cells slots ls I hl hf
  obtain ⟨⟨hx, hb, hml, hown, hts⟩, -⟩ := id X
  unfold fJ11_compress_2 at hf
  refine lv_iload_n hx hb dJ11_compress_2_0 rfl (lv_at hl 1 rfl) ?_
  refine lv_iload hx hb dJ11_compress_2_1 (lv_at hl 4 rfl) ?_
  refine lv_aload_n hx hb dJ11_compress_2_3 rfl (lv_at hl 0 rfl) ?_
  obtain ⟨v_7, ev_7, hf⟩ := ob hf
  refine cg_S (r := none) (σ' := σ) (rs := []) (rest := []) (As := [.int x1, .int x4, .ref x0]) X I (mJ11_checkBoundsOffCount hX ev_7) lvJ11_173 hdJ11_173 ⟨Nat.le_trans (Nat.le_of_ble_eq_true rfl) hR.1, Nat.le_trans (Nat.le_of_ble_eq_true rfl) hR.2⟩ rfl hl.1 rfl (Nat.le_of_ble_eq_true rfl) rfl dJ11_compress_2_4 (fun H locs cells slots I => ?_)
  refine lv_iconst (v := 0) hx hb dJ11_compress_2_7 (by decide) ?_
  refine lv_istore (lv' := [(5, .int (0 : Int32)), (0, .ref x0), (1, .int x1), (2, .ref x2), (3, .int x3), (4, .int x4)]) hx hb dJ11_compress_2_8 hl (by decide) rfl (fun ls hl => ?_)
  exact wJ11_compress_2_10 hX hR X N N x0 x1 x2 x3 x4 (0 : Int32) σ _ _ _ _ _ I (lv_sub hl [1, 2, 3, 4, 5, 0] rfl) hf
theorem mJ11_compress_2 {E : EV} {l : Launch} {N : Nat} {σ : St} {x0 : Nat} {x1 : Int32} {x2 : Nat} {x3 : Int32} {x4 : Int32} {res : (Int32 × St)} (hX : XK E) (hf : fJ11_compress_2 N E.2.2.2.1 σ x0 x1 x2 x3 x4 = some res) : CM E l yJ11_compress_2 (ws_ yJ11_compress_2 cJ11_compress_2 7 (some .int)) 3 67 [.ref x0, .int x1, .ref x2, .int x3, .int x4] σ (some (.int res.1)) res.2 := by
  refine CM.of hX.1 (by decide) rfl rfl (Nat.le_of_ble_eq_true rfl) ?_
  intro p e s m below meth c X I ls hl
  exact wJ11_compress_2_0 hX ⟨Nat.le_refl _, Nat.le_refl _⟩ X N _ _ _ _ _ _ _ _ _ _ _ I hl hf
/-! java/lang/StringUTF16.compress([BII)[B imp=True fuel=True kap=True rt=N thr=False -/
theorem lvJ11_123 : GoodIn lw_all (va_wsS RJ11 123 yJ11_compress_2 (ws_ yJ11_compress_2 cJ11_compress_2 7 (some .int))) := lw_S q753 q754 q130 q755
theorem hdJ11_123 : yJ11_compress_2.cls ≠ "java/lang/invoke/MethodHandle" ∧ yJ11_compress_2.cls ≠ "java/lang/invoke/VarHandle" ∧ (parseMethodDescriptor yJ11_compress_2.desc).map (fun d => d.parameters.length) = some 5 := by decide +kernel
theorem lvJ11_126 : GoodIn lw_all (va_wsS RJ11 126 yJ14_copyOfRange (ws_ yJ14_copyOfRange cJ14_copyOfRange 3 (some (.array .byte)))) := lw_S q759 q713 q133 q714
theorem hdJ11_126 : yJ14_copyOfRange.cls ≠ "java/lang/invoke/MethodHandle" ∧ yJ14_copyOfRange.cls ≠ "java/lang/invoke/VarHandle" ∧ (parseMethodDescriptor yJ14_copyOfRange.desc).map (fun d => d.parameters.length) = some 3 := by decide +kernel
def fJ11_compress (N : Nat) (κ : Nat → Nat) (σ : St) (x0 : Nat) (x1 : Int32) (x2 : Int32) : Option (Nat × St) := (an x2).bind fun k_1 : Nat => (nH σ k_1 (.inl (1, z0 1 k_1))).bind fun (q_2a, q_2s) => (fJ11_compress_2 N κ q_2s x0 x1 q_2a (0 : Int32) x2).bind fun (v_3, σ_4) => if v_3 = x2 then some ((q_2a), σ_4) else (fJ11_newBytesLength σ_4 (x1 + x2)).bind fun (v_5, σ_6) => (fJ14_copyOfRange σ_6 x0 (x1 <<< ((1 : Int32) &&& 31)) v_5).bind fun (v_7, σ_8) => (fJ11_getChar σ_8 v_7 v_3).bind fun v_9 : Int32 => if (255 : Int32) < v_9 then some ((v_7), σ_8) else (fJ11_compress_2 N κ σ_8 v_7 (0 : Int32) q_2a (0 : Int32) x2).bind fun (v_11, σ_12) => if v_11 = x2 then some ((q_2a), σ_12) else some ((v_7), σ_12)
theorem wJ11_compress_0 {E : EV} {l : Launch} {p : Program} {e : Env} {s : State} {m : MethodId} {args : Array Value} {below : List Frame} {meth : Method} {c : Code} {R : Room} {res : (Nat × St)} (hX : XK E) (hR : 4 ≤ R.frames ∧ 93 ≤ R.locals) (X : MX E p s m args meth c cJ11_compress 6 (some (.array .byte)) RJ11 "compress") (N : Nat) : ∀ (x0 : Nat) (x1 : Int32) (x2 : Int32) (σ : St) (H : Heap) (locs : List Loc) (cells slots : Nat) (ls : Array Slot), WI E R s σ H locs cells slots → lv_has ls 6 [(0, .ref x0), (1, .int x1), (2, .int x2)] → fJ11_compress N E.2.2.2.1 σ x0 x1 x2 = some res → W p l e R s m args below meth c H locs cells slots (MQ below (Qd E R.cells R.slots (some (.ref res.1)) res.2) args s R.cells R.slots (fr E)) (F0 m 0 ls []) := by
  intro x0 x1 x2 σ H locs cells slots ls I hl hf
  obtain ⟨⟨hx, hb, hml, hown, hts⟩, -⟩ := id X
  unfold fJ11_compress at hf
  refine lv_iload_n hx hb dJ11_compress_0 rfl (lv_at hl 2 rfl) ?_
  obtain ⟨k_1, ek_1, hf⟩ := ob hf
  obtain ⟨⟨q_2a, q_2s⟩, eq_2, hf⟩ := ob hf
  refine g_newa (atype := .byte) (t := 1) X I (by decide) rfl q197 ek_1 eq_2 dJ11_compress_1 (fun H locs cells slots I => ?_)
  refine lv_astore_n (lv' := [(3, .ref q_2a), (0, .ref x0), (1, .int x1), (2, .int x2)]) hx hb dJ11_compress_3 rfl hl (by decide) rfl (fun ls hl => ?_)
  refine lv_aload_n hx hb dJ11_compress_4 rfl (lv_at hl 1 rfl) ?_
  refine lv_iload_n hx hb dJ11_compress_5 rfl (lv_at hl 2 rfl) ?_
  refine lv_aload_n hx hb dJ11_compress_6 rfl (lv_at hl 0 rfl) ?_
  refine lv_iconst (v := 0) hx hb dJ11_compress_7 (by decide) ?_
  refine lv_iload_n hx hb dJ11_compress_8 rfl (lv_at hl 3 rfl) ?_
  obtain ⟨⟨v_3, σ_4⟩, ev_3, hf⟩ := ob hf
  refine cg_S (r := (some (.int v_3))) (σ' := σ_4) (rs := [.int v_3]) (rest := []) (As := [.ref x0, .int x1, .ref q_2a, .int (0 : Int32), .int x2]) X I (mJ11_compress_2 hX ev_3) lvJ11_123 hdJ11_123 ⟨Nat.le_trans (Nat.le_of_ble_eq_true rfl) hR.1, Nat.le_trans (Nat.le_of_ble_eq_true rfl) hR.2⟩ rfl hl.1 rfl (Nat.le_of_ble_eq_true rfl) rfl dJ11_compress_9 (fun H locs cells slots I => ?_)
  refine lv_istore (lv' := [(4, .int v_3), (3, .ref q_2a), (0, .ref x0), (1, .int x1), (2, .int x2)]) hx hb dJ11_compress_12 hl (by decide) rfl (fun ls hl => ?_)
  refine lv_iload hx hb dJ11_compress_14 (lv_at hl 0 rfl) ?_
  refine lv_iload_n hx hb dJ11_compress_16 rfl (lv_at hl 4 rfl) ?_
  refine lv_icmp_eq (tgt := 64) hx hb dJ11_compress_17 (by decide) (fun c_17 => ?_) (fun c_17 => ?_)
  · have hf := ip c_17 hf
    refine lv_aload_n hx hb dJ11_compress_64 rfl (lv_at hl 1 rfl) ?_
    cases os hf
    exact r_aret X I (Or.inr ⟨_, rfl⟩) (Or.inr ⟨_, rfl⟩) dJ11_compress_65
  · have hf := im c_17 hf
    refine lv_aload_n hx hb dJ11_compress_20 rfl (lv_at hl 2 rfl) ?_
    refine lv_iload_n hx hb dJ11_compress_21 rfl (lv_at hl 3 rfl) ?_
    refine lv_iconst (v := 1) hx hb dJ11_compress_22 (by decide) ?_
    refine lv_ishl hx hb dJ11_compress_23 ?_
    refine lv_iload_n hx hb dJ11_compress_24 rfl (lv_at hl 3 rfl) ?_
    refine lv_iload_n hx hb dJ11_compress_25 rfl (lv_at hl 4 rfl) ?_
    refine lv_iadd hx hb dJ11_compress_26 ?_
    obtain ⟨⟨v_5, σ_6⟩, ev_5, hf⟩ := ob hf
    refine cg_S (r := (some (.int v_5))) (σ' := σ_6) (rs := [.int v_5, .int (x1 <<< ((1 : Int32) &&& 31)), .ref x0]) (rest := [.int (x1 <<< ((1 : Int32) &&& 31)), .ref x0]) (As := [.int (x1 + x2)]) X I (mJ11_newBytesLength hX ev_5) lvJ11_11 hdJ11_11 ⟨Nat.le_trans (Nat.le_of_ble_eq_true rfl) hR.1, Nat.le_trans (Nat.le_of_ble_eq_true rfl) hR.2⟩ rfl hl.1 rfl (Nat.le_of_ble_eq_true rfl) rfl dJ11_compress_27 (fun H locs cells slots I => ?_)
    obtain ⟨⟨v_7, σ_8⟩, ev_7, hf⟩ := ob hf
    refine cg_S (r := (some (.ref v_7))) (σ' := σ_8) (rs := [.ref v_7]) (rest := []) (As := [.ref x0, .int (x1 <<< ((1 : Int32) &&& 31)), .int v_5]) X I (mJ14_copyOfRange hX ev_7) lvJ11_126 hdJ11_126 ⟨Nat.le_trans (Nat.le_of_ble_eq_true rfl) hR.1, Nat.le_trans (Nat.le_of_ble_eq_true rfl) hR.2⟩ rfl hl.1 rfl (Nat.le_of_ble_eq_true rfl) rfl dJ11_compress_30 (fun H locs cells slots I => ?_)
    refine lv_astore (lv' := [(5, .ref v_7), (4, .int v_3), (3, .ref q_2a), (0, .ref x0), (1, .int x1), (2, .int x2)]) hx hb dJ11_compress_33 hl (by decide) rfl (fun ls hl => ?_)
    refine lv_aload hx hb dJ11_compress_35 (lv_at hl 0 rfl) ?_
    refine lv_iload hx hb dJ11_compress_37 (lv_at hl 1 rfl) ?_
    obtain ⟨v_9, ev_9, hf⟩ := ob hf
    refine cg_S (r := (some (.int v_9))) (σ' := σ_8) (rs := [.int v_9]) (rest := []) (As := [.ref v_7, .int v_3]) X I (mJ11_getChar hX ev_9) lvJ11_71 hdJ11_71 ⟨Nat.le_trans (Nat.le_of_ble_eq_true rfl) hR.1, Nat.le_trans (Nat.le_of_ble_eq_true rfl) hR.2⟩ rfl hl.1 rfl (Nat.le_of_ble_eq_true rfl) rfl dJ11_compress_39 (fun H locs cells slots I => ?_)
    refine lv_sipush (v := 255) hx hb dJ11_compress_42 (by decide) ?_
    refine lv_icmp_gt (tgt := 61) hx hb dJ11_compress_45 (by decide) (fun c_45 => ?_) (fun c_45 => ?_)
    · have hf := ip c_45 hf
      refine lv_aload hx hb dJ11_compress_61 (lv_at hl 0 rfl) ?_
      cases os hf
      exact r_aret X I (Or.inr ⟨_, rfl⟩) (Or.inr ⟨_, rfl⟩) dJ11_compress_63
    · have hf := im c_45 hf
      refine lv_aload hx hb dJ11_compress_48 (lv_at hl 0 rfl) ?_
      refine lv_iconst (v := 0) hx hb dJ11_compress_50 (by decide) ?_
      refine lv_aload_n hx hb dJ11_compress_51 rfl (lv_at hl 2 rfl) ?_
      refine lv_iconst (v := 0) hx hb dJ11_compress_52 (by decide) ?_
      refine lv_iload_n hx hb dJ11_compress_53 rfl (lv_at hl 5 rfl) ?_
      obtain ⟨⟨v_11, σ_12⟩, ev_11, hf⟩ := ob hf
      refine cg_S (r := (some (.int v_11))) (σ' := σ_12) (rs := [.int v_11]) (rest := []) (As := [.ref v_7, .int (0 : Int32), .ref q_2a, .int (0 : Int32), .int x2]) X I (mJ11_compress_2 hX ev_11) lvJ11_123 hdJ11_123 ⟨Nat.le_trans (Nat.le_of_ble_eq_true rfl) hR.1, Nat.le_trans (Nat.le_of_ble_eq_true rfl) hR.2⟩ rfl hl.1 rfl (Nat.le_of_ble_eq_true rfl) rfl dJ11_compress_54 (fun H locs cells slots I => ?_)
      refine lv_iload_n hx hb dJ11_compress_57 rfl (lv_at hl 5 rfl) ?_
      refine lv_icmp_eq (tgt := 64) hx hb dJ11_compress_58 (by decide) (fun c_58 => ?_) (fun c_58 => ?_)
      · have hf := ip c_58 hf
        refine lv_aload_n hx hb dJ11_compress_64 rfl (lv_at hl 2 rfl) ?_
        cases os hf
        exact r_aret X I (Or.inr ⟨_, rfl⟩) (Or.inr ⟨_, rfl⟩) dJ11_compress_65
      · have hf := im c_58 hf
        refine lv_aload hx hb dJ11_compress_61 (lv_at hl 0 rfl) ?_
        cases os hf
        exact r_aret X I (Or.inr ⟨_, rfl⟩) (Or.inr ⟨_, rfl⟩) dJ11_compress_63
theorem mJ11_compress {E : EV} {l : Launch} {N : Nat} {σ : St} {x0 : Nat} {x1 : Int32} {x2 : Int32} {res : (Nat × St)} (hX : XK E) (hf : fJ11_compress N E.2.2.2.1 σ x0 x1 x2 = some res) : CM E l yJ11_compress (ws_ yJ11_compress cJ11_compress 6 (some (.array .byte))) 4 93 [.ref x0, .int x1, .int x2] σ (some (.ref res.1)) res.2 := by
  refine CM.of hX.1 (by decide) rfl rfl (Nat.le_of_ble_eq_true rfl) ?_
  intro p e s m below meth c X I ls hl
  exact wJ11_compress_0 hX ⟨Nat.le_refl _, Nat.le_refl _⟩ X N _ _ _ _ _ _ _ _ _ I hl hf
/-! java/lang/StringUTF16.coderFromArrayLen([BI)B imp=False fuel=False kap=False rt=I thr=False -/
def fJ11_coderFromArrayLen (σ : St) (x0 : Nat) (x1 : Int32) : Option Int32 := (aL σ x0).bind fun v_1 : Int32 => if ((((x1 - v_1).toUInt32 >>> ((31 : Int32).toUInt32 &&& Int32.toUInt32 31)).toInt32).toInt8.toInt32).toInt8.toInt32 = ((((x1 - v_1).toUInt32 >>> ((31 : Int32).toUInt32 &&& Int32.toUInt32 31)).toInt32).toInt8.toInt32) then some ((((x1 - v_1).toUInt32 >>> ((31 : Int32).toUInt32 &&& Int32.toUInt32 31)).toInt32).toInt8.toInt32) else none
theorem wJ11_coderFromArrayLen_0 {E : EV} {l : Launch} {p : Program} {e : Env} {s : State} {m : MethodId} {args : Array Value} {below : List Frame} {meth : Method} {c : Code} {R : Room} {σ : St} {res : Int32} (hX : XK E) (hR : 0 ≤ R.frames ∧ 0 ≤ R.locals) (X : MX E p s m args meth c cJ11_coderFromArrayLen 2 (some .byte) RJ11 "coderFromArrayLen") : ∀ (x0 : Nat) (x1 : Int32) (H : Heap) (locs : List Loc) (cells slots : Nat) (ls : Array Slot), WI E R s σ H locs cells slots → lv_has ls 2 [(0, .ref x0), (1, .int x1)] → fJ11_coderFromArrayLen σ x0 x1 = some res → W p l e R s m args below meth c H locs cells slots (MQ below (Qd E R.cells R.slots (some (.int res)) σ) args s R.cells R.slots (fr E)) (F0 m 0 ls []) := by
  intro x0 x1 H locs cells slots ls I hl hf
  obtain ⟨⟨hx, hb, hml, hown, hts⟩, -⟩ := id X
  unfold fJ11_coderFromArrayLen at hf
  refine lv_iload_n hx hb dJ11_coderFromArrayLen_0 rfl (lv_at hl 1 rfl) ?_
  refine lv_aload_n hx hb dJ11_coderFromArrayLen_1 rfl (lv_at hl 0 rfl) ?_
  obtain ⟨v_1, ev_1, hf⟩ := ob hf
  refine g_alen X I ev_1 dJ11_coderFromArrayLen_2 ?_
  refine lv_isub hx hb dJ11_coderFromArrayLen_3 ?_
  refine lv_bipush (v := 31) hx hb dJ11_coderFromArrayLen_4 (by decide) ?_
  refine lv_iushr hx hb dJ11_coderFromArrayLen_6 rfl ?_
  refine lv_i2b hx hb dJ11_coderFromArrayLen_7 rfl ?_
  by_cases d_8 : ¬ (((((x1 - v_1).toUInt32 >>> ((31 : Int32).toUInt32 &&& Int32.toUInt32 31)).toInt32).toInt8.toInt32).toInt8.toInt32 = ((((x1 - v_1).toUInt32 >>> ((31 : Int32).toUInt32 &&& Int32.toUInt32 31)).toInt32).toInt8.toInt32))
  · exact nomatch (im d_8 hf)
  have c_8 := Decidable.not_not.mp d_8
  have hf := ip c_8 hf
  cases os hf
  exact r_nretB X I c_8 dJ11_coderFromArrayLen_8
theorem mJ11_coderFromArrayLen {E : EV} {l : Launch} {σ : St} {x0 : Nat} {x1 : Int32} {res : Int32} (hX : XK E) (hf : fJ11_coderFromArrayLen σ x0 x1 = some res) : CM E l yJ11_coderFromArrayLen (ws_ yJ11_coderFromArrayLen cJ11_coderFromArrayLen 2 (some .byte)) 0 0 [.ref x0, .int x1] σ (some (.int res)) σ := by
  refine CM.of hX.1 (by decide) rfl rfl (Nat.le_of_ble_eq_true rfl) ?_
  intro p e s m below meth c X I ls hl
  exact wJ11_coderFromArrayLen_0 hX ⟨Nat.le_refl _, Nat.le_refl _⟩ X _ _ _ _ _ _ _ I hl hf
/-! java/lang/String.<init>(Ljava/lang/AbstractStringBuilder;Ljava/lang/Void;)V imp=True fuel=True kap=True rt=None thr=False -/
theorem pfJ10_15 : ∀ q ∈ ([(26, 1)] : List (Nat × Nat)), PI RJ10 15 .byte q := List.forall_mem_cons.mpr ⟨⟨RJ10, TJ10, 4, tyJ10, rfl, in_J10, by decide, q764, rfl, tyJ10_ok, nmJ10, rfl, rfl⟩, fun _ h => by cases h⟩
theorem lvJ10_54 : GoodIn lw_all (va_wsS RJ10 54 yJ14_copyOfRange (ws_ yJ14_copyOfRange cJ14_copyOfRange 3 (some (.array .byte)))) := lw_S q712 q713 q133 q714
theorem hdJ10_54 : yJ14_copyOfRange.cls ≠ "java/lang/invoke/MethodHandle" ∧ yJ14_copyOfRange.cls ≠ "java/lang/invoke/VarHandle" ∧ (parseMethodDescriptor yJ14_copyOfRange.desc).map (fun d => d.parameters.length) = some 3 := by decide +kernel
theorem pfJ10_9 : ∀ q ∈ ([(26, 0)] : List (Nat × Nat)), PI RJ10 9 (.array .byte) q := List.forall_mem_cons.mpr ⟨⟨RJ10, TJ10, 4, tyJ10, rfl, in_J10, by decide, q763, rfl, tyJ10_ok, nmJ10, rfl, rfl⟩, fun _ h => by cases h⟩
theorem lvJ10_552 : GoodIn lw_all (va_wsU RJ10 552 RJ9 RJ8 yJ8_getValue yJ8_getValue (ws_ yJ8_getValue cJ8_getValue 1 (some (.array .byte)))) ∧ yJ8_getValue = ⟨RJ8, yJ8_getValue.name, yJ8_getValue.desc⟩ := ⟨lw_good (List.forall_mem_cons.mpr ⟨q698, List.forall_mem_cons.mpr ⟨q700, List.forall_mem_cons.mpr ⟨q701, List.forall_mem_cons.mpr ⟨q699, List.forall_mem_cons.mpr ⟨q127, fun w h => (lw_meth q702 w h).1⟩⟩⟩⟩⟩), rfl⟩
theorem hdJ10_552 : RJ8 ≠ "java/lang/invoke/MethodHandle" ∧ RJ8 ≠ "java/lang/invoke/VarHandle" ∧ (parseMethodDescriptor yJ8_getValue.desc).map (fun d => d.parameters.length) = some 0 := by decide +kernel
theorem lvJ10_549 : GoodIn lw_all (va_wsO RJ10 549 RJ9 RJ8 yJ8_length yJ9_length (ws_ yJ9_length cJ9_length 1 (some .int))) ∧ Cond.code ⟨RJ8, yJ8_length.name, yJ8_length.desc⟩ cJ8_length 1 (some .int) ∈ lw_all := ⟨lw_good (List.forall_mem_cons.mpr ⟨q703, List.forall_mem_cons.mpr ⟨q705, List.forall_mem_cons.mpr ⟨q704, List.forall_mem_cons.mpr ⟨q706, List.forall_mem_cons.mpr ⟨q707, List.forall_mem_cons.mpr ⟨q128, fun w h => (lw_meth q708 w h).1⟩⟩⟩⟩⟩⟩), q710⟩
theorem hdJ10_549 : RJ8 ≠ "java/lang/invoke/MethodHandle" ∧ RJ8 ≠ "java/lang/invoke/VarHandle" ∧ (parseMethodDescriptor yJ8_length.desc).map (fun d => d.parameters.length) = some 0 := by decide +kernel
theorem lvJ10_1047 : GoodIn lw_all (va_wsU RJ10 1047 RJ9 RJ8 yJ8_isLatin1 yJ8_isLatin1 (ws_ yJ8_isLatin1 cJ8_isLatin1 1 (some .boolean))) ∧ yJ8_isLatin1 = ⟨RJ8, yJ8_isLatin1.name, yJ8_isLatin1.desc⟩ := ⟨lw_good (List.forall_mem_cons.mpr ⟨q711, List.forall_mem_cons.mpr ⟨q587, List.forall_mem_cons.mpr ⟨q588, List.forall_mem_cons.mpr ⟨q586, List.forall_mem_cons.mpr ⟨q127, fun w h => (lw_meth q589 w h).1⟩⟩⟩⟩⟩), rfl⟩
theorem hdJ10_1047 : RJ8 ≠ "java/lang/invoke/MethodHandle" ∧ RJ8 ≠ "java/lang/invoke/VarHandle" ∧ (parseMethodDescriptor yJ8_isLatin1.desc).map (fun d => d.parameters.length) = some 0 := by decide +kernel
theorem gfJ10_1048 : ∀ q ∈ ([(25, 2)] : List (Nat × Nat)), GF RJ10 1048 q := List.forall_mem_cons.mpr ⟨⟨RJ9, TJ9, 4, _, rfl, in_J9, by decide, q526, Or.inl rfl⟩, fun _ h => by cases h⟩
theorem lvJ10_1051 : GoodIn lw_all (va_wsS RJ10 1051 yJ11_compress (ws_ yJ11_compress cJ11_compress 6 (some (.array .byte)))) := lw_S q750 q751 q130 q752
theorem hdJ10_1051 : yJ11_compress.cls ≠ "java/lang/invoke/MethodHandle" ∧ yJ11_compress.cls ≠ "java/lang/invoke/VarHandle" ∧ (parseMethodDescriptor yJ11_compress.desc).map (fun d => d.parameters.length) = some 3 := by decide +kernel
theorem gfJ10_9 : ∀ q ∈ ([(26, 0)] : List (Nat × Nat)), GF RJ10 9 q := List.forall_mem_cons.mpr ⟨⟨RJ10, TJ10, 4, _, rfl, in_J10, by decide, q763, Or.inl rfl⟩, fun _ h => by cases h⟩
theorem lvJ10_47 : GoodIn lw_all (va_wsS RJ10 47 yJ11_coderFromArrayLen (ws_ yJ11_coderFromArrayLen cJ11_coderFromArrayLen 2 (some .byte))) := lw_S q760 q761 q130 q762
theorem hdJ10_47 : yJ11_coderFromArrayLen.cls ≠ "java/lang/invoke/MethodHandle" ∧ yJ11_coderFromArrayLen.cls ≠ "java/lang/invoke/VarHandle" ∧ (parseMethodDescriptor yJ11_coderFromArrayLen.desc).map (fun d => d.parameters.length) = some 2 := by decide +kernel
def fJ10_init_2_79 (N : Nat) (κ : Nat → Nat) (x0 : Nat) (x3 : Option Nat) (x4 : Int32) (σ : St) : Option St := (pV σ x0 [(26, 1)] (.int (1 : Int32))).bind fun σ_1 : St => (x3).bind fun a_2 : Nat => (fJ14_copyOfRange σ_1 a_2 (0 : Int32) (x4 <<< ((1 : Int32) &&& 31))).bind fun (v_3, σ_4) => (pV σ_4 x0 [(26, 0)] (.ref v_3)).bind fun σ_5 : St => some σ_5
def fJ10_init_2 (N : Nat) (κ : Nat → Nat) (σ : St) (x0 : Nat) (x1 : Nat) (x2 : Option Nat) : Option St := (isC σ x1 25).bind fun u_6 : Unit => (fJ8_getValue σ x1).bind fun v_7 : Option Nat => (isC σ x1 25).bind fun u_9 : Unit => (fJ9_length σ x1).bind fun v_10 : Int32 => (isC σ x1 25).bind fun u_12 : Unit => (fJ8_isLatin1 κ σ x1).bind fun v_13 : Int32 => if v_13 = 0 then if (1 : Int32) = 0 then fJ10_init_2_79 N κ x0 v_7 v_10 σ else (gI σ x1 [(25, 2)]).bind fun v_15 : Int32 => if v_15 = 0 then fJ10_init_2_79 N κ x0 v_7 v_10 σ else (v_7).bind fun a_16 : Nat => (fJ11_compress N κ σ a_16 (0 : Int32) v_10).bind fun (v_17, σ_18) => (pV σ_18 x0 [(26, 0)] (.ref v_17)).bind fun σ_19 : St => (gR σ_19 x0 [(26, 0)]).bind fun v_20 : Option Nat => (v_20).bind fun a_21 : Nat => (fJ11_coderFromArrayLen σ_19 a_21 v_10).bind fun v_22 : Int32 => if ¬ (v_22.toInt8.toInt32 = v_22) then none else (pV σ_19 x0 [(26, 1)] (.int v_22)).bind fun σ_24 : St => some σ_24 else (pV σ x0 [(26, 1)] (.int (0 : Int32))).bind fun σ_25 : St => (v_7).bind fun a_26 : Nat => (fJ14_copyOfRange σ_25 a_26 (0 : Int32) v_10).bind fun (v_27, σ_28) => (pV σ_28 x0 [(26, 0)] (.ref v_27)).bind fun σ_29 : St => some σ_29
theorem wJ10_init_2_79 {E : EV} {l : Launch} {p : Program} {e : Env} {s : State} {m : MethodId} {args : Array Value} {below : List Frame} {meth : Method} {c : Code} {R : Room} {res : St} (hX : XK E) (hR : 5 ≤ R.frames ∧ 118 ≤ R.locals) (X : MX E p s m args meth c cJ10_init_2 5 none RJ10 "<init>") (N : Nat) : ∀ (x0 : Nat) (x3 : Option Nat) (x4 : Int32) (σ : St) (H : Heap) (locs : List Loc) (cells slots : Nat) (ls : Array Slot), WI E R s σ H locs cells slots → lv_has ls 5 [(0, .ref x0), (3, va_rf x3), (4, .int x4)] → fJ10_init_2_79 N E.2.2.2.1 x0 x3 x4 σ = some res → W p l e R s m args below meth c H locs cells slots (MQ below (Qd E R.cells R.slots none res) args s R.cells R.slots (fr E)) (F0 m 79 ls []) := by
  intro x0 x3 x4 σ H locs cells slots ls I hl hf
  obtain ⟨⟨hx, hb, hml, hown, hts⟩, -⟩ := id X
  unfold fJ10_init_2_79 at hf
  refine lv_aload_n hx hb dJ10_init_2_79 rfl (lv_at hl 0 rfl) ?_
  refine lv_iconst (v := 1) hx hb dJ10_init_2_80 (by decide) ?_
  obtain ⟨σ_1, eσ_1, hf⟩ := ob hf
  refine g_putI X I pfJ10_15 rfl rfl eσ_1 dJ10_init_2_81 (fun H locs I => ?_)
  refine lv_aload_n hx hb dJ10_init_2_84 rfl (lv_at hl 0 rfl) ?_
  refine lo_aload_n (x := x3) hx hb dJ10_init_2_85 rfl (lv_at hl 1 rfl) ?_
  refine lv_iconst (v := 0) hx hb dJ10_init_2_86 (by decide) ?_
  refine lv_iload hx hb dJ10_init_2_87 (lv_at hl 2 rfl) ?_
  refine lv_iconst (v := 1) hx hb dJ10_init_2_89 (by decide) ?_
  refine lv_ishl hx hb dJ10_init_2_90 ?_
  obtain ⟨a_2, ea_2, hga_2⟩ := ob hf
  have hla_2 := hl
  have Ia_2 := I
  subst ea_2
  have hf := hga_2
  have hl := hla_2
  have I := Ia_2
  obtain ⟨⟨v_3, σ_4⟩, ev_3, hf⟩ := ob hf
  refine cg_S (r := (some (.ref v_3))) (σ' := σ_4) (rs := [.ref v_3, .ref x0]) (rest := [.ref x0]) (As := [.ref a_2, .int (0 : Int32), .int (x4 <<< ((1 : Int32) &&& 31))]) X I (mJ14_copyOfRange hX ev_3) lvJ10_54 hdJ10_54 ⟨Nat.le_trans (Nat.le_of_ble_eq_true rfl) hR.1, Nat.le_trans (Nat.le_of_ble_eq_true rfl) hR.2⟩ rfl hl.1 rfl (Nat.le_of_ble_eq_true rfl) rfl dJ10_init_2_91 (fun H locs cells slots I => ?_)
  obtain ⟨σ_5, eσ_5, hf⟩ := ob hf
  refine g_putI X I pfJ10_9 rfl rfl eσ_5 dJ10_init_2_94 (fun H locs I => ?_)
  cases os hf
  exact r_vret X I dJ10_init_2_97
theorem wJ10_init_2_0 {E : EV} {l : Launch} {p : Program} {e : Env} {s : State} {m : MethodId} {args : Array Value} {below : List Frame} {meth : Method} {c : Code} {R : Room} {res : St} (hX : XK E) (hR : 5 ≤ R.frames ∧ 118 ≤ R.locals) (X : MX E p s m args meth c cJ10_init_2 5 none RJ10 "<init>") (N : Nat) : ∀ (x0 : Nat) (x1 : Nat) (x2 : Option Nat) (σ : St) (H : Heap) (locs : List Loc) (cells slots : Nat) (ls : Array Slot), WI E R s σ H locs cells slots → lv_has ls 5 [(0, .ref x0), (1, .ref x1), (2, va_rf x2)] → fJ10_init_2 N E.2.2.2.1 σ x0 x1 x2 = some res → W p l e R s m args below meth c H locs cells slots (MQ below (Qd E R.cells R.slots none res) args s R.cells R.slots (fr E)) (F0 m 0 ls []) := by
  intro x0 x1 x2 σ H locs cells slots ls I hl hf
  obtain ⟨⟨hx, hb, hml, hown, hts⟩, -⟩ := id X
  unfold fJ10_init_2 at hf
  refine lv_aload_n hx hb dJ10_init_2_0 rfl (lv_at hl 0 rfl) ?_
  refine g_objInit X ⟨Nat.le_trans (Nat.le_of_ble_eq_true rfl) hR.1, Nat.le_trans (Nat.le_of_ble_eq_true rfl) hR.2⟩ q697 hl.1 (Nat.le_of_ble_eq_true rfl) dJ10_init_2_1 ?_
  refine lv_aload_n hx hb dJ10_init_2_4 rfl (lv_at hl 1 rfl) ?_
  obtain ⟨u_6, eu_6, hf⟩ := ob hf
  obtain ⟨v_7, ev_7, hf⟩ := ob hf
  refine cg_U (vw := (RJ9, TJ9, 4)) (ci := 25) (r := (some (va_rf v_7))) (σ' := σ) (rs := [va_rf v_7]) (rest := []) (As := []) X I eu_6 rfl (mJ8_getValue hX ev_7) lvJ10_552 hdJ10_552 ⟨Nat.le_trans (Nat.le_of_ble_eq_true rfl) hR.1, Nat.le_trans (Nat.le_of_ble_eq_true rfl) hR.2⟩ rfl hl.1 rfl (Nat.le_of_ble_eq_true rfl) rfl dJ10_init_2_5 (fun H locs cells slots I => ?_)
  refine lo_astore_n (x := v_7) (lv' := [(3, va_rf v_7), (0, .ref x0), (1, .ref x1), (2, va_rf x2)]) hx hb dJ10_init_2_8 rfl hl (by decide) (by rcases x2 with _ | _ <;> exact rfl) (fun ls hl => ?_)
  refine lv_aload_n hx hb dJ10_init_2_9 rfl (lv_at hl 2 rfl) ?_
  obtain ⟨u_9, eu_9, hf⟩ := ob hf
  obtain ⟨v_10, ev_10, hf⟩ := ob hf
  refine cg_O (vw := (RJ9, TJ9, 4)) (ci := 25) (r := (some (.int v_10))) (σ' := σ) (rs := [.int v_10]) (rest := []) (As := []) X I eu_9 rfl (mJ9_length hX ev_10) lvJ10_549 hdJ10_549 ⟨Nat.le_trans (Nat.le_of_ble_eq_true rfl) hR.1, Nat.le_trans (Nat.le_of_ble_eq_true rfl) hR.2⟩ rfl hl.1 rfl (Nat.le_of_ble_eq_true rfl) rfl dJ10_init_2_10 (fun H locs cells slots I => ?_)
  refine lv_istore (lv' := [(4, .int v_10), (3, va_rf v_7), (0, .ref x0), (1, .ref x1), (2, va_rf x2)]) hx hb dJ10_init_2_13 hl (by decide) (by rcases v_7 with _ | _ <;> exact rfl) (fun ls hl => ?_)
  refine lv_aload_n hx hb dJ10_init_2_15 rfl (lv_at hl 3 rfl) ?_
  obtain ⟨u_12, eu_12, hf⟩ := ob hf
  obtain ⟨v_13, ev_13, hf⟩ := ob hf
  refine cg_U (vw := (RJ9, TJ9, 4)) (ci := 25) (r := (some (.int v_13))) (σ' := σ) (rs := [.int v_13]) (rest := []) (As := []) X I eu_12 rfl (mJ8_isLatin1 hX ev_13) lvJ10_1047 hdJ10_1047 ⟨Nat.le_trans (Nat.le_of_ble_eq_true rfl) hR.1, Nat.le_trans (Nat.le_of_ble_eq_true rfl) hR.2⟩ rfl hl.1 rfl (Nat.le_of_ble_eq_true rfl) rfl dJ10_init_2_16 (fun H locs cells slots I => ?_)
  refine lv_if_eq (tgt := 41) hx hb dJ10_init_2_19 (by decide) (fun c_19 => ?_) (fun c_19 => ?_)
  · have hf := ip c_19 hf
    refine g_gets (ref := "java/lang/String") (w := .int (1 : Int32)) hX X I (List.mem_of_getElem? (i := 0) rfl) rfl q624 dJ10_init_2_41 ?_
    refine lv_if_eq (tgt := 79) hx hb dJ10_init_2_44 (by decide) (fun c_44 => ?_) (fun c_44 => ?_)
    · have hf := ip c_44 hf
      exact wJ10_init_2_79 hX hR X N x0 v_7 v_10 σ _ _ _ _ _ I (lv_sub hl [2, 1, 0] rfl) hf
    · have hf := im c_44 hf
      refine lv_aload_n hx hb dJ10_init_2_47 rfl (lv_at hl 3 rfl) ?_
      obtain ⟨v_15, ev_15, hf⟩ := ob hf
      refine g_get X I gfJ10_1048 (gI_in ev_15) dJ10_init_2_48 ?_
      refine lv_if_eq (tgt := 79) hx hb dJ10_init_2_51 (by decide) (fun c_51 => ?_) (fun c_51 => ?_)
      · have hf := ip c_51 hf
        exact wJ10_init_2_79 hX hR X N x0 v_7 v_10 σ _ _ _ _ _ I (lv_sub hl [2, 1, 0] rfl) hf
      · have hf := im c_51 hf
        refine lv_aload_n hx hb dJ10_init_2_54 rfl (lv_at hl 2 rfl) ?_
        refine lo_aload_n (x := v_7) hx hb dJ10_init_2_55 rfl (lv_at hl 1 rfl) ?_
        refine lv_iconst (v := 0) hx hb dJ10_init_2_56 (by decide) ?_
        refine lv_iload hx hb dJ10_init_2_57 (lv_at hl 0 rfl) ?_
        obtain ⟨a_16, ea_16, hga_16⟩ := ob hf
        have hla_16 := hl
        have Ia_16 := I
        subst ea_16
        have hf := hga_16
        have hl := hla_16
        have I := Ia_16
        obtain ⟨⟨v_17, σ_18⟩, ev_17, hf⟩ := ob hf
        refine cg_S (r := (some (.ref v_17))) (σ' := σ_18) (rs := [.ref v_17, .ref x0]) (rest := [.ref x0]) (As := [.ref a_16, .int (0 : Int32), .int v_10]) X I (mJ11_compress hX ev_17) lvJ10_1051 hdJ10_1051 ⟨Nat.le_trans (Nat.le_of_ble_eq_true rfl) hR.1, Nat.le_trans (Nat.le_of_ble_eq_true rfl) hR.2⟩ rfl hl.1 rfl (Nat.le_of_ble_eq_true rfl) rfl dJ10_init_2_59 (fun H locs cells slots I => ?_)
        obtain ⟨σ_19, eσ_19, hf⟩ := ob hf
        refine g_putI X I pfJ10_9 rfl rfl eσ_19 dJ10_init_2_62 (fun H locs I => ?_)
        refine lv_aload_n hx hb dJ10_init_2_65 rfl (lv_at hl 2 rfl) ?_
        refine lv_aload_n hx hb dJ10_init_2_66 rfl (lv_at hl 2 rfl) ?_
        obtain ⟨v_20, ev_20, hf⟩ := ob hf
        refine g_get X I gfJ10_9 (gR_in ev_20) dJ10_init_2_67 ?_
        refine lv_iload hx hb dJ10_init_2_70 (lv_at hl 0 rfl) ?_
        obtain ⟨a_21, ea_21, hga_21⟩ := ob hf
        have hla_21 := hl
        have Ia_21 := I
        subst ea_21
        have hf := hga_21
        have hl := hla_21
        have I := Ia_21
        obtain ⟨v_22, ev_22, hf⟩ := ob hf
        refine cg_S (r := (some (.int v_22))) (σ' := σ_19) (rs := [.int v_22, .ref x0]) (rest := [.ref x0]) (As := [.ref a_21, .int v_10]) X I (mJ11_coderFromArrayLen hX ev_22) lvJ10_47 hdJ10_47 ⟨Nat.le_trans (Nat.le_of_ble_eq_true rfl) hR.1, Nat.le_trans (Nat.le_of_ble_eq_true rfl) hR.2⟩ rfl hl.1 rfl (Nat.le_of_ble_eq_true rfl) rfl dJ10_init_2_72 (fun H locs cells slots I => ?_)
        by_cases d_75 : ¬ (v_22.toInt8.toInt32 = v_22)
        · exact nomatch (ip d_75 hf)
        have hf := im d_75 hf
        have c_75 := Decidable.not_not.mp d_75
        obtain ⟨σ_24, eσ_24, hf⟩ := ob hf
        refine g_putI X I pfJ10_15 (b_nar c_75) (b_fit c_75) eσ_24 dJ10_init_2_75 (fun H locs I => ?_)
        cases os hf
        exact r_vret X I dJ10_init_2_78
  · have hf := im c_19 hf
    refine lv_aload_n hx hb dJ10_init_2_22 rfl (lv_at hl 2 rfl) ?_
    refine lv_iconst (v := 0) hx hb dJ10_init_2_23 (by decide) ?_
    obtain ⟨σ_25, eσ_25, hf⟩ := ob hf
    refine g_putI X I pfJ10_15 rfl rfl eσ_25 dJ10_init_2_24 (fun H locs I => ?_)
    refine lv_aload_n hx hb dJ10_init_2_27 rfl (lv_at hl 2 rfl) ?_
    refine lo_aload_n (x := v_7) hx hb dJ10_init_2_28 rfl (lv_at hl 1 rfl) ?_
    refine lv_iconst (v := 0) hx hb dJ10_init_2_29 (by decide) ?_
    refine lv_iload hx hb dJ10_init_2_30 (lv_at hl 0 rfl) ?_
    obtain ⟨a_26, ea_26, hga_26⟩ := ob hf
    have hla_26 := hl
    have Ia_26 := I
    subst ea_26
    have hf := hga_26
    have hl := hla_26
    have I := Ia_26
    obtain ⟨⟨v_27, σ_28⟩, ev_27, hf⟩ := ob hf
    refine cg_S (r := (some (.ref v_27))) (σ' := σ_28) (rs := [.ref v_27, .ref x0]) (rest := [.ref x0]) (As := [.ref a_26, .int (0 : Int32), .int v_10]) X I (mJ14_copyOfRange hX ev_27) lvJ10_54 hdJ10_54 ⟨Nat.le_trans (Nat.le_of_ble_eq_true rfl) hR.1, Nat.le_trans (Nat.le_of_ble_eq_true rfl) hR.2⟩ rfl hl.1 rfl (Nat.le_of_ble_eq_true rfl) rfl dJ10_init_2_32 (fun H locs cells slots I => ?_)
    obtain ⟨σ_29, eσ_29, hf⟩ := ob hf
    refine g_putI X I pfJ10_9 rfl rfl eσ_29 dJ10_init_2_35 (fun H locs I => ?_)
    refine lv_goto (tgt := 97) hx hb dJ10_init_2_38 (by decide) ?_
    cases os hf
    exact r_vret X I dJ10_init_2_97
theorem mJ10_init_2 {E : EV} {l : Launch} {N : Nat} {σ : St} {x0 : Nat} {x1 : Nat} {x2 : Option Nat} {res : St} (hX : XK E) (hf : fJ10_init_2 N E.2.2.2.1 σ x0 x1 x2 = some res) : CM E l yJ10_init_2 (ws_ yJ10_init_2 cJ10_init_2 5 none) 5 118 [.ref x0, .ref x1, va_rf x2] σ none res := by
  refine CM.of hX.1 (by decide) rfl rfl (by rcases x2 with _ | _ <;> exact (Nat.le_of_ble_eq_true rfl)) ?_
  intro p e s m below meth c X I ls hl
  exact wJ10_init_2_0 hX ⟨Nat.le_refl _, Nat.le_refl _⟩ X N _ _ _ _ _ _ _ _ _ I (by rcases x2 with _ | _ <;> exact hl) hf
/-! java/lang/String.<init>(Ljava/lang/StringBuilder;)V imp=True fuel=True kap=True rt=None thr=False -/
theorem lvJ10_489 : GoodIn lw_all (ws_ yJ10_init_2 cJ10_init_2 5 none) ∧ Cond.initialized yJ10_init_2.cls ∈ lw_all ∧ Cond.methodLink RJ10 489 yJ10_init_2 ∈ lw_all ∧ Cond.instanceMethod yJ10_init_2 ∈ lw_all ∧ yJ10_init_2.name = "<init>" := ⟨lw_meth q696, q129, q694, q695, rfl⟩
theorem hdJ10_489 : yJ10_init_2.cls ≠ "java/lang/invoke/MethodHandle" ∧ yJ10_init_2.cls ≠ "java/lang/invoke/VarHandle" ∧ (parseMethodDescriptor yJ10_init_2.desc).map (fun d => d.parameters.length) = some 2 := by decide +kernel
def fJ10_init (N : Nat) (κ : Nat → Nat) (σ : St) (x0 : Nat) (x1 : Nat) : Option St := (fJ10_init_2 N κ σ x0 x1 none).bind fun σ_2 : St => some σ_2
theorem wJ10_init_0 {E : EV} {l : Launch} {p : Program} {e : Env} {s : State} {m : MethodId} {args : Array Value} {below : List Frame} {meth : Method} {c : Code} {R : Room} {res : St} (hX : XK E) (hR : 6 ≤ R.frames ∧ 142 ≤ R.locals) (X : MX E p s m args meth c cJ10_init 2 none RJ10 "<init>") (N : Nat) : ∀ (x0 : Nat) (x1 : Nat) (σ : St) (H : Heap) (locs : List Loc) (cells slots : Nat) (ls : Array Slot), WI E R s σ H locs cells slots → lv_has ls 2 [(0, .ref x0), (1, .ref x1)] → fJ10_init N E.2.2.2.1 σ x0 x1 = some res → W p l e R s m args below meth c H locs cells slots (MQ below (Qd E R.cells R.slots none res) args s R.cells R.slots (fr E)) (F0 m 0 ls []) := by
  intro x0 x1 σ H locs cells slots ls I hl hf
  obtain ⟨⟨hx, hb, hml, hown, hts⟩, -⟩ := id X
  unfold fJ10_init at hf
  refine lv_aload_n hx hb dJ10_init_0 rfl (lv_at hl 0 rfl) ?_
  refine lv_aload_n hx hb dJ10_init_1 rfl (lv_at hl 1 rfl) ?_
  refine lv_null hx hb dJ10_init_2 ?_
  obtain ⟨σ_2, ev_1, hf⟩ := ob hf
  refine cm_I (σ' := σ_2) (rs := []) (rest := []) (As := [.ref x1, va_rf none]) X I (mJ10_init_2 hX ev_1) lvJ10_489 hdJ10_489 ⟨Nat.le_trans (Nat.le_of_ble_eq_true rfl) hR.1, Nat.le_trans (Nat.le_of_ble_eq_true rfl) hR.2⟩ rfl hl.1 rfl (Nat.le_of_ble_eq_true rfl) rfl dJ10_init_3 (fun H locs cells slots I => ?_)
  cases os hf
  exact r_vret X I dJ10_init_6
theorem mJ10_init {E : EV} {l : Launch} {N : Nat} {σ : St} {x0 : Nat} {x1 : Nat} {res : St} (hX : XK E) (hf : fJ10_init N E.2.2.2.1 σ x0 x1 = some res) : CM E l yJ10_init (ws_ yJ10_init cJ10_init 2 none) 6 142 [.ref x0, .ref x1] σ none res := by
  refine CM.of hX.1 (by decide) rfl rfl (Nat.le_of_ble_eq_true rfl) ?_
  intro p e s m below meth c X I ls hl
  exact wJ10_init_0 hX ⟨Nat.le_refl _, Nat.le_refl _⟩ X N _ _ _ _ _ _ _ _ I hl hf
/-! java/lang/StringBuilder.toString()Ljava/lang/String; imp=True fuel=True kap=True rt=N thr=False -/
theorem noJ9_18 : NO RJ9 18 26 4 [.null, .int 0, .int 0, .int 0] := ⟨RJ10, TJ10, tyJ10, rfl, in_J10, tyJ10_ok, by decide, q689, q690, q129⟩
theorem lvJ9_137 : GoodIn lw_all (ws_ yJ10_init cJ10_init 2 none) ∧ Cond.initialized yJ10_init.cls ∈ lw_all ∧ Cond.methodLink RJ9 137 yJ10_init ∈ lw_all ∧ Cond.instanceMethod yJ10_init ∈ lw_all ∧ yJ10_init.name = "<init>" := ⟨lw_meth q693, q129, q691, q692, rfl⟩
theorem hdJ9_137 : yJ10_init.cls ≠ "java/lang/invoke/MethodHandle" ∧ yJ10_init.cls ≠ "java/lang/invoke/VarHandle" ∧ (parseMethodDescriptor yJ10_init.desc).map (fun d => d.parameters.length) = some 1 := by decide +kernel
def fJ9_toString (N : Nat) (κ : Nat → Nat) (σ : St) (x0 : Nat) : Option (Nat × St) := (nH σ 4 (.inr (26, [.null, .int 0, .int 0, .int 0]))).bind fun (q_1a, q_1s) => (fJ10_init N κ q_1s q_1a x0).bind fun σ_3 : St => some ((q_1a), σ_3)
theorem wJ9_toString_0 {E : EV} {l : Launch} {p : Program} {e : Env} {s : State} {m : MethodId} {args : Array Value} {below : List Frame} {meth : Method} {c : Code} {R : Room} {res : (Nat × St)} (hX : XK E) (hR : 7 ≤ R.frames ∧ 163 ≤ R.locals) (X : MX E p s m args meth c cJ9_toString 1 (some (.object "java/lang/String")) RJ9 "toString") (N : Nat) : ∀ (x0 : Nat) (σ : St) (H : Heap) (locs : List Loc) (cells slots : Nat) (ls : Array Slot), WI E R s σ H locs cells slots → lv_has ls 1 [(0, .ref x0)] → fJ9_toString N E.2.2.2.1 σ x0 = some res → W p l e R s m args below meth c H locs cells slots (MQ below (Qd E R.cells R.slots (some (.ref res.1)) res.2) args s R.cells R.slots (fr E)) (F0 m 0 ls []) := by
  intro x0 σ H locs cells slots ls I hl hf
  obtain ⟨⟨hx, hb, hml, hown, hts⟩, -⟩ := id X
  unfold fJ9_toString at hf
  obtain ⟨⟨q_1a, q_1s⟩, eq_1, hf⟩ := ob hf
  refine g_new X I noJ9_18 eq_1 dJ9_toString_0 (fun H locs cells slots I => ?_)
  refine lv_dup hx hb dJ9_toString_3 rfl ?_
  refine lv_aload_n hx hb dJ9_toString_4 rfl (lv_at hl 0 rfl) ?_
  obtain ⟨σ_3, ev_2, hf⟩ := ob hf
  refine cm_I (σ' := σ_3) (rs := [.ref q_1a]) (rest := [.ref q_1a]) (As := [.ref x0]) X I (mJ10_init hX ev_2) lvJ9_137 hdJ9_137 ⟨Nat.le_trans (Nat.le_of_ble_eq_true rfl) hR.1, Nat.le_trans (Nat.le_of_ble_eq_true rfl) hR.2⟩ rfl hl.1 rfl (Nat.le_of_ble_eq_true rfl) rfl dJ9_toString_5 (fun H locs cells slots I => ?_)
  cases os hf
  exact r_aret X I (Or.inl ⟨_, rfl⟩) (Or.inr ⟨_, rfl⟩) dJ9_toString_8
theorem mJ9_toString {E : EV} {l : Launch} {N : Nat} {σ : St} {x0 : Nat} {res : (Nat × St)} (hX : XK E) (hf : fJ9_toString N E.2.2.2.1 σ x0 = some res) : CM E l yJ9_toString (ws_ yJ9_toString cJ9_toString 1 (some (.object "java/lang/String"))) 7 163 [.ref x0] σ (some (.ref res.1)) res.2 := by
  refine CM.of hX.1 (by decide) rfl rfl (Nat.le_of_ble_eq_true rfl) ?_
  intro p e s m below meth c X I ls hl
  exact wJ9_toString_0 hX ⟨Nat.le_refl _, Nat.le_refl _⟩ X N _ _ _ _ _ _ _ I hl hf
/-! SharedTaxis$Scanner.letters()Ljava/lang/String; imp=True fuel=True kap=True rt=N thr=False -/
theorem gfX6_29 : ∀ q ∈ ([(5, 5)] : List (Nat × Nat)), GF RX6 29 q := List.forall_mem_cons.mpr ⟨⟨RX6, TX6, 8, _, rfl, in_X6, by decide, q1310, Or.inl rfl⟩, fun _ h => by cases h⟩
theorem lvX6_38 : GoodIn lw_all (wsV RX6 38 RX6 yX6_isBetween (ws_ yX6_isBetween cX6_isBetween 4 (some .boolean))) := lw_V q1225 q1227 qs6 q126 q1228
theorem hdX6_38 : yX6_isBetween.cls = RX6 ∧ yX6_isBetween.cls ≠ "java/lang/invoke/MethodHandle" ∧ yX6_isBetween.cls ≠ "java/lang/invoke/VarHandle" ∧ (parseMethodDescriptor yX6_isBetween.desc).map (fun d => d.parameters.length) = some 3 := by decide +kernel
theorem lvX6_66 : GoodIn lw_all (wsV RX6 66 RJ9 yJ9_toString (ws_ yJ9_toString cJ9_toString 1 (some (.object "java/lang/String")))) := lw_V q1248 q686 q687 q128 q688
theorem hdX6_66 : yJ9_toString.cls = RJ9 ∧ yJ9_toString.cls ≠ "java/lang/invoke/MethodHandle" ∧ yJ9_toString.cls ≠ "java/lang/invoke/VarHandle" ∧ (parseMethodDescriptor yJ9_toString.desc).map (fun d => d.parameters.length) = some 0 := by decide +kernel
theorem lvX6_62 : GoodIn lw_all (wsV RX6 62 RJ9 yJ9_append_3 (ws_ yJ9_append_3 cJ9_append_3 2 (some (.object "java/lang/StringBuilder")))) := lw_V q1235 q1236 q1237 q128 q1238
theorem hdX6_62 : yJ9_append_3.cls = RJ9 ∧ yJ9_append_3.cls ≠ "java/lang/invoke/MethodHandle" ∧ yJ9_append_3.cls ≠ "java/lang/invoke/VarHandle" ∧ (parseMethodDescriptor yJ9_append_3.desc).map (fun d => d.parameters.length) = some 1 := by decide +kernel
theorem pfX6_29 : ∀ q ∈ ([(5, 5)] : List (Nat × Nat)), PF RX6 29 .int q := List.forall_mem_cons.mpr ⟨⟨RX6, TX6, 8, _, tyX6, rfl, in_X6, by decide, q1310, Or.inl rfl, tyX6_ok, nmX6, rfl, rfl⟩, fun _ h => by cases h⟩
theorem noX6_59 : NO RX6 59 25 4 [.null, .int 0, .int 0, .int 0] := ⟨RJ9, TJ9, tyJ9, rfl, in_J9, tyJ9_ok, by decide, q1233, q507, q128⟩
theorem lvX6_61 : GoodIn lw_all (ws_ yJ9_init cJ9_init 1 none) ∧ Cond.initialized yJ9_init.cls ∈ lw_all ∧ Cond.methodLink RX6 61 yJ9_init ∈ lw_all ∧ Cond.instanceMethod yJ9_init ∈ lw_all ∧ yJ9_init.name = "<init>" := ⟨lw_meth q510, q128, q1234, q509, rfl⟩
theorem hdX6_61 : yJ9_init.cls ≠ "java/lang/invoke/MethodHandle" ∧ yJ9_init.cls ≠ "java/lang/invoke/VarHandle" ∧ (parseMethodDescriptor yJ9_init.desc).map (fun d => d.parameters.length) = some 0 := by decide +kernel
def fX6_letters_8 (N : Nat) (κ : Nat → Nat) : Nat → Nat → Nat → St → Option (Nat × St)
  | 0, _, _, _ => none
  | n + 1, x0, x1, σ => (gI σ x0 [(5, 5)]).bind fun v_1 : Int32 => (isC σ x0 5).bind fun u_2 : Unit => (fX6_isBetween σ x0 v_1 (97 : Int32) (122 : Int32)).bind fun v_3 : Int32 => if v_3 = 0 then (isC σ x1 25).bind fun u_5 : Unit => (fJ9_toString N κ σ x1).bind fun (v_6, σ_7) => some ((v_6), σ_7) else (gR σ x0 [(5, 0)]).bind fun v_8 : Option Nat => (gI σ x0 [(5, 5)]).bind fun v_9 : Int32 => (v_8).bind fun a_10 : Nat => (aI σ a_10 1 v_9).bind fun v_11 : Int32 => (isC σ x1 25).bind fun u_12 : Unit => (fJ9_append_3 N κ σ x1 ((v_11.toUInt32 % 65536).toInt32)).bind fun (v_13, σ_14) => (gI σ_14 x0 [(5, 5)]).bind fun v_15 : Int32 => (pV σ_14 x0 [(5, 5)] (.int (v_15 + (1 : Int32)))).bind fun σ_16 : St => fX6_letters_8 N κ n x0 x1 σ_16
def fX6_letters (N : Nat) (κ : Nat → Nat) (σ : St) (x0 : Nat) : Option (Nat × St) := (nH σ 4 (.inr (25, [.null, .int 0, .int 0, .int 0]))).bind fun (q_17a, q_17s) => (fJ9_init κ q_17s q_17a).bind fun σ_19 : St => fX6_letters_8 N κ N x0 q_17a σ_19
theorem wX6_letters_8 {E : EV} {l : Launch} {p : Program} {e : Env} {s : State} {m : MethodId} {args : Array Value} {below : List Frame} {meth : Method} {c : Code} {R : Room} {res : (Nat × St)} (hX : XK E) (hR : 8 ≤ R.frames ∧ 183 ≤ R.locals) (X : MX E p s m args meth c cX6_letters 2 (some (.object "java/lang/String")) RX6 "letters") (N : Nat) : ∀ (n : Nat) (x0 : Nat) (x1 : Nat) (σ : St) (H : Heap) (locs : List Loc) (cells slots : Nat) (ls : Array Slot), WI E R s σ H locs cells slots → lv_has ls 2 [(0, .ref x0), (1, .ref x1)] → fX6_letters_8 N E.2.2.2.1 n x0 x1 σ = some res → W p l e R s m args below meth c H locs cells slots (MQ below (Qd E R.cells R.slots (some (.ref res.1)) res.2) args s R.cells R.slots (fr E)) (F0 m 8 ls []) := by
  intro n
  induction n with
  | zero => intro x0 x1 σ H locs cells slots ls I hl hf; exact nomatch (show none = some res from hf)
  | succ n ih =>
    intro x0 x1 σ H locs cells slots ls I hl hf
    obtain ⟨⟨hx, hb, hml, hown, hts⟩, -⟩ := id X
    rw [fX6_letters_8.eq_2] at hf
    refine lv_aload_n hx hb dX6_letters_8 rfl (lv_at hl 0 rfl) ?_
    refine lv_aload_n hx hb dX6_letters_9 rfl (lv_at hl 0 rfl) ?_
    obtain ⟨v_1, ev_1, hf⟩ := ob hf
    refine g_get X I gfX6_29 (gI_in ev_1) dX6_letters_10 ?_
    refine lv_bipush (v := 97) hx hb dX6_letters_13 (by decide) ?_
    refine lv_bipush (v := 122) hx hb dX6_letters_15 (by decide) ?_
    obtain ⟨u_2, eu_2, hf⟩ := ob hf
    obtain ⟨v_3, ev_3, hf⟩ := ob hf
    refine cg_V (vw := (RX6, TX6, 8)) (ci := 5) (r := (some (.int v_3))) (σ' := σ) (rs := [.int v_3]) (rest := []) (As := [.int v_1, .int (97 : Int32), .int (122 : Int32)]) X I eu_2 rfl (mX6_isBetween hX ev_3) lvX6_38 hdX6_38 ⟨Nat.le_trans (Nat.le_of_ble_eq_true rfl) hR.1, Nat.le_trans (Nat.le_of_ble_eq_true rfl) hR.2⟩ rfl hl.1 rfl (Nat.le_of_ble_eq_true rfl) rfl dX6_letters_17 (fun H locs cells slots I => ?_)
    refine lv_if_eq (tgt := 51) hx hb dX6_letters_20 (by decide) (fun c_20 => ?_) (fun c_20 => ?_)
    · have hf := ip c_20 hf
      refine lv_aload_n hx hb dX6_letters_51 rfl (lv_at hl 1 rfl) ?_
      obtain ⟨u_5, eu_5, hf⟩ := ob hf
      obtain ⟨⟨v_6, σ_7⟩, ev_6, hf⟩ := ob hf
      refine cg_V (vw := (RJ9, TJ9, 4)) (ci := 25) (r := (some (.ref v_6))) (σ' := σ_7) (rs := [.ref v_6]) (rest := []) (As := []) X I eu_5 rfl (mJ9_toString hX ev_6) lvX6_66 hdX6_66 ⟨Nat.le_trans (Nat.le_of_ble_eq_true rfl) hR.1, Nat.le_trans (Nat.le_of_ble_eq_true rfl) hR.2⟩ rfl hl.1 rfl (Nat.le_of_ble_eq_true rfl) rfl dX6_letters_52 (fun H locs cells slots I => ?_)
      cases os hf
      exact r_aret X I (Or.inl ⟨_, rfl⟩) (Or.inr ⟨_, rfl⟩) dX6_letters_55
    · have hf := im c_20 hf
      refine lv_aload_n hx hb dX6_letters_23 rfl (lv_at hl 1 rfl) ?_
      refine lv_aload_n hx hb dX6_letters_24 rfl (lv_at hl 0 rfl) ?_
      obtain ⟨v_8, ev_8, hf⟩ := ob hf
      refine g_get X I gfX6_15 (gR_in ev_8) dX6_letters_25 ?_
      refine lv_aload_n hx hb dX6_letters_28 rfl (lv_at hl 0 rfl) ?_
      obtain ⟨v_9, ev_9, hf⟩ := ob hf
      refine g_get X I gfX6_29 (gI_in ev_9) dX6_letters_29 ?_
      obtain ⟨a_10, ea_10, hga_10⟩ := ob hf
      have hla_10 := hl
      have Ia_10 := I
      subst ea_10
      have hf := hga_10
      have hl := hla_10
      have I := Ia_10
      obtain ⟨v_11, ev_11, hf⟩ := ob hf
      refine g_bald X I ev_11 dX6_letters_32 ?_
      refine lv_i2c hx hb dX6_letters_33 rfl ?_
      obtain ⟨u_12, eu_12, hf⟩ := ob hf
      obtain ⟨⟨v_13, σ_14⟩, ev_13, hf⟩ := ob hf
      refine cg_V (vw := (RJ9, TJ9, 4)) (ci := 25) (r := (some (.ref v_13))) (σ' := σ_14) (rs := [.ref v_13]) (rest := []) (As := [.int ((v_11.toUInt32 % 65536).toInt32)]) X I eu_12 rfl (mJ9_append_3 hX ev_13) lvX6_62 hdX6_62 ⟨Nat.le_trans (Nat.le_of_ble_eq_true rfl) hR.1, Nat.le_trans (Nat.le_of_ble_eq_true rfl) hR.2⟩ rfl hl.1 rfl (Nat.le_of_ble_eq_true rfl) rfl dX6_letters_34 (fun H locs cells slots I => ?_)
      refine lv_pop hx hb dX6_letters_37 rfl ?_
      refine lv_aload_n hx hb dX6_letters_38 rfl (lv_at hl 0 rfl) ?_
      refine lv_dup hx hb dX6_letters_39 rfl ?_
      obtain ⟨v_15, ev_15, hf⟩ := ob hf
      refine g_get X I gfX6_29 (gI_in ev_15) dX6_letters_40 ?_
      refine lv_iconst (v := 1) hx hb dX6_letters_43 (by decide) ?_
      refine lv_iadd hx hb dX6_letters_44 ?_
      obtain ⟨σ_16, eσ_16, hf⟩ := ob hf
      refine g_put X I pfX6_29 rfl rfl eσ_16 dX6_letters_45 (fun H locs I => ?_)
      refine lv_goto (tgt := 8) hx hb dX6_letters_48 (by decide) ?_
      exact ih x0 x1 σ_16 _ _ _ _ _ I (lv_sub hl [0, 1] rfl) hf
theorem wX6_letters_0 {E : EV} {l : Launch} {p : Program} {e : Env} {s : State} {m : MethodId} {args : Array Value} {below : List Frame} {meth : Method} {c : Code} {R : Room} {res : (Nat × St)} (hX : XK E) (hR : 8 ≤ R.frames ∧ 183 ≤ R.locals) (X : MX E p s m args meth c cX6_letters 2 (some (.object "java/lang/String")) RX6 "letters") (N : Nat) : ∀ (x0 : Nat) (σ : St) (H : Heap) (locs : List Loc) (cells slots : Nat) (ls : Array Slot), WI E R s σ H locs cells slots → lv_has ls 2 [(0, .ref x0)] → fX6_letters N E.2.2.2.1 σ x0 = some res → W p l e R s m args below meth c H locs cells slots (MQ below (Qd E R.cells R.slots (some (.ref res.1)) res.2) args s R.cells R.slots (fr E)) (F0 m 0 ls []) := by
  intro x0 σ H locs cells slots ls I hl hf
  obtain ⟨⟨hx, hb, hml, hown, hts⟩, -⟩ := id X
  unfold fX6_letters at hf
  obtain ⟨⟨q_17a, q_17s⟩, eq_17, hf⟩ := ob hf
  refine g_new X I noX6_59 eq_17 dX6_letters_0 (fun H locs cells slots I => ?_)
  refine lv_dup hx hb dX6_letters_3 rfl ?_
  obtain ⟨σ_19, ev_18, hf⟩ := ob hf
  refine cm_I (σ' := σ_19) (rs := [.ref q_17a]) (rest := [.ref q_17a]) (As := []) X I (mJ9_init hX ev_18) lvX6_61 hdX6_61 ⟨Nat.le_trans (Nat.le_of_ble_eq_true rfl) hR.1, Nat.le_trans (Nat.le_of_ble_eq_true rfl) hR.2⟩ rfl hl.1 rfl (Nat.le_of_ble_eq_true rfl) rfl dX6_letters_4 (fun H locs cells slots I => ?_)
  refine lv_astore_n (lv' := [(1, .ref q_17a), (0, .ref x0)]) hx hb dX6_letters_7 rfl hl (by decide) rfl (fun ls hl => ?_)
  exact wX6_letters_8 hX hR X N N x0 q_17a σ_19 _ _ _ _ _ I (lv_sub hl [1, 0] rfl) hf
theorem mX6_letters {E : EV} {l : Launch} {N : Nat} {σ : St} {x0 : Nat} {res : (Nat × St)} (hX : XK E) (hf : fX6_letters N E.2.2.2.1 σ x0 = some res) : CM E l yX6_letters (ws_ yX6_letters cX6_letters 2 (some (.object "java/lang/String"))) 8 183 [.ref x0] σ (some (.ref res.1)) res.2 := by
  refine CM.of hX.1 (by decide) rfl rfl (Nat.le_of_ble_eq_true rfl) ?_
  intro p e s m below meth c X I ls hl
  exact wX6_letters_0 hX ⟨Nat.le_refl _, Nat.le_refl _⟩ X N _ _ _ _ _ _ _ I hl hf
/-! SharedTaxis$Scanner.digits()I imp=True fuel=True kap=False rt=I thr=False -/
def fX6_digits_2 (N : Nat) : Nat → Nat → Int32 → St → Option (Int32 × St)
  | 0, _, _, _ => none
  | n + 1, x0, x1, σ => (gI σ x0 [(5, 5)]).bind fun v_1 : Int32 => (isC σ x0 5).bind fun u_2 : Unit => (fX6_isBetween σ x0 v_1 (48 : Int32) (57 : Int32)).bind fun v_3 : Int32 => if v_3 = 0 then some (x1, σ) else (gR σ x0 [(5, 0)]).bind fun v_5 : Option Nat => (gI σ x0 [(5, 5)]).bind fun v_6 : Int32 => (v_5).bind fun a_7 : Nat => (aI σ a_7 1 v_6).bind fun v_8 : Int32 => lt (if ((((10 : Int32) * x1) + v_8) - (48 : Int32)) < (10000000 : Int32) then ((((10 : Int32) * x1) + v_8) - (48 : Int32)) else (10000000 : Int32)) fun x1_9 : Int32 => (gI σ x0 [(5, 5)]).bind fun v_10 : Int32 => (pV σ x0 [(5, 5)] (.int (v_10 + (1 : Int32)))).bind fun σ_11 : St => fX6_digits_2 N n x0 x1_9 σ_11
def fX6_digits (N : Nat) (σ : St) (x0 : Nat) : Option (Int32 × St) := fX6_digits_2 N N x0 (0 : Int32) σ
theorem wX6_digits_2 {E : EV} {l : Launch} {p : Program} {e : Env} {s : State} {m : MethodId} {args : Array Value} {below : List Frame} {meth : Method} {c : Code} {R : Room} {res : (Int32 × St)} (hX : XK E) (hR : 1 ≤ R.frames ∧ 23 ≤ R.locals) (X : MX E p s m args meth c cX6_digits 2 (some .int) RX6 "digits") (N : Nat) : ∀ (n : Nat) (x0 : Nat) (x1 : Int32) (σ : St) (H : Heap) (locs : List Loc) (cells slots : Nat) (ls : Array Slot), WI E R s σ H locs cells slots → lv_has ls 2 [(0, .ref x0), (1, .int x1)] → fX6_digits_2 N n x0 x1 σ = some res → W p l e R s m args below meth c H locs cells slots (MQ below (Qd E R.cells R.slots (some (.int res.1)) res.2) args s R.cells R.slots (fr E)) (F0 m 2 ls []) := by
  intro n
  induction n with
  | zero => intro x0 x1 σ H locs cells slots ls I hl hf; exact nomatch (show none = some res from hf)
  | succ n ih =>
    intro x0 x1 σ H locs cells slots ls I hl hf
    obtain ⟨⟨hx, hb, hml, hown, hts⟩, -⟩ := id X
    rw [fX6_digits_2.eq_2] at hf
    refine lv_aload_n hx hb dX6_digits_2 rfl (lv_at hl 0 rfl) ?_
    refine lv_aload_n hx hb dX6_digits_3 rfl (lv_at hl 0 rfl) ?_
    obtain ⟨v_1, ev_1, hf⟩ := ob hf
    refine g_get X I gfX6_29 (gI_in ev_1) dX6_digits_4 ?_
    refine lv_bipush (v := 48) hx hb dX6_digits_7 (by decide) ?_
    refine lv_bipush (v := 57) hx hb dX6_digits_9 (by decide) ?_
    obtain ⟨u_2, eu_2, hf⟩ := ob hf
    obtain ⟨v_3, ev_3, hf⟩ := ob hf
    refine cg_V (vw := (RX6, TX6, 8)) (ci := 5) (r := (some (.int v_3))) (σ' := σ) (rs := [.int v_3]) (rest := []) (As := [.int v_1, .int (48 : Int32), .int (57 : Int32)]) X I eu_2 rfl (mX6_isBetween hX ev_3) lvX6_38 hdX6_38 ⟨Nat.le_trans (Nat.le_of_ble_eq_true rfl) hR.1, Nat.le_trans (Nat.le_of_ble_eq_true rfl) hR.2⟩ rfl hl.1 rfl (Nat.le_of_ble_eq_true rfl) rfl dX6_digits_11 (fun H locs cells slots I => ?_)
    refine lv_if_eq (tgt := 53) hx hb dX6_digits_14 (by decide) (fun c_14 => ?_) (fun c_14 => ?_)
    · have hf := ip c_14 hf
      refine lv_iload_n hx hb dX6_digits_53 rfl (lv_at hl 1 rfl) ?_
      cases os hf
      exact r_iret X I dX6_digits_54
    · have hf := im c_14 hf
      refine lv_ldc (v := 10000000) hx hb hown (hts _ q1253) dX6_digits_17 ?_
      refine lv_bipush (v := 10) hx hb dX6_digits_19 (by decide) ?_
      refine lv_iload_n hx hb dX6_digits_21 rfl (lv_at hl 1 rfl) ?_
      refine lv_imul hx hb dX6_digits_22 ?_
      refine lv_aload_n hx hb dX6_digits_23 rfl (lv_at hl 0 rfl) ?_
      obtain ⟨v_5, ev_5, hf⟩ := ob hf
      refine g_get X I gfX6_15 (gR_in ev_5) dX6_digits_24 ?_
      refine lv_aload_n hx hb dX6_digits_27 rfl (lv_at hl 0 rfl) ?_
      obtain ⟨v_6, ev_6, hf⟩ := ob hf
      refine g_get X I gfX6_29 (gI_in ev_6) dX6_digits_28 ?_
      obtain ⟨a_7, ea_7, hga_7⟩ := ob hf
      have hla_7 := hl
      have Ia_7 := I
      subst ea_7
      have hf := hga_7
      have hl := hla_7
      have I := Ia_7
      obtain ⟨v_8, ev_8, hf⟩ := ob hf
      refine g_bald X I ev_8 dX6_digits_31 ?_
      refine lv_iadd hx hb dX6_digits_32 ?_
      refine lv_bipush (v := 48) hx hb dX6_digits_33 (by decide) ?_
      refine lv_isub hx hb dX6_digits_35 ?_
      refine g_mmin X I ⟨Nat.le_trans (Nat.le_of_ble_eq_true rfl) hR.1, Nat.le_trans (Nat.le_of_ble_eq_true rfl) hR.2⟩ q1254 hl.1 (Nat.le_of_ble_eq_true rfl) dX6_digits_36 ?_
      obtain ⟨x1_9, ex1_9, hf⟩ := ol hf
      refine nm_i ex1_9 ?_
      refine lv_istore_n (lv' := [(1, .int x1_9), (0, .ref x0)]) hx hb dX6_digits_39 rfl hl (by decide) rfl (fun ls hl => ?_)
      refine lv_aload_n hx hb dX6_digits_40 rfl (lv_at hl 1 rfl) ?_
      refine lv_dup hx hb dX6_digits_41 rfl ?_
      obtain ⟨v_10, ev_10, hf⟩ := ob hf
      refine g_get X I gfX6_29 (gI_in ev_10) dX6_digits_42 ?_
      refine lv_iconst (v := 1) hx hb dX6_digits_45 (by decide) ?_
      refine lv_iadd hx hb dX6_digits_46 ?_
      obtain ⟨σ_11, eσ_11, hf⟩ := ob hf
      refine g_put X I pfX6_29 rfl rfl eσ_11 dX6_digits_47 (fun H locs I => ?_)
      refine lv_goto (tgt := 2) hx hb dX6_digits_50 (by decide) ?_
      exact ih x0 x1_9 σ_11 _ _ _ _ _ I (lv_sub hl [1, 0] rfl) hf
theorem wX6_digits_0 {E : EV} {l : Launch} {p : Program} {e : Env} {s : State} {m : MethodId} {args : Array Value} {below : List Frame} {meth : Method} {c : Code} {R : Room} {res : (Int32 × St)} (hX : XK E) (hR : 1 ≤ R.frames ∧ 23 ≤ R.locals) (X : MX E p s m args meth c cX6_digits 2 (some .int) RX6 "digits") (N : Nat) : ∀ (x0 : Nat) (σ : St) (H : Heap) (locs : List Loc) (cells slots : Nat) (ls : Array Slot), WI E R s σ H locs cells slots → lv_has ls 2 [(0, .ref x0)] → fX6_digits N σ x0 = some res → W p l e R s m args below meth c H locs cells slots (MQ below (Qd E R.cells R.slots (some (.int res.1)) res.2) args s R.cells R.slots (fr E)) (F0 m 0 ls []) := by
  intro x0 σ H locs cells slots ls I hl hf
  obtain ⟨⟨hx, hb, hml, hown, hts⟩, -⟩ := id X
  unfold fX6_digits at hf
  refine lv_iconst (v := 0) hx hb dX6_digits_0 (by decide) ?_
  refine lv_istore_n (lv' := [(1, .int (0 : Int32)), (0, .ref x0)]) hx hb dX6_digits_1 rfl hl (by decide) rfl (fun ls hl => ?_)
  exact wX6_digits_2 hX hR X N N x0 (0 : Int32) σ _ _ _ _ _ I (lv_sub hl [1, 0] rfl) hf
theorem mX6_digits {E : EV} {l : Launch} {N : Nat} {σ : St} {x0 : Nat} {res : (Int32 × St)} (hX : XK E) (hf : fX6_digits N σ x0 = some res) : CM E l yX6_digits (ws_ yX6_digits cX6_digits 2 (some .int)) 1 23 [.ref x0] σ (some (.int res.1)) res.2 := by
  refine CM.of hX.1 (by decide) rfl rfl (Nat.le_of_ble_eq_true rfl) ?_
  intro p e s m below meth c X I ls hl
  exact wX6_digits_0 hX ⟨Nat.le_refl _, Nat.le_refl _⟩ X N _ _ _ _ _ _ _ I hl hf
/-! java/lang/String.isLatin1()Z imp=False fuel=False kap=True rt=I thr=False -/
theorem gfJ10_15 : ∀ q ∈ ([(26, 1)] : List (Nat × Nat)), GF RJ10 15 q := List.forall_mem_cons.mpr ⟨⟨RJ10, TJ10, 4, _, rfl, in_J10, by decide, q764, Or.inl rfl⟩, fun _ h => by cases h⟩
def fJ10_isLatin1 (κ : Nat → Nat) (σ : St) (x0 : Nat) : Option Int32 := if (1 : Int32) = 0 then some (0 : Int32) else (gI σ x0 [(26, 1)]).bind fun v_1 : Int32 => if v_1 = 0 then some (1 : Int32) else some (0 : Int32)
theorem wJ10_isLatin1_0 {E : EV} {l : Launch} {p : Program} {e : Env} {s : State} {m : MethodId} {args : Array Value} {below : List Frame} {meth : Method} {c : Code} {R : Room} {σ : St} {res : Int32} (hX : XK E) (hR : 0 ≤ R.frames ∧ 0 ≤ R.locals) (X : MX E p s m args meth c cJ10_isLatin1 1 (some .boolean) RJ10 "isLatin1") : ∀ (x0 : Nat) (H : Heap) (locs : List Loc) (cells slots : Nat) (ls : Array Slot), WI E R s σ H locs cells slots → lv_has ls 1 [(0, .ref x0)] → fJ10_isLatin1 E.2.2.2.1 σ x0 = some res → W p l e R s m args below meth c H locs cells slots (MQ below (Qd E R.cells R.slots (some (.int res)) σ) args s R.cells R.slots (fr E)) (F0 m 0 ls []) := by
  intro x0 H locs cells slots ls I hl hf
  obtain ⟨⟨hx, hb, hml, hown, hts⟩, -⟩ := id X
  unfold fJ10_isLatin1 at hf
  refine g_gets (ref := "java/lang/String") (w := .int (1 : Int32)) hX X I (List.mem_of_getElem? (i := 0) rfl) rfl q624 dJ10_isLatin1_0 ?_
  refine lv_if_eq (tgt := 17) hx hb dJ10_isLatin1_3 (by decide) (fun c_3 => ?_) (fun c_3 => ?_)
  · have hf := ip c_3 hf
    refine lv_iconst (v := 0) hx hb dJ10_isLatin1_17 (by decide) ?_
    cases os hf
    exact r_zret X I (Or.inl rfl) dJ10_isLatin1_18
  · have hf := im c_3 hf
    refine lv_aload_n hx hb dJ10_isLatin1_6 rfl (lv_at hl 0 rfl) ?_
    obtain ⟨v_1, ev_1, hf⟩ := ob hf
    refine g_get X I gfJ10_15 (gI_in ev_1) dJ10_isLatin1_7 ?_
    refine lv_if_ne (tgt := 17) hx hb dJ10_isLatin1_10 (by decide) (fun c_10 => ?_) (fun c_10 => ?_)
    · have hf := im c_10 hf
      refine lv_iconst (v := 0) hx hb dJ10_isLatin1_17 (by decide) ?_
      cases os hf
      exact r_zret X I (Or.inl rfl) dJ10_isLatin1_18
    · have hf := ip c_10 hf
      refine lv_iconst (v := 1) hx hb dJ10_isLatin1_13 (by decide) ?_
      refine lv_goto (tgt := 18) hx hb dJ10_isLatin1_14 (by decide) ?_
      cases os hf
      exact r_zret X I (Or.inr rfl) dJ10_isLatin1_18
theorem mJ10_isLatin1 {E : EV} {l : Launch} {σ : St} {x0 : Nat} {res : Int32} (hX : XK E) (hf : fJ10_isLatin1 E.2.2.2.1 σ x0 = some res) : CM E l yJ10_isLatin1 (ws_ yJ10_isLatin1 cJ10_isLatin1 1 (some .boolean)) 0 0 [.ref x0] σ (some (.int res)) σ := by
  refine CM.of hX.1 (by decide) rfl rfl (Nat.le_of_ble_eq_true rfl) ?_
  intro p e s m below meth c X I ls hl
  exact wJ10_isLatin1_0 hX ⟨Nat.le_refl _, Nat.le_refl _⟩ X _ _ _ _ _ _ I hl hf
/-! java/lang/String.coder()B imp=False fuel=False kap=True rt=I thr=False -/
def fJ10_coder (κ : Nat → Nat) (σ : St) (x0 : Nat) : Option Int32 := if (1 : Int32) = 0 then if (1 : Int32).toInt8.toInt32 = (1 : Int32) then some (1 : Int32) else none else (gI σ x0 [(26, 1)]).bind fun v_1 : Int32 => if v_1.toInt8.toInt32 = v_1 then some v_1 else none
theorem wJ10_coder_0 {E : EV} {l : Launch} {p : Program} {e : Env} {s : State} {m : MethodId} {args : Array Value} {below : List Frame} {meth : Method} {c : Code} {R : Room} {σ : St} {res : Int32} (hX : XK E) (hR : 0 ≤ R.frames ∧ 0 ≤ R.locals) (X : MX E p s m args meth c cJ10_coder 1 (some .byte) RJ10 "coder") : ∀ (x0 : Nat) (H : Heap) (locs : List Loc) (cells slots : Nat) (ls : Array Slot), WI E R s σ H locs cells slots → lv_has ls 1 [(0, .ref x0)] → fJ10_coder E.2.2.2.1 σ x0 = some res → W p l e R s m args below meth c H locs cells slots (MQ below (Qd E R.cells R.slots (some (.int res)) σ) args s R.cells R.slots (fr E)) (F0 m 0 ls []) := by
  intro x0 H locs cells slots ls I hl hf
  obtain ⟨⟨hx, hb, hml, hown, hts⟩, -⟩ := id X
  unfold fJ10_coder at hf
  refine g_gets (ref := "java/lang/String") (w := .int (1 : Int32)) hX X I (List.mem_of_getElem? (i := 0) rfl) rfl q624 dJ10_coder_0 ?_
  refine lv_if_eq (tgt := 13) hx hb dJ10_coder_3 (by decide) (fun c_3 => ?_) (fun c_3 => ?_)
  · have hf := ip c_3 hf
    refine lv_iconst (v := 1) hx hb dJ10_coder_13 (by decide) ?_
    by_cases d_14 : ¬ ((1 : Int32).toInt8.toInt32 = (1 : Int32))
    · exact nomatch (im d_14 hf)
    have c_14 := Decidable.not_not.mp d_14
    have hf := ip c_14 hf
    cases os hf
    exact r_nretB X I c_14 dJ10_coder_14
  · have hf := im c_3 hf
    refine lv_aload_n hx hb dJ10_coder_6 rfl (lv_at hl 0 rfl) ?_
    obtain ⟨v_1, ev_1, hf⟩ := ob hf
    refine g_get X I gfJ10_15 (gI_in ev_1) dJ10_coder_7 ?_
    refine lv_goto (tgt := 14) hx hb dJ10_coder_10 (by decide) ?_
    by_cases d_14 : ¬ (v_1.toInt8.toInt32 = v_1)
    · exact nomatch (im d_14 hf)
    have c_14 := Decidable.not_not.mp d_14
    have hf := ip c_14 hf
    cases os hf
    exact r_nretB X I c_14 dJ10_coder_14
theorem mJ10_coder {E : EV} {l : Launch} {σ : St} {x0 : Nat} {res : Int32} (hX : XK E) (hf : fJ10_coder E.2.2.2.1 σ x0 = some res) : CM E l yJ10_coder (ws_ yJ10_coder cJ10_coder 1 (some .byte)) 0 0 [.ref x0] σ (some (.int res)) σ := by
  refine CM.of hX.1 (by decide) rfl rfl (Nat.le_of_ble_eq_true rfl) ?_
  intro p e s m below meth c X I ls hl
  exact wJ10_coder_0 hX ⟨Nat.le_refl _, Nat.le_refl _⟩ X _ _ _ _ _ _ I hl hf
/-! java/lang/String.length()I imp=False fuel=False kap=True rt=I thr=False -/
theorem lvJ10_335 : GoodIn lw_all (wsV RJ10 335 RJ10 yJ10_coder (ws_ yJ10_coder cJ10_coder 1 (some .byte))) := lw_V q620 q621 q622 q129 q623
theorem hdJ10_335 : yJ10_coder.cls = RJ10 ∧ yJ10_coder.cls ≠ "java/lang/invoke/MethodHandle" ∧ yJ10_coder.cls ≠ "java/lang/invoke/VarHandle" ∧ (parseMethodDescriptor yJ10_coder.desc).map (fun d => d.parameters.length) = some 0 := by decide +kernel
def fJ10_length (κ : Nat → Nat) (σ : St) (x0 : Nat) : Option Int32 := (gR σ x0 [(26, 0)]).bind fun v_1 : Option Nat => (v_1).bind fun a_2 : Nat => (aL σ a_2).bind fun v_3 : Int32 => (isC σ x0 26).bind fun u_4 : Unit => (fJ10_coder κ σ x0).bind fun v_5 : Int32 => some (v_3 >>> (v_5 &&& 31))
theorem wJ10_length_0 {E : EV} {l : Launch} {p : Program} {e : Env} {s : State} {m : MethodId} {args : Array Value} {below : List Frame} {meth : Method} {c : Code} {R : Room} {σ : St} {res : Int32} (hX : XK E) (hR : 1 ≤ R.frames ∧ 20 ≤ R.locals) (X : MX E p s m args meth c cJ10_length 1 (some .int) RJ10 "length") : ∀ (x0 : Nat) (H : Heap) (locs : List Loc) (cells slots : Nat) (ls : Array Slot), WI E R s σ H locs cells slots → lv_has ls 1 [(0, .ref x0)] → fJ10_length E.2.2.2.1 σ x0 = some res → W p l e R s m args below meth c H locs cells slots (MQ below (Qd E R.cells R.slots (some (.int res)) σ) args s R.cells R.slots (fr E)) (F0 m 0 ls []) := by
  intro x0 H locs cells slots ls I hl hf
  obtain ⟨⟨hx, hb, hml, hown, hts⟩, -⟩ := id X
  unfold fJ10_length at hf
  refine lv_aload_n hx hb dJ10_length_0 rfl (lv_at hl 0 rfl) ?_
  obtain ⟨v_1, ev_1, hf⟩ := ob hf
  refine g_get X I gfJ10_9 (gR_in ev_1) dJ10_length_1 ?_
  obtain ⟨a_2, ea_2, hga_2⟩ := ob hf
  have hla_2 := hl
  have Ia_2 := I
  subst ea_2
  have hf := hga_2
  have hl := hla_2
  have I := Ia_2
  obtain ⟨v_3, ev_3, hf⟩ := ob hf
  refine g_alen X I ev_3 dJ10_length_4 ?_
  refine lv_aload_n hx hb dJ10_length_5 rfl (lv_at hl 0 rfl) ?_
  obtain ⟨u_4, eu_4, hf⟩ := ob hf
  obtain ⟨v_5, ev_5, hf⟩ := ob hf
  refine cg_V (vw := (RJ10, TJ10, 4)) (ci := 26) (r := (some (.int v_5))) (σ' := σ) (rs := [.int v_5, .int v_3]) (rest := [.int v_3]) (As := []) X I eu_4 rfl (mJ10_coder hX ev_5) lvJ10_335 hdJ10_335 ⟨Nat.le_trans (Nat.le_of_ble_eq_true rfl) hR.1, Nat.le_trans (Nat.le_of_ble_eq_true rfl) hR.2⟩ rfl hl.1 rfl (Nat.le_of_ble_eq_true rfl) rfl dJ10_length_6 (fun H locs cells slots I => ?_)
  refine lv_ishr hx hb dJ10_length_9 ?_
  cases os hf
  exact r_iret X I dJ10_length_10
theorem mJ10_length {E : EV} {l : Launch} {σ : St} {x0 : Nat} {res : Int32} (hX : XK E) (hf : fJ10_length E.2.2.2.1 σ x0 = some res) : CM E l yJ10_length (ws_ yJ10_length cJ10_length 1 (some .int)) 1 20 [.ref x0] σ (some (.int res)) σ := by
  refine CM.of hX.1 (by decide) rfl rfl (Nat.le_of_ble_eq_true rfl) ?_
  intro p e s m below meth c X I ls hl
  exact wJ10_length_0 hX ⟨Nat.le_refl _, Nat.le_refl _⟩ X _ _ _ _ _ _ I hl hf
/-! java/lang/StringLatin1.canEncode(I)Z imp=False fuel=False kap=False rt=I thr=False -/
def fJ15_canEncode_2 (σ : St) (x0 : Int32) : Option Int32 := if x0 < 0 then some (0 : Int32) else if (255 : Int32) < x0 then some (0 : Int32) else some (1 : Int32)
theorem wJ15_canEncode_2_0 {E : EV} {l : Launch} {p : Program} {e : Env} {s : State} {m : MethodId} {args : Array Value} {below : List Frame} {meth : Method} {c : Code} {R : Room} {σ : St} {res : Int32} (hX : XK E) (hR : 0 ≤ R.frames ∧ 0 ≤ R.locals) (X : MX E p s m args meth c cJ15_canEncode_2 1 (some .boolean) RJ15 "canEncode") : ∀ (x0 : Int32) (H : Heap) (locs : List Loc) (cells slots : Nat) (ls : Array Slot), WI E R s σ H locs cells slots → lv_has ls 1 [(0, .int x0)] → fJ15_canEncode_2 σ x0 = some res → W p l e R s m args below meth c H locs cells slots (MQ below (Qd E R.cells R.slots (some (.int res)) σ) args s R.cells R.slots (fr E)) (F0 m 0 ls []) := by
  intro x0 H locs cells slots ls I hl hf
  obtain ⟨⟨hx, hb, hml, hown, hts⟩, -⟩ := id X
  unfold fJ15_canEncode_2 at hf
  refine lv_iload_n hx hb dJ15_canEncode_2_0 rfl (lv_at hl 0 rfl) ?_
  refine lv_if_lt (tgt := 15) hx hb dJ15_canEncode_2_1 (by decide) (fun c_1 => ?_) (fun c_1 => ?_)
  · have hf := ip c_1 hf
    refine lv_iconst (v := 0) hx hb dJ15_canEncode_2_15 (by decide) ?_
    cases os hf
    exact r_zret X I (Or.inl rfl) dJ15_canEncode_2_16
  · have hf := im c_1 hf
    refine lv_iload_n hx hb dJ15_canEncode_2_4 rfl (lv_at hl 0 rfl) ?_
    refine lv_sipush (v := 255) hx hb dJ15_canEncode_2_5 (by decide) ?_
    refine lv_icmp_gt (tgt := 15) hx hb dJ15_canEncode_2_8 (by decide) (fun c_8 => ?_) (fun c_8 => ?_)
    · have hf := ip c_8 hf
      refine lv_iconst (v := 0) hx hb dJ15_canEncode_2_15 (by decide) ?_
      cases os hf
      exact r_zret X I (Or.inl rfl) dJ15_canEncode_2_16
    · have hf := im c_8 hf
      refine lv_iconst (v := 1) hx hb dJ15_canEncode_2_11 (by decide) ?_
      refine lv_goto (tgt := 16) hx hb dJ15_canEncode_2_12 (by decide) ?_
      cases os hf
      exact r_zret X I (Or.inr rfl) dJ15_canEncode_2_16
theorem mJ15_canEncode_2 {E : EV} {l : Launch} {σ : St} {x0 : Int32} {res : Int32} (hX : XK E) (hf : fJ15_canEncode_2 σ x0 = some res) : CM E l yJ15_canEncode_2 (ws_ yJ15_canEncode_2 cJ15_canEncode_2 1 (some .boolean)) 0 0 [.int x0] σ (some (.int res)) σ := by
  refine CM.of hX.1 (by decide) rfl rfl (Nat.le_of_ble_eq_true rfl) ?_
  intro p e s m below meth c X I ls hl
  exact wJ15_canEncode_2_0 hX ⟨Nat.le_refl _, Nat.le_refl _⟩ X _ _ _ _ _ _ I hl hf
/-! java/lang/StringLatin1.indexOfChar([BIII)I imp=False fuel=True kap=False rt=I thr=False -/
def fJ15_indexOfChar_7 (N : Nat) (σ : St) : Nat → Nat → Int32 → Int32 → Int32 → Option Int32
  | 0, _, _, _, _ => none
  | n + 1, x0, x3, x4, x5 => if x3 ≤ x5 then some (-1 : Int32) else (aI σ x0 1 x5).bind fun v_1 : Int32 => if v_1 = x4 then some x5 else lt (x5 + 1) fun x5_2 : Int32 => fJ15_indexOfChar_7 N σ n x0 x3 x4 x5_2
def fJ15_indexOfChar (N : Nat) (σ : St) (x0 : Nat) (x1 : Int32) (x2 : Int32) (x3 : Int32) : Option Int32 := lt (x1.toInt8.toInt32) fun x4_3 : Int32 => fJ15_indexOfChar_7 N σ N x0 x3 x4_3 x2
theorem wJ15_indexOfChar_7 {E : EV} {l : Launch} {p : Program} {e : Env} {s : State} {m : MethodId} {args : Array Value} {below : List Frame} {meth : Method} {c : Code} {R : Room} {σ : St} {res : Int32} (hX : XK E) (hR : 0 ≤ R.frames ∧ 0 ≤ R.locals) (X : MX E p s m args meth c cJ15_indexOfChar 6 (some .int) RJ15 "indexOfChar") (N : Nat) : ∀ (n : Nat) (x0 : Nat) (x3 : Int32) (x4 : Int32) (x5 : Int32) (H : Heap) (locs : List Loc) (cells slots : Nat) (ls : Array Slot), WI E R s σ H locs cells slots → lv_has ls 6 [(0, .ref x0), (3, .int x3), (4, .int x4), (5, .int x5)] → fJ15_indexOfChar_7 N σ n x0 x3 x4 x5 = some res → W p l e R s m args below meth c H locs cells slots (MQ below (Qd E R.cells R.slots (some (.int res)) σ) args s R.cells R.slots (fr E)) (F0 m 7 ls []) := by
  intro n
  induction n with
  | zero => intro x0 x3 x4 x5 H locs cells slots ls I hl hf; exact nomatch (show none = some res from hf)
  | succ n ih =>
    intro x0 x3 x4 x5 H locs cells slots ls I hl hf
    obtain ⟨⟨hx, hb, hml, hown, hts⟩, -⟩ := id X
    rw [fJ15_indexOfChar_7.eq_2] at hf
    refine lv_iload hx hb dJ15_indexOfChar_7 (lv_at hl 3 rfl) ?_
    refine lv_iload_n hx hb dJ15_indexOfChar_9 rfl (lv_at hl 1 rfl) ?_
    refine lv_icmp_ge (tgt := 31) hx hb dJ15_indexOfChar_10 (by decide) (fun c_10 => ?_) (fun c_10 => ?_)
    · have hf := ip c_10 hf
      refine lv_iconst (v := (-1)) hx hb dJ15_indexOfChar_31 (by decide) ?_
      cases os hf
      exact r_iret X I dJ15_indexOfChar_32
    · have hf := im c_10 hf
      refine lv_aload_n hx hb dJ15_indexOfChar_13 rfl (lv_at hl 0 rfl) ?_
      refine lv_iload hx hb dJ15_indexOfChar_14 (lv_at hl 3 rfl) ?_
      obtain ⟨v_1, ev_1, hf⟩ := ob hf
      refine g_bald X I ev_1 dJ15_indexOfChar_16 ?_
      refine lv_iload hx hb dJ15_indexOfChar_17 (lv_at hl 2 rfl) ?_
      refine lv_icmp_ne (tgt := 25) hx hb dJ15_indexOfChar_19 (by decide) (fun c_19 => ?_) (fun c_19 => ?_)
      · have hf := im c_19 hf
        obtain ⟨x5_2, ex5_2, hf⟩ := ol hf
        refine lv_iinc (v := x5_2) (lv' := [(5, .int x5_2), (0, .ref x0), (3, .int x3), (4, .int x4)]) hx hb dJ15_indexOfChar_25 hl (k := 3) rfl ex5_2 (by decide) rfl (fun ls hl => ?_)
        refine lv_goto (tgt := 7) hx hb dJ15_indexOfChar_28 (by decide) ?_
        exact ih x0 x3 x4 x5_2 _ _ _ _ _ I (lv_sub hl [1, 2, 3, 0] rfl) hf
      · have hf := ip c_19 hf
        refine lv_iload hx hb dJ15_indexOfChar_22 (lv_at hl 3 rfl) ?_
        cases os hf
        exact r_iret X I dJ15_indexOfChar_24
theorem wJ15_indexOfChar_0 {E : EV} {l : Launch} {p : Program} {e : Env} {s : State} {m : MethodId} {args : Array Value} {below : List Frame} {meth : Method} {c : Code} {R : Room} {σ : St} {res : Int32} (hX : XK E) (hR : 0 ≤ R.frames ∧ 0 ≤ R.locals) (X : MX E p s m args meth c cJ15_indexOfChar 6 (some .int) RJ15 "indexOfChar") (N : Nat) : ∀ (x0 : Nat) (x1 : Int32) (x2 : Int32) (x3 : Int32) (H : Heap) (locs : List Loc) (cells slots : Nat) (ls : Array Slot), WI E R s σ H locs cells slots → lv_has ls 6 [(0, .ref x0), (1, .int x1), (2, .int x2), (3, .int x3)] → fJ15_indexOfChar N σ x0 x1 x2 x3 = some res → W p l e R s m args below meth c H locs cells slots (MQ below (Qd E R.cells R.slots (some (.int res)) σ) args s R.cells R.slots (fr E)) (F0 m 0 ls []) := by
  intro x0 x1 x2 x3 H locs cells slots ls I hl hf
  obtain ⟨⟨hx, hb, hml, hown, hts⟩, -⟩ := id X
  unfold fJ15_indexOfChar at hf
  refine lv_iload_n hx hb dJ15_indexOfChar_0 rfl (lv_at hl 1 rfl) ?_
  refine lv_i2b hx hb dJ15_indexOfChar_1 rfl ?_
  obtain ⟨x4_3, ex4_3, hf⟩ := ol hf
  refine nm_i ex4_3 ?_
  refine lv_istore (lv' := [(4, .int x4_3), (0, .ref x0), (1, .int x1), (2, .int x2), (3, .int x3)]) hx hb dJ15_indexOfChar_2 hl (by decide) rfl (fun ls hl => ?_)
  refine lv_iload_n hx hb dJ15_indexOfChar_4 rfl (lv_at hl 3 rfl) ?_
  refine lv_istore (lv' := [(5, .int x2), (4, .int x4_3), (0, .ref x0), (1, .int x1), (2, .int x2), (3, .int x3)]) hx hb dJ15_indexOfChar_5 hl (by decide) rfl (fun ls hl => ?_)
  exact wJ15_indexOfChar_7 hX hR X N N x0 x3 x4_3 x2 _ _ _ _ _ I (lv_sub hl [2, 5, 1, 0] rfl) hf
theorem mJ15_indexOfChar {E : EV} {l : Launch} {N : Nat} {σ : St} {x0 : Nat} {x1 : Int32} {x2 : Int32} {x3 : Int32} {res : Int32} (hX : XK E) (hf : fJ15_indexOfChar N σ x0 x1 x2 x3 = some res) : CM E l yJ15_indexOfChar (ws_ yJ15_indexOfChar cJ15_indexOfChar 6 (some .int)) 0 0 [.ref x0, .int x1, .int x2, .int x3] σ (some (.int res)) σ := by
  refine CM.of hX.1 (by decide) rfl rfl (Nat.le_of_ble_eq_true rfl) ?_
  intro p e s m below meth c X I ls hl
  exact wJ15_indexOfChar_0 hX ⟨Nat.le_refl _, Nat.le_refl _⟩ X N _ _ _ _ _ _ _ _ _ I hl hf
/-! java/lang/StringLatin1.indexOf([BIII)I imp=False fuel=True kap=False rt=I thr=False -/
theorem lvJ15_88 : GoodIn lw_all (va_wsS RJ15 88 yJ15_canEncode_2 (ws_ yJ15_canEncode_2 cJ15_canEncode_2 1 (some .boolean))) := lw_S q1267 q1268 q135 q1269
theorem hdJ15_88 : yJ15_canEncode_2.cls ≠ "java/lang/invoke/MethodHandle" ∧ yJ15_canEncode_2.cls ≠ "java/lang/invoke/VarHandle" ∧ (parseMethodDescriptor yJ15_canEncode_2.desc).map (fun d => d.parameters.length) = some 1 := by decide +kernel
theorem lvJ15_95 : GoodIn lw_all (va_wsS RJ15 95 yJ15_indexOfChar (ws_ yJ15_indexOfChar cJ15_indexOfChar 6 (some .int))) := lw_S q1272 q1273 q135 q1274
theorem hdJ15_95 : yJ15_indexOfChar.cls ≠ "java/lang/invoke/MethodHandle" ∧ yJ15_indexOfChar.cls ≠ "java/lang/invoke/VarHandle" ∧ (parseMethodDescriptor yJ15_indexOfChar.desc).map (fun d => d.parameters.length) = some 4 := by decide +kernel
def fJ15_indexOf (N : Nat) (σ : St) (x0 : Nat) (x1 : Int32) (x2 : Int32) (x3 : Int32) : Option Int32 := (fJ15_canEncode_2 σ x1).bind fun v_1 : Int32 => if v_1 = 0 then some (-1 : Int32) else lt (if x2 < (0 : Int32) then (0 : Int32) else x2) fun x2_3 : Int32 => (aL σ x0).bind fun v_4 : Int32 => lt (if v_4 < x3 then v_4 else x3) fun x3_5 : Int32 => if x2_3 < x3_5 then (fJ15_indexOfChar N σ x0 x1 x2_3 x3_5).bind fun v_6 : Int32 => some v_6 else some (-1 : Int32)
theorem wJ15_indexOf_0 {E : EV} {l : Launch} {p : Program} {e : Env} {s : State} {m : MethodId} {args : Array Value} {below : List Frame} {meth : Method} {c : Code} {R : Room} {σ : St} {res : Int32} (hX : XK E) (hR : 1 ≤ R.frames ∧ 25 ≤ R.locals) (X : MX E p s m args meth c cJ15_indexOf 4 (some .int) RJ15 "indexOf") (N : Nat) : ∀ (x0 : Nat) (x1 : Int32) (x2 : Int32) (x3 : Int32) (H : Heap) (locs : List Loc) (cells slots : Nat) (ls : Array Slot), WI E R s σ H locs cells slots → lv_has ls 4 [(0, .ref x0), (1, .int x1), (2, .int x2), (3, .int x3)] → fJ15_indexOf N σ x0 x1 x2 x3 = some res → W p l e R s m args below meth c H locs cells slots (MQ below (Qd E R.cells R.slots (some (.int res)) σ) args s R.cells R.slots (fr E)) (F0 m 0 ls []) := by
  intro x0 x1 x2 x3 H locs cells slots ls I hl hf
  obtain ⟨⟨hx, hb, hml, hown, hts⟩, -⟩ := id X
  unfold fJ15_indexOf at hf
  refine lv_iload_n hx hb dJ15_indexOf_0 rfl (lv_at hl 1 rfl) ?_
  obtain ⟨v_1, ev_1, hf⟩ := ob hf
  refine cg_S (r := (some (.int v_1))) (σ' := σ) (rs := [.int v_1]) (rest := []) (As := [.int x1]) X I (mJ15_canEncode_2 hX ev_1) lvJ15_88 hdJ15_88 ⟨Nat.le_trans (Nat.le_of_ble_eq_true rfl) hR.1, Nat.le_trans (Nat.le_of_ble_eq_true rfl) hR.2⟩ rfl hl.1 rfl (Nat.le_of_ble_eq_true rfl) rfl dJ15_indexOf_1 (fun H locs cells slots I => ?_)
  refine lv_if_ne (tgt := 9) hx hb dJ15_indexOf_4 (by decide) (fun c_4 => ?_) (fun c_4 => ?_)
  · have hf := im c_4 hf
    refine lv_iload_n hx hb dJ15_indexOf_9 rfl (lv_at hl 2 rfl) ?_
    refine lv_iconst (v := 0) hx hb dJ15_indexOf_10 (by decide) ?_
    refine g_mmax X I ⟨Nat.le_trans (Nat.le_of_ble_eq_true rfl) hR.1, Nat.le_trans (Nat.le_of_ble_eq_true rfl) hR.2⟩ q1270 hl.1 (Nat.le_of_ble_eq_true rfl) dJ15_indexOf_11 ?_
    obtain ⟨x2_3, ex2_3, hf⟩ := ol hf
    refine nm_i ex2_3 ?_
    refine lv_istore_n (lv' := [(2, .int x2_3), (0, .ref x0), (1, .int x1), (3, .int x3)]) hx hb dJ15_indexOf_14 rfl hl (by decide) rfl (fun ls hl => ?_)
    refine lv_iload_n hx hb dJ15_indexOf_15 rfl (lv_at hl 3 rfl) ?_
    refine lv_aload_n hx hb dJ15_indexOf_16 rfl (lv_at hl 1 rfl) ?_
    obtain ⟨v_4, ev_4, hf⟩ := ob hf
    refine g_alen X I ev_4 dJ15_indexOf_17 ?_
    refine g_mmin X I ⟨Nat.le_trans (Nat.le_of_ble_eq_true rfl) hR.1, Nat.le_trans (Nat.le_of_ble_eq_true rfl) hR.2⟩ q1271 hl.1 (Nat.le_of_ble_eq_true rfl) dJ15_indexOf_18 ?_
    obtain ⟨x3_5, ex3_5, hf⟩ := ol hf
    refine nm_i ex3_5 ?_
    refine lv_istore_n (lv' := [(3, .int x3_5), (2, .int x2_3), (0, .ref x0), (1, .int x1)]) hx hb dJ15_indexOf_21 rfl hl (by decide) rfl (fun ls hl => ?_)
    refine lv_iload_n hx hb dJ15_indexOf_22 rfl (lv_at hl 1 rfl) ?_
    refine lv_iload_n hx hb dJ15_indexOf_23 rfl (lv_at hl 0 rfl) ?_
    refine lv_icmp_lt (tgt := 29) hx hb dJ15_indexOf_24 (by decide) (fun c_24 => ?_) (fun c_24 => ?_)
    · have hf := ip c_24 hf
      refine lv_aload_n hx hb dJ15_indexOf_29 rfl (lv_at hl 2 rfl) ?_
      refine lv_iload_n hx hb dJ15_indexOf_30 rfl (lv_at hl 3 rfl) ?_
      refine lv_iload_n hx hb dJ15_indexOf_31 rfl (lv_at hl 1 rfl) ?_
      refine lv_iload_n hx hb dJ15_indexOf_32 rfl (lv_at hl 0 rfl) ?_
      obtain ⟨v_6, ev_6, hf⟩ := ob hf
      refine cg_S (r := (some (.int v_6))) (σ' := σ) (rs := [.int v_6]) (rest := []) (As := [.ref x0, .int x1, .int x2_3, .int x3_5]) X I (mJ15_indexOfChar hX ev_6) lvJ15_95 hdJ15_95 ⟨Nat.le_trans (Nat.le_of_ble_eq_true rfl) hR.1, Nat.le_trans (Nat.le_of_ble_eq_true rfl) hR.2⟩ rfl hl.1 rfl (Nat.le_of_ble_eq_true rfl) rfl dJ15_indexOf_33 (fun H locs cells slots I => ?_)
      cases os hf
      exact r_iret X I dJ15_indexOf_36
    · have hf := im c_24 hf
      refine lv_iconst (v := (-1)) hx hb dJ15_indexOf_27 (by decide) ?_
      cases os hf
      exact r_iret X I dJ15_indexOf_28
  · have hf := ip c_4 hf
    refine lv_iconst (v := (-1)) hx hb dJ15_indexOf_7 (by decide) ?_
    cases os hf
    exact r_iret X I dJ15_indexOf_8
theorem mJ15_indexOf {E : EV} {l : Launch} {N : Nat} {σ : St} {x0 : Nat} {x1 : Int32} {x2 : Int32} {x3 : Int32} {res : Int32} (hX : XK E) (hf : fJ15_indexOf N σ x0 x1 x2 x3 = some res) : CM E l yJ15_indexOf (ws_ yJ15_indexOf cJ15_indexOf 4 (some .int)) 1 25 [.ref x0, .int x1, .int x2, .int x3] σ (some (.int res)) σ := by
  refine CM.of hX.1 (by decide) rfl rfl (Nat.le_of_ble_eq_true rfl) ?_
  intro p e s m below meth c X I ls hl
  exact wJ15_indexOf_0 hX ⟨Nat.le_refl _, Nat.le_refl _⟩ X N _ _ _ _ _ _ _ _ _ I hl hf
/-! jdk/internal/util/Preconditions.checkFromToIndex(IIILjava/util/function/BiFunction;)I imp=False fuel=False kap=False rt=I thr=False -/
def fJ16_checkFromToIndex_14 (σ : St) (x0 : Int32) (x1 : Int32) (x2 : Int32) (x3 : Option Nat) : Option Int32 := none
def fJ16_checkFromToIndex (σ : St) (x0 : Int32) (x1 : Int32) (x2 : Int32) (x3 : Option Nat) : Option Int32 := if x0 < 0 then fJ16_checkFromToIndex_14 σ x0 x1 x2 x3 else if x1 < x0 then fJ16_checkFromToIndex_14 σ x0 x1 x2 x3 else if x1 ≤ x2 then some x0 else fJ16_checkFromToIndex_14 σ x0 x1 x2 x3
theorem wJ16_checkFromToIndex_14 {E : EV} {l : Launch} {p : Program} {e : Env} {s : State} {m : MethodId} {args : Array Value} {below : List Frame} {meth : Method} {c : Code} {R : Room} {σ : St} {res : Int32} (hX : XK E) (hR : 0 ≤ R.frames ∧ 0 ≤ R.locals) (X : MX E p s m args meth c cJ16_checkFromToIndex 4 (some .int) RJ16 "checkFromToIndex") : ∀ (x0 : Int32) (x1 : Int32) (x2 : Int32) (x3 : Option Nat) (H : Heap) (locs : List Loc) (cells slots : Nat) (ls : Array Slot), WI E R s σ H locs cells slots → lv_has ls 4 [(0, .int x0), (1, .int x1), (2, .int x2), (3, va_rf x3)] → fJ16_checkFromToIndex_14 σ x0 x1 x2 x3 = some res → W p l e R s m args below meth c H locs cells slots (MQ below (Qd E R.cells R.slots (some (.int res)) σ) args s R.cells R.slots (fr E)) (F0 m 14 ls []) := by
  intro x0 x1 x2 x3 H locs cells slots ls I hl hf
  obtain ⟨⟨hx, hb, hml, hown, hts⟩, -⟩ := id X
  unfold fJ16_checkFromToIndex_14 at hf
  refine lo_aload_n (x := x3) hx hb dJ16_checkFromToIndex_14 rfl (lv_at hl 3 rfl) ?_
  refine lv_iload_n hx hb dJ16_checkFromToIndex_15 rfl (lv_at hl 0 rfl) ?_
  refine lv_iload_n hx hb dJ16_checkFromToIndex_16 rfl (lv_at hl 1 rfl) ?_
  refine lv_iload_n hx hb dJ16_checkFromToIndex_17 rfl (lv_at hl 2 rfl) ?_
  exact nomatch hf
theorem wJ16_checkFromToIndex_0 {E : EV} {l : Launch} {p : Program} {e : Env} {s : State} {m : MethodId} {args : Array Value} {below : List Frame} {meth : Method} {c : Code} {R : Room} {σ : St} {res : Int32} (hX : XK E) (hR : 0 ≤ R.frames ∧ 0 ≤ R.locals) (X : MX E p s m args meth c cJ16_checkFromToIndex 4 (some .int) RJ16 "checkFromToIndex") : ∀ (x0 : Int32) (x1 : Int32) (x2 : Int32) (x3 : Option Nat) (H : Heap) (locs : List Loc) (cells slots : Nat) (ls : Array Slot), WI E R s σ H locs cells slots → lv_has ls 4 [(0, .int x0), (1, .int x1), (2, .int x2), (3, va_rf x3)] → fJ16_checkFromToIndex σ x0 x1 x2 x3 = some res → W p l e R s m args below meth c H locs cells slots (MQ below (Qd E R.cells R.slots (some (.int res)) σ) args s R.cells R.slots (fr E)) (F0 m 0 ls []) := by
  intro x0 x1 x2 x3 H locs cells slots ls I hl hf
  obtain ⟨⟨hx, hb, hml, hown, hts⟩, -⟩ := id X
  unfold fJ16_checkFromToIndex at hf
  refine lv_iload_n hx hb dJ16_checkFromToIndex_0 rfl (lv_at hl 0 rfl) ?_
  refine lv_if_lt (tgt := 14) hx hb dJ16_checkFromToIndex_1 (by decide) (fun c_1 => ?_) (fun c_1 => ?_)
  · have hf := ip c_1 hf
    exact wJ16_checkFromToIndex_14 hX hR X x0 x1 x2 x3 _ _ _ _ _ I (lv_sub hl [0, 1, 2, 3] rfl) hf
  · have hf := im c_1 hf
    refine lv_iload_n hx hb dJ16_checkFromToIndex_4 rfl (lv_at hl 0 rfl) ?_
    refine lv_iload_n hx hb dJ16_checkFromToIndex_5 rfl (lv_at hl 1 rfl) ?_
    refine lv_icmp_gt (tgt := 14) hx hb dJ16_checkFromToIndex_6 (by decide) (fun c_6 => ?_) (fun c_6 => ?_)
    · have hf := ip c_6 hf
      exact wJ16_checkFromToIndex_14 hX hR X x0 x1 x2 x3 _ _ _ _ _ I (lv_sub hl [0, 1, 2, 3] rfl) hf
    · have hf := im c_6 hf
      refine lv_iload_n hx hb dJ16_checkFromToIndex_9 rfl (lv_at hl 1 rfl) ?_
      refine lv_iload_n hx hb dJ16_checkFromToIndex_10 rfl (lv_at hl 2 rfl) ?_
      refine lv_icmp_le (tgt := 22) hx hb dJ16_checkFromToIndex_11 (by decide) (fun c_11 => ?_) (fun c_11 => ?_)
      · have hf := ip c_11 hf
        refine lv_iload_n hx hb dJ16_checkFromToIndex_22 rfl (lv_at hl 0 rfl) ?_
        cases os hf
        exact r_iret X I dJ16_checkFromToIndex_23
      · have hf := im c_11 hf
        exact wJ16_checkFromToIndex_14 hX hR X x0 x1 x2 x3 _ _ _ _ _ I (lv_sub hl [0, 1, 2, 3] rfl) hf
theorem mJ16_checkFromToIndex {E : EV} {l : Launch} {σ : St} {x0 : Int32} {x1 : Int32} {x2 : Int32} {x3 : Option Nat} {res : Int32} (hX : XK E) (hf : fJ16_checkFromToIndex σ x0 x1 x2 x3 = some res) : CM E l yJ16_checkFromToIndex (ws_ yJ16_checkFromToIndex cJ16_checkFromToIndex 4 (some .int)) 0 0 [.int x0, .int x1, .int x2, va_rf x3] σ (some (.int res)) σ := by
  refine CM.of hX.1 (by decide) rfl rfl (by rcases x3 with _ | _ <;> exact (Nat.le_of_ble_eq_true rfl)) ?_
  intro p e s m below meth c X I ls hl
  exact wJ16_checkFromToIndex_0 hX ⟨Nat.le_refl _, Nat.le_refl _⟩ X _ _ _ _ _ _ _ _ _ I (by rcases x3 with _ | _ <;> exact hl) hf
/-! java/lang/String.checkBoundsBeginEnd(III)V imp=False fuel=False kap=True rt=None thr=False -/
theorem lvJ10_1062 : GoodIn lw_all (va_wsS RJ10 1062 yJ16_checkFromToIndex (ws_ yJ16_checkFromToIndex cJ16_checkFromToIndex 4 (some .int))) := lw_S q604 q605 q136 q606
theorem hdJ10_1062 : yJ16_checkFromToIndex.cls ≠ "java/lang/invoke/MethodHandle" ∧ yJ16_checkFromToIndex.cls ≠ "java/lang/invoke/VarHandle" ∧ (parseMethodDescriptor yJ16_checkFromToIndex.desc).map (fun d => d.parameters.length) = some 4 := by decide +kernel
def fJ10_checkBoundsBeginEnd (κ : Nat → Nat) (σ : St) (x0 : Int32) (x1 : Int32) (x2 : Int32) : Option Unit := lt (ko (κ 7)) fun v_1 : Option Nat => (fJ16_checkFromToIndex σ x0 x1 x2 v_1).bind fun v_2 : Int32 => some ()
theorem wJ10_checkBoundsBeginEnd_0 {E : EV} {l : Launch} {p : Program} {e : Env} {s : State} {m : MethodId} {args : Array Value} {below : List Frame} {meth : Method} {c : Code} {R : Room} {σ : St} {res : Unit} (hX : XK E) (hR : 1 ≤ R.frames ∧ 23 ≤ R.locals) (X : MX E p s m args meth c cJ10_checkBoundsBeginEnd 3 none RJ10 "checkBoundsBeginEnd") : ∀ (x0 : Int32) (x1 : Int32) (x2 : Int32) (H : Heap) (locs : List Loc) (cells slots : Nat) (ls : Array Slot), WI E R s σ H locs cells slots → lv_has ls 3 [(0, .int x0), (1, .int x1), (2, .int x2)] → fJ10_checkBoundsBeginEnd E.2.2.2.1 σ x0 x1 x2 = some res → W p l e R s m args below meth c H locs cells slots (MQ below (Qd E R.cells R.slots none σ) args s R.cells R.slots (fr E)) (F0 m 0 ls []) := by
  intro x0 x1 x2 H locs cells slots ls I hl hf
  obtain ⟨⟨hx, hb, hml, hown, hts⟩, -⟩ := id X
  unfold fJ10_checkBoundsBeginEnd at hf
  refine lv_iload_n hx hb dJ10_checkBoundsBeginEnd_0 rfl (lv_at hl 0 rfl) ?_
  refine lv_iload_n hx hb dJ10_checkBoundsBeginEnd_1 rfl (lv_at hl 1 rfl) ?_
  refine lv_iload_n hx hb dJ10_checkBoundsBeginEnd_2 rfl (lv_at hl 2 rfl) ?_
  refine g_gets (ref := "jdk/internal/util/Preconditions") (w := va_rf (ko (E.2.2.2.1 7))) hX X I (List.mem_of_getElem? (i := 9) rfl) rfl q602 dJ10_checkBoundsBeginEnd_3 ?_
  obtain ⟨v_1, ev_1, hf⟩ := ol hf
  refine nm_o ev_1 ?_
  obtain ⟨v_2, ev_2, hf⟩ := ob hf
  refine cg_S (r := (some (.int v_2))) (σ' := σ) (rs := [.int v_2]) (rest := []) (As := [.int x0, .int x1, .int x2, va_rf v_1]) X I (mJ16_checkFromToIndex hX ev_2) lvJ10_1062 hdJ10_1062 ⟨Nat.le_trans (Nat.le_of_ble_eq_true rfl) hR.1, Nat.le_trans (Nat.le_of_ble_eq_true rfl) hR.2⟩ rfl hl.1 rfl (Nat.le_of_ble_eq_true rfl) rfl dJ10_checkBoundsBeginEnd_6 (fun H locs cells slots I => ?_)
  refine lv_pop hx hb dJ10_checkBoundsBeginEnd_9 rfl ?_
  cases os hf
  exact r_vret X I dJ10_checkBoundsBeginEnd_10
theorem mJ10_checkBoundsBeginEnd {E : EV} {l : Launch} {σ : St} {x0 : Int32} {x1 : Int32} {x2 : Int32} {res : Unit} (hX : XK E) (hf : fJ10_checkBoundsBeginEnd E.2.2.2.1 σ x0 x1 x2 = some res) : CM E l yJ10_checkBoundsBeginEnd (ws_ yJ10_checkBoundsBeginEnd cJ10_checkBoundsBeginEnd 3 none) 1 23 [.int x0, .int x1, .int x2] σ none σ := by
  refine CM.of hX.1 (by decide) rfl rfl (Nat.le_of_ble_eq_true rfl) ?_
  intro p e s m below meth c X I ls hl
  exact wJ10_checkBoundsBeginEnd_0 hX ⟨Nat.le_refl _, Nat.le_refl _⟩ X _ _ _ _ _ _ _ _ I hl hf
/-! java/lang/StringUTF16.checkBoundsBeginEnd(II[B)V imp=False fuel=False kap=True rt=None thr=False -/
theorem lvJ11_241 : GoodIn lw_all (va_wsS RJ11 241 yJ10_checkBoundsBeginEnd (ws_ yJ10_checkBoundsBeginEnd cJ10_checkBoundsBeginEnd 3 none)) := lw_S q599 q600 q129 q601
theorem hdJ11_241 : yJ10_checkBoundsBeginEnd.cls ≠ "java/lang/invoke/MethodHandle" ∧ yJ10_checkBoundsBeginEnd.cls ≠ "java/lang/invoke/VarHandle" ∧ (parseMethodDescriptor yJ10_checkBoundsBeginEnd.desc).map (fun d => d.parameters.length) = some 3 := by decide +kernel
def fJ11_checkBoundsBeginEnd (κ : Nat → Nat) (σ : St) (x0 : Int32) (x1 : Int32) (x2 : Nat) : Option Unit := (fJ11_length σ x2).bind fun v_1 : Int32 => (fJ10_checkBoundsBeginEnd κ σ x0 x1 v_1).bind fun v_3 : Unit => some ()
theorem wJ11_checkBoundsBeginEnd_0 {E : EV} {l : Launch} {p : Program} {e : Env} {s : State} {m : MethodId} {args : Array Value} {below : List Frame} {meth : Method} {c : Code} {R : Room} {σ : St} {res : Unit} (hX : XK E) (hR : 2 ≤ R.frames ∧ 45 ≤ R.locals) (X : MX E p s m args meth c cJ11_checkBoundsBeginEnd 3 none RJ11 "checkBoundsBeginEnd") : ∀ (x0 : Int32) (x1 : Int32) (x2 : Nat) (H : Heap) (locs : List Loc) (cells slots : Nat) (ls : Array Slot), WI E R s σ H locs cells slots → lv_has ls 3 [(0, .int x0), (1, .int x1), (2, .ref x2)] → fJ11_checkBoundsBeginEnd E.2.2.2.1 σ x0 x1 x2 = some res → W p l e R s m args below meth c H locs cells slots (MQ below (Qd E R.cells R.slots none σ) args s R.cells R.slots (fr E)) (F0 m 0 ls []) := by
  intro x0 x1 x2 H locs cells slots ls I hl hf
  obtain ⟨⟨hx, hb, hml, hown, hts⟩, -⟩ := id X
  unfold fJ11_checkBoundsBeginEnd at hf
  refine lv_iload_n hx hb dJ11_checkBoundsBeginEnd_0 rfl (lv_at hl 0 rfl) ?_
  refine lv_iload_n hx hb dJ11_checkBoundsBeginEnd_1 rfl (lv_at hl 1 rfl) ?_
  refine lv_aload_n hx hb dJ11_checkBoundsBeginEnd_2 rfl (lv_at hl 2 rfl) ?_
  obtain ⟨v_1, ev_1, hf⟩ := ob hf
  refine cg_S (r := (some (.int v_1))) (σ' := σ) (rs := [.int v_1, .int x1, .int x0]) (rest := [.int x1, .int x0]) (As := [.ref x2]) X I (mJ11_length hX ev_1) lvJ11_48 hdJ11_48 ⟨Nat.le_trans (Nat.le_of_ble_eq_true rfl) hR.1, Nat.le_trans (Nat.le_of_ble_eq_true rfl) hR.2⟩ rfl hl.1 rfl (Nat.le_of_ble_eq_true rfl) rfl dJ11_checkBoundsBeginEnd_3 (fun H locs cells slots I => ?_)
  obtain ⟨v_3, ev_3, hf⟩ := ob hf
  refine cg_S (r := none) (σ' := σ) (rs := []) (rest := []) (As := [.int x0, .int x1, .int v_1]) X I (mJ10_checkBoundsBeginEnd hX ev_3) lvJ11_241 hdJ11_241 ⟨Nat.le_trans (Nat.le_of_ble_eq_true rfl) hR.1, Nat.le_trans (Nat.le_of_ble_eq_true rfl) hR.2⟩ rfl hl.1 rfl (Nat.le_of_ble_eq_true rfl) rfl dJ11_checkBoundsBeginEnd_6 (fun H locs cells slots I => ?_)
  cases os hf
  exact r_vret X I dJ11_checkBoundsBeginEnd_9
theorem mJ11_checkBoundsBeginEnd {E : EV} {l : Launch} {σ : St} {x0 : Int32} {x1 : Int32} {x2 : Nat} {res : Unit} (hX : XK E) (hf : fJ11_checkBoundsBeginEnd E.2.2.2.1 σ x0 x1 x2 = some res) : CM E l yJ11_checkBoundsBeginEnd (ws_ yJ11_checkBoundsBeginEnd cJ11_checkBoundsBeginEnd 3 none) 2 45 [.int x0, .int x1, .ref x2] σ none σ := by
  refine CM.of hX.1 (by decide) rfl rfl (Nat.le_of_ble_eq_true rfl) ?_
  intro p e s m below meth c X I ls hl
  exact wJ11_checkBoundsBeginEnd_0 hX ⟨Nat.le_refl _, Nat.le_refl _⟩ X _ _ _ _ _ _ _ _ I hl hf
/-! java/lang/StringUTF16.indexOfCharUnsafe([BIII)I imp=False fuel=True kap=False rt=I thr=False -/
def fJ11_indexOfCharUnsafe_3 (N : Nat) (σ : St) : Nat → Nat → Int32 → Int32 → Int32 → Option Int32
  | 0, _, _, _, _ => none
  | n + 1, x0, x1, x3, x4 => if x3 ≤ x4 then some (-1 : Int32) else (fJ11_getChar σ x0 x4).bind fun v_1 : Int32 => if v_1 = x1 then some x4 else lt (x4 + 1) fun x4_3 : Int32 => fJ11_indexOfCharUnsafe_3 N σ n x0 x1 x3 x4_3
def fJ11_indexOfCharUnsafe (N : Nat) (σ : St) (x0 : Nat) (x1 : Int32) (x2 : Int32) (x3 : Int32) : Option Int32 := fJ11_indexOfCharUnsafe_3 N σ N x0 x1 x3 x2
theorem wJ11_indexOfCharUnsafe_3 {E : EV} {l : Launch} {p : Program} {e : Env} {s : State} {m : MethodId} {args : Array Value} {below : List Frame} {meth : Method} {c : Code} {R : Room} {σ : St} {res : Int32} (hX : XK E) (hR : 2 ≤ R.frames ∧ 41 ≤ R.locals) (X : MX E p s m args meth c cJ11_indexOfCharUnsafe 5 (some .int) RJ11 "indexOfCharUnsafe") (N : Nat) : ∀ (n : Nat) (x0 : Nat) (x1 : Int32) (x3 : Int32) (x4 : Int32) (H : Heap) (locs : List Loc) (cells slots : Nat) (ls : Array Slot), WI E R s σ H locs cells slots → lv_has ls 5 [(0, .ref x0), (1, .int x1), (3, .int x3), (4, .int x4)] → fJ11_indexOfCharUnsafe_3 N σ n x0 x1 x3 x4 = some res → W p l e R s m args below meth c H locs cells slots (MQ below (Qd E R.cells R.slots (some (.int res)) σ) args s R.cells R.slots (fr E)) (F0 m 3 ls []) := by
  intro n
  induction n with
  | zero => intro x0 x1 x3 x4 H locs cells slots ls I hl hf; exact nomatch (show none = some res from hf)
  | succ n ih =>
    intro x0 x1 x3 x4 H locs cells slots ls I hl hf
    obtain ⟨⟨hx, hb, hml, hown, hts⟩, -⟩ := id X
    rw [fJ11_indexOfCharUnsafe_3.eq_2] at hf
    refine lv_iload hx hb dJ11_indexOfCharUnsafe_3 (lv_at hl 3 rfl) ?_
    refine lv_iload_n hx hb dJ11_indexOfCharUnsafe_5 rfl (lv_at hl 2 rfl) ?_
    refine lv_icmp_ge (tgt := 28) hx hb dJ11_indexOfCharUnsafe_6 (by decide) (fun c_6 => ?_) (fun c_6 => ?_)
    · have hf := ip c_6 hf
      refine lv_iconst (v := (-1)) hx hb dJ11_indexOfCharUnsafe_28 (by decide) ?_
      cases os hf
      exact r_iret X I dJ11_indexOfCharUnsafe_29
    · have hf := im c_6 hf
      refine lv_aload_n hx hb dJ11_indexOfCharUnsafe_9 rfl (lv_at hl 0 rfl) ?_
      refine lv_iload hx hb dJ11_indexOfCharUnsafe_10 (lv_at hl 3 rfl) ?_
      obtain ⟨v_1, ev_1, hf⟩ := ob hf
      refine cg_S (r := (some (.int v_1))) (σ' := σ) (rs := [.int v_1]) (rest := []) (As := [.ref x0, .int x4]) X I (mJ11_getChar hX ev_1) lvJ11_71 hdJ11_71 ⟨Nat.le_trans (Nat.le_of_ble_eq_true rfl) hR.1, Nat.le_trans (Nat.le_of_ble_eq_true rfl) hR.2⟩ rfl hl.1 rfl (Nat.le_of_ble_eq_true rfl) rfl dJ11_indexOfCharUnsafe_12 (fun H locs cells slots I => ?_)
      refine lv_iload_n hx hb dJ11_indexOfCharUnsafe_15 rfl (lv_at hl 1 rfl) ?_
      refine lv_icmp_ne (tgt := 22) hx hb dJ11_indexOfCharUnsafe_16 (by decide) (fun c_16 => ?_) (fun c_16 => ?_)
      · have hf := im c_16 hf
        obtain ⟨x4_3, ex4_3, hf⟩ := ol hf
        refine lv_iinc (v := x4_3) (lv' := [(4, .int x4_3), (0, .ref x0), (1, .int x1), (3, .int x3)]) hx hb dJ11_indexOfCharUnsafe_22 hl (k := 3) rfl ex4_3 (by decide) rfl (fun ls hl => ?_)
        refine lv_goto (tgt := 3) hx hb dJ11_indexOfCharUnsafe_25 (by decide) ?_
        exact ih x0 x1 x3 x4_3 _ _ _ _ _ I (lv_sub hl [1, 2, 3, 0] rfl) hf
      · have hf := ip c_16 hf
        refine lv_iload hx hb dJ11_indexOfCharUnsafe_19 (lv_at hl 3 rfl) ?_
        cases os hf
        exact r_iret X I dJ11_indexOfCharUnsafe_21
theorem wJ11_indexOfCharUnsafe_0 {E : EV} {l : Launch} {p : Program} {e : Env} {s : State} {m : MethodId} {args : Array Value} {below : List Frame} {meth : Method} {c : Code} {R : Room} {σ : St} {res : Int32} (hX : XK E) (hR : 2 ≤ R.frames ∧ 41 ≤ R.locals) (X : MX E p s m args meth c cJ11_indexOfCharUnsafe 5 (some .int) RJ11 "indexOfCharUnsafe") (N : Nat) : ∀ (x0 : Nat) (x1 : Int32) (x2 : Int32) (x3 : Int32) (H : Heap) (locs : List Loc) (cells slots : Nat) (ls : Array Slot), WI E R s σ H locs cells slots → lv_has ls 5 [(0, .ref x0), (1, .int x1), (2, .int x2), (3, .int x3)] → fJ11_indexOfCharUnsafe N σ x0 x1 x2 x3 = some res → W p l e R s m args below meth c H locs cells slots (MQ below (Qd E R.cells R.slots (some (.int res)) σ) args s R.cells R.slots (fr E)) (F0 m 0 ls []) := by
  intro x0 x1 x2 x3 H locs cells slots ls I hl hf
  obtain ⟨⟨hx, hb, hml, hown, hts⟩, -⟩ := id X
  unfold fJ11_indexOfCharUnsafe at hf
  refine lv_iload_n hx hb dJ11_indexOfCharUnsafe_0 rfl (lv_at hl 2 rfl) ?_
  refine lv_istore (lv' := [(4, .int x2), (0, .ref x0), (1, .int x1), (2, .int x2), (3, .int x3)]) hx hb dJ11_indexOfCharUnsafe_1 hl (by decide) rfl (fun ls hl => ?_)
  exact wJ11_indexOfCharUnsafe_3 hX hR X N N x0 x1 x3 x2 _ _ _ _ _ I (lv_sub hl [1, 2, 4, 0] rfl) hf
theorem mJ11_indexOfCharUnsafe {E : EV} {l : Launch} {N : Nat} {σ : St} {x0 : Nat} {x1 : Int32} {x2 : Int32} {x3 : Int32} {res : Int32} (hX : XK E) (hf : fJ11_indexOfCharUnsafe N σ x0 x1 x2 x3 = some res) : CM E l yJ11_indexOfCharUnsafe (ws_ yJ11_indexOfCharUnsafe cJ11_indexOfCharUnsafe 5 (some .int)) 2 41 [.ref x0, .int x1, .int x2, .int x3] σ (some (.int res)) σ := by
  refine CM.of hX.1 (by decide) rfl rfl (Nat.le_of_ble_eq_true rfl) ?_
  intro p e s m below meth c X I ls hl
  exact wJ11_indexOfCharUnsafe_0 hX ⟨Nat.le_refl _, Nat.le_refl _⟩ X N _ _ _ _ _ _ _ _ _ I hl hf
/-! java/lang/StringUTF16.indexOfChar([BIII)I imp=False fuel=True kap=True rt=I thr=False -/
theorem lvJ11_96 : GoodIn lw_all (va_wsS RJ11 96 yJ11_checkBoundsBeginEnd (ws_ yJ11_checkBoundsBeginEnd cJ11_checkBoundsBeginEnd 3 none)) := lw_S q593 q594 q130 q595
theorem hdJ11_96 : yJ11_checkBoundsBeginEnd.cls ≠ "java/lang/invoke/MethodHandle" ∧ yJ11_checkBoundsBeginEnd.cls ≠ "java/lang/invoke/VarHandle" ∧ (parseMethodDescriptor yJ11_checkBoundsBeginEnd.desc).map (fun d => d.parameters.length) = some 3 := by decide +kernel
theorem lvJ11_244 : GoodIn lw_all (va_wsS RJ11 244 yJ11_indexOfCharUnsafe (ws_ yJ11_indexOfCharUnsafe cJ11_indexOfCharUnsafe 5 (some .int))) := lw_S q1284 q1285 q130 q1286
theorem hdJ11_244 : yJ11_indexOfCharUnsafe.cls ≠ "java/lang/invoke/MethodHandle" ∧ yJ11_indexOfCharUnsafe.cls ≠ "java/lang/invoke/VarHandle" ∧ (parseMethodDescriptor yJ11_indexOfCharUnsafe.desc).map (fun d => d.parameters.length) = some 4 := by decide +kernel
def fJ11_indexOfChar (N : Nat) (κ : Nat → Nat) (σ : St) (x0 : Nat) (x1 : Int32) (x2 : Int32) (x3 : Int32) : Option Int32 := (fJ11_checkBoundsBeginEnd κ σ x2 x3 x0).bind fun v_1 : Unit => (fJ11_indexOfCharUnsafe N σ x0 x1 x2 x3).bind fun v_3 : Int32 => some v_3
theorem wJ11_indexOfChar_0 {E : EV} {l : Launch} {p : Program} {e : Env} {s : State} {m : MethodId} {args : Array Value} {below : List Frame} {meth : Method} {c : Code} {R : Room} {σ : St} {res : Int32} (hX : XK E) (hR : 3 ≤ R.frames ∧ 67 ≤ R.locals) (X : MX E p s m args meth c cJ11_indexOfChar 4 (some .int) RJ11 "indexOfChar") (N : Nat) : ∀ (x0 : Nat) (x1 : Int32) (x2 : Int32) (x3 : Int32) (H : Heap) (locs : List Loc) (cells slots : Nat) (ls : Array Slot), WI E R s σ H locs cells slots → lv_has ls 4 [(0, .ref x0), (1, .int x1), (2, .int x2), (3, .int x3)] → fJ11_indexOfChar N E.2.2.2.1 σ x0 x1 x2 x3 = some res → W p l e R s m args below meth c H locs cells slots (MQ below (Qd E R.cells R.slots (some (.int res)) σ) args s R.cells R.slots (fr E)) (F0 m 0 ls []) := by
  intro x0 x1 x2 x3 H locs cells slots ls I hl hf
  obtain ⟨⟨hx, hb, hml, hown, hts⟩, -⟩ := id X
  unfold fJ11_indexOfChar at hf
  refine lv_iload_n hx hb dJ11_indexOfChar_0 rfl (lv_at hl 2 rfl) ?_
  refine lv_iload_n hx hb dJ11_indexOfChar_1 rfl (lv_at hl 3 rfl) ?_
  refine lv_aload_n hx hb dJ11_indexOfChar_2 rfl (lv_at hl 0 rfl) ?_
  obtain ⟨v_1, ev_1, hf⟩ := ob hf
  refine cg_S (r := none) (σ' := σ) (rs := []) (rest := []) (As := [.int x2, .int x3, .ref x0]) X I (mJ11_checkBoundsBeginEnd hX ev_1) lvJ11_96 hdJ11_96 ⟨Nat.le_trans (Nat.le_of_ble_eq_true rfl) hR.1, Nat.le_trans (Nat.le_of_ble_eq_true rfl) hR.2⟩ rfl hl.1 rfl (Nat.le_of_ble_eq_true rfl) rfl dJ11_indexOfChar_3 (fun H locs cells slots I => ?_)
  refine lv_aload_n hx hb dJ11_indexOfChar_6 rfl (lv_at hl 0 rfl) ?_
  refine lv_iload_n hx hb dJ11_indexOfChar_7 rfl (lv_at hl 1 rfl) ?_
  refine lv_iload_n hx hb dJ11_indexOfChar_8 rfl (lv_at hl 2 rfl) ?_
  refine lv_iload_n hx hb dJ11_indexOfChar_9 rfl (lv_at hl 3 rfl) ?_
  obtain ⟨v_3, ev_3, hf⟩ := ob hf
  refine cg_S (r := (some (.int v_3))) (σ' := σ) (rs := [.int v_3]) (rest := []) (As := [.ref x0, .int x1, .int x2, .int x3]) X I (mJ11_indexOfCharUnsafe hX ev_3) lvJ11_244 hdJ11_244 ⟨Nat.le_trans (Nat.le_of_ble_eq_true rfl) hR.1, Nat.le_trans (Nat.le_of_ble_eq_true rfl) hR.2⟩ rfl hl.1 rfl (Nat.le_of_ble_eq_true rfl) rfl dJ11_indexOfChar_10 (fun H locs cells slots I => ?_)
  cases os hf
  exact r_iret X I dJ11_indexOfChar_13
theorem mJ11_indexOfChar {E : EV} {l : Launch} {N : Nat} {σ : St} {x0 : Nat} {x1 : Int32} {x2 : Int32} {x3 : Int32} {res : Int32} (hX : XK E) (hf : fJ11_indexOfChar N E.2.2.2.1 σ x0 x1 x2 x3 = some res) : CM E l yJ11_indexOfChar (ws_ yJ11_indexOfChar cJ11_indexOfChar 4 (some .int)) 3 67 [.ref x0, .int x1, .int x2, .int x3] σ (some (.int res)) σ := by
  refine CM.of hX.1 (by decide) rfl rfl (Nat.le_of_ble_eq_true rfl) ?_
  intro p e s m below meth c X I ls hl
  exact wJ11_indexOfChar_0 hX ⟨Nat.le_refl _, Nat.le_refl _⟩ X N _ _ _ _ _ _ _ _ _ I hl hf
/-! java/lang/Character.isValidCodePoint(I)Z imp=False fuel=False kap=False rt=I thr=False -/
def fJ19_isValidCodePoint (σ : St) (x0 : Int32) : Option Int32 := lt ((x0.toUInt32 >>> ((16 : Int32).toUInt32 &&& Int32.toUInt32 31)).toInt32) fun x1_1 : Int32 => if (17 : Int32) ≤ x1_1 then some (0 : Int32) else some (1 : Int32)
theorem wJ19_isValidCodePoint_0 {E : EV} {l : Launch} {p : Program} {e : Env} {s : State} {m : MethodId} {args : Array Value} {below : List Frame} {meth : Method} {c : Code} {R : Room} {σ : St} {res : Int32} (hX : XK E) (hR : 0 ≤ R.frames ∧ 0 ≤ R.locals) (X : MX E p s m args meth c cJ19_isValidCodePoint 2 (some .boolean) RJ19 "isValidCodePoint") : ∀ (x0 : Int32) (H : Heap) (locs : List Loc) (cells slots : Nat) (ls : Array Slot), WI E R s σ H locs cells slots → lv_has ls 2 [(0, .int x0)] → fJ19_isValidCodePoint σ x0 = some res → W p l e R s m args below meth c H locs cells slots (MQ below (Qd E R.cells R.slots (some (.int res)) σ) args s R.cells R.slots (fr E)) (F0 m 0 ls []) := by
  intro x0 H locs cells slots ls I hl hf
  obtain ⟨⟨hx, hb, hml, hown, hts⟩, -⟩ := id X
  unfold fJ19_isValidCodePoint at hf
  refine lv_iload_n hx hb dJ19_isValidCodePoint_0 rfl (lv_at hl 0 rfl) ?_
  refine lv_bipush (v := 16) hx hb dJ19_isValidCodePoint_1 (by decide) ?_
  refine lv_iushr hx hb dJ19_isValidCodePoint_3 rfl ?_
  obtain ⟨x1_1, ex1_1, hf⟩ := ol hf
  refine nm_i ex1_1 ?_
  refine lv_istore_n (lv' := [(1, .int x1_1), (0, .int x0)]) hx hb dJ19_isValidCodePoint_4 rfl hl (by decide) rfl (fun ls hl => ?_)
  refine lv_iload_n hx hb dJ19_isValidCodePoint_5 rfl (lv_at hl 0 rfl) ?_
  refine lv_bipush (v := 17) hx hb dJ19_isValidCodePoint_6 (by decide) ?_
  refine lv_icmp_ge (tgt := 15) hx hb dJ19_isValidCodePoint_8 (by decide) (fun c_8 => ?_) (fun c_8 => ?_)
  · have hf := ip c_8 hf
    refine lv_iconst (v := 0) hx hb dJ19_isValidCodePoint_15 (by decide) ?_
    cases os hf
    exact r_zret X I (Or.inl rfl) dJ19_isValidCodePoint_16
  · have hf := im c_8 hf
    refine lv_iconst (v := 1) hx hb dJ19_isValidCodePoint_11 (by decide) ?_
    refine lv_goto (tgt := 16) hx hb dJ19_isValidCodePoint_12 (by decide) ?_
    cases os hf
    exact r_zret X I (Or.inr rfl) dJ19_isValidCodePoint_16
theorem mJ19_isValidCodePoint {E : EV} {l : Launch} {σ : St} {x0 : Int32} {res : Int32} (hX : XK E) (hf : fJ19_isValidCodePoint σ x0 = some res) : CM E l yJ19_isValidCodePoint (ws_ yJ19_isValidCodePoint cJ19_isValidCodePoint 2 (some .boolean)) 0 0 [.int x0] σ (some (.int res)) σ := by
  refine CM.of hX.1 (by decide) rfl rfl (Nat.le_of_ble_eq_true rfl) ?_
  intro p e s m below meth c X I ls hl
  exact wJ19_isValidCodePoint_0 hX ⟨Nat.le_refl _, Nat.le_refl _⟩ X _ _ _ _ _ _ I hl hf
/-! java/lang/Character.highSurrogate(I)C imp=False fuel=False kap=False rt=I thr=False -/
def fJ19_highSurrogate (σ : St) (x0 : Int32) : Option Int32 := if ((((((x0.toUInt32 >>> ((10 : Int32).toUInt32 &&& Int32.toUInt32 31)).toInt32) + (55232 : Int32)).toUInt32 % 65536).toInt32).toUInt32 % 65536).toInt32 = (((((x0.toUInt32 >>> ((10 : Int32).toUInt32 &&& Int32.toUInt32 31)).toInt32) + (55232 : Int32)).toUInt32 % 65536).toInt32) then some (((((x0.toUInt32 >>> ((10 : Int32).toUInt32 &&& Int32.toUInt32 31)).toInt32) + (55232 : Int32)).toUInt32 % 65536).toInt32) else none
theorem wJ19_highSurrogate_0 {E : EV} {l : Launch} {p : Program} {e : Env} {s : State} {m : MethodId} {args : Array Value} {below : List Frame} {meth : Method} {c : Code} {R : Room} {σ : St} {res : Int32} (hX : XK E) (hR : 0 ≤ R.frames ∧ 0 ≤ R.locals) (X : MX E p s m args meth c cJ19_highSurrogate 1 (some .char) RJ19 "highSurrogate") : ∀ (x0 : Int32) (H : Heap) (locs : List Loc) (cells slots : Nat) (ls : Array Slot), WI E R s σ H locs cells slots → lv_has ls 1 [(0, .int x0)] → fJ19_highSurrogate σ x0 = some res → W p l e R s m args below meth c H locs cells slots (MQ below (Qd E R.cells R.slots (some (.int res)) σ) args s R.cells R.slots (fr E)) (F0 m 0 ls []) := by
  intro x0 H locs cells slots ls I hl hf
  obtain ⟨⟨hx, hb, hml, hown, hts⟩, -⟩ := id X
  unfold fJ19_highSurrogate at hf
  refine lv_iload_n hx hb dJ19_highSurrogate_0 rfl (lv_at hl 0 rfl) ?_
  refine lv_bipush (v := 10) hx hb dJ19_highSurrogate_1 (by decide) ?_
  refine lv_iushr hx hb dJ19_highSurrogate_3 rfl ?_
  refine lv_ldc (v := 55232) hx hb hown (hts _ q1296) dJ19_highSurrogate_4 ?_
  refine lv_iadd hx hb dJ19_highSurrogate_6 ?_
  refine lv_i2c hx hb dJ19_highSurrogate_7 rfl ?_
  by_cases d_8 : ¬ (((((((x0.toUInt32 >>> ((10 : Int32).toUInt32 &&& Int32.toUInt32 31)).toInt32) + (55232 : Int32)).toUInt32 % 65536).toInt32).toUInt32 % 65536).toInt32 = (((((x0.toUInt32 >>> ((10 : Int32).toUInt32 &&& Int32.toUInt32 31)).toInt32) + (55232 : Int32)).toUInt32 % 65536).toInt32))
  · exact nomatch (im d_8 hf)
  have c_8 := Decidable.not_not.mp d_8
  have hf := ip c_8 hf
  cases os hf
  exact r_nretC X I c_8 dJ19_highSurrogate_8
theorem mJ19_highSurrogate {E : EV} {l : Launch} {σ : St} {x0 : Int32} {res : Int32} (hX : XK E) (hf : fJ19_highSurrogate σ x0 = some res) : CM E l yJ19_highSurrogate (ws_ yJ19_highSurrogate cJ19_highSurrogate 1 (some .char)) 0 0 [.int x0] σ (some (.int res)) σ := by
  refine CM.of hX.1 (by decide) rfl rfl (Nat.le_of_ble_eq_true rfl) ?_
  intro p e s m below meth c X I ls hl
  exact wJ19_highSurrogate_0 hX ⟨Nat.le_refl _, Nat.le_refl _⟩ X _ _ _ _ _ _ I hl hf
/-! java/lang/Character.lowSurrogate(I)C imp=False fuel=False kap=False rt=I thr=False -/
def fJ19_lowSurrogate (σ : St) (x0 : Int32) : Option Int32 := if (((((x0 &&& (1023 : Int32)) + (56320 : Int32)).toUInt32 % 65536).toInt32).toUInt32 % 65536).toInt32 = ((((x0 &&& (1023 : Int32)) + (56320 : Int32)).toUInt32 % 65536).toInt32) then some ((((x0 &&& (1023 : Int32)) + (56320 : Int32)).toUInt32 % 65536).toInt32) else none
theorem wJ19_lowSurrogate_0 {E : EV} {l : Launch} {p : Program} {e : Env} {s : State} {m : MethodId} {args : Array Value} {below : List Frame} {meth : Method} {c : Code} {R : Room} {σ : St} {res : Int32} (hX : XK E) (hR : 0 ≤ R.frames ∧ 0 ≤ R.locals) (X : MX E p s m args meth c cJ19_lowSurrogate 1 (some .char) RJ19 "lowSurrogate") : ∀ (x0 : Int32) (H : Heap) (locs : List Loc) (cells slots : Nat) (ls : Array Slot), WI E R s σ H locs cells slots → lv_has ls 1 [(0, .int x0)] → fJ19_lowSurrogate σ x0 = some res → W p l e R s m args below meth c H locs cells slots (MQ below (Qd E R.cells R.slots (some (.int res)) σ) args s R.cells R.slots (fr E)) (F0 m 0 ls []) := by
  intro x0 H locs cells slots ls I hl hf
  obtain ⟨⟨hx, hb, hml, hown, hts⟩, -⟩ := id X
  unfold fJ19_lowSurrogate at hf
  refine lv_iload_n hx hb dJ19_lowSurrogate_0 rfl (lv_at hl 0 rfl) ?_
  refine lv_sipush (v := 1023) hx hb dJ19_lowSurrogate_1 (by decide) ?_
  refine lv_iand hx hb dJ19_lowSurrogate_4 ?_
  refine lv_ldc (v := 56320) hx hb hown (hts _ q1300) dJ19_lowSurrogate_5 ?_
  refine lv_iadd hx hb dJ19_lowSurrogate_7 ?_
  refine lv_i2c hx hb dJ19_lowSurrogate_8 rfl ?_
  by_cases d_9 : ¬ ((((((x0 &&& (1023 : Int32)) + (56320 : Int32)).toUInt32 % 65536).toInt32).toUInt32 % 65536).toInt32 = ((((x0 &&& (1023 : Int32)) + (56320 : Int32)).toUInt32 % 65536).toInt32))
  · exact nomatch (im d_9 hf)
  have c_9 := Decidable.not_not.mp d_9
  have hf := ip c_9 hf
  cases os hf
  exact r_nretC X I c_9 dJ19_lowSurrogate_9
theorem mJ19_lowSurrogate {E : EV} {l : Launch} {σ : St} {x0 : Int32} {res : Int32} (hX : XK E) (hf : fJ19_lowSurrogate σ x0 = some res) : CM E l yJ19_lowSurrogate (ws_ yJ19_lowSurrogate cJ19_lowSurrogate 1 (some .char)) 0 0 [.int x0] σ (some (.int res)) σ := by
  refine CM.of hX.1 (by decide) rfl rfl (Nat.le_of_ble_eq_true rfl) ?_
  intro p e s m below meth c X I ls hl
  exact wJ19_lowSurrogate_0 hX ⟨Nat.le_refl _, Nat.le_refl _⟩ X _ _ _ _ _ _ I hl hf
/-! java/lang/StringUTF16.indexOfSupplementary([BIII)I imp=False fuel=True kap=True rt=I thr=False -/
theorem lvJ11_164 : GoodIn lw_all (va_wsS RJ11 164 yJ19_isValidCodePoint (ws_ yJ19_isValidCodePoint cJ19_isValidCodePoint 2 (some .boolean))) := lw_S q1290 q1291 q139 q1292
theorem hdJ11_164 : yJ19_isValidCodePoint.cls ≠ "java/lang/invoke/MethodHandle" ∧ yJ19_isValidCodePoint.cls ≠ "java/lang/invoke/VarHandle" ∧ (parseMethodDescriptor yJ19_isValidCodePoint.desc).map (fun d => d.parameters.length) = some 1 := by decide +kernel
theorem lvJ11_157 : GoodIn lw_all (va_wsS RJ11 157 yJ19_highSurrogate (ws_ yJ19_highSurrogate cJ19_highSurrogate 1 (some .char))) := lw_S q1293 q1294 q139 q1295
theorem hdJ11_157 : yJ19_highSurrogate.cls ≠ "java/lang/invoke/MethodHandle" ∧ yJ19_highSurrogate.cls ≠ "java/lang/invoke/VarHandle" ∧ (parseMethodDescriptor yJ19_highSurrogate.desc).map (fun d => d.parameters.length) = some 1 := by decide +kernel
theorem lvJ11_161 : GoodIn lw_all (va_wsS RJ11 161 yJ19_lowSurrogate (ws_ yJ19_lowSurrogate cJ19_lowSurrogate 1 (some .char))) := lw_S q1297 q1298 q139 q1299
theorem hdJ11_161 : yJ19_lowSurrogate.cls ≠ "java/lang/invoke/MethodHandle" ∧ yJ19_lowSurrogate.cls ≠ "java/lang/invoke/VarHandle" ∧ (parseMethodDescriptor yJ19_lowSurrogate.desc).map (fun d => d.parameters.length) = some 1 := by decide +kernel
def fJ11_indexOfSupplementary_63 (N : Nat) (κ : Nat → Nat) (σ : St) (r28 : Nat → Int32 → Int32 → Int32 → Int32 → Option Int32) (x0 : Nat) (x3 : Int32) (x4 : Int32) (x5 : Int32) (x6 : Int32) : Option Int32 := lt (x6 + 1) fun x6_1 : Int32 => r28 x0 x3 x4 x5 x6_1
def fJ11_indexOfSupplementary_28 (N : Nat) (κ : Nat → Nat) (σ : St) : Nat → Nat → Int32 → Int32 → Int32 → Int32 → Option Int32
  | 0, _, _, _, _, _ => none
  | n + 1, x0, x3, x4, x5, x6 => if (x3 - (1 : Int32)) ≤ x6 then some (-1 : Int32) else (fJ11_getChar σ x0 x6).bind fun v_2 : Int32 => if v_2 = x4 then (fJ11_getChar σ x0 (x6 + (1 : Int32))).bind fun v_4 : Int32 => if v_4 = x5 then some x6 else fJ11_indexOfSupplementary_63 N κ σ (fJ11_indexOfSupplementary_28 N κ σ n) x0 x3 x4 x5 x6 else fJ11_indexOfSupplementary_63 N κ σ (fJ11_indexOfSupplementary_28 N κ σ n) x0 x3 x4 x5 x6
def fJ11_indexOfSupplementary (N : Nat) (κ : Nat → Nat) (σ : St) (x0 : Nat) (x1 : Int32) (x2 : Int32) (x3 : Int32) : Option Int32 := (fJ19_isValidCodePoint σ x1).bind fun v_6 : Int32 => if v_6 = 0 then some (-1 : Int32) else (fJ19_highSurrogate σ x1).bind fun v_8 : Int32 => (fJ19_lowSurrogate σ x1).bind fun v_10 : Int32 => (fJ11_checkBoundsBeginEnd κ σ x2 x3 x0).bind fun v_12 : Unit => fJ11_indexOfSupplementary_28 N κ σ N x0 x3 v_8 v_10 x2
theorem wJ11_indexOfSupplementary_63 {E : EV} {l : Launch} {p : Program} {e : Env} {s : State} {m : MethodId} {args : Array Value} {below : List Frame} {meth : Method} {c : Code} {R : Room} {σ : St} {res : Int32} (hX : XK E) (hR : 3 ≤ R.frames ∧ 67 ≤ R.locals) (X : MX E p s m args meth c cJ11_indexOfSupplementary 7 (some .int) RJ11 "indexOfSupplementary") (N : Nat) (r28 : Nat → Int32 → Int32 → Int32 → Int32 → Option Int32) (hr28 : ∀ (x0 : Nat) (x3 : Int32) (x4 : Int32) (x5 : Int32) (x6 : Int32) (H : Heap) (locs : List Loc) (cells slots : Nat) (ls : Array Slot), WI E R s σ H locs cells slots → lv_has ls 7 [(0, .ref x0), (3, .int x3), (4, .int x4), (5, .int x5), (6, .int x6)] → r28 x0 x3 x4 x5 x6 = some res → W p l e R s m args below meth c H locs cells slots (MQ below (Qd E R.cells R.slots (some (.int res)) σ) args s R.cells R.slots (fr E)) (F0 m 28 ls [])) : ∀ (x0 : Nat) (x3 : Int32) (x4 : Int32) (x5 : Int32) (x6 : Int32) (H : Heap) (locs : List Loc) (cells slots : Nat) (ls : Array Slot), WI E R s σ H locs cells slots → lv_has ls 7 [(0, .ref x0), (3, .int x3), (4, .int x4), (5, .int x5), (6, .int x6)] → fJ11_indexOfSupplementary_63 N E.2.2.2.1 σ r28 x0 x3 x4 x5 x6 = some res → W p l e R s m args below meth c H locs cells slots (MQ below (Qd E R.cells R.slots (some (.int res)) σ) args s R.cells R.slots (fr E)) (F0 m 63 ls []) := by
  intro x0 x3 x4 x5 x6 H locs cells slots ls I hl hf
  obtain ⟨⟨hx, hb, hml, hown, hts⟩, -⟩ := id X
  unfold fJ11_indexOfSupplementary_63 at hf
  obtain ⟨x6_1, ex6_1, hf⟩ := ol hf
  refine lv_iinc (v := x6_1) (lv' := [(6, .int x6_1), (0, .ref x0), (3, .int x3), (4, .int x4), (5, .int x5)]) hx hb dJ11_indexOfSupplementary_63 hl (k := 4) rfl ex6_1 (by decide) rfl (fun ls hl => ?_)
  refine lv_goto (tgt := 28) hx hb dJ11_indexOfSupplementary_66 (by decide) ?_
  exact hr28 x0 x3 x4 x5 x6_1 _ _ _ _ _ I (lv_sub hl [1, 2, 3, 4, 0] rfl) hf
theorem wJ11_indexOfSupplementary_28 {E : EV} {l : Launch} {p : Program} {e : Env} {s : State} {m : MethodId} {args : Array Value} {below : List Frame} {meth : Method} {c : Code} {R : Room} {σ : St} {res : Int32} (hX : XK E) (hR : 3 ≤ R.frames ∧ 67 ≤ R.locals) (X : MX E p s m args meth c cJ11_indexOfSupplementary 7 (some .int) RJ11 "indexOfSupplementary") (N : Nat) : ∀ (n : Nat) (x0 : Nat) (x3 : Int32) (x4 : Int32) (x5 : Int32) (x6 : Int32) (H : Heap) (locs : List Loc) (cells slots : Nat) (ls : Array Slot), WI E R s σ H locs cells slots → lv_has ls 7 [(0, .ref x0), (3, .int x3), (4, .int x4), (5, .int x5), (6, .int x6)] → fJ11_indexOfSupplementary_28 N E.2.2.2.1 σ n x0 x3 x4 x5 x6 = some res → W p l e R s m args below meth c H locs cells slots (MQ below (Qd E R.cells R.slots (some (.int res)) σ) args s R.cells R.slots (fr E)) (F0 m 28 ls []) := by
  intro n
  induction n with
  | zero => intro x0 x3 x4 x5 x6 H locs cells slots ls I hl hf; exact nomatch (show none = some res from hf)
  | succ n ih =>
    intro x0 x3 x4 x5 x6 H locs cells slots ls I hl hf
    obtain ⟨⟨hx, hb, hml, hown, hts⟩, -⟩ := id X
    rw [fJ11_indexOfSupplementary_28.eq_2] at hf
    refine lv_iload hx hb dJ11_indexOfSupplementary_28 (lv_at hl 4 rfl) ?_
    refine lv_iload_n hx hb dJ11_indexOfSupplementary_30 rfl (lv_at hl 1 rfl) ?_
    refine lv_iconst (v := 1) hx hb dJ11_indexOfSupplementary_31 (by decide) ?_
    refine lv_isub hx hb dJ11_indexOfSupplementary_32 ?_
    refine lv_icmp_ge (tgt := 69) hx hb dJ11_indexOfSupplementary_33 (by decide) (fun c_33 => ?_) (fun c_33 => ?_)
    · have hf := ip c_33 hf
      refine lv_iconst (v := (-1)) hx hb dJ11_indexOfSupplementary_69 (by decide) ?_
      cases os hf
      exact r_iret X I dJ11_indexOfSupplementary_70
    · have hf := im c_33 hf
      refine lv_aload_n hx hb dJ11_indexOfSupplementary_36 rfl (lv_at hl 0 rfl) ?_
      refine lv_iload hx hb dJ11_indexOfSupplementary_37 (lv_at hl 4 rfl) ?_
      obtain ⟨v_2, ev_2, hf⟩ := ob hf
      refine cg_S (r := (some (.int v_2))) (σ' := σ) (rs := [.int v_2]) (rest := []) (As := [.ref x0, .int x6]) X I (mJ11_getChar hX ev_2) lvJ11_71 hdJ11_71 ⟨Nat.le_trans (Nat.le_of_ble_eq_true rfl) hR.1, Nat.le_trans (Nat.le_of_ble_eq_true rfl) hR.2⟩ rfl hl.1 rfl (Nat.le_of_ble_eq_true rfl) rfl dJ11_indexOfSupplementary_39 (fun H locs cells slots I => ?_)
      refine lv_iload hx hb dJ11_indexOfSupplementary_42 (lv_at hl 2 rfl) ?_
      refine lv_icmp_ne (tgt := 63) hx hb dJ11_indexOfSupplementary_44 (by decide) (fun c_44 => ?_) (fun c_44 => ?_)
      · have hf := im c_44 hf
        exact wJ11_indexOfSupplementary_63 hX hR X N (fJ11_indexOfSupplementary_28 N E.2.2.2.1 σ n) ih x0 x3 x4 x5 x6 _ _ _ _ _ I (lv_sub hl [0, 1, 2, 3, 4] rfl) hf
      · have hf := ip c_44 hf
        refine lv_aload_n hx hb dJ11_indexOfSupplementary_47 rfl (lv_at hl 0 rfl) ?_
        refine lv_iload hx hb dJ11_indexOfSupplementary_48 (lv_at hl 4 rfl) ?_
        refine lv_iconst (v := 1) hx hb dJ11_indexOfSupplementary_50 (by decide) ?_
        refine lv_iadd hx hb dJ11_indexOfSupplementary_51 ?_
        obtain ⟨v_4, ev_4, hf⟩ := ob hf
        refine cg_S (r := (some (.int v_4))) (σ' := σ) (rs := [.int v_4]) (rest := []) (As := [.ref x0, .int (x6 + (1 : Int32))]) X I (mJ11_getChar hX ev_4) lvJ11_71 hdJ11_71 ⟨Nat.le_trans (Nat.le_of_ble_eq_true rfl) hR.1, Nat.le_trans (Nat.le_of_ble_eq_true rfl) hR.2⟩ rfl hl.1 rfl (Nat.le_of_ble_eq_true rfl) rfl dJ11_indexOfSupplementary_52 (fun H locs cells slots I => ?_)
        refine lv_iload hx hb dJ11_indexOfSupplementary_55 (lv_at hl 3 rfl) ?_
        refine lv_icmp_ne (tgt := 63) hx hb dJ11_indexOfSupplementary_57 (by decide) (fun c_57 => ?_) (fun c_57 => ?_)
        · have hf := im c_57 hf
          exact wJ11_indexOfSupplementary_63 hX hR X N (fJ11_indexOfSupplementary_28 N E.2.2.2.1 σ n) ih x0 x3 x4 x5 x6 _ _ _ _ _ I (lv_sub hl [0, 1, 2, 3, 4] rfl) hf
        · have hf := ip c_57 hf
          refine lv_iload hx hb dJ11_indexOfSupplementary_60 (lv_at hl 4 rfl) ?_
          cases os hf
          exact r_iret X I dJ11_indexOfSupplementary_62
theorem wJ11_indexOfSupplementary_0 {E : EV} {l : Launch} {p : Program} {e : Env} {s : State} {m : MethodId} {args : Array Value} {below : List Frame} {meth : Method} {c : Code} {R : Room} {σ : St} {res : Int32} (hX : XK E) (hR : 3 ≤ R.frames ∧ 67 ≤ R.locals) (X : MX E p s m args meth c cJ11_indexOfSupplementary 7 (some .int) RJ11 "indexOfSupplementary") (N : Nat) : ∀ (x0 : Nat) (x1 : Int32) (x2 : Int32) (x3 : Int32) (H : Heap) (locs : List Loc) (cells slots : Nat) (ls : Array Slot), WI E R s σ H locs cells slots → lv_has ls 7 [(0, .ref x0), (1, .int x1), (2, .int x2), (3, .int x3)] → fJ11_indexOfSupplementary N E.2.2.2.1 σ x0 x1 x2 x3 = some res → W p l e R s m args below meth c H locs cells slots (MQ below (Qd E R.cells R.slots (some (.int res)) σ) args s R.cells R.slots (fr E)) (F0 m 0 ls []) := by
  intro x0 x1 x2 x3 H locs cells slots ls I hl hf
  obtain ⟨⟨hx, hb, hml, hown, hts⟩, -⟩ := id X
  unfold fJ11_indexOfSupplementary at hf
  refine lv_iload_n hx hb dJ11_indexOfSupplementary_0 rfl (lv_at hl 1 rfl) ?_
  obtain ⟨v_6, ev_6, hf⟩ := ob hf
  refine cg_S (r := (some (.int v_6))) (σ' := σ) (rs := [.int v_6]) (rest := []) (As := [.int x1]) X I (mJ19_isValidCodePoint hX ev_6) lvJ11_164 hdJ11_164 ⟨Nat.le_trans (Nat.le_of_ble_eq_true rfl) hR.1, Nat.le_trans (Nat.le_of_ble_eq_true rfl) hR.2⟩ rfl hl.1 rfl (Nat.le_of_ble_eq_true rfl) rfl dJ11_indexOfSupplementary_1 (fun H locs cells slots I => ?_)
  refine lv_if_eq (tgt := 69) hx hb dJ11_indexOfSupplementary_4 (by decide) (fun c_4 => ?_) (fun c_4 => ?_)
  · have hf := ip c_4 hf
    refine lv_iconst (v := (-1)) hx hb dJ11_indexOfSupplementary_69 (by decide) ?_
    cases os hf
    exact r_iret X I dJ11_indexOfSupplementary_70
  · have hf := im c_4 hf
    refine lv_iload_n hx hb dJ11_indexOfSupplementary_7 rfl (lv_at hl 1 rfl) ?_
    obtain ⟨v_8, ev_8, hf⟩ := ob hf
    refine cg_S (r := (some (.int v_8))) (σ' := σ) (rs := [.int v_8]) (rest := []) (As := [.int x1]) X I (mJ19_highSurrogate hX ev_8) lvJ11_157 hdJ11_157 ⟨Nat.le_trans (Nat.le_of_ble_eq_true rfl) hR.1, Nat.le_trans (Nat.le_of_ble_eq_true rfl) hR.2⟩ rfl hl.1 rfl (Nat.le_of_ble_eq_true rfl) rfl dJ11_indexOfSupplementary_8 (fun H locs cells slots I => ?_)
    refine lv_istore (lv' := [(4, .int v_8), (0, .ref x0), (1, .int x1), (2, .int x2), (3, .int x3)]) hx hb dJ11_indexOfSupplementary_11 hl (by decide) rfl (fun ls hl => ?_)
    refine lv_iload_n hx hb dJ11_indexOfSupplementary_13 rfl (lv_at hl 2 rfl) ?_
    obtain ⟨v_10, ev_10, hf⟩ := ob hf
    refine cg_S (r := (some (.int v_10))) (σ' := σ) (rs := [.int v_10]) (rest := []) (As := [.int x1]) X I (mJ19_lowSurrogate hX ev_10) lvJ11_161 hdJ11_161 ⟨Nat.le_trans (Nat.le_of_ble_eq_true rfl) hR.1, Nat.le_trans (Nat.le_of_ble_eq_true rfl) hR.2⟩ rfl hl.1 rfl (Nat.le_of_ble_eq_true rfl) rfl dJ11_indexOfSupplementary_14 (fun H locs cells slots I => ?_)
    refine lv_istore (lv' := [(5, .int v_10), (4, .int v_8), (0, .ref x0), (1, .int x1), (2, .int x2), (3, .int x3)]) hx hb dJ11_indexOfSupplementary_17 hl (by decide) rfl (fun ls hl => ?_)
    refine lv_iload_n hx hb dJ11_indexOfSupplementary_19 rfl (lv_at hl 4 rfl) ?_
    refine lv_iload_n hx hb dJ11_indexOfSupplementary_20 rfl (lv_at hl 5 rfl) ?_
    refine lv_aload_n hx hb dJ11_indexOfSupplementary_21 rfl (lv_at hl 2 rfl) ?_
    obtain ⟨v_12, ev_12, hf⟩ := ob hf
    refine cg_S (r := none) (σ' := σ) (rs := []) (rest := []) (As := [.int x2, .int x3, .ref x0]) X I (mJ11_checkBoundsBeginEnd hX ev_12) lvJ11_96 hdJ11_96 ⟨Nat.le_trans (Nat.le_of_ble_eq_true rfl) hR.1, Nat.le_trans (Nat.le_of_ble_eq_true rfl) hR.2⟩ rfl hl.1 rfl (Nat.le_of_ble_eq_true rfl) rfl dJ11_indexOfSupplementary_22 (fun H locs cells slots I => ?_)
    refine lv_iload_n hx hb dJ11_indexOfSupplementary_25 rfl (lv_at hl 4 rfl) ?_
    refine lv_istore (lv' := [(6, .int x2), (5, .int v_10), (4, .int v_8), (0, .ref x0), (1, .int x1), (2, .int x2), (3, .int x3)]) hx hb dJ11_indexOfSupplementary_26 hl (by decide) rfl (fun ls hl => ?_)
    exact wJ11_indexOfSupplementary_28 hX hR X N N x0 x3 v_8 v_10 x2 _ _ _ _ _ I (lv_sub hl [3, 6, 2, 1, 0] rfl) hf
theorem mJ11_indexOfSupplementary {E : EV} {l : Launch} {N : Nat} {σ : St} {x0 : Nat} {x1 : Int32} {x2 : Int32} {x3 : Int32} {res : Int32} (hX : XK E) (hf : fJ11_indexOfSupplementary N E.2.2.2.1 σ x0 x1 x2 x3 = some res) : CM E l yJ11_indexOfSupplementary (ws_ yJ11_indexOfSupplementary cJ11_indexOfSupplementary 7 (some .int)) 3 67 [.ref x0, .int x1, .int x2, .int x3] σ (some (.int res)) σ := by
  refine CM.of hX.1 (by decide) rfl rfl (Nat.le_of_ble_eq_true rfl) ?_
  intro p e s m below meth c X I ls hl
  exact wJ11_indexOfSupplementary_0 hX ⟨Nat.le_refl _, Nat.le_refl _⟩ X N _ _ _ _ _ _ _ _ _ I hl hf
/-! java/lang/StringUTF16.indexOf([BIII)I imp=False fuel=True kap=True rt=I thr=False -/
theorem lvJ11_232 : GoodIn lw_all (va_wsS RJ11 232 yJ11_indexOfSupplementary (ws_ yJ11_indexOfSupplementary cJ11_indexOfSupplementary 7 (some .int))) := lw_S q1287 q1288 q130 q1289
theorem hdJ11_232 : yJ11_indexOfSupplementary.cls ≠ "java/lang/invoke/MethodHandle" ∧ yJ11_indexOfSupplementary.cls ≠ "java/lang/invoke/VarHandle" ∧ (parseMethodDescriptor yJ11_indexOfSupplementary.desc).map (fun d => d.parameters.length) = some 4 := by decide +kernel
theorem lvJ11_228 : GoodIn lw_all (va_wsS RJ11 228 yJ11_indexOfChar (ws_ yJ11_indexOfChar cJ11_indexOfChar 4 (some .int))) := lw_S q1281 q1282 q130 q1283
theorem hdJ11_228 : yJ11_indexOfChar.cls ≠ "java/lang/invoke/MethodHandle" ∧ yJ11_indexOfChar.cls ≠ "java/lang/invoke/VarHandle" ∧ (parseMethodDescriptor yJ11_indexOfChar.desc).map (fun d => d.parameters.length) = some 4 := by decide +kernel
def fJ11_indexOf (N : Nat) (κ : Nat → Nat) (σ : St) (x0 : Nat) (x1 : Int32) (x2 : Int32) (x3 : Int32) : Option Int32 := lt (if x2 < (0 : Int32) then (0 : Int32) else x2) fun x2_1 : Int32 => (aL σ x0).bind fun v_2 : Int32 => lt (if (v_2 >>> ((1 : Int32) &&& 31)) < x3 then (v_2 >>> ((1 : Int32) &&& 31)) else x3) fun x3_3 : Int32 => if x2_1 < x3_3 then if (65536 : Int32) ≤ x1 then (fJ11_indexOfSupplementary N κ σ x0 x1 x2_1 x3_3).bind fun v_4 : Int32 => some v_4 else (fJ11_indexOfChar N κ σ x0 x1 x2_1 x3_3).bind fun v_6 : Int32 => some v_6 else some (-1 : Int32)
theorem wJ11_indexOf_0 {E : EV} {l : Launch} {p : Program} {e : Env} {s : State} {m : MethodId} {args : Array Value} {below : List Frame} {meth : Method} {c : Code} {R : Room} {σ : St} {res : Int32} (hX : XK E) (hR : 4 ≤ R.frames ∧ 93 ≤ R.locals) (X : MX E p s m args meth c cJ11_indexOf 4 (some .int) RJ11 "indexOf") (N : Nat) : ∀ (x0 : Nat) (x1 : Int32) (x2 : Int32) (x3 : Int32) (H : Heap) (locs : List Loc) (cells slots : Nat) (ls : Array Slot), WI E R s σ H locs cells slots → lv_has ls 4 [(0, .ref x0), (1, .int x1), (2, .int x2), (3, .int x3)] → fJ11_indexOf N E.2.2.2.1 σ x0 x1 x2 x3 = some res → W p l e R s m args below meth c H locs cells slots (MQ below (Qd E R.cells R.slots (some (.int res)) σ) args s R.cells R.slots (fr E)) (F0 m 0 ls []) := by
  intro x0 x1 x2 x3 H locs cells slots ls I hl hf
  obtain ⟨⟨hx, hb, hml, hown, hts⟩, -⟩ := id X
  unfold fJ11_indexOf at hf
  refine lv_iload_n hx hb dJ11_indexOf_0 rfl (lv_at hl 2 rfl) ?_
  refine lv_iconst (v := 0) hx hb dJ11_indexOf_1 (by decide) ?_
  refine g_mmax X I ⟨Nat.le_trans (Nat.le_of_ble_eq_true rfl) hR.1, Nat.le_trans (Nat.le_of_ble_eq_true rfl) hR.2⟩ q1278 hl.1 (Nat.le_of_ble_eq_true rfl) dJ11_indexOf_2 ?_
  obtain ⟨x2_1, ex2_1, hf⟩ := ol hf
  refine nm_i ex2_1 ?_
  refine lv_istore_n (lv' := [(2, .int x2_1), (0, .ref x0), (1, .int x1), (3, .int x3)]) hx hb dJ11_indexOf_5 rfl hl (by decide) rfl (fun ls hl => ?_)
  refine lv_iload_n hx hb dJ11_indexOf_6 rfl (lv_at hl 3 rfl) ?_
  refine lv_aload_n hx hb dJ11_indexOf_7 rfl (lv_at hl 1 rfl) ?_
  obtain ⟨v_2, ev_2, hf⟩ := ob hf
  refine g_alen X I ev_2 dJ11_indexOf_8 ?_
  refine lv_iconst (v := 1) hx hb dJ11_indexOf_9 (by decide) ?_
  refine lv_ishr hx hb dJ11_indexOf_10 ?_
  refine g_mmin X I ⟨Nat.le_trans (Nat.le_of_ble_eq_true rfl) hR.1, Nat.le_trans (Nat.le_of_ble_eq_true rfl) hR.2⟩ q1279 hl.1 (Nat.le_of_ble_eq_true rfl) dJ11_indexOf_11 ?_
  obtain ⟨x3_3, ex3_3, hf⟩ := ol hf
  refine nm_i ex3_3 ?_
  refine lv_istore_n (lv' := [(3, .int x3_3), (2, .int x2_1), (0, .ref x0), (1, .int x1)]) hx hb dJ11_indexOf_14 rfl hl (by decide) rfl (fun ls hl => ?_)
  refine lv_iload_n hx hb dJ11_indexOf_15 rfl (lv_at hl 1 rfl) ?_
  refine lv_iload_n hx hb dJ11_indexOf_16 rfl (lv_at hl 0 rfl) ?_
  refine lv_icmp_lt (tgt := 22) hx hb dJ11_indexOf_17 (by decide) (fun c_17 => ?_) (fun c_17 => ?_)
  · have hf := ip c_17 hf
    refine lv_iload_n hx hb dJ11_indexOf_22 rfl (lv_at hl 3 rfl) ?_
    refine lv_ldc (v := 65536) hx hb hown (hts _ q1280) dJ11_indexOf_23 ?_
    refine lv_icmp_ge (tgt := 36) hx hb dJ11_indexOf_25 (by decide) (fun c_25 => ?_) (fun c_25 => ?_)
    · have hf := ip c_25 hf
      refine lv_aload_n hx hb dJ11_indexOf_36 rfl (lv_at hl 2 rfl) ?_
      refine lv_iload_n hx hb dJ11_indexOf_37 rfl (lv_at hl 3 rfl) ?_
      refine lv_iload_n hx hb dJ11_indexOf_38 rfl (lv_at hl 1 rfl) ?_
      refine lv_iload_n hx hb dJ11_indexOf_39 rfl (lv_at hl 0 rfl) ?_
      obtain ⟨v_4, ev_4, hf⟩ := ob hf
      refine cg_S (r := (some (.int v_4))) (σ' := σ) (rs := [.int v_4]) (rest := []) (As := [.ref x0, .int x1, .int x2_1, .int x3_3]) X I (mJ11_indexOfSupplementary hX ev_4) lvJ11_232 hdJ11_232 ⟨Nat.le_trans (Nat.le_of_ble_eq_true rfl) hR.1, Nat.le_trans (Nat.le_of_ble_eq_true rfl) hR.2⟩ rfl hl.1 rfl (Nat.le_of_ble_eq_true rfl) rfl dJ11_indexOf_40 (fun H locs cells slots I => ?_)
      cases os hf
      exact r_iret X I dJ11_indexOf_43
    · have hf := im c_25 hf
      refine lv_aload_n hx hb dJ11_indexOf_28 rfl (lv_at hl 2 rfl) ?_
      refine lv_iload_n hx hb dJ11_indexOf_29 rfl (lv_at hl 3 rfl) ?_
      refine lv_iload_n hx hb dJ11_indexOf_30 rfl (lv_at hl 1 rfl) ?_
      refine lv_iload_n hx hb dJ11_indexOf_31 rfl (lv_at hl 0 rfl) ?_
      obtain ⟨v_6, ev_6, hf⟩ := ob hf
      refine cg_S (r := (some (.int v_6))) (σ' := σ) (rs := [.int v_6]) (rest := []) (As := [.ref x0, .int x1, .int x2_1, .int x3_3]) X I (mJ11_indexOfChar hX ev_6) lvJ11_228 hdJ11_228 ⟨Nat.le_trans (Nat.le_of_ble_eq_true rfl) hR.1, Nat.le_trans (Nat.le_of_ble_eq_true rfl) hR.2⟩ rfl hl.1 rfl (Nat.le_of_ble_eq_true rfl) rfl dJ11_indexOf_32 (fun H locs cells slots I => ?_)
      cases os hf
      exact r_iret X I dJ11_indexOf_35
  · have hf := im c_17 hf
    refine lv_iconst (v := (-1)) hx hb dJ11_indexOf_20 (by decide) ?_
    cases os hf
    exact r_iret X I dJ11_indexOf_21
theorem mJ11_indexOf {E : EV} {l : Launch} {N : Nat} {σ : St} {x0 : Nat} {x1 : Int32} {x2 : Int32} {x3 : Int32} {res : Int32} (hX : XK E) (hf : fJ11_indexOf N E.2.2.2.1 σ x0 x1 x2 x3 = some res) : CM E l yJ11_indexOf (ws_ yJ11_indexOf cJ11_indexOf 4 (some .int)) 4 93 [.ref x0, .int x1, .int x2, .int x3] σ (some (.int res)) σ := by
  refine CM.of hX.1 (by decide) rfl rfl (Nat.le_of_ble_eq_true rfl) ?_
  intro p e s m below meth c X I ls hl
  exact wJ11_indexOf_0 hX ⟨Nat.le_refl _, Nat.le_refl _⟩ X N _ _ _ _ _ _ _ _ _ I hl hf
