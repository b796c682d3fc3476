/-! walks over the abstract heap (printed by gen/gwalk.py) -/
set_option maxRecDepth 100000
/-! java/lang/String.indexOf(II)I imp=False fuel=True kap=True rt=I thr=False -/
theorem lvJ10_492 : GoodIn lw_all (wsV RJ10 492 RJ10 yJ10_isLatin1 (ws_ yJ10_isLatin1 cJ10_isLatin1 1 (some .boolean))) := lw_V q818 q819 q820 q129 q821
theorem hdJ10_492 : yJ10_isLatin1.cls = RJ10 ∧ yJ10_isLatin1.cls ≠ "java/lang/invoke/MethodHandle" ∧ yJ10_isLatin1.cls ≠ "java/lang/invoke/VarHandle" ∧ (parseMethodDescriptor yJ10_isLatin1.desc).map (fun d => d.parameters.length) = some 0 := by decide +kernel
theorem lvJ10_505 : GoodIn lw_all (wsV RJ10 505 RJ10 yJ10_length (ws_ yJ10_length cJ10_length 1 (some .int))) := lw_V q1263 q617 q618 q129 q619
theorem hdJ10_505 : yJ10_length.cls = RJ10 ∧ yJ10_length.cls ≠ "java/lang/invoke/MethodHandle" ∧ yJ10_length.cls ≠ "java/lang/invoke/VarHandle" ∧ (parseMethodDescriptor yJ10_length.desc).map (fun d => d.parameters.length) = some 0 := by decide +kernel
theorem lvJ10_640 : GoodIn lw_all (va_wsS RJ10 640 yJ11_indexOf (ws_ yJ11_indexOf cJ11_indexOf 4 (some .int))) := lw_S q1275 q1276 q130 q1277
theorem hdJ10_640 : yJ11_indexOf.cls ≠ "java/lang/invoke/MethodHandle" ∧ yJ11_indexOf.cls ≠ "java/lang/invoke/VarHandle" ∧ (parseMethodDescriptor yJ11_indexOf.desc).map (fun d => d.parameters.length) = some 4 := by decide +kernel
theorem lvJ10_637 : GoodIn lw_all (va_wsS RJ10 637 yJ15_indexOf (ws_ yJ15_indexOf cJ15_indexOf 4 (some .int))) := lw_S q1264 q1265 q135 q1266
theorem hdJ10_637 : yJ15_indexOf.cls ≠ "java/lang/invoke/MethodHandle" ∧ yJ15_indexOf.cls ≠ "java/lang/invoke/VarHandle" ∧ (parseMethodDescriptor yJ15_indexOf.desc).map (fun d => d.parameters.length) = some 4 := by decide +kernel
def fJ10_indexOf_2 (N : Nat) (κ : Nat → Nat) (σ : St) (x0 : Nat) (x1 : Int32) (x2 : Int32) : Option Int32 := (isC σ x0 26).bind fun u_1 : Unit => (fJ10_isLatin1 κ σ x0).bind fun v_2 : Int32 => if v_2 = 0 then (gR σ x0 [(26, 0)]).bind fun v_4 : Option Nat => (isC σ x0 26).bind fun u_5 : Unit => (fJ10_length κ σ x0).bind fun v_6 : Int32 => (v_4).bind fun a_8 : Nat => (fJ11_indexOf N κ σ a_8 x1 x2 v_6).bind fun v_9 : Int32 => some v_9 else (gR σ x0 [(26, 0)]).bind fun v_11 : Option Nat => (isC σ x0 26).bind fun u_12 : Unit => (fJ10_length κ σ x0).bind fun v_13 : Int32 => (v_11).bind fun a_15 : Nat => (fJ15_indexOf N σ a_15 x1 x2 v_13).bind fun v_16 : Int32 => some v_16
theorem wJ10_indexOf_2_0 {E : EV} {l : Launch} {p : Program} {e : Env} {s : State} {m : MethodId} {args : Array Value} {below : List Frame} {meth : Method} {c : Code} {R : Room} {σ : St} {res : Int32} (hX : XK E) (hR : 5 ≤ R.frames ∧ 116 ≤ R.locals) (X : MX E p s m args meth c cJ10_indexOf_2 3 (some .int) RJ10 "indexOf") (N : Nat) : ∀ (x0 : Nat) (x1 : Int32) (x2 : Int32) (H : Heap) (locs : List Loc) (cells slots : Nat) (ls : Array Slot), WI E R s σ H locs cells slots → lv_has ls 3 [(0, .ref x0), (1, .int x1), (2, .int x2)] → fJ10_indexOf_2 N E.2.2.2.1 σ x0 x1 x2 = some res → W p l e R s m args below meth c H locs cells slots (MQ below (Qd E R.cells R.slots (some (.int res)) σ) args s R.cells R.slots (fr E)) (F0 m 0 ls []) := by
  intro x0 x1 x2 H locs cells slots ls I hl hf
  obtain ⟨⟨hx, hb, hml, hown, hts⟩, -⟩ := id X
  unfold fJ10_indexOf_2 at hf
  refine lv_aload_n hx hb dJ10_indexOf_2_0 rfl (lv_at hl 0 rfl) ?_
  obtain ⟨u_1, eu_1, hf⟩ := ob hf
  obtain ⟨v_2, ev_2, hf⟩ := ob hf
  refine cg_V (vw := (RJ10, TJ10, 4)) (ci := 26) (r := (some (.int v_2))) (σ' := σ) (rs := [.int v_2]) (rest := []) (As := []) X I eu_1 rfl (mJ10_isLatin1 hX ev_2) lvJ10_492 hdJ10_492 ⟨Nat.le_trans (Nat.le_of_ble_eq_true rfl) hR.1, Nat.le_trans (Nat.le_of_ble_eq_true rfl) hR.2⟩ rfl hl.1 rfl (Nat.le_of_ble_eq_true rfl) rfl dJ10_indexOf_2_1 (fun H locs cells slots I => ?_)
  refine lv_if_eq (tgt := 23) hx hb dJ10_indexOf_2_4 (by decide) (fun c_4 => ?_) (fun c_4 => ?_)
  · have hf := ip c_4 hf
    refine lv_aload_n hx hb dJ10_indexOf_2_23 rfl (lv_at hl 0 rfl) ?_
    obtain ⟨v_4, ev_4, hf⟩ := ob hf
    refine g_get X I gfJ10_9 (gR_in ev_4) dJ10_indexOf_2_24 ?_
    refine lv_iload_n hx hb dJ10_indexOf_2_27 rfl (lv_at hl 1 rfl) ?_
    refine lv_iload_n hx hb dJ10_indexOf_2_28 rfl (lv_at hl 2 rfl) ?_
    refine lv_aload_n hx hb dJ10_indexOf_2_29 rfl (lv_at hl 0 rfl) ?_
    obtain ⟨u_5, eu_5, hf⟩ := ob hf
    obtain ⟨v_6, ev_6, hf⟩ := ob hf
    refine cg_V (vw := (RJ10, TJ10, 4)) (ci := 26) (r := (some (.int v_6))) (σ' := σ) (rs := [.int v_6, .int x2, .int x1, va_rf v_4]) (rest := [.int x2, .int x1, va_rf v_4]) (As := []) X I eu_5 rfl (mJ10_length hX ev_6) lvJ10_505 hdJ10_505 ⟨Nat.le_trans (Nat.le_of_ble_eq_true rfl) hR.1, Nat.le_trans (Nat.le_of_ble_eq_true rfl) hR.2⟩ rfl hl.1 rfl (by rcases v_4 with _ | _ <;> exact (Nat.le_of_ble_eq_true rfl)) rfl dJ10_indexOf_2_30 (fun H locs cells slots I => ?_)
    obtain ⟨a_8, ea_8, hga_8⟩ := ob hf
    have hla_8 := hl
    have Ia_8 := I
    subst ea_8
    have hf := hga_8
    have hl := hla_8
    have I := Ia_8
    obtain ⟨v_9, ev_9, hf⟩ := ob hf
    refine cg_S (r := (some (.int v_9))) (σ' := σ) (rs := [.int v_9]) (rest := []) (As := [.ref a_8, .int x1, .int x2, .int v_6]) X I (mJ11_indexOf hX ev_9) lvJ10_640 hdJ10_640 ⟨Nat.le_trans (Nat.le_of_ble_eq_true rfl) hR.1, Nat.le_trans (Nat.le_of_ble_eq_true rfl) hR.2⟩ rfl hl.1 rfl (Nat.le_of_ble_eq_true rfl) rfl dJ10_indexOf_2_33 (fun H locs cells slots I => ?_)
    cases os hf
    exact r_iret X I dJ10_indexOf_2_36
  · have hf := im c_4 hf
    refine lv_aload_n hx hb dJ10_indexOf_2_7 rfl (lv_at hl 0 rfl) ?_
    obtain ⟨v_11, ev_11, hf⟩ := ob hf
    refine g_get X I gfJ10_9 (gR_in ev_11) dJ10_indexOf_2_8 ?_
    refine lv_iload_n hx hb dJ10_indexOf_2_11 rfl (lv_at hl 1 rfl) ?_
    refine lv_iload_n hx hb dJ10_indexOf_2_12 rfl (lv_at hl 2 rfl) ?_
    refine lv_aload_n hx hb dJ10_indexOf_2_13 rfl (lv_at hl 0 rfl) ?_
    obtain ⟨u_12, eu_12, hf⟩ := ob hf
    obtain ⟨v_13, ev_13, hf⟩ := ob hf
    refine cg_V (vw := (RJ10, TJ10, 4)) (ci := 26) (r := (some (.int v_13))) (σ' := σ) (rs := [.int v_13, .int x2, .int x1, va_rf v_11]) (rest := [.int x2, .int x1, va_rf v_11]) (As := []) X I eu_12 rfl (mJ10_length hX ev_13) lvJ10_505 hdJ10_505 ⟨Nat.le_trans (Nat.le_of_ble_eq_true rfl) hR.1, Nat.le_trans (Nat.le_of_ble_eq_true rfl) hR.2⟩ rfl hl.1 rfl (by rcases v_11 with _ | _ <;> exact (Nat.le_of_ble_eq_true rfl)) rfl dJ10_indexOf_2_14 (fun H locs cells slots I => ?_)
    obtain ⟨a_15, ea_15, hga_15⟩ := ob hf
    have hla_15 := hl
    have Ia_15 := I
    subst ea_15
    have hf := hga_15
    have hl := hla_15
    have I := Ia_15
    obtain ⟨v_16, ev_16, hf⟩ := ob hf
    refine cg_S (r := (some (.int v_16))) (σ' := σ) (rs := [.int v_16]) (rest := []) (As := [.ref a_15, .int x1, .int x2, .int v_13]) X I (mJ15_indexOf hX ev_16) lvJ10_637 hdJ10_637 ⟨Nat.le_trans (Nat.le_of_ble_eq_true rfl) hR.1, Nat.le_trans (Nat.le_of_ble_eq_true rfl) hR.2⟩ rfl hl.1 rfl (Nat.le_of_ble_eq_true rfl) rfl dJ10_indexOf_2_17 (fun H locs cells slots I => ?_)
    refine lv_goto (tgt := 36) hx hb dJ10_indexOf_2_20 (by decide) ?_
    cases os hf
    exact r_iret X I dJ10_indexOf_2_36
theorem mJ10_indexOf_2 {E : EV} {l : Launch} {N : Nat} {σ : St} {x0 : Nat} {x1 : Int32} {x2 : Int32} {res : Int32} (hX : XK E) (hf : fJ10_indexOf_2 N E.2.2.2.1 σ x0 x1 x2 = some res) : CM E l yJ10_indexOf_2 (ws_ yJ10_indexOf_2 cJ10_indexOf_2 3 (some .int)) 5 116 [.ref x0, .int x1, .int x2] σ (some (.int res)) σ := by
  refine CM.of hX.1 (by decide) rfl rfl (Nat.le_of_ble_eq_true rfl) ?_
  intro p e s m below meth c X I ls hl
  exact wJ10_indexOf_2_0 hX ⟨Nat.le_refl _, Nat.le_refl _⟩ X N _ _ _ _ _ _ _ _ I hl hf
/-! java/lang/String.indexOf(I)I imp=False fuel=True kap=True rt=I thr=False -/
theorem lvJ10_633 : GoodIn lw_all (wsV RJ10 633 RJ10 yJ10_indexOf_2 (ws_ yJ10_indexOf_2 cJ10_indexOf_2 3 (some .int))) := lw_V q1259 q1260 q1261 q129 q1262
theorem hdJ10_633 : yJ10_indexOf_2.cls = RJ10 ∧ yJ10_indexOf_2.cls ≠ "java/lang/invoke/MethodHandle" ∧ yJ10_indexOf_2.cls ≠ "java/lang/invoke/VarHandle" ∧ (parseMethodDescriptor yJ10_indexOf_2.desc).map (fun d => d.parameters.length) = some 2 := by decide +kernel
def fJ10_indexOf (N : Nat) (κ : Nat → Nat) (σ : St) (x0 : Nat) (x1 : Int32) : Option Int32 := (isC σ x0 26).bind fun u_1 : Unit => (fJ10_indexOf_2 N κ σ x0 x1 (0 : Int32)).bind fun v_2 : Int32 => some v_2
theorem wJ10_indexOf_0 {E : EV} {l : Launch} {p : Program} {e : Env} {s : State} {m : MethodId} {args : Array Value} {below : List Frame} {meth : Method} {c : Code} {R : Room} {σ : St} {res : Int32} (hX : XK E) (hR : 6 ≤ R.frames ∧ 138 ≤ R.locals) (X : MX E p s m args meth c cJ10_indexOf 2 (some .int) RJ10 "indexOf") (N : Nat) : ∀ (x0 : Nat) (x1 : Int32) (H : Heap) (locs : List Loc) (cells slots : Nat) (ls : Array Slot), WI E R s σ H locs cells slots → lv_has ls 2 [(0, .ref x0), (1, .int x1)] → fJ10_indexOf N E.2.2.2.1 σ x0 x1 = some res → W p l e R s m args below meth c H locs cells slots (MQ below (Qd E R.cells R.slots (some (.int res)) σ) args s R.cells R.slots (fr E)) (F0 m 0 ls []) := by
  intro x0 x1 H locs cells slots ls I hl hf
  obtain ⟨⟨hx, hb, hml, hown, hts⟩, -⟩ := id X
  unfold fJ10_indexOf at hf
  refine lv_aload_n hx hb dJ10_indexOf_0 rfl (lv_at hl 0 rfl) ?_
  refine lv_iload_n hx hb dJ10_indexOf_1 rfl (lv_at hl 1 rfl) ?_
  refine lv_iconst (v := 0) hx hb dJ10_indexOf_2 (by decide) ?_
  obtain ⟨u_1, eu_1, hf⟩ := ob hf
  obtain ⟨v_2, ev_2, hf⟩ := ob hf
  refine cg_V (vw := (RJ10, TJ10, 4)) (ci := 26) (r := (some (.int v_2))) (σ' := σ) (rs := [.int v_2]) (rest := []) (As := [.int x1, .int (0 : Int32)]) X I eu_1 rfl (mJ10_indexOf_2 hX ev_2) lvJ10_633 hdJ10_633 ⟨Nat.le_trans (Nat.le_of_ble_eq_true rfl) hR.1, Nat.le_trans (Nat.le_of_ble_eq_true rfl) hR.2⟩ rfl hl.1 rfl (Nat.le_of_ble_eq_true rfl) rfl dJ10_indexOf_3 (fun H locs cells slots I => ?_)
  cases os hf
  exact r_iret X I dJ10_indexOf_6
theorem mJ10_indexOf {E : EV} {l : Launch} {N : Nat} {σ : St} {x0 : Nat} {x1 : Int32} {res : Int32} (hX : XK E) (hf : fJ10_indexOf N E.2.2.2.1 σ x0 x1 = some res) : CM E l yJ10_indexOf (ws_ yJ10_indexOf cJ10_indexOf 2 (some .int)) 6 138 [.ref x0, .int x1] σ (some (.int res)) σ := by
  refine CM.of hX.1 (by decide) rfl rfl (Nat.le_of_ble_eq_true rfl) ?_
  intro p e s m below meth c X I ls hl
  exact wJ10_indexOf_0 hX ⟨Nat.le_refl _, Nat.le_refl _⟩ X N _ _ _ _ _ _ _ I hl hf
/-! SharedTaxis$Scanner.advance()V imp=True fuel=True kap=True rt=None thr=False -/
theorem gfX6_32 : ∀ q ∈ ([(5, 4)] : List (Nat × Nat)), GF RX6 32 q := List.forall_mem_cons.mpr ⟨⟨RX6, TX6, 8, _, rfl, in_X6, by decide, q1307, Or.inl rfl⟩, fun _ h => by cases h⟩
theorem gfX6_23 : ∀ q ∈ ([(5, 2)] : List (Nat × Nat)), GF RX6 23 q := List.forall_mem_cons.mpr ⟨⟨RX6, TX6, 8, _, rfl, in_X6, by decide, q1303, Or.inl rfl⟩, fun _ h => by cases h⟩
theorem lvX6_53 : GoodIn lw_all (wsV RX6 53 RJ10 yJ10_indexOf (ws_ yJ10_indexOf cJ10_indexOf 2 (some .int))) := lw_V q1255 q1256 q1257 q129 q1258
theorem hdX6_53 : yJ10_indexOf.cls = RJ10 ∧ yJ10_indexOf.cls ≠ "java/lang/invoke/MethodHandle" ∧ yJ10_indexOf.cls ≠ "java/lang/invoke/VarHandle" ∧ (parseMethodDescriptor yJ10_indexOf.desc).map (fun d => d.parameters.length) = some 1 := by decide +kernel
theorem pfX6_35 : ∀ q ∈ ([(5, 3)] : List (Nat × Nat)), PF RX6 35 .int q := List.forall_mem_cons.mpr ⟨⟨RX6, TX6, 8, _, tyX6, rfl, in_X6, by decide, q1305, Or.inl rfl, tyX6_ok, nmX6, rfl, rfl⟩, fun _ h => by cases h⟩
theorem lvX6_46 : GoodIn lw_all (wsV RX6 46 RX6 yX6_digits (ws_ yX6_digits cX6_digits 2 (some .int))) := lw_V q1249 q1251 qs8 q126 q1252
theorem hdX6_46 : yX6_digits.cls = RX6 ∧ yX6_digits.cls ≠ "java/lang/invoke/MethodHandle" ∧ yX6_digits.cls ≠ "java/lang/invoke/VarHandle" ∧ (parseMethodDescriptor yX6_digits.desc).map (fun d => d.parameters.length) = some 0 := by decide +kernel
theorem pfX6_50 : ∀ q ∈ ([(5, 6)] : List (Nat × Nat)), PF RX6 50 .int q := List.forall_mem_cons.mpr ⟨⟨RX6, TX6, 8, _, tyX6, rfl, in_X6, by decide, q1311, Or.inl rfl, tyX6_ok, nmX6, rfl, rfl⟩, fun _ h => by cases h⟩
theorem lvX6_42 : GoodIn lw_all (wsV RX6 42 RX6 yX6_letters (ws_ yX6_letters cX6_letters 2 (some (.object "java/lang/String")))) := lw_V q1229 q1231 qs7 q126 q1232
theorem hdX6_42 : yX6_letters.cls = RX6 ∧ yX6_letters.cls ≠ "java/lang/invoke/MethodHandle" ∧ yX6_letters.cls ≠ "java/lang/invoke/VarHandle" ∧ (parseMethodDescriptor yX6_letters.desc).map (fun d => d.parameters.length) = some 0 := by decide +kernel
theorem pfX6_9 : ∀ q ∈ ([(5, 7)] : List (Nat × Nat)), PF RX6 9 (.object "java/lang/String") q := List.forall_mem_cons.mpr ⟨⟨RX6, TX6, 8, _, tyX6, rfl, in_X6, by decide, q1312, Or.inl rfl, tyX6_ok, nmX6, rfl, rfl⟩, fun _ h => by cases h⟩
theorem pfX6_32 : ∀ q ∈ ([(5, 4)] : List (Nat × Nat)), PF RX6 32 .int q := List.forall_mem_cons.mpr ⟨⟨RX6, TX6, 8, _, tyX6, rfl, in_X6, by decide, q1307, Or.inl rfl, tyX6_ok, nmX6, rfl, rfl⟩, fun _ h => by cases h⟩
def fX6_advance_60 (N : Nat) (κ : Nat → Nat) (x0 : Nat) (σ : St) : Option St := (gI σ x0 [(5, 4)]).bind fun v_1 : Int32 => (pV σ x0 [(5, 5)] (.int v_1)).bind fun σ_2 : St => (gI σ_2 x0 [(5, 4)]).bind fun v_3 : Int32 => (gI σ_2 x0 [(5, 1)]).bind fun v_4 : Int32 => if v_3 = v_4 then (pV σ_2 x0 [(5, 3)] (.int (0 : Int32))).bind fun σ_36 : St => some σ_36 else (gI σ_2 x0 [(5, 4)]).bind fun v_5 : Int32 => (isC σ_2 x0 5).bind fun u_6 : Unit => (fX6_isBetween σ_2 x0 v_5 (97 : Int32) (122 : Int32)).bind fun v_7 : Int32 => if v_7 = 0 then (gI σ_2 x0 [(5, 4)]).bind fun v_9 : Int32 => (isC σ_2 x0 5).bind fun u_10 : Unit => (fX6_isBetween σ_2 x0 v_9 (48 : Int32) (57 : Int32)).bind fun v_11 : Int32 => if v_11 = 0 then (gI σ_2 x0 [(5, 5)]).bind fun v_13 : Int32 => (pV σ_2 x0 [(5, 5)] (.int (v_13 + (1 : Int32)))).bind fun σ_14 : St => (gR σ_14 x0 [(5, 2)]).bind fun v_15 : Option Nat => (gR σ_14 x0 [(5, 0)]).bind fun v_16 : Option Nat => (gI σ_14 x0 [(5, 4)]).bind fun v_17 : Int32 => (v_16).bind fun a_18 : Nat => (aI σ_14 a_18 1 v_17).bind fun v_19 : Int32 => (v_15).bind fun a_20 : Nat => (isC σ_14 a_20 26).bind fun u_21 : Unit => (fJ10_indexOf N κ σ_14 a_20 v_19).bind fun v_22 : Int32 => if v_22 < 0 then (pV σ_14 x0 [(5, 3)] (.int (4 : Int32))).bind fun σ_24 : St => some σ_24 else (pV σ_14 x0 [(5, 3)] (.int (3 : Int32))).bind fun σ_25 : St => some σ_25 else (pV σ_2 x0 [(5, 3)] (.int (2 : Int32))).bind fun σ_26 : St => (isC σ_26 x0 5).bind fun u_27 : Unit => (fX6_digits N σ_26 x0).bind fun (v_28, σ_29) => (pV σ_29 x0 [(5, 6)] (.int v_28)).bind fun σ_30 : St => some σ_30 else (pV σ_2 x0 [(5, 3)] (.int (1 : Int32))).bind fun σ_31 : St => (isC σ_31 x0 5).bind fun u_32 : Unit => (fX6_letters N κ σ_31 x0).bind fun (v_33, σ_34) => (pV σ_34 x0 [(5, 7)] (.ref v_33)).bind fun σ_35 : St => some σ_35
def fX6_advance_47 (N : Nat) (κ : Nat → Nat) (r8 : Nat → St → Option St) (x0 : Nat) (σ : St) : Option St := (gI σ x0 [(5, 4)]).bind fun v_37 : Int32 => (pV σ x0 [(5, 4)] (.int (v_37 + (1 : Int32)))).bind fun σ_38 : St => r8 x0 σ_38
def fX6_advance_8 (N : Nat) (κ : Nat → Nat) : Nat → Nat → St → Option St
  | 0, _, _ => none
  | n + 1, x0, σ => (gI σ x0 [(5, 4)]).bind fun v_39 : Int32 => (gI σ x0 [(5, 1)]).bind fun v_40 : Int32 => if v_40 ≤ v_39 then fX6_advance_60 N κ x0 σ else (gR σ x0 [(5, 0)]).bind fun v_41 : Option Nat => (gI σ x0 [(5, 4)]).bind fun v_42 : Int32 => (v_41).bind fun a_43 : Nat => (aI σ a_43 1 v_42).bind fun v_44 : Int32 => if v_44 = (32 : Int32) then fX6_advance_47 N κ (fX6_advance_8 N κ n) x0 σ else (gR σ x0 [(5, 0)]).bind fun v_45 : Option Nat => (gI σ x0 [(5, 4)]).bind fun v_46 : Int32 => (v_45).bind fun a_47 : Nat => (aI σ a_47 1 v_46).bind fun v_48 : Int32 => if v_48 = (10 : Int32) then fX6_advance_47 N κ (fX6_advance_8 N κ n) x0 σ else fX6_advance_60 N κ x0 σ
def fX6_advance (N : Nat) (κ : Nat → Nat) (σ : St) (x0 : Nat) : Option St := (gI σ x0 [(5, 5)]).bind fun v_49 : Int32 => (pV σ x0 [(5, 4)] (.int v_49)).bind fun σ_50 : St => fX6_advance_8 N κ N x0 σ_50
theorem wX6_advance_60 {E : EV} {l : Launch} {p : Program} {e : Env} {s : State} {m : MethodId} {args : Array Value} {below : List Frame} {meth : Method} {c : Code} {R : Room} {res : St} (hX : XK E) (hR : 9 ≤ R.frames ∧ 204 ≤ R.locals) (X : MX E p s m args meth c cX6_advance 1 none RX6 "advance") (N : Nat) : ∀ (x0 : Nat) (σ : St) (H : Heap) (locs : List Loc) (cells slots : Nat) (ls : Array Slot), WI E R s σ H locs cells slots → lv_has ls 1 [(0, .ref x0)] → fX6_advance_60 N E.2.2.2.1 x0 σ = some res → W p l e R s m args below meth c H locs cells slots (MQ below (Qd E R.cells R.slots none res) args s R.cells R.slots (fr E)) (F0 m 60 ls []) := by
  intro x0 σ H locs cells slots ls I hl hf
  obtain ⟨⟨hx, hb, hml, hown, hts⟩, -⟩ := id X
  unfold fX6_advance_60 at hf
  refine lv_aload_n hx hb dX6_advance_60 rfl (lv_at hl 0 rfl) ?_
  refine lv_aload_n hx hb dX6_advance_61 rfl (lv_at hl 0 rfl) ?_
  obtain ⟨v_1, ev_1, hf⟩ := ob hf
  refine g_get X I gfX6_32 (gI_in ev_1) dX6_advance_62 ?_
  obtain ⟨σ_2, eσ_2, hf⟩ := ob hf
  refine g_put X I pfX6_29 rfl rfl eσ_2 dX6_advance_65 (fun H locs I => ?_)
  refine lv_aload_n hx hb dX6_advance_68 rfl (lv_at hl 0 rfl) ?_
  obtain ⟨v_3, ev_3, hf⟩ := ob hf
  refine g_get X I gfX6_32 (gI_in ev_3) dX6_advance_69 ?_
  refine lv_aload_n hx hb dX6_advance_72 rfl (lv_at hl 0 rfl) ?_
  obtain ⟨v_4, ev_4, hf⟩ := ob hf
  refine g_get X I gfX6_19 (gI_in ev_4) dX6_advance_73 ?_
  refine lv_icmp_ne (tgt := 87) hx hb dX6_advance_76 (by decide) (fun c_76 => ?_) (fun c_76 => ?_)
  · have hf := im c_76 hf
    refine lv_aload_n hx hb dX6_advance_87 rfl (lv_at hl 0 rfl) ?_
    refine lv_aload_n hx hb dX6_advance_88 rfl (lv_at hl 0 rfl) ?_
    obtain ⟨v_5, ev_5, hf⟩ := ob hf
    refine g_get X I gfX6_32 (gI_in ev_5) dX6_advance_89 ?_
    refine lv_bipush (v := 97) hx hb dX6_advance_92 (by decide) ?_
    refine lv_bipush (v := 122) hx hb dX6_advance_94 (by decide) ?_
    obtain ⟨u_6, eu_6, hf⟩ := ob hf
    obtain ⟨v_7, ev_7, hf⟩ := ob hf
    refine cg_V (vw := (RX6, TX6, 8)) (ci := 5) (r := (some (.int v_7))) (σ' := σ_2) (rs := [.int v_7]) (rest := []) (As := [.int v_5, .int (97 : Int32), .int (122 : Int32)]) X I eu_6 rfl (mX6_isBetween hX ev_7) lvX6_38 hdX6_38 ⟨Nat.le_trans (Nat.le_of_ble_eq_true rfl) hR.1, Nat.le_trans (Nat.le_of_ble_eq_true rfl) hR.2⟩ rfl hl.1 rfl (Nat.le_of_ble_eq_true rfl) rfl dX6_advance_96 (fun H locs cells slots I => ?_)
    refine lv_if_eq (tgt := 118) hx hb dX6_advance_99 (by decide) (fun c_99 => ?_) (fun c_99 => ?_)
    · have hf := ip c_99 hf
      refine lv_aload_n hx hb dX6_advance_118 rfl (lv_at hl 0 rfl) ?_
      refine lv_aload_n hx hb dX6_advance_119 rfl (lv_at hl 0 rfl) ?_
      obtain ⟨v_9, ev_9, hf⟩ := ob hf
      refine g_get X I gfX6_32 (gI_in ev_9) dX6_advance_120 ?_
      refine lv_bipush (v := 48) hx hb dX6_advance_123 (by decide) ?_
      refine lv_bipush (v := 57) hx hb dX6_advance_125 (by decide) ?_
      obtain ⟨u_10, eu_10, hf⟩ := ob hf
      obtain ⟨v_11, ev_11, hf⟩ := ob hf
      refine cg_V (vw := (RX6, TX6, 8)) (ci := 5) (r := (some (.int v_11))) (σ' := σ_2) (rs := [.int v_11]) (rest := []) (As := [.int v_9, .int (48 : Int32), .int (57 : Int32)]) X I eu_10 rfl (mX6_isBetween hX ev_11) lvX6_38 hdX6_38 ⟨Nat.le_trans (Nat.le_of_ble_eq_true rfl) hR.1, Nat.le_trans (Nat.le_of_ble_eq_true rfl) hR.2⟩ rfl hl.1 rfl (Nat.le_of_ble_eq_true rfl) rfl dX6_advance_127 (fun H locs cells slots I => ?_)
      refine lv_if_eq (tgt := 149) hx hb dX6_advance_130 (by decide) (fun c_130 => ?_) (fun c_130 => ?_)
      · have hf := ip c_130 hf
        refine lv_aload_n hx hb dX6_advance_149 rfl (lv_at hl 0 rfl) ?_
        refine lv_dup hx hb dX6_advance_150 rfl ?_
        obtain ⟨v_13, ev_13, hf⟩ := ob hf
        refine g_get X I gfX6_29 (gI_in ev_13) dX6_advance_151 ?_
        refine lv_iconst (v := 1) hx hb dX6_advance_154 (by decide) ?_
        refine lv_iadd hx hb dX6_advance_155 ?_
        obtain ⟨σ_14, eσ_14, hf⟩ := ob hf
        refine g_put X I pfX6_29 rfl rfl eσ_14 dX6_advance_156 (fun H locs I => ?_)
        refine lv_aload_n hx hb dX6_advance_159 rfl (lv_at hl 0 rfl) ?_
        refine lv_aload_n hx hb dX6_advance_160 rfl (lv_at hl 0 rfl) ?_
        obtain ⟨v_15, ev_15, hf⟩ := ob hf
        refine g_get X I gfX6_23 (gR_in ev_15) dX6_advance_161 ?_
        refine lv_aload_n hx hb dX6_advance_164 rfl (lv_at hl 0 rfl) ?_
        obtain ⟨v_16, ev_16, hf⟩ := ob hf
        refine g_get X I gfX6_15 (gR_in ev_16) dX6_advance_165 ?_
        refine lv_aload_n hx hb dX6_advance_168 rfl (lv_at hl 0 rfl) ?_
        obtain ⟨v_17, ev_17, hf⟩ := ob hf
        refine g_get X I gfX6_32 (gI_in ev_17) dX6_advance_169 ?_
        obtain ⟨a_18, ea_18, hga_18⟩ := ob hf
        have hla_18 := hl
        have Ia_18 := I
        subst ea_18
        have hf := hga_18
        have hl := hla_18
        have I := Ia_18
        obtain ⟨v_19, ev_19, hf⟩ := ob hf
        refine g_bald X I ev_19 dX6_advance_172 ?_
        obtain ⟨a_20, ea_20, hga_20⟩ := ob hf
        have hla_20 := hl
        have Ia_20 := I
        subst ea_20
        have hf := hga_20
        have hl := hla_20
        have I := Ia_20
        obtain ⟨u_21, eu_21, hf⟩ := ob hf
        obtain ⟨v_22, ev_22, hf⟩ := ob hf
        refine cg_V (vw := (RJ10, TJ10, 4)) (ci := 26) (r := (some (.int v_22))) (σ' := σ_14) (rs := [.int v_22, .ref x0]) (rest := [.ref x0]) (As := [.int v_19]) X I eu_21 rfl (mJ10_indexOf hX ev_22) lvX6_53 hdX6_53 ⟨Nat.le_trans (Nat.le_of_ble_eq_true rfl) hR.1, Nat.le_trans (Nat.le_of_ble_eq_true rfl) hR.2⟩ rfl hl.1 rfl (Nat.le_of_ble_eq_true rfl) rfl dX6_advance_173 (fun H locs cells slots I => ?_)
        refine lv_if_lt (tgt := 183) hx hb dX6_advance_176 (by decide) (fun c_176 => ?_) (fun c_176 => ?_)
        · have hf := ip c_176 hf
          refine lv_iconst (v := 4) hx hb dX6_advance_183 (by decide) ?_
          obtain ⟨σ_24, eσ_24, hf⟩ := ob hf
          refine g_put X I pfX6_35 rfl rfl eσ_24 dX6_advance_184 (fun H locs I => ?_)
          cases os hf
          exact r_vret X I dX6_advance_187
        · have hf := im c_176 hf
          refine lv_iconst (v := 3) hx hb dX6_advance_179 (by decide) ?_
          refine lv_goto (tgt := 184) hx hb dX6_advance_180 (by decide) ?_
          obtain ⟨σ_25, eσ_25, hf⟩ := ob hf
          refine g_put X I pfX6_35 rfl rfl eσ_25 dX6_advance_184 (fun H locs I => ?_)
          cases os hf
          exact r_vret X I dX6_advance_187
      · have hf := im c_130 hf
        refine lv_aload_n hx hb dX6_advance_133 rfl (lv_at hl 0 rfl) ?_
        refine lv_iconst (v := 2) hx hb dX6_advance_134 (by decide) ?_
        obtain ⟨σ_26, eσ_26, hf⟩ := ob hf
        refine g_put X I pfX6_35 rfl rfl eσ_26 dX6_advance_135 (fun H locs I => ?_)
        refine lv_aload_n hx hb dX6_advance_138 rfl (lv_at hl 0 rfl) ?_
        refine lv_aload_n hx hb dX6_advance_139 rfl (lv_at hl 0 rfl) ?_
        obtain ⟨u_27, eu_27, hf⟩ := ob hf
        obtain ⟨⟨v_28, σ_29⟩, ev_28, hf⟩ := ob hf
        refine cg_V (vw := (RX6, TX6, 8)) (ci := 5) (r := (some (.int v_28))) (σ' := σ_29) (rs := [.int v_28, .ref x0]) (rest := [.ref x0]) (As := []) X I eu_27 rfl (mX6_digits hX ev_28) lvX6_46 hdX6_46 ⟨Nat.le_trans (Nat.le_of_ble_eq_true rfl) hR.1, Nat.le_trans (Nat.le_of_ble_eq_true rfl) hR.2⟩ rfl hl.1 rfl (Nat.le_of_ble_eq_true rfl) rfl dX6_advance_140 (fun H locs cells slots I => ?_)
        obtain ⟨σ_30, eσ_30, hf⟩ := ob hf
        refine g_put X I pfX6_50 rfl rfl eσ_30 dX6_advance_143 (fun H locs I => ?_)
        refine lv_goto (tgt := 187) hx hb dX6_advance_146 (by decide) ?_
        cases os hf
        exact r_vret X I dX6_advance_187
    · have hf := im c_99 hf
      refine lv_aload_n hx hb dX6_advance_102 rfl (lv_at hl 0 rfl) ?_
      refine lv_iconst (v := 1) hx hb dX6_advance_103 (by decide) ?_
      obtain ⟨σ_31, eσ_31, hf⟩ := ob hf
      refine g_put X I pfX6_35 rfl rfl eσ_31 dX6_advance_104 (fun H locs I => ?_)
      refine lv_aload_n hx hb dX6_advance_107 rfl (lv_at hl 0 rfl) ?_
      refine lv_aload_n hx hb dX6_advance_108 rfl (lv_at hl 0 rfl) ?_
      obtain ⟨u_32, eu_32, hf⟩ := ob hf
      obtain ⟨⟨v_33, σ_34⟩, ev_33, hf⟩ := ob hf
      refine cg_V (vw := (RX6, TX6, 8)) (ci := 5) (r := (some (.ref v_33))) (σ' := σ_34) (rs := [.ref v_33, .ref x0]) (rest := [.ref x0]) (As := []) X I eu_32 rfl (mX6_letters hX ev_33) lvX6_42 hdX6_42 ⟨Nat.le_trans (Nat.le_of_ble_eq_true rfl) hR.1, Nat.le_trans (Nat.le_of_ble_eq_true rfl) hR.2⟩ rfl hl.1 rfl (Nat.le_of_ble_eq_true rfl) rfl dX6_advance_109 (fun H locs cells slots I => ?_)
      obtain ⟨σ_35, eσ_35, hf⟩ := ob hf
      refine g_put X I pfX6_9 rfl rfl eσ_35 dX6_advance_112 (fun H locs I => ?_)
      refine lv_goto (tgt := 187) hx hb dX6_advance_115 (by decide) ?_
      cases os hf
      exact r_vret X I dX6_advance_187
  · have hf := ip c_76 hf
    refine lv_aload_n hx hb dX6_advance_79 rfl (lv_at hl 0 rfl) ?_
    refine lv_iconst (v := 0) hx hb dX6_advance_80 (by decide) ?_
    obtain ⟨σ_36, eσ_36, hf⟩ := ob hf
    refine g_put X I pfX6_35 rfl rfl eσ_36 dX6_advance_81 (fun H locs I => ?_)
    refine lv_goto (tgt := 187) hx hb dX6_advance_84 (by decide) ?_
    cases os hf
    exact r_vret X I dX6_advance_187
theorem wX6_advance_47 {E : EV} {l : Launch} {p : Program} {e : Env} {s : State} {m : MethodId} {args : Array Value} {below : List Frame} {meth : Method} {c : Code} {R : Room} {res : St} (hX : XK E) (hR : 9 ≤ R.frames ∧ 204 ≤ R.locals) (X : MX E p s m args meth c cX6_advance 1 none RX6 "advance") (N : Nat) (r8 : Nat → St → Option St) (hr8 : ∀ (x0 : Nat) (σ : St) (H : Heap) (locs : List Loc) (cells slots : Nat) (ls : Array Slot), WI E R s σ H locs cells slots → lv_has ls 1 [(0, .ref x0)] → r8 x0 σ = some res → W p l e R s m args below meth c H locs cells slots (MQ below (Qd E R.cells R.slots none res) args s R.cells R.slots (fr E)) (F0 m 8 ls [])) : ∀ (x0 : Nat) (σ : St) (H : Heap) (locs : List Loc) (cells slots : Nat) (ls : Array Slot), WI E R s σ H locs cells slots → lv_has ls 1 [(0, .ref x0)] → fX6_advance_47 N E.2.2.2.1 r8 x0 σ = some res → W p l e R s m args below meth c H locs cells slots (MQ below (Qd E R.cells R.slots none res) args s R.cells R.slots (fr E)) (F0 m 47 ls []) := by
  intro x0 σ H locs cells slots ls I hl hf
  obtain ⟨⟨hx, hb, hml, hown, hts⟩, -⟩ := id X
  unfold fX6_advance_47 at hf
  refine lv_aload_n hx hb dX6_advance_47 rfl (lv_at hl 0 rfl) ?_
  refine lv_dup hx hb dX6_advance_48 rfl ?_
  obtain ⟨v_37, ev_37, hf⟩ := ob hf
  refine g_get X I gfX6_32 (gI_in ev_37) dX6_advance_49 ?_
  refine lv_iconst (v := 1) hx hb dX6_advance_52 (by decide) ?_
  refine lv_iadd hx hb dX6_advance_53 ?_
  obtain ⟨σ_38, eσ_38, hf⟩ := ob hf
  refine g_put X I pfX6_32 rfl rfl eσ_38 dX6_advance_54 (fun H locs I => ?_)
  refine lv_goto (tgt := 8) hx hb dX6_advance_57 (by decide) ?_
  exact hr8 x0 σ_38 _ _ _ _ _ I (lv_sub hl [0] rfl) hf
theorem wX6_advance_8 {E : EV} {l : Launch} {p : Program} {e : Env} {s : State} {m : MethodId} {args : Array Value} {below : List Frame} {meth : Method} {c : Code} {R : Room} {res : St} (hX : XK E) (hR : 9 ≤ R.frames ∧ 204 ≤ R.locals) (X : MX E p s m args meth c cX6_advance 1 none RX6 "advance") (N : Nat) : ∀ (n : Nat) (x0 : Nat) (σ : St) (H : Heap) (locs : List Loc) (cells slots : Nat) (ls : Array Slot), WI E R s σ H locs cells slots → lv_has ls 1 [(0, .ref x0)] → fX6_advance_8 N E.2.2.2.1 n x0 σ = some res → W p l e R s m args below meth c H locs cells slots (MQ below (Qd E R.cells R.slots none res) args s R.cells R.slots (fr E)) (F0 m 8 ls []) := by
  intro n
  induction n with
  | zero => intro x0 σ H locs cells slots ls I hl hf; exact nomatch (show none = some res from hf)
  | succ n ih =>
    intro x0 σ H locs cells slots ls I hl hf
    obtain ⟨⟨hx, hb, hml, hown, hts⟩, -⟩ := id X
    rw [fX6_advance_8.eq_2] at hf
    refine lv_aload_n hx hb dX6_advance_8 rfl (lv_at hl 0 rfl) ?_
    obtain ⟨v_39, ev_39, hf⟩ := ob hf
    refine g_get X I gfX6_32 (gI_in ev_39) dX6_advance_9 ?_
    refine lv_aload_n hx hb dX6_advance_12 rfl (lv_at hl 0 rfl) ?_
    obtain ⟨v_40, ev_40, hf⟩ := ob hf
    refine g_get X I gfX6_19 (gI_in ev_40) dX6_advance_13 ?_
    refine lv_icmp_ge (tgt := 60) hx hb dX6_advance_16 (by decide) (fun c_16 => ?_) (fun c_16 => ?_)
    · have hf := ip c_16 hf
      exact wX6_advance_60 hX hR X N x0 σ _ _ _ _ _ I (lv_sub hl [0] rfl) hf
    · have hf := im c_16 hf
      refine lv_aload_n hx hb dX6_advance_19 rfl (lv_at hl 0 rfl) ?_
      obtain ⟨v_41, ev_41, hf⟩ := ob hf
      refine g_get X I gfX6_15 (gR_in ev_41) dX6_advance_20 ?_
      refine lv_aload_n hx hb dX6_advance_23 rfl (lv_at hl 0 rfl) ?_
      obtain ⟨v_42, ev_42, hf⟩ := ob hf
      refine g_get X I gfX6_32 (gI_in ev_42) dX6_advance_24 ?_
      obtain ⟨a_43, ea_43, hga_43⟩ := ob hf
      have hla_43 := hl
      have Ia_43 := I
      subst ea_43
      have hf := hga_43
      have hl := hla_43
      have I := Ia_43
      obtain ⟨v_44, ev_44, hf⟩ := ob hf
      refine g_bald X I ev_44 dX6_advance_27 ?_
      refine lv_bipush (v := 32) hx hb dX6_advance_28 (by decide) ?_
      refine lv_icmp_eq (tgt := 47) hx hb dX6_advance_30 (by decide) (fun c_30 => ?_) (fun c_30 => ?_)
      · have hf := ip c_30 hf
        exact wX6_advance_47 hX hR X N (fX6_advance_8 N E.2.2.2.1 n) ih x0 σ _ _ _ _ _ I (lv_sub hl [0] rfl) hf
      · have hf := im c_30 hf
        refine lv_aload_n hx hb dX6_advance_33 rfl (lv_at hl 0 rfl) ?_
        obtain ⟨v_45, ev_45, hf⟩ := ob hf
        refine g_get X I gfX6_15 (gR_in ev_45) dX6_advance_34 ?_
        refine lv_aload_n hx hb dX6_advance_37 rfl (lv_at hl 0 rfl) ?_
        obtain ⟨v_46, ev_46, hf⟩ := ob hf
        refine g_get X I gfX6_32 (gI_in ev_46) dX6_advance_38 ?_
        obtain ⟨a_47, ea_47, hga_47⟩ := ob hf
        have hla_47 := hl
        have Ia_47 := I
        subst ea_47
        have hf := hga_47
        have hl := hla_47
        have I := Ia_47
        obtain ⟨v_48, ev_48, hf⟩ := ob hf
        refine g_bald X I ev_48 dX6_advance_41 ?_
        refine lv_bipush (v := 10) hx hb dX6_advance_42 (by decide) ?_
        refine lv_icmp_ne (tgt := 60) hx hb dX6_advance_44 (by decide) (fun c_44 => ?_) (fun c_44 => ?_)
        · have hf := im c_44 hf
          exact wX6_advance_60 hX hR X N x0 σ _ _ _ _ _ I (lv_sub hl [0] rfl) hf
        · have hf := ip c_44 hf
          exact wX6_advance_47 hX hR X N (fX6_advance_8 N E.2.2.2.1 n) ih x0 σ _ _ _ _ _ I (lv_sub hl [0] rfl) hf
theorem wX6_advance_0 {E : EV} {l : Launch} {p : Program} {e : Env} {s : State} {m : MethodId} {args : Array Value} {below : List Frame} {meth : Method} {c : Code} {R : Room} {res : St} (hX : XK E) (hR : 9 ≤ R.frames ∧ 204 ≤ R.locals) (X : MX E p s m args meth c cX6_advance 1 none RX6 "advance") (N : Nat) : ∀ (x0 : Nat) (σ : St) (H : Heap) (locs : List Loc) (cells slots : Nat) (ls : Array Slot), WI E R s σ H locs cells slots → lv_has ls 1 [(0, .ref x0)] → fX6_advance N E.2.2.2.1 σ x0 = some res → W p l e R s m args below meth c H locs cells slots (MQ below (Qd E R.cells R.slots none res) args s R.cells R.slots (fr E)) (F0 m 0 ls []) := by
  intro x0 σ H locs cells slots ls I hl hf
  obtain ⟨⟨hx, hb, hml, hown, hts⟩, -⟩ := id X
  unfold fX6_advance at hf
  refine lv_aload_n hx hb dX6_advance_0 rfl (lv_at hl 0 rfl) ?_
  refine lv_aload_n hx hb dX6_advance_1 rfl (lv_at hl 0 rfl) ?_
  obtain ⟨v_49, ev_49, hf⟩ := ob hf
  refine g_get X I gfX6_29 (gI_in ev_49) dX6_advance_2 ?_
  obtain ⟨σ_50, eσ_50, hf⟩ := ob hf
  refine g_put X I pfX6_32 rfl rfl eσ_50 dX6_advance_5 (fun H locs I => ?_)
  exact wX6_advance_8 hX hR X N N x0 σ_50 _ _ _ _ _ I (lv_sub hl [0] rfl) hf
theorem mX6_advance {E : EV} {l : Launch} {N : Nat} {σ : St} {x0 : Nat} {res : St} (hX : XK E) (hf : fX6_advance N E.2.2.2.1 σ x0 = some res) : CM E l yX6_advance (ws_ yX6_advance cX6_advance 1 none) 9 204 [.ref x0] σ none res := by
  refine CM.of hX.1 (by decide) rfl rfl (Nat.le_of_ble_eq_true rfl) ?_
  intro p e s m below meth c X I ls hl
  exact wX6_advance_0 hX ⟨Nat.le_refl _, Nat.le_refl _⟩ X N _ _ _ _ _ _ _ I hl hf
/-! SharedTaxis$Scanner.<init>([BILjava/lang/String;)V imp=True fuel=True kap=True rt=None thr=False -/
theorem pfX6_15 : ∀ q ∈ ([(5, 0)] : List (Nat × Nat)), PI RX6 15 (.array .byte) q := List.forall_mem_cons.mpr ⟨⟨RX6, TX6, 8, tyX6, rfl, in_X6, by decide, q1301, rfl, tyX6_ok, nmX6, rfl, rfl⟩, fun _ h => by cases h⟩
theorem pfX6_19 : ∀ q ∈ ([(5, 1)] : List (Nat × Nat)), PI RX6 19 .int q := List.forall_mem_cons.mpr ⟨⟨RX6, TX6, 8, tyX6, rfl, in_X6, by decide, q1302, rfl, tyX6_ok, nmX6, rfl, rfl⟩, fun _ h => by cases h⟩
theorem pfX6_23 : ∀ q ∈ ([(5, 2)] : List (Nat × Nat)), PI RX6 23 (.object "java/lang/String") q := List.forall_mem_cons.mpr ⟨⟨RX6, TX6, 8, tyX6, rfl, in_X6, by decide, q1303, rfl, tyX6_ok, nmX6, rfl, rfl⟩, fun _ h => by cases h⟩
theorem lvX6_26 : GoodIn lw_all (wsV RX6 26 RX6 yX6_advance (ws_ yX6_advance cX6_advance 1 none)) := lw_V q1221 q1222 q1223 q126 q1224
theorem hdX6_26 : yX6_advance.cls = RX6 ∧ yX6_advance.cls ≠ "java/lang/invoke/MethodHandle" ∧ yX6_advance.cls ≠ "java/lang/invoke/VarHandle" ∧ (parseMethodDescriptor yX6_advance.desc).map (fun d => d.parameters.length) = some 0 := by decide +kernel
def fX6_init (N : Nat) (κ : Nat → Nat) (σ : St) (x0 : Nat) (x1 : Nat) (x2 : Int32) (x3 : Nat) : Option St := (pV σ x0 [(5, 7)] (.ref (κ 132))).bind fun σ_1 : St => (pV σ_1 x0 [(5, 0)] (.ref x1)).bind fun σ_2 : St => (pV σ_2 x0 [(5, 1)] (.int x2)).bind fun σ_3 : St => (pV σ_3 x0 [(5, 2)] (.ref x3)).bind fun σ_4 : St => (isC σ_4 x0 5).bind fun u_5 : Unit => (fX6_advance N κ σ_4 x0).bind fun σ_7 : St => some σ_7
theorem wX6_init_0 {E : EV} {l : Launch} {p : Program} {e : Env} {s : State} {m : MethodId} {args : Array Value} {below : List Frame} {meth : Method} {c : Code} {R : Room} {res : St} (hX : XK E) (hR : 10 ≤ R.frames ∧ 224 ≤ R.locals) (X : MX E p s m args meth c cX6_init 4 none RX6 "<init>") (N : Nat) : ∀ (x0 : Nat) (x1 : Nat) (x2 : Int32) (x3 : Nat) (σ : St) (H : Heap) (locs : List Loc) (cells slots : Nat) (ls : Array Slot), WI E R s σ H locs cells slots → lv_has ls 4 [(0, .ref x0), (1, .ref x1), (2, .int x2), (3, .ref x3)] → fX6_init N E.2.2.2.1 σ x0 x1 x2 x3 = some res → W p l e R s m args below meth c H locs cells slots (MQ below (Qd E R.cells R.slots none res) args s R.cells R.slots (fr E)) (F0 m 0 ls []) := by
  intro x0 x1 x2 x3 σ H locs cells slots ls I hl hf
  obtain ⟨⟨hx, hb, hml, hown, hts⟩, -⟩ := id X
  unfold fX6_init at hf
  refine lv_aload_n hx hb dX6_init_0 rfl (lv_at hl 0 rfl) ?_
  refine g_objInit X ⟨Nat.le_trans (Nat.le_of_ble_eq_true rfl) hR.1, Nat.le_trans (Nat.le_of_ble_eq_true rfl) hR.2⟩ q1219 hl.1 (Nat.le_of_ble_eq_true rfl) dX6_init_1 ?_
  refine lv_aload_n hx hb dX6_init_4 rfl (lv_at hl 0 rfl) ?_
  refine g_ldcS hX X (tx := "") (k := 132) (List.mem_of_getElem? (i := 32) rfl) dX6_init_5 ?_
  obtain ⟨σ_1, eσ_1, hf⟩ := ob hf
  refine g_put X I pfX6_9 rfl rfl eσ_1 dX6_init_7 (fun H locs I => ?_)
  refine lv_aload_n hx hb dX6_init_10 rfl (lv_at hl 0 rfl) ?_
  refine lv_aload_n hx hb dX6_init_11 rfl (lv_at hl 1 rfl) ?_
  obtain ⟨σ_2, eσ_2, hf⟩ := ob hf
  refine g_putI X I pfX6_15 rfl rfl eσ_2 dX6_init_12 (fun H locs I => ?_)
  refine lv_aload_n hx hb dX6_init_15 rfl (lv_at hl 0 rfl) ?_
  refine lv_iload_n hx hb dX6_init_16 rfl (lv_at hl 2 rfl) ?_
  obtain ⟨σ_3, eσ_3, hf⟩ := ob hf
  refine g_putI X I pfX6_19 rfl rfl eσ_3 dX6_init_17 (fun H locs I => ?_)
  refine lv_aload_n hx hb dX6_init_20 rfl (lv_at hl 0 rfl) ?_
  refine lv_aload_n hx hb dX6_init_21 rfl (lv_at hl 3 rfl) ?_
  obtain ⟨σ_4, eσ_4, hf⟩ := ob hf
  refine g_putI X I pfX6_23 rfl rfl eσ_4 dX6_init_22 (fun H locs I => ?_)
  refine lv_aload_n hx hb dX6_init_25 rfl (lv_at hl 0 rfl) ?_
  obtain ⟨u_5, eu_5, hf⟩ := ob hf
  obtain ⟨σ_7, ev_6, hf⟩ := ob hf
  refine cg_V (vw := (RX6, TX6, 8)) (ci := 5) (r := none) (σ' := σ_7) (rs := []) (rest := []) (As := []) X I eu_5 rfl (mX6_advance hX ev_6) lvX6_26 hdX6_26 ⟨Nat.le_trans (Nat.le_of_ble_eq_true rfl) hR.1, Nat.le_trans (Nat.le_of_ble_eq_true rfl) hR.2⟩ rfl hl.1 rfl (Nat.le_of_ble_eq_true rfl) rfl dX6_init_26 (fun H locs cells slots I => ?_)
  cases os hf
  exact r_vret X I dX6_init_29
theorem mX6_init {E : EV} {l : Launch} {N : Nat} {σ : St} {x0 : Nat} {x1 : Nat} {x2 : Int32} {x3 : Nat} {res : St} (hX : XK E) (hf : fX6_init N E.2.2.2.1 σ x0 x1 x2 x3 = some res) : CM E l yX6_init (ws_ yX6_init cX6_init 4 none) 10 224 [.ref x0, .ref x1, .int x2, .ref x3] σ none res := by
  refine CM.of hX.1 (by decide) rfl rfl (Nat.le_of_ble_eq_true rfl) ?_
  intro p e s m below meth c X I ls hl
  exact wX6_init_0 hX ⟨Nat.le_refl _, Nat.le_refl _⟩ X N _ _ _ _ _ _ _ _ _ _ I hl hf
/-! SharedTaxis$Reader.<init>(LSharedTaxis$Scanner;)V imp=True fuel=False kap=False rt=None thr=False -/
theorem pfX5_9 : ∀ q ∈ ([(4, 0)] : List (Nat × Nat)), PI RX5 9 (.object "SharedTaxis$Scanner") q := List.forall_mem_cons.mpr ⟨⟨RX5, TX5, 2, tyX5, rfl, in_X5, by decide, q1335, rfl, tyX5_ok, nmX5, rfl, rfl⟩, fun _ h => by cases h⟩
def fX5_init (σ : St) (x0 : Nat) (x1 : Nat) : Option St := (pV σ x0 [(4, 0)] (.ref x1)).bind fun σ_1 : St => some σ_1
theorem wX5_init_0 {E : EV} {l : Launch} {p : Program} {e : Env} {s : State} {m : MethodId} {args : Array Value} {below : List Frame} {meth : Method} {c : Code} {R : Room} {res : St} (hX : XK E) (hR : 1 ≤ R.frames ∧ 20 ≤ R.locals) (X : MX E p s m args meth c cX5_init 2 none RX5 "<init>") : ∀ (x0 : Nat) (x1 : Nat) (σ : St) (H : Heap) (locs : List Loc) (cells slots : Nat) (ls : Array Slot), WI E R s σ H locs cells slots → lv_has ls 2 [(0, .ref x0), (1, .ref x1)] → fX5_init σ x0 x1 = some res → W p l e R s m args below meth c H locs cells slots (MQ below (Qd E R.cells R.slots none res) args s R.cells R.slots (fr E)) (F0 m 0 ls []) := by
  intro x0 x1 σ H locs cells slots ls I hl hf
  obtain ⟨⟨hx, hb, hml, hown, hts⟩, -⟩ := id X
  unfold fX5_init at hf
  refine lv_aload_n hx hb dX5_init_0 rfl (lv_at hl 0 rfl) ?_
  refine g_objInit X ⟨Nat.le_trans (Nat.le_of_ble_eq_true rfl) hR.1, Nat.le_trans (Nat.le_of_ble_eq_true rfl) hR.2⟩ q1334 hl.1 (Nat.le_of_ble_eq_true rfl) dX5_init_1 ?_
  refine lv_aload_n hx hb dX5_init_4 rfl (lv_at hl 0 rfl) ?_
  refine lv_aload_n hx hb dX5_init_5 rfl (lv_at hl 1 rfl) ?_
  obtain ⟨σ_1, eσ_1, hf⟩ := ob hf
  refine g_putI X I pfX5_9 rfl rfl eσ_1 dX5_init_6 (fun H locs I => ?_)
  cases os hf
  exact r_vret X I dX5_init_9
theorem mX5_init {E : EV} {l : Launch} {σ : St} {x0 : Nat} {x1 : Nat} {res : St} (hX : XK E) (hf : fX5_init σ x0 x1 = some res) : CM E l yX5_init (ws_ yX5_init cX5_init 2 none) 1 20 [.ref x0, .ref x1] σ none res := by
  refine CM.of hX.1 (by decide) rfl rfl (Nat.le_of_ble_eq_true rfl) ?_
  intro p e s m below meth c X I ls hl
  exact wX5_init_0 hX ⟨Nat.le_refl _, Nat.le_refl _⟩ X _ _ _ _ _ _ _ _ I hl hf
/-! java/lang/StringLatin1.equals([B[B)Z imp=False fuel=True kap=False rt=I thr=False -/
def fJ15_equals_9 (N : Nat) (σ : St) : Nat → Nat → Nat → Int32 → Option Int32
  | 0, _, _, _ => none
  | n + 1, x0, x1, x2 => (aL σ x0).bind fun v_1 : Int32 => if v_1 ≤ x2 then some (1 : Int32) else (aI σ x0 1 x2).bind fun v_2 : Int32 => (aI σ x1 1 x2).bind fun v_3 : Int32 => if v_2 = v_3 then lt (x2 + 1) fun x2_4 : Int32 => fJ15_equals_9 N σ n x0 x1 x2_4 else some (0 : Int32)
def fJ15_equals (N : Nat) (σ : St) (x0 : Nat) (x1 : Nat) : Option Int32 := (aL σ x0).bind fun v_5 : Int32 => (aL σ x1).bind fun v_6 : Int32 => if v_5 = v_6 then fJ15_equals_9 N σ N x0 x1 (0 : Int32) else some (0 : Int32)
theorem wJ15_equals_9 {E : EV} {l : Launch} {p : Program} {e : Env} {s : State} {m : MethodId} {args : Array Value} {below : List Frame} {meth : Method} {c : Code} {R : Room} {σ : St} {res : Int32} (hX : XK E) (hR : 0 ≤ R.frames ∧ 0 ≤ R.locals) (X : MX E p s m args meth c cJ15_equals 3 (some .boolean) RJ15 "equals") (N : Nat) : ∀ (n : Nat) (x0 : Nat) (x1 : Nat) (x2 : Int32) (H : Heap) (locs : List Loc) (cells slots : Nat) (ls : Array Slot), WI E R s σ H locs cells slots → lv_has ls 3 [(0, .ref x0), (1, .ref x1), (2, .int x2)] → fJ15_equals_9 N σ n x0 x1 x2 = some res → W p l e R s m args below meth c H locs cells slots (MQ below (Qd E R.cells R.slots (some (.int res)) σ) args s R.cells R.slots (fr E)) (F0 m 9 ls []) := by
  intro n
  induction n with
  | zero => intro x0 x1 x2 H locs cells slots ls I hl hf; exact nomatch (show none = some res from hf)
  | succ n ih =>
    intro x0 x1 x2 H locs cells slots ls I hl hf
    obtain ⟨⟨hx, hb, hml, hown, hts⟩, -⟩ := id X
    rw [fJ15_equals_9.eq_2] at hf
    refine lv_iload_n hx hb dJ15_equals_9 rfl (lv_at hl 2 rfl) ?_
    refine lv_aload_n hx hb dJ15_equals_10 rfl (lv_at hl 0 rfl) ?_
    obtain ⟨v_1, ev_1, hf⟩ := ob hf
    refine g_alen X I ev_1 dJ15_equals_11 ?_
    refine lv_icmp_ge (tgt := 32) hx hb dJ15_equals_12 (by decide) (fun c_12 => ?_) (fun c_12 => ?_)
    · have hf := ip c_12 hf
      refine lv_iconst (v := 1) hx hb dJ15_equals_32 (by decide) ?_
      cases os hf
      exact r_zret X I (Or.inr rfl) dJ15_equals_33
    · have hf := im c_12 hf
      refine lv_aload_n hx hb dJ15_equals_15 rfl (lv_at hl 0 rfl) ?_
      refine lv_iload_n hx hb dJ15_equals_16 rfl (lv_at hl 2 rfl) ?_
      obtain ⟨v_2, ev_2, hf⟩ := ob hf
      refine g_bald X I ev_2 dJ15_equals_17 ?_
      refine lv_aload_n hx hb dJ15_equals_18 rfl (lv_at hl 1 rfl) ?_
      refine lv_iload_n hx hb dJ15_equals_19 rfl (lv_at hl 2 rfl) ?_
      obtain ⟨v_3, ev_3, hf⟩ := ob hf
      refine g_bald X I ev_3 dJ15_equals_20 ?_
      refine lv_icmp_eq (tgt := 26) hx hb dJ15_equals_21 (by decide) (fun c_21 => ?_) (fun c_21 => ?_)
      · have hf := ip c_21 hf
        obtain ⟨x2_4, ex2_4, hf⟩ := ol hf
        refine lv_iinc (v := x2_4) (lv' := [(2, .int x2_4), (0, .ref x0), (1, .ref x1)]) hx hb dJ15_equals_26 hl (k := 2) rfl ex2_4 (by decide) rfl (fun ls hl => ?_)
        refine lv_goto (tgt := 9) hx hb dJ15_equals_29 (by decide) ?_
        exact ih x0 x1 x2_4 _ _ _ _ _ I (lv_sub hl [1, 2, 0] rfl) hf
      · have hf := im c_21 hf
        refine lv_iconst (v := 0) hx hb dJ15_equals_24 (by decide) ?_
        cases os hf
        exact r_zret X I (Or.inl rfl) dJ15_equals_25
theorem wJ15_equals_0 {E : EV} {l : Launch} {p : Program} {e : Env} {s : State} {m : MethodId} {args : Array Value} {below : List Frame} {meth : Method} {c : Code} {R : Room} {σ : St} {res : Int32} (hX : XK E) (hR : 0 ≤ R.frames ∧ 0 ≤ R.locals) (X : MX E p s m args meth c cJ15_equals 3 (some .boolean) RJ15 "equals") (N : Nat) : ∀ (x0 : Nat) (x1 : Nat) (H : Heap) (locs : List Loc) (cells slots : Nat) (ls : Array Slot), WI E R s σ H locs cells slots → lv_has ls 3 [(0, .ref x0), (1, .ref x1)] → fJ15_equals N σ x0 x1 = some res → W p l e R s m args below meth c H locs cells slots (MQ below (Qd E R.cells R.slots (some (.int res)) σ) args s R.cells R.slots (fr E)) (F0 m 0 ls []) := by
  intro x0 x1 H locs cells slots ls I hl hf
  obtain ⟨⟨hx, hb, hml, hown, hts⟩, -⟩ := id X
  unfold fJ15_equals at hf
  refine lv_aload_n hx hb dJ15_equals_0 rfl (lv_at hl 0 rfl) ?_
  obtain ⟨v_5, ev_5, hf⟩ := ob hf
  refine g_alen X I ev_5 dJ15_equals_1 ?_
  refine lv_aload_n hx hb dJ15_equals_2 rfl (lv_at hl 1 rfl) ?_
  obtain ⟨v_6, ev_6, hf⟩ := ob hf
  refine g_alen X I ev_6 dJ15_equals_3 ?_
  refine lv_icmp_ne (tgt := 34) hx hb dJ15_equals_4 (by decide) (fun c_4 => ?_) (fun c_4 => ?_)
  · have hf := im c_4 hf
    refine lv_iconst (v := 0) hx hb dJ15_equals_34 (by decide) ?_
    cases os hf
    exact r_zret X I (Or.inl rfl) dJ15_equals_35
  · have hf := ip c_4 hf
    refine lv_iconst (v := 0) hx hb dJ15_equals_7 (by decide) ?_
    refine lv_istore_n (lv' := [(2, .int (0 : Int32)), (0, .ref x0), (1, .ref x1)]) hx hb dJ15_equals_8 rfl hl (by decide) rfl (fun ls hl => ?_)
    exact wJ15_equals_9 hX hR X N N x0 x1 (0 : Int32) _ _ _ _ _ I (lv_sub hl [1, 2, 0] rfl) hf
theorem mJ15_equals {E : EV} {l : Launch} {N : Nat} {σ : St} {x0 : Nat} {x1 : Nat} {res : Int32} (hX : XK E) (hf : fJ15_equals N σ x0 x1 = some res) : CM E l yJ15_equals (ws_ yJ15_equals cJ15_equals 3 (some .boolean)) 0 0 [.ref x0, .ref x1] σ (some (.int res)) σ := by
  refine CM.of hX.1 (by decide) rfl rfl (Nat.le_of_ble_eq_true rfl) ?_
  intro p e s m below meth c X I ls hl
  exact wJ15_equals_0 hX ⟨Nat.le_refl _, Nat.le_refl _⟩ X N _ _ _ _ _ _ _ I hl hf
/-! java/lang/String.equals(Ljava/lang/Object;)Z imp=False fuel=True kap=True rt=I thr=False -/
theorem lvJ10_541 : GoodIn lw_all (va_wsS RJ10 541 yJ15_equals (ws_ yJ15_equals cJ15_equals 3 (some .boolean))) := lw_S q1364 q1365 q135 q1366
theorem hdJ10_541 : yJ15_equals.cls ≠ "java/lang/invoke/MethodHandle" ∧ yJ15_equals.cls ≠ "java/lang/invoke/VarHandle" ∧ (parseMethodDescriptor yJ15_equals.desc).map (fun d => d.parameters.length) = some 2 := by decide +kernel
def fJ10_equals_36 (N : Nat) (κ : Nat → Nat) (σ : St) (x0 : Nat) (x2 : Nat) : Option Int32 := (gR σ x0 [(26, 0)]).bind fun v_1 : Option Nat => (gR σ x2 [(26, 0)]).bind fun v_2 : Option Nat => (v_1).bind fun a_3 : Nat => (v_2).bind fun a_4 : Nat => (fJ15_equals N σ a_3 a_4).bind fun v_5 : Int32 => if v_5 = 0 then some (0 : Int32) else some (1 : Int32)
def fJ10_equals (N : Nat) (κ : Nat → Nat) (σ : St) (x0 : Nat) (x1 : Nat) : Option Int32 := if (some x0) = (some x1) then some (1 : Int32) else (isC σ x1 26).bind fun u_7 : Unit => if (1 : Int32) = 0 then some (0 : Int32) else (isC σ x1 26).bind fun u_8 : Unit => if (1 : Int32) = 0 then fJ10_equals_36 N κ σ x0 x1 else (gI σ x0 [(26, 1)]).bind fun v_9 : Int32 => (gI σ x1 [(26, 1)]).bind fun v_10 : Int32 => if v_9 = v_10 then fJ10_equals_36 N κ σ x0 x1 else some (0 : Int32)
theorem wJ10_equals_36 {E : EV} {l : Launch} {p : Program} {e : Env} {s : State} {m : MethodId} {args : Array Value} {below : List Frame} {meth : Method} {c : Code} {R : Room} {σ : St} {res : Int32} (hX : XK E) (hR : 1 ≤ R.frames ∧ 22 ≤ R.locals) (X : MX E p s m args meth c cJ10_equals 3 (some .boolean) RJ10 "equals") (N : Nat) : ∀ (x0 : Nat) (x2 : Nat) (H : Heap) (locs : List Loc) (cells slots : Nat) (ls : Array Slot), WI E R s σ H locs cells slots → lv_has ls 3 [(0, .ref x0), (2, .ref x2)] → fJ10_equals_36 N E.2.2.2.1 σ x0 x2 = some res → W p l e R s m args below meth c H locs cells slots (MQ below (Qd E R.cells R.slots (some (.int res)) σ) args s R.cells R.slots (fr E)) (F0 m 36 ls []) := by
  intro x0 x2 H locs cells slots ls I hl hf
  obtain ⟨⟨hx, hb, hml, hown, hts⟩, -⟩ := id X
  unfold fJ10_equals_36 at hf
  refine lv_aload_n hx hb dJ10_equals_36 rfl (lv_at hl 0 rfl) ?_
  obtain ⟨v_1, ev_1, hf⟩ := ob hf
  refine g_get X I gfJ10_9 (gR_in ev_1) dJ10_equals_37 ?_
  refine lv_aload_n hx hb dJ10_equals_40 rfl (lv_at hl 1 rfl) ?_
  obtain ⟨v_2, ev_2, hf⟩ := ob hf
  refine g_get X I gfJ10_9 (gR_in ev_2) dJ10_equals_41 ?_
  obtain ⟨a_3, ea_3, hga_3⟩ := ob hf
  have hla_3 := hl
  have Ia_3 := I
  subst ea_3
  have hf := hga_3
  have hl := hla_3
  have I := Ia_3
  obtain ⟨a_4, ea_4, hga_4⟩ := ob hf
  have hla_4 := hl
  have Ia_4 := I
  subst ea_4
  have hf := hga_4
  have hl := hla_4
  have I := Ia_4
  obtain ⟨v_5, ev_5, hf⟩ := ob hf
  refine cg_S (r := (some (.int v_5))) (σ' := σ) (rs := [.int v_5]) (rest := []) (As := [.ref a_3, .ref a_4]) X I (mJ15_equals hX ev_5) lvJ10_541 hdJ10_541 ⟨Nat.le_trans (Nat.le_of_ble_eq_true rfl) hR.1, Nat.le_trans (Nat.le_of_ble_eq_true rfl) hR.2⟩ rfl hl.1 rfl (Nat.le_of_ble_eq_true rfl) rfl dJ10_equals_44 (fun H locs cells slots I => ?_)
  refine lv_if_eq (tgt := 54) hx hb dJ10_equals_47 (by decide) (fun c_47 => ?_) (fun c_47 => ?_)
  · have hf := ip c_47 hf
    refine lv_iconst (v := 0) hx hb dJ10_equals_54 (by decide) ?_
    cases os hf
    exact r_zret X I (Or.inl rfl) dJ10_equals_55
  · have hf := im c_47 hf
    refine lv_iconst (v := 1) hx hb dJ10_equals_50 (by decide) ?_
    refine lv_goto (tgt := 55) hx hb dJ10_equals_51 (by decide) ?_
    cases os hf
    exact r_zret X I (Or.inr rfl) dJ10_equals_55
theorem wJ10_equals_0 {E : EV} {l : Launch} {p : Program} {e : Env} {s : State} {m : MethodId} {args : Array Value} {below : List Frame} {meth : Method} {c : Code} {R : Room} {σ : St} {res : Int32} (hX : XK E) (hR : 1 ≤ R.frames ∧ 22 ≤ R.locals) (X : MX E p s m args meth c cJ10_equals 3 (some .boolean) RJ10 "equals") (N : Nat) : ∀ (x0 : Nat) (x1 : Nat) (H : Heap) (locs : List Loc) (cells slots : Nat) (ls : Array Slot), WI E R s σ H locs cells slots → lv_has ls 3 [(0, .ref x0), (1, .ref x1)] → fJ10_equals N E.2.2.2.1 σ x0 x1 = some res → W p l e R s m args below meth c H locs cells slots (MQ below (Qd E R.cells R.slots (some (.int res)) σ) args s R.cells R.slots (fr E)) (F0 m 0 ls []) := by
  intro x0 x1 H locs cells slots ls I hl hf
  obtain ⟨⟨hx, hb, hml, hown, hts⟩, -⟩ := id X
  unfold fJ10_equals at hf
  refine lv_aload_n hx hb dJ10_equals_0 rfl (lv_at hl 0 rfl) ?_
  refine lv_aload_n hx hb dJ10_equals_1 rfl (lv_at hl 1 rfl) ?_
  refine lv_acmp_ne (rx := (some x0)) (ry := (some x1)) (tgt := 7) hx hb dJ10_equals_2 (by decide) (fun c_2 => ?_) (fun c_2 => ?_)
  · have hf := im c_2 hf
    refine lv_aload_n hx hb dJ10_equals_7 rfl (lv_at hl 1 rfl) ?_
    obtain ⟨u_7, eu_7, hf⟩ := ob hf
    refine g_inst (vw := (RJ10, TJ10, 4)) X I rfl q1363 eu_7 dJ10_equals_8 ?_
    refine lv_if_eq (tgt := 54) hx hb dJ10_equals_11 (by decide) (fun c_11 => ?_) (fun c_11 => ?_)
    · have hf := ip c_11 hf
      refine lv_iconst (v := 0) hx hb dJ10_equals_54 (by decide) ?_
      cases os hf
      exact r_zret X I (Or.inl rfl) dJ10_equals_55
    · have hf := im c_11 hf
      refine lv_aload_n hx hb dJ10_equals_14 rfl (lv_at hl 1 rfl) ?_
      obtain ⟨u_8, eu_8, hf⟩ := ob hf
      refine g_cast (vw := (RJ10, TJ10, 4)) X I rfl q1363 eu_8 dJ10_equals_15 ?_
      refine lv_astore_n (lv' := [(2, .ref x1), (0, .ref x0), (1, .ref x1)]) hx hb dJ10_equals_18 rfl hl (by decide) rfl (fun ls hl => ?_)
      refine g_gets (ref := "java/lang/String") (w := .int (1 : Int32)) hX X I (List.mem_of_getElem? (i := 0) rfl) rfl q624 dJ10_equals_19 ?_
      refine lv_if_eq (tgt := 36) hx hb dJ10_equals_22 (by decide) (fun c_22 => ?_) (fun c_22 => ?_)
      · have hf := ip c_22 hf
        exact wJ10_equals_36 hX hR X N x0 x1 _ _ _ _ _ I (lv_sub hl [1, 0] rfl) hf
      · have hf := im c_22 hf
        refine lv_aload_n hx hb dJ10_equals_25 rfl (lv_at hl 1 rfl) ?_
        obtain ⟨v_9, ev_9, hf⟩ := ob hf
        refine g_get X I gfJ10_15 (gI_in ev_9) dJ10_equals_26 ?_
        refine lv_aload_n hx hb dJ10_equals_29 rfl (lv_at hl 0 rfl) ?_
        obtain ⟨v_10, ev_10, hf⟩ := ob hf
        refine g_get X I gfJ10_15 (gI_in ev_10) dJ10_equals_30 ?_
        refine lv_icmp_ne (tgt := 54) hx hb dJ10_equals_33 (by decide) (fun c_33 => ?_) (fun c_33 => ?_)
        · have hf := im c_33 hf
          refine lv_iconst (v := 0) hx hb dJ10_equals_54 (by decide) ?_
          cases os hf
          exact r_zret X I (Or.inl rfl) dJ10_equals_55
        · have hf := ip c_33 hf
          exact wJ10_equals_36 hX hR X N x0 x1 _ _ _ _ _ I (lv_sub hl [1, 0] rfl) hf
  · have hf := ip c_2 hf
    refine lv_iconst (v := 1) hx hb dJ10_equals_5 (by decide) ?_
    cases os hf
    exact r_zret X I (Or.inr rfl) dJ10_equals_6
theorem mJ10_equals {E : EV} {l : Launch} {N : Nat} {σ : St} {x0 : Nat} {x1 : Nat} {res : Int32} (hX : XK E) (hf : fJ10_equals N E.2.2.2.1 σ x0 x1 = some res) : CM E l yJ10_equals (ws_ yJ10_equals cJ10_equals 3 (some .boolean)) 1 22 [.ref x0, .ref x1] σ (some (.int res)) σ := by
  refine CM.of hX.1 (by decide) rfl rfl (Nat.le_of_ble_eq_true rfl) ?_
  intro p e s m below meth c X I ls hl
  exact wJ10_equals_0 hX ⟨Nat.le_refl _, Nat.le_refl _⟩ X N _ _ _ _ _ _ _ I hl hf
/-! SharedTaxis$Scanner.isWord(Ljava/lang/String;)Z imp=False fuel=True kap=True rt=I thr=False -/
theorem gfX6_35 : ∀ q ∈ ([(5, 3)] : List (Nat × Nat)), GF RX6 35 q := List.forall_mem_cons.mpr ⟨⟨RX6, TX6, 8, _, rfl, in_X6, by decide, q1305, Or.inl rfl⟩, fun _ h => by cases h⟩
theorem gfX6_9 : ∀ q ∈ ([(5, 7)] : List (Nat × Nat)), GF RX6 9 q := List.forall_mem_cons.mpr ⟨⟨RX6, TX6, 8, _, rfl, in_X6, by decide, q1312, Or.inl rfl⟩, fun _ h => by cases h⟩
theorem lvX6_81 : GoodIn lw_all (wsV RX6 81 RJ10 yJ10_equals (ws_ yJ10_equals cJ10_equals 3 (some .boolean))) := lw_V q1359 q1360 q1361 q129 q1362
theorem hdX6_81 : yJ10_equals.cls = RJ10 ∧ yJ10_equals.cls ≠ "java/lang/invoke/MethodHandle" ∧ yJ10_equals.cls ≠ "java/lang/invoke/VarHandle" ∧ (parseMethodDescriptor yJ10_equals.desc).map (fun d => d.parameters.length) = some 1 := by decide +kernel
def fX6_isWord (N : Nat) (κ : Nat → Nat) (σ : St) (x0 : Nat) (x1 : Nat) : Option Int32 := (gI σ x0 [(5, 3)]).bind fun v_1 : Int32 => if v_1 = (1 : Int32) then (gR σ x0 [(5, 7)]).bind fun v_2 : Option Nat => (v_2).bind fun a_3 : Nat => (isC σ a_3 26).bind fun u_4 : Unit => (fJ10_equals N κ σ a_3 x1).bind fun v_5 : Int32 => if v_5 = 0 then some (0 : Int32) else some (1 : Int32) else some (0 : Int32)
theorem wX6_isWord_0 {E : EV} {l : Launch} {p : Program} {e : Env} {s : State} {m : MethodId} {args : Array Value} {below : List Frame} {meth : Method} {c : Code} {R : Room} {σ : St} {res : Int32} (hX : XK E) (hR : 2 ≤ R.frames ∧ 44 ≤ R.locals) (X : MX E p s m args meth c cX6_isWord 2 (some .boolean) RX6 "isWord") (N : Nat) : ∀ (x0 : Nat) (x1 : Nat) (H : Heap) (locs : List Loc) (cells slots : Nat) (ls : Array Slot), WI E R s σ H locs cells slots → lv_has ls 2 [(0, .ref x0), (1, .ref x1)] → fX6_isWord N E.2.2.2.1 σ x0 x1 = some res → W p l e R s m args below meth c H locs cells slots (MQ below (Qd E R.cells R.slots (some (.int res)) σ) args s R.cells R.slots (fr E)) (F0 m 0 ls []) := by
  intro x0 x1 H locs cells slots ls I hl hf
  obtain ⟨⟨hx, hb, hml, hown, hts⟩, -⟩ := id X
  unfold fX6_isWord at hf
  refine lv_aload_n hx hb dX6_isWord_0 rfl (lv_at hl 0 rfl) ?_
  obtain ⟨v_1, ev_1, hf⟩ := ob hf
  refine g_get X I gfX6_35 (gI_in ev_1) dX6_isWord_1 ?_
  refine lv_iconst (v := 1) hx hb dX6_isWord_4 (by decide) ?_
  refine lv_icmp_ne (tgt := 23) hx hb dX6_isWord_5 (by decide) (fun c_5 => ?_) (fun c_5 => ?_)
  · have hf := im c_5 hf
    refine lv_iconst (v := 0) hx hb dX6_isWord_23 (by decide) ?_
    cases os hf
    exact r_zret X I (Or.inl rfl) dX6_isWord_24
  · have hf := ip c_5 hf
    refine lv_aload_n hx hb dX6_isWord_8 rfl (lv_at hl 0 rfl) ?_
    obtain ⟨v_2, ev_2, hf⟩ := ob hf
    refine g_get X I gfX6_9 (gR_in ev_2) dX6_isWord_9 ?_
    refine lv_aload_n hx hb dX6_isWord_12 rfl (lv_at hl 1 rfl) ?_
    obtain ⟨a_3, ea_3, hga_3⟩ := ob hf
    have hla_3 := hl
    have Ia_3 := I
    subst ea_3
    have hf := hga_3
    have hl := hla_3
    have I := Ia_3
    obtain ⟨u_4, eu_4, hf⟩ := ob hf
    obtain ⟨v_5, ev_5, hf⟩ := ob hf
    refine cg_V (vw := (RJ10, TJ10, 4)) (ci := 26) (r := (some (.int v_5))) (σ' := σ) (rs := [.int v_5]) (rest := []) (As := [.ref x1]) X I eu_4 rfl (mJ10_equals hX ev_5) lvX6_81 hdX6_81 ⟨Nat.le_trans (Nat.le_of_ble_eq_true rfl) hR.1, Nat.le_trans (Nat.le_of_ble_eq_true rfl) hR.2⟩ rfl hl.1 rfl (Nat.le_of_ble_eq_true rfl) rfl dX6_isWord_13 (fun H locs cells slots I => ?_)
    refine lv_if_eq (tgt := 23) hx hb dX6_isWord_16 (by decide) (fun c_16 => ?_) (fun c_16 => ?_)
    · have hf := ip c_16 hf
      refine lv_iconst (v := 0) hx hb dX6_isWord_23 (by decide) ?_
      cases os hf
      exact r_zret X I (Or.inl rfl) dX6_isWord_24
    · have hf := im c_16 hf
      refine lv_iconst (v := 1) hx hb dX6_isWord_19 (by decide) ?_
      refine lv_goto (tgt := 24) hx hb dX6_isWord_20 (by decide) ?_
      cases os hf
      exact r_zret X I (Or.inr rfl) dX6_isWord_24
theorem mX6_isWord {E : EV} {l : Launch} {N : Nat} {σ : St} {x0 : Nat} {x1 : Nat} {res : Int32} (hX : XK E) (hf : fX6_isWord N E.2.2.2.1 σ x0 x1 = some res) : CM E l yX6_isWord (ws_ yX6_isWord cX6_isWord 2 (some .boolean)) 2 44 [.ref x0, .ref x1] σ (some (.int res)) σ := by
  refine CM.of hX.1 (by decide) rfl rfl (Nat.le_of_ble_eq_true rfl) ?_
  intro p e s m below meth c X I ls hl
  exact wX6_isWord_0 hX ⟨Nat.le_refl _, Nat.le_refl _⟩ X N _ _ _ _ _ _ _ I hl hf
/-! SharedTaxis$Scanner.accept(Ljava/lang/String;)Z imp=True fuel=True kap=True rt=I thr=False -/
theorem lvX6_85 : GoodIn lw_all (wsV RX6 85 RX6 yX6_isWord (ws_ yX6_isWord cX6_isWord 2 (some .boolean))) := lw_V q1355 q1356 q1357 q126 q1358
theorem hdX6_85 : yX6_isWord.cls = RX6 ∧ yX6_isWord.cls ≠ "java/lang/invoke/MethodHandle" ∧ yX6_isWord.cls ≠ "java/lang/invoke/VarHandle" ∧ (parseMethodDescriptor yX6_isWord.desc).map (fun d => d.parameters.length) = some 1 := by decide +kernel
def fX6_accept (N : Nat) (κ : Nat → Nat) (σ : St) (x0 : Nat) (x1 : Nat) : Option (Int32 × St) := (isC σ x0 5).bind fun u_1 : Unit => (fX6_isWord N κ σ x0 x1).bind fun v_2 : Int32 => if v_2 = 0 then if v_2 = 0 ∨ v_2 = 1 then some (v_2, σ) else none else (isC σ x0 5).bind fun u_4 : Unit => (fX6_advance N κ σ x0).bind fun σ_6 : St => if v_2 = 0 ∨ v_2 = 1 then some (v_2, σ_6) else none
theorem wX6_accept_0 {E : EV} {l : Launch} {p : Program} {e : Env} {s : State} {m : MethodId} {args : Array Value} {below : List Frame} {meth : Method} {c : Code} {R : Room} {res : (Int32 × St)} (hX : XK E) (hR : 10 ≤ R.frames ∧ 224 ≤ R.locals) (X : MX E p s m args meth c cX6_accept 3 (some .boolean) RX6 "accept") (N : Nat) : ∀ (x0 : Nat) (x1 : Nat) (σ : St) (H : Heap) (locs : List Loc) (cells slots : Nat) (ls : Array Slot), WI E R s σ H locs cells slots → lv_has ls 3 [(0, .ref x0), (1, .ref x1)] → fX6_accept N E.2.2.2.1 σ x0 x1 = some res → W p l e R s m args below meth c H locs cells slots (MQ below (Qd E R.cells R.slots (some (.int res.1)) res.2) args s R.cells R.slots (fr E)) (F0 m 0 ls []) := by
  intro x0 x1 σ H locs cells slots ls I hl hf
  obtain ⟨⟨hx, hb, hml, hown, hts⟩, -⟩ := id X
  unfold fX6_accept at hf
  refine lv_aload_n hx hb dX6_accept_0 rfl (lv_at hl 0 rfl) ?_
  refine lv_aload_n hx hb dX6_accept_1 rfl (lv_at hl 1 rfl) ?_
  obtain ⟨u_1, eu_1, hf⟩ := ob hf
  obtain ⟨v_2, ev_2, hf⟩ := ob hf
  refine cg_V (vw := (RX6, TX6, 8)) (ci := 5) (r := (some (.int v_2))) (σ' := σ) (rs := [.int v_2]) (rest := []) (As := [.ref x1]) X I eu_1 rfl (mX6_isWord hX ev_2) lvX6_85 hdX6_85 ⟨Nat.le_trans (Nat.le_of_ble_eq_true rfl) hR.1, Nat.le_trans (Nat.le_of_ble_eq_true rfl) hR.2⟩ rfl hl.1 rfl (Nat.le_of_ble_eq_true rfl) rfl dX6_accept_2 (fun H locs cells slots I => ?_)
  refine lv_istore_n (lv' := [(2, .int v_2), (0, .ref x0), (1, .ref x1)]) hx hb dX6_accept_5 rfl hl (by decide) rfl (fun ls hl => ?_)
  refine lv_iload_n hx hb dX6_accept_6 rfl (lv_at hl 0 rfl) ?_
  refine lv_if_eq (tgt := 14) hx hb dX6_accept_7 (by decide) (fun c_7 => ?_) (fun c_7 => ?_)
  · have hf := ip c_7 hf
    refine lv_iload_n hx hb dX6_accept_14 rfl (lv_at hl 0 rfl) ?_
    by_cases d_15 : ¬ (v_2 = 0 ∨ v_2 = 1)
    · exact nomatch (im d_15 hf)
    have c_15 := Decidable.not_not.mp d_15
    have hf := ip c_15 hf
    cases os hf
    exact r_zret X I c_15 dX6_accept_15
  · have hf := im c_7 hf
    refine lv_aload_n hx hb dX6_accept_10 rfl (lv_at hl 1 rfl) ?_
    obtain ⟨u_4, eu_4, hf⟩ := ob hf
    obtain ⟨σ_6, ev_5, hf⟩ := ob hf
    refine cg_V (vw := (RX6, TX6, 8)) (ci := 5) (r := none) (σ' := σ_6) (rs := []) (rest := []) (As := []) X I eu_4 rfl (mX6_advance hX ev_5) lvX6_26 hdX6_26 ⟨Nat.le_trans (Nat.le_of_ble_eq_true rfl) hR.1, Nat.le_trans (Nat.le_of_ble_eq_true rfl) hR.2⟩ rfl hl.1 rfl (Nat.le_of_ble_eq_true rfl) rfl dX6_accept_11 (fun H locs cells slots I => ?_)
    refine lv_iload_n hx hb dX6_accept_14 rfl (lv_at hl 0 rfl) ?_
    by_cases d_15 : ¬ (v_2 = 0 ∨ v_2 = 1)
    · exact nomatch (im d_15 hf)
    have c_15 := Decidable.not_not.mp d_15
    have hf := ip c_15 hf
    cases os hf
    exact r_zret X I c_15 dX6_accept_15
theorem mX6_accept {E : EV} {l : Launch} {N : Nat} {σ : St} {x0 : Nat} {x1 : Nat} {res : (Int32 × St)} (hX : XK E) (hf : fX6_accept N E.2.2.2.1 σ x0 x1 = some res) : CM E l yX6_accept (ws_ yX6_accept cX6_accept 3 (some .boolean)) 10 224 [.ref x0, .ref x1] σ (some (.int res.1)) res.2 := by
  refine CM.of hX.1 (by decide) rfl rfl (Nat.le_of_ble_eq_true rfl) ?_
  intro p e s m below meth c X I ls hl
  exact wX6_accept_0 hX ⟨Nat.le_refl _, Nat.le_refl _⟩ X N _ _ _ _ _ _ _ _ I hl hf
/-! java/lang/Throwable.<init>(Ljava/lang/String;Ljava/lang/Throwable;ZZ)V imp=True fuel=False kap=True rt=None thr=False -/
theorem pfJ4_31 : ∀ q ∈ ([(6, 4), (7, 4), (8, 4), (9, 4), (23, 3), (24, 3), (29, 3), (30, 3), (31, 1), (32, 1)] : List (Nat × Nat)), PF RJ4 31 (.object "java/lang/String") q := List.forall_mem_cons.mpr ⟨⟨RX8, TX8, 7, _, tyX8, rfl, in_X8, by decide, q473, Or.inl rfl, tyX8_ok, nmX8, rfl, rfl⟩, List.forall_mem_cons.mpr ⟨⟨RX9, TX9, 7, _, tyX9, rfl, in_X9, by decide, q473, Or.inl rfl, tyX9_ok, nmX9, rfl, rfl⟩, List.forall_mem_cons.mpr ⟨⟨RX10, TX10, 7, _, tyX10, rfl, in_X10, by decide, q473, Or.inl rfl, tyX10_ok, nmX10, rfl, rfl⟩, List.forall_mem_cons.mpr ⟨⟨RX11, TX11, 7, _, tyX11, rfl, in_X11, by decide, q473, Or.inl rfl, tyX11_ok, nmX11, rfl, rfl⟩, List.forall_mem_cons.mpr ⟨⟨RJ4, TJ4, 5, _, tyJ4, rfl, in_J4, by decide, q473, Or.inl rfl, tyJ4_ok, nmJ4, rfl, rfl⟩, List.forall_mem_cons.mpr ⟨⟨RJ7, TJ7, 6, _, tyJ7, rfl, in_J7, by decide, q473, Or.inl rfl, tyJ7_ok, nmJ7, rfl, rfl⟩, List.forall_mem_cons.mpr ⟨⟨RJ22, TJ22, 6, _, tyJ22, rfl, in_J22, by decide, q473, Or.inl rfl, tyJ22_ok, nmJ22, rfl, rfl⟩, List.forall_mem_cons.mpr ⟨⟨RJ23, TJ23, 6, _, tyJ23, rfl, in_J23, by decide, q473, Or.inl rfl, tyJ23_ok, nmJ23, rfl, rfl⟩, List.forall_mem_cons.mpr ⟨⟨RJ24, TJ24, 6, _, tyJ24, rfl, in_J24, by decide, q473, Or.inl rfl, tyJ24_ok, nmJ24, rfl, rfl⟩, List.forall_mem_cons.mpr ⟨⟨RJ25, TJ25, 6, _, tyJ25, rfl, in_J25, by decide, q473, Or.inl rfl, tyJ25_ok, nmJ25, rfl, rfl⟩, fun _ h => by cases h⟩⟩⟩⟩⟩⟩⟩⟩⟩⟩
theorem pfJ4_7 : ∀ q ∈ ([(6, 1), (7, 1), (8, 1), (9, 1), (23, 0), (24, 0), (29, 0), (30, 0), (31, 2), (32, 2)] : List (Nat × Nat)), PF RJ4 7 (.object "java/lang/Throwable") q := List.forall_mem_cons.mpr ⟨⟨RX8, TX8, 7, _, tyX8, rfl, in_X8, by decide, q474, Or.inl rfl, tyX8_ok, nmX8, rfl, rfl⟩, List.forall_mem_cons.mpr ⟨⟨RX9, TX9, 7, _, tyX9, rfl, in_X9, by decide, q474, Or.inl rfl, tyX9_ok, nmX9, rfl, rfl⟩, List.forall_mem_cons.mpr ⟨⟨RX10, TX10, 7, _, tyX10, rfl, in_X10, by decide, q474, Or.inl rfl, tyX10_ok, nmX10, rfl, rfl⟩, List.forall_mem_cons.mpr ⟨⟨RX11, TX11, 7, _, tyX11, rfl, in_X11, by decide, q474, Or.inl rfl, tyX11_ok, nmX11, rfl, rfl⟩, List.forall_mem_cons.mpr ⟨⟨RJ4, TJ4, 5, _, tyJ4, rfl, in_J4, by decide, q474, Or.inl rfl, tyJ4_ok, nmJ4, rfl, rfl⟩, List.forall_mem_cons.mpr ⟨⟨RJ7, TJ7, 6, _, tyJ7, rfl, in_J7, by decide, q474, Or.inl rfl, tyJ7_ok, nmJ7, rfl, rfl⟩, List.forall_mem_cons.mpr ⟨⟨RJ22, TJ22, 6, _, tyJ22, rfl, in_J22, by decide, q474, Or.inl rfl, tyJ22_ok, nmJ22, rfl, rfl⟩, List.forall_mem_cons.mpr ⟨⟨RJ23, TJ23, 6, _, tyJ23, rfl, in_J23, by decide, q474, Or.inl rfl, tyJ23_ok, nmJ23, rfl, rfl⟩, List.forall_mem_cons.mpr ⟨⟨RJ24, TJ24, 6, _, tyJ24, rfl, in_J24, by decide, q474, Or.inl rfl, tyJ24_ok, nmJ24, rfl, rfl⟩, List.forall_mem_cons.mpr ⟨⟨RJ25, TJ25, 6, _, tyJ25, rfl, in_J25, by decide, q474, Or.inl rfl, tyJ25_ok, nmJ25, rfl, rfl⟩, fun _ h => by cases h⟩⟩⟩⟩⟩⟩⟩⟩⟩⟩
theorem pfJ4_24 : ∀ q ∈ ([(6, 3), (7, 3), (8, 3), (9, 3), (23, 2), (24, 2), (29, 2), (30, 2), (31, 5), (32, 5)] : List (Nat × Nat)), PF RJ4 24 (.object "java/util/List") q := List.forall_mem_cons.mpr ⟨⟨RX8, TX8, 7, _, tyX8, rfl, in_X8, by decide, q476, Or.inl rfl, tyX8_ok, nmX8, rfl, rfl⟩, List.forall_mem_cons.mpr ⟨⟨RX9, TX9, 7, _, tyX9, rfl, in_X9, by decide, q476, Or.inl rfl, tyX9_ok, nmX9, rfl, rfl⟩, List.forall_mem_cons.mpr ⟨⟨RX10, TX10, 7, _, tyX10, rfl, in_X10, by decide, q476, Or.inl rfl, tyX10_ok, nmX10, rfl, rfl⟩, List.forall_mem_cons.mpr ⟨⟨RX11, TX11, 7, _, tyX11, rfl, in_X11, by decide, q476, Or.inl rfl, tyX11_ok, nmX11, rfl, rfl⟩, List.forall_mem_cons.mpr ⟨⟨RJ4, TJ4, 5, _, tyJ4, rfl, in_J4, by decide, q476, Or.inl rfl, tyJ4_ok, nmJ4, rfl, rfl⟩, List.forall_mem_cons.mpr ⟨⟨RJ7, TJ7, 6, _, tyJ7, rfl, in_J7, by decide, q476, Or.inl rfl, tyJ7_ok, nmJ7, rfl, rfl⟩, List.forall_mem_cons.mpr ⟨⟨RJ22, TJ22, 6, _, tyJ22, rfl, in_J22, by decide, q476, Or.inl rfl, tyJ22_ok, nmJ22, rfl, rfl⟩, List.forall_mem_cons.mpr ⟨⟨RJ23, TJ23, 6, _, tyJ23, rfl, in_J23, by decide, q476, Or.inl rfl, tyJ23_ok, nmJ23, rfl, rfl⟩, List.forall_mem_cons.mpr ⟨⟨RJ24, TJ24, 6, _, tyJ24, rfl, in_J24, by decide, q476, Or.inl rfl, tyJ24_ok, nmJ24, rfl, rfl⟩, List.forall_mem_cons.mpr ⟨⟨RJ25, TJ25, 6, _, tyJ25, rfl, in_J25, by decide, q476, Or.inl rfl, tyJ25_ok, nmJ25, rfl, rfl⟩, fun _ h => by cases h⟩⟩⟩⟩⟩⟩⟩⟩⟩⟩
theorem pfJ4_17 : ∀ q ∈ ([(6, 2), (7, 2), (8, 2), (9, 2), (23, 1), (24, 1), (29, 1), (30, 1), (31, 3), (32, 3)] : List (Nat × Nat)), PF RJ4 17 (.array (.object "java/lang/StackTraceElement")) q := List.forall_mem_cons.mpr ⟨⟨RX8, TX8, 7, _, tyX8, rfl, in_X8, by decide, q475, Or.inl rfl, tyX8_ok, nmX8, rfl, rfl⟩, List.forall_mem_cons.mpr ⟨⟨RX9, TX9, 7, _, tyX9, rfl, in_X9, by decide, q475, Or.inl rfl, tyX9_ok, nmX9, rfl, rfl⟩, List.forall_mem_cons.mpr ⟨⟨RX10, TX10, 7, _, tyX10, rfl, in_X10, by decide, q475, Or.inl rfl, tyX10_ok, nmX10, rfl, rfl⟩, List.forall_mem_cons.mpr ⟨⟨RX11, TX11, 7, _, tyX11, rfl, in_X11, by decide, q475, Or.inl rfl, tyX11_ok, nmX11, rfl, rfl⟩, List.forall_mem_cons.mpr ⟨⟨RJ4, TJ4, 5, _, tyJ4, rfl, in_J4, by decide, q475, Or.inl rfl, tyJ4_ok, nmJ4, rfl, rfl⟩, List.forall_mem_cons.mpr ⟨⟨RJ7, TJ7, 6, _, tyJ7, rfl, in_J7, by decide, q475, Or.inl rfl, tyJ7_ok, nmJ7, rfl, rfl⟩, List.forall_mem_cons.mpr ⟨⟨RJ22, TJ22, 6, _, tyJ22, rfl, in_J22, by decide, q475, Or.inl rfl, tyJ22_ok, nmJ22, rfl, rfl⟩, List.forall_mem_cons.mpr ⟨⟨RJ23, TJ23, 6, _, tyJ23, rfl, in_J23, by decide, q475, Or.inl rfl, tyJ23_ok, nmJ23, rfl, rfl⟩, List.forall_mem_cons.mpr ⟨⟨RJ24, TJ24, 6, _, tyJ24, rfl, in_J24, by decide, q475, Or.inl rfl, tyJ24_ok, nmJ24, rfl, rfl⟩, List.forall_mem_cons.mpr ⟨⟨RJ25, TJ25, 6, _, tyJ25, rfl, in_J25, by decide, q475, Or.inl rfl, tyJ25_ok, nmJ25, rfl, rfl⟩, fun _ h => by cases h⟩⟩⟩⟩⟩⟩⟩⟩⟩⟩
def fJ4_init_3_41 (κ : Nat → Nat) (x0 : Nat) (x1 : Option Nat) (x2 : Option Nat) (x3 : Int32) (σ : St) : Option St := (pV σ x0 [(6, 4), (7, 4), (8, 4), (9, 4), (23, 3), (24, 3), (29, 3), (30, 3), (31, 1), (32, 1)] (va_rf x1)).bind fun σ_1 : St => (pV σ_1 x0 [(6, 1), (7, 1), (8, 1), (9, 1), (23, 0), (24, 0), (29, 0), (30, 0), (31, 2), (32, 2)] (va_rf x2)).bind fun σ_2 : St => if x3 = 0 then (pV σ_2 x0 [(6, 3), (7, 3), (8, 3), (9, 3), (23, 2), (24, 2), (29, 2), (30, 2), (31, 5), (32, 5)] (.null)).bind fun σ_3 : St => some σ_3 else some σ_2
def fJ4_init_3 (κ : Nat → Nat) (σ : St) (x0 : Nat) (x1 : Option Nat) (x2 : Option Nat) (x3 : Int32) (x4 : Int32) : Option St := (pV σ x0 [(6, 1), (7, 1), (8, 1), (9, 1), (23, 0), (24, 0), (29, 0), (30, 0), (31, 2), (32, 2)] (.ref x0)).bind fun σ_4 : St => lt (ko (κ 5)) fun v_5 : Option Nat => (pV σ_4 x0 [(6, 2), (7, 2), (8, 2), (9, 2), (23, 1), (24, 1), (29, 1), (30, 1), (31, 3), (32, 3)] (va_rf v_5)).bind fun σ_6 : St => lt (ko (κ 6)) fun v_7 : Option Nat => (pV σ_6 x0 [(6, 3), (7, 3), (8, 3), (9, 3), (23, 2), (24, 2), (29, 2), (30, 2), (31, 5), (32, 5)] (va_rf v_7)).bind fun σ_8 : St => if x4 = 0 then (pV σ_8 x0 [(6, 2), (7, 2), (8, 2), (9, 2), (23, 1), (24, 1), (29, 1), (30, 1), (31, 3), (32, 3)] (.null)).bind fun σ_9 : St => fJ4_init_3_41 κ x0 x1 x2 x3 σ_9 else none
theorem wJ4_init_3_41 {E : EV} {l : Launch} {p : Program} {e : Env} {s : State} {m : MethodId} {args : Array Value} {below : List Frame} {meth : Method} {c : Code} {R : Room} {res : St} (hX : XK E) (hR : 1 ≤ R.frames ∧ 20 ≤ R.locals) (X : MX E p s m args meth c cJ4_init_3 5 none RJ4 "<init>") : ∀ (x0 : Nat) (x1 : Option Nat) (x2 : Option Nat) (x3 : Int32) (σ : St) (H : Heap) (locs : List Loc) (cells slots : Nat) (ls : Array Slot), WI E R s σ H locs cells slots → lv_has ls 5 [(0, .ref x0), (1, va_rf x1), (2, va_rf x2), (3, .int x3)] → fJ4_init_3_41 E.2.2.2.1 x0 x1 x2 x3 σ = some res → W p l e R s m args below meth c H locs cells slots (MQ below (Qd E R.cells R.slots none res) args s R.cells R.slots (fr E)) (F0 m 41 ls []) := by
  intro x0 x1 x2 x3 σ H locs cells slots ls I hl hf
  obtain ⟨⟨hx, hb, hml, hown, hts⟩, -⟩ := id X
  unfold fJ4_init_3_41 at hf
  refine lv_aload_n hx hb dJ4_init_3_41 rfl (lv_at hl 0 rfl) ?_
  refine lo_aload_n (x := x1) hx hb dJ4_init_3_42 rfl (lv_at hl 1 rfl) ?_
  obtain ⟨σ_1, eσ_1, hf⟩ := ob hf
  refine g_put X I pfJ4_31 (rf_nar _ _) (rf_fit _ _) eσ_1 dJ4_init_3_43 (fun H locs I => ?_)
  refine lv_aload_n hx hb dJ4_init_3_46 rfl (lv_at hl 0 rfl) ?_
  refine lo_aload_n (x := x2) hx hb dJ4_init_3_47 rfl (lv_at hl 2 rfl) ?_
  obtain ⟨σ_2, eσ_2, hf⟩ := ob hf
  refine g_put X I pfJ4_7 (rf_nar _ _) (rf_fit _ _) eσ_2 dJ4_init_3_48 (fun H locs I => ?_)
  refine lv_iload_n hx hb dJ4_init_3_51 rfl (lv_at hl 3 rfl) ?_
  refine lv_if_ne (tgt := 60) hx hb dJ4_init_3_52 (by decide) (fun c_52 => ?_) (fun c_52 => ?_)
  · have hf := im c_52 hf
    cases os hf
    exact r_vret X I dJ4_init_3_60
  · have hf := ip c_52 hf
    refine lv_aload_n hx hb dJ4_init_3_55 rfl (lv_at hl 0 rfl) ?_
    refine lv_null hx hb dJ4_init_3_56 ?_
    obtain ⟨σ_3, eσ_3, hf⟩ := ob hf
    refine g_put X I pfJ4_24 rfl rfl eσ_3 dJ4_init_3_57 (fun H locs I => ?_)
    cases os hf
    exact r_vret X I dJ4_init_3_60
theorem wJ4_init_3_0 {E : EV} {l : Launch} {p : Program} {e : Env} {s : State} {m : MethodId} {args : Array Value} {below : List Frame} {meth : Method} {c : Code} {R : Room} {res : St} (hX : XK E) (hR : 1 ≤ R.frames ∧ 20 ≤ R.locals) (X : MX E p s m args meth c cJ4_init_3 5 none RJ4 "<init>") : ∀ (x0 : Nat) (x1 : Option Nat) (x2 : Option Nat) (x3 : Int32) (x4 : Int32) (σ : St) (H : Heap) (locs : List Loc) (cells slots : Nat) (ls : Array Slot), WI E R s σ H locs cells slots → lv_has ls 5 [(0, .ref x0), (1, va_rf x1), (2, va_rf x2), (3, .int x3), (4, .int x4)] → fJ4_init_3 E.2.2.2.1 σ x0 x1 x2 x3 x4 = some res → W p l e R s m args below meth c H locs cells slots (MQ below (Qd E R.cells R.slots none res) args s R.cells R.slots (fr E)) (F0 m 0 ls []) := by
  intro x0 x1 x2 x3 x4 σ H locs cells slots ls I hl hf
  obtain ⟨⟨hx, hb, hml, hown, hts⟩, -⟩ := id X
  unfold fJ4_init_3 at hf
  refine lv_aload_n hx hb dJ4_init_3_0 rfl (lv_at hl 0 rfl) ?_
  refine g_objInit X ⟨Nat.le_trans (Nat.le_of_ble_eq_true rfl) hR.1, Nat.le_trans (Nat.le_of_ble_eq_true rfl) hR.2⟩ q440 hl.1 (Nat.le_of_ble_eq_true rfl) dJ4_init_3_1 ?_
  refine lv_aload_n hx hb dJ4_init_3_4 rfl (lv_at hl 0 rfl) ?_
  refine lv_aload_n hx hb dJ4_init_3_5 rfl (lv_at hl 0 rfl) ?_
  obtain ⟨σ_4, eσ_4, hf⟩ := ob hf
  refine g_put X I pfJ4_7 rfl rfl eσ_4 dJ4_init_3_6 (fun H locs I => ?_)
  refine lv_aload_n hx hb dJ4_init_3_9 rfl (lv_at hl 0 rfl) ?_
  refine g_gets (ref := "java/lang/Throwable") (w := va_rf (ko (E.2.2.2.1 5))) hX X I (List.mem_of_getElem? (i := 7) rfl) rfl q441 dJ4_init_3_10 ?_
  obtain ⟨v_5, ev_5, hf⟩ := ol hf
  refine nm_o ev_5 ?_
  obtain ⟨σ_6, eσ_6, hf⟩ := ob hf
  refine g_put X I pfJ4_17 (rf_narA _ _) (rf_fitA _ _) eσ_6 dJ4_init_3_13 (fun H locs I => ?_)
  refine lv_aload_n hx hb dJ4_init_3_16 rfl (lv_at hl 0 rfl) ?_
  refine g_gets (ref := "java/lang/Throwable") (w := va_rf (ko (E.2.2.2.1 6))) hX X I (List.mem_of_getElem? (i := 8) rfl) rfl q443 dJ4_init_3_17 ?_
  obtain ⟨v_7, ev_7, hf⟩ := ol hf
  refine nm_o ev_7 ?_
  obtain ⟨σ_8, eσ_8, hf⟩ := ob hf
  refine g_put X I pfJ4_24 (rf_nar _ _) (rf_fit _ _) eσ_8 dJ4_init_3_20 (fun H locs I => ?_)
  refine lv_iload hx hb dJ4_init_3_23 (lv_at hl 4 rfl) ?_
  refine lv_if_eq (tgt := 36) hx hb dJ4_init_3_25 (by decide) (fun c_25 => ?_) (fun c_25 => ?_)
  · have hf := ip c_25 hf
    refine lv_aload_n hx hb dJ4_init_3_36 rfl (lv_at hl 0 rfl) ?_
    refine lv_null hx hb dJ4_init_3_37 ?_
    obtain ⟨σ_9, eσ_9, hf⟩ := ob hf
    refine g_put X I pfJ4_17 rfl rfl eσ_9 dJ4_init_3_38 (fun H locs I => ?_)
    exact wJ4_init_3_41 hX hR X x0 x1 x2 x3 σ_9 _ _ _ _ _ I (lv_sub hl [0, 1, 2, 3] rfl) hf
  · have hf := im c_25 hf
    refine lv_aload_n hx hb dJ4_init_3_28 rfl (lv_at hl 0 rfl) ?_
    exact nomatch hf
theorem mJ4_init_3 {E : EV} {l : Launch} {σ : St} {x0 : Nat} {x1 : Option Nat} {x2 : Option Nat} {x3 : Int32} {x4 : Int32} {res : St} (hX : XK E) (hf : fJ4_init_3 E.2.2.2.1 σ x0 x1 x2 x3 x4 = some res) : CM E l yJ4_init_3 (ws_ yJ4_init_3 cJ4_init_3 5 none) 1 20 [.ref x0, va_rf x1, va_rf x2, .int x3, .int x4] σ none res := by
  refine CM.of hX.1 (by decide) rfl rfl (by rcases x1 with _ | _ <;> rcases x2 with _ | _ <;> exact (Nat.le_of_ble_eq_true rfl)) ?_
  intro p e s m below meth c X I ls hl
  exact wJ4_init_3_0 hX ⟨Nat.le_refl _, Nat.le_refl _⟩ X _ _ _ _ _ _ _ _ _ _ _ I (by rcases x1 with _ | _ <;> rcases x2 with _ | _ <;> exact hl) hf
/-! java/lang/Exception.<init>(Ljava/lang/String;Ljava/lang/Throwable;ZZ)V imp=True fuel=False kap=True rt=None thr=False -/
theorem lvJ5_16 : GoodIn lw_all (ws_ yJ4_init_3 cJ4_init_3 5 none) ∧ Cond.initialized yJ4_init_3.cls ∈ lw_all ∧ Cond.methodLink RJ5 16 yJ4_init_3 ∈ lw_all ∧ Cond.instanceMethod yJ4_init_3 ∈ lw_all ∧ yJ4_init_3.name = "<init>" := ⟨lw_meth q1391, q121, q1389, q1390, rfl⟩
theorem hdJ5_16 : yJ4_init_3.cls ≠ "java/lang/invoke/MethodHandle" ∧ yJ4_init_3.cls ≠ "java/lang/invoke/VarHandle" ∧ (parseMethodDescriptor yJ4_init_3.desc).map (fun d => d.parameters.length) = some 4 := by decide +kernel
def fJ5_init_3 (κ : Nat → Nat) (σ : St) (x0 : Nat) (x1 : Option Nat) (x2 : Option Nat) (x3 : Int32) (x4 : Int32) : Option St := (fJ4_init_3 κ σ x0 x1 x2 x3 x4).bind fun σ_2 : St => some σ_2
theorem wJ5_init_3_0 {E : EV} {l : Launch} {p : Program} {e : Env} {s : State} {m : MethodId} {args : Array Value} {below : List Frame} {meth : Method} {c : Code} {R : Room} {res : St} (hX : XK E) (hR : 2 ≤ R.frames ∧ 44 ≤ R.locals) (X : MX E p s m args meth c cJ5_init_3 5 none RJ5 "<init>") : ∀ (x0 : Nat) (x1 : Option Nat) (x2 : Option Nat) (x3 : Int32) (x4 : Int32) (σ : St) (H : Heap) (locs : List Loc) (cells slots : Nat) (ls : Array Slot), WI E R s σ H locs cells slots → lv_has ls 5 [(0, .ref x0), (1, va_rf x1), (2, va_rf x2), (3, .int x3), (4, .int x4)] → fJ5_init_3 E.2.2.2.1 σ x0 x1 x2 x3 x4 = some res → W p l e R s m args below meth c H locs cells slots (MQ below (Qd E R.cells R.slots none res) args s R.cells R.slots (fr E)) (F0 m 0 ls []) := by
  intro x0 x1 x2 x3 x4 σ H locs cells slots ls I hl hf
  obtain ⟨⟨hx, hb, hml, hown, hts⟩, -⟩ := id X
  unfold fJ5_init_3 at hf
  refine lv_aload_n hx hb dJ5_init_3_0 rfl (lv_at hl 0 rfl) ?_
  refine lo_aload_n (x := x1) hx hb dJ5_init_3_1 rfl (lv_at hl 1 rfl) ?_
  refine lo_aload_n (x := x2) hx hb dJ5_init_3_2 rfl (lv_at hl 2 rfl) ?_
  refine lv_iload_n hx hb dJ5_init_3_3 rfl (lv_at hl 3 rfl) ?_
  refine lv_iload hx hb dJ5_init_3_4 (lv_at hl 4 rfl) ?_
  obtain ⟨σ_2, ev_1, hf⟩ := ob hf
  refine cm_I (σ' := σ_2) (rs := []) (rest := []) (As := [va_rf x1, va_rf x2, .int x3, .int x4]) X I (mJ4_init_3 hX ev_1) lvJ5_16 hdJ5_16 ⟨Nat.le_trans (Nat.le_of_ble_eq_true rfl) hR.1, Nat.le_trans (Nat.le_of_ble_eq_true rfl) hR.2⟩ rfl hl.1 rfl (Nat.le_of_ble_eq_true rfl) rfl dJ5_init_3_6 (fun H locs cells slots I => ?_)
  cases os hf
  exact r_vret X I dJ5_init_3_9
theorem mJ5_init_3 {E : EV} {l : Launch} {σ : St} {x0 : Nat} {x1 : Option Nat} {x2 : Option Nat} {x3 : Int32} {x4 : Int32} {res : St} (hX : XK E) (hf : fJ5_init_3 E.2.2.2.1 σ x0 x1 x2 x3 x4 = some res) : CM E l yJ5_init_3 (ws_ yJ5_init_3 cJ5_init_3 5 none) 2 44 [.ref x0, va_rf x1, va_rf x2, .int x3, .int x4] σ none res := by
  refine CM.of hX.1 (by decide) rfl rfl (by rcases x1 with _ | _ <;> rcases x2 with _ | _ <;> exact (Nat.le_of_ble_eq_true rfl)) ?_
  intro p e s m below meth c X I ls hl
  exact wJ5_init_3_0 hX ⟨Nat.le_refl _, Nat.le_refl _⟩ X _ _ _ _ _ _ _ _ _ _ _ I (by rcases x1 with _ | _ <;> rcases x2 with _ | _ <;> exact hl) hf
/-! SharedTaxis$TextException.<init>(I)V imp=True fuel=False kap=True rt=None thr=False -/
theorem lvX7_1 : GoodIn lw_all (ws_ yJ5_init_3 cJ5_init_3 5 none) ∧ Cond.initialized yJ5_init_3.cls ∈ lw_all ∧ Cond.methodLink RX7 1 yJ5_init_3 ∈ lw_all ∧ Cond.instanceMethod yJ5_init_3 ∈ lw_all ∧ yJ5_init_3.name = "<init>" := ⟨lw_meth q1388, q122, q1386, q1387, rfl⟩
theorem hdX7_1 : yJ5_init_3.cls ≠ "java/lang/invoke/MethodHandle" ∧ yJ5_init_3.cls ≠ "java/lang/invoke/VarHandle" ∧ (parseMethodDescriptor yJ5_init_3.desc).map (fun d => d.parameters.length) = some 4 := by decide +kernel
theorem pfX7_7 : ∀ q ∈ ([(6, 0), (7, 0), (8, 0), (9, 0)] : List (Nat × Nat)), PI RX7 7 .int q := List.forall_mem_cons.mpr ⟨⟨RX8, TX8, 7, tyX8, rfl, in_X8, by decide, q1392, rfl, tyX8_ok, nmX8, rfl, rfl⟩, List.forall_mem_cons.mpr ⟨⟨RX9, TX9, 7, tyX9, rfl, in_X9, by decide, q1392, rfl, tyX9_ok, nmX9, rfl, rfl⟩, List.forall_mem_cons.mpr ⟨⟨RX10, TX10, 7, tyX10, rfl, in_X10, by decide, q1392, rfl, tyX10_ok, nmX10, rfl, rfl⟩, List.forall_mem_cons.mpr ⟨⟨RX11, TX11, 7, tyX11, rfl, in_X11, by decide, q1392, rfl, tyX11_ok, nmX11, rfl, rfl⟩, fun _ h => by cases h⟩⟩⟩⟩
def fX7_init (κ : Nat → Nat) (σ : St) (x0 : Nat) (x1 : Int32) : Option St := (fJ5_init_3 κ σ x0 none none (0 : Int32) (0 : Int32)).bind fun σ_2 : St => (pV σ_2 x0 [(6, 0), (7, 0), (8, 0), (9, 0)] (.int x1)).bind fun σ_3 : St => some σ_3
theorem wX7_init_0 {E : EV} {l : Launch} {p : Program} {e : Env} {s : State} {m : MethodId} {args : Array Value} {below : List Frame} {meth : Method} {c : Code} {R : Room} {res : St} (hX : XK E) (hR : 3 ≤ R.frames ∧ 68 ≤ R.locals) (X : MX E p s m args meth c cX7_init 2 none RX7 "<init>") : ∀ (x0 : Nat) (x1 : Int32) (σ : St) (H : Heap) (locs : List Loc) (cells slots : Nat) (ls : Array Slot), WI E R s σ H locs cells slots → lv_has ls 2 [(0, .ref x0), (1, .int x1)] → fX7_init E.2.2.2.1 σ x0 x1 = some res → W p l e R s m args below meth c H locs cells slots (MQ below (Qd E R.cells R.slots none res) args s R.cells R.slots (fr E)) (F0 m 0 ls []) := by
  intro x0 x1 σ H locs cells slots ls I hl hf
  obtain ⟨⟨hx, hb, hml, hown, hts⟩, -⟩ := id X
  unfold fX7_init at hf
  refine lv_aload_n hx hb dX7_init_0 rfl (lv_at hl 0 rfl) ?_
  refine lv_null hx hb dX7_init_1 ?_
  refine lv_null hx hb dX7_init_2 ?_
  refine lv_iconst (v := 0) hx hb dX7_init_3 (by decide) ?_
  refine lv_iconst (v := 0) hx hb dX7_init_4 (by decide) ?_
  obtain ⟨σ_2, ev_1, hf⟩ := ob hf
  refine cm_I (σ' := σ_2) (rs := []) (rest := []) (As := [va_rf none, va_rf none, .int (0 : Int32), .int (0 : Int32)]) X I (mJ5_init_3 hX ev_1) lvX7_1 hdX7_1 ⟨Nat.le_trans (Nat.le_of_ble_eq_true rfl) hR.1, Nat.le_trans (Nat.le_of_ble_eq_true rfl) hR.2⟩ rfl hl.1 rfl (Nat.le_of_ble_eq_true rfl) rfl dX7_init_5 (fun H locs cells slots I => ?_)
  refine lv_aload_n hx hb dX7_init_8 rfl (lv_at hl 0 rfl) ?_
  refine lv_iload_n hx hb dX7_init_9 rfl (lv_at hl 1 rfl) ?_
  obtain ⟨σ_3, eσ_3, hf⟩ := ob hf
  refine g_putI X I pfX7_7 rfl rfl eσ_3 dX7_init_10 (fun H locs I => ?_)
  cases os hf
  exact r_vret X I dX7_init_13
theorem mX7_init {E : EV} {l : Launch} {σ : St} {x0 : Nat} {x1 : Int32} {res : St} (hX : XK E) (hf : fX7_init E.2.2.2.1 σ x0 x1 = some res) : CM E l yX7_init (ws_ yX7_init cX7_init 2 none) 3 68 [.ref x0, .int x1] σ none res := by
  refine CM.of hX.1 (by decide) rfl rfl (Nat.le_of_ble_eq_true rfl) ?_
  intro p e s m below meth c X I ls hl
  exact wX7_init_0 hX ⟨Nat.le_refl _, Nat.le_refl _⟩ X _ _ _ _ _ _ _ _ I hl hf
/-! SharedTaxis$SyntaxException.<init>(I)V imp=True fuel=False kap=True rt=None thr=False -/
theorem lvX8_1 : GoodIn lw_all (ws_ yX7_init cX7_init 2 none) ∧ Cond.initialized yX7_init.cls ∈ lw_all ∧ Cond.methodLink RX8 1 yX7_init ∈ lw_all ∧ Cond.instanceMethod yX7_init ∈ lw_all ∧ yX7_init.name = "<init>" := ⟨lw_meth q1385, q140, q1383, q1384, rfl⟩
theorem hdX8_1 : yX7_init.cls ≠ "java/lang/invoke/MethodHandle" ∧ yX7_init.cls ≠ "java/lang/invoke/VarHandle" ∧ (parseMethodDescriptor yX7_init.desc).map (fun d => d.parameters.length) = some 1 := by decide +kernel
def fX8_init (κ : Nat → Nat) (σ : St) (x0 : Nat) (x1 : Int32) : Option St := (fX7_init κ σ x0 x1).bind fun σ_2 : St => some σ_2
theorem wX8_init_0 {E : EV} {l : Launch} {p : Program} {e : Env} {s : State} {m : MethodId} {args : Array Value} {below : List Frame} {meth : Method} {c : Code} {R : Room} {res : St} (hX : XK E) (hR : 4 ≤ R.frames ∧ 89 ≤ R.locals) (X : MX E p s m args meth c cX8_init 2 none RX8 "<init>") : ∀ (x0 : Nat) (x1 : Int32) (σ : St) (H : Heap) (locs : List Loc) (cells slots : Nat) (ls : Array Slot), WI E R s σ H locs cells slots → lv_has ls 2 [(0, .ref x0), (1, .int x1)] → fX8_init E.2.2.2.1 σ x0 x1 = some res → W p l e R s m args below meth c H locs cells slots (MQ below (Qd E R.cells R.slots none res) args s R.cells R.slots (fr E)) (F0 m 0 ls []) := by
  intro x0 x1 σ H locs cells slots ls I hl hf
  obtain ⟨⟨hx, hb, hml, hown, hts⟩, -⟩ := id X
  unfold fX8_init at hf
  refine lv_aload_n hx hb dX8_init_0 rfl (lv_at hl 0 rfl) ?_
  refine lv_iload_n hx hb dX8_init_1 rfl (lv_at hl 1 rfl) ?_
  obtain ⟨σ_2, ev_1, hf⟩ := ob hf
  refine cm_I (σ' := σ_2) (rs := []) (rest := []) (As := [.int x1]) X I (mX7_init hX ev_1) lvX8_1 hdX8_1 ⟨Nat.le_trans (Nat.le_of_ble_eq_true rfl) hR.1, Nat.le_trans (Nat.le_of_ble_eq_true rfl) hR.2⟩ rfl hl.1 rfl (Nat.le_of_ble_eq_true rfl) rfl dX8_init_2 (fun H locs cells slots I => ?_)
  cases os hf
  exact r_vret X I dX8_init_5
theorem mX8_init {E : EV} {l : Launch} {σ : St} {x0 : Nat} {x1 : Int32} {res : St} (hX : XK E) (hf : fX8_init E.2.2.2.1 σ x0 x1 = some res) : CM E l yX8_init (ws_ yX8_init cX8_init 2 none) 4 89 [.ref x0, .int x1] σ none res := by
  refine CM.of hX.1 (by decide) rfl rfl (Nat.le_of_ble_eq_true rfl) ?_
  intro p e s m below meth c X I ls hl
  exact wX8_init_0 hX ⟨Nat.le_refl _, Nat.le_refl _⟩ X _ _ _ _ _ _ _ _ I hl hf
/-! SharedTaxis$Scanner.wrong()LSharedTaxis$SyntaxException; imp=True fuel=False kap=True rt=N thr=False -/
theorem noX6_76 : NO RX6 76 6 7 [.int 0, .null, .null, .null, .null, .null, .int 0] := ⟨RX8, TX8, tyX8, rfl, in_X8, tyX8_ok, by decide, q1371, q1372, q141⟩
theorem lvX6_78 : GoodIn lw_all (ws_ yX8_init cX8_init 2 none) ∧ Cond.initialized yX8_init.cls ∈ lw_all ∧ Cond.methodLink RX6 78 yX8_init ∈ lw_all ∧ Cond.instanceMethod yX8_init ∈ lw_all ∧ yX8_init.name = "<init>" := ⟨lw_meth q1382, q141, q1380, q1381, rfl⟩
theorem hdX6_78 : yX8_init.cls ≠ "java/lang/invoke/MethodHandle" ∧ yX8_init.cls ≠ "java/lang/invoke/VarHandle" ∧ (parseMethodDescriptor yX8_init.desc).map (fun d => d.parameters.length) = some 1 := by decide +kernel
def fX6_wrong (κ : Nat → Nat) (σ : St) (x0 : Nat) : Option (Nat × St) := (nH σ 7 (.inr (6, [.int 0, .null, .null, .null, .null, .null, .int 0]))).bind fun (q_1a, q_1s) => (gI q_1s x0 [(5, 4)]).bind fun v_2 : Int32 => (fX8_init κ q_1s q_1a v_2).bind fun σ_4 : St => some ((q_1a), σ_4)
theorem wX6_wrong_0 {E : EV} {l : Launch} {p : Program} {e : Env} {s : State} {m : MethodId} {args : Array Value} {below : List Frame} {meth : Method} {c : Code} {R : Room} {res : (Nat × St)} (hX : XK E) (hR : 5 ≤ R.frames ∧ 110 ≤ R.locals) (X : MX E p s m args meth c cX6_wrong 1 (some (.object "SharedTaxis$SyntaxException")) RX6 "wrong") : ∀ (x0 : Nat) (σ : St) (H : Heap) (locs : List Loc) (cells slots : Nat) (ls : Array Slot), WI E R s σ H locs cells slots → lv_has ls 1 [(0, .ref x0)] → fX6_wrong E.2.2.2.1 σ x0 = some res → W p l e R s m args below meth c H locs cells slots (MQ below (Qd E R.cells R.slots (some (.ref res.1)) res.2) args s R.cells R.slots (fr E)) (F0 m 0 ls []) := by
  intro x0 σ H locs cells slots ls I hl hf
  obtain ⟨⟨hx, hb, hml, hown, hts⟩, -⟩ := id X
  unfold fX6_wrong at hf
  obtain ⟨⟨q_1a, q_1s⟩, eq_1, hf⟩ := ob hf
  refine g_new X I noX6_76 eq_1 dX6_wrong_0 (fun H locs cells slots I => ?_)
  refine lv_dup hx hb dX6_wrong_3 rfl ?_
  refine lv_aload_n hx hb dX6_wrong_4 rfl (lv_at hl 0 rfl) ?_
  obtain ⟨v_2, ev_2, hf⟩ := ob hf
  refine g_get X I gfX6_32 (gI_in ev_2) dX6_wrong_5 ?_
  obtain ⟨σ_4, ev_3, hf⟩ := ob hf
  refine cm_I (σ' := σ_4) (rs := [.ref q_1a]) (rest := [.ref q_1a]) (As := [.int v_2]) X I (mX8_init hX ev_3) lvX6_78 hdX6_78 ⟨Nat.le_trans (Nat.le_of_ble_eq_true rfl) hR.1, Nat.le_trans (Nat.le_of_ble_eq_true rfl) hR.2⟩ rfl hl.1 rfl (Nat.le_of_ble_eq_true rfl) rfl dX6_wrong_8 (fun H locs cells slots I => ?_)
  cases os hf
  exact r_aret X I (Or.inl ⟨_, rfl⟩) (Or.inr ⟨_, rfl⟩) dX6_wrong_11
theorem mX6_wrong {E : EV} {l : Launch} {σ : St} {x0 : Nat} {res : (Nat × St)} (hX : XK E) (hf : fX6_wrong E.2.2.2.1 σ x0 = some res) : CM E l yX6_wrong (ws_ yX6_wrong cX6_wrong 1 (some (.object "SharedTaxis$SyntaxException"))) 5 110 [.ref x0] σ (some (.ref res.1)) res.2 := by
  refine CM.of hX.1 (by decide) rfl rfl (Nat.le_of_ble_eq_true rfl) ?_
  intro p e s m below meth c X I ls hl
  exact wX6_wrong_0 hX ⟨Nat.le_refl _, Nat.le_refl _⟩ X _ _ _ _ _ _ _ I hl hf
/-! SharedTaxis$Scanner.expectWord(Ljava/lang/String;)V imp=True fuel=True kap=True rt=None thr=True -/
theorem lvX6_97 : GoodIn lw_all (wsV RX6 97 RX6 yX6_accept (ws_ yX6_accept cX6_accept 3 (some .boolean))) := lw_V q1351 q1352 q1353 q126 q1354
theorem hdX6_97 : yX6_accept.cls = RX6 ∧ yX6_accept.cls ≠ "java/lang/invoke/MethodHandle" ∧ yX6_accept.cls ≠ "java/lang/invoke/VarHandle" ∧ (parseMethodDescriptor yX6_accept.desc).map (fun d => d.parameters.length) = some 1 := by decide +kernel
theorem lvX6_93 : GoodIn lw_all (wsV RX6 93 RX6 yX6_wrong (ws_ yX6_wrong cX6_wrong 1 (some (.object "SharedTaxis$SyntaxException")))) := lw_V q1367 q1368 q1369 q126 q1370
theorem hdX6_93 : yX6_wrong.cls = RX6 ∧ yX6_wrong.cls ≠ "java/lang/invoke/MethodHandle" ∧ yX6_wrong.cls ≠ "java/lang/invoke/VarHandle" ∧ (parseMethodDescriptor yX6_wrong.desc).map (fun d => d.parameters.length) = some 0 := by decide +kernel
def fX6_expectWord (N : Nat) (κ : Nat → Nat) (σ : St) (x0 : Nat) (x1 : Nat) : Option ((Unit ⊕ Nat) × St) := (isC σ x0 5).bind fun u_1 : Unit => (fX6_accept N κ σ x0 x1).bind fun (v_2, σ_3) => if v_2 = 0 then (isC σ_3 x0 5).bind fun u_4 : Unit => (fX6_wrong κ σ_3 x0).bind fun (v_5, σ_6) => (isX σ_6 v_5).bind fun u_7 : Unit => some (.inr v_5, σ_6) else some (.inl (), σ_3)
theorem wX6_expectWord_0 {E : EV} {l : Launch} {p : Program} {e : Env} {s : State} {m : MethodId} {args : Array Value} {below : List Frame} {meth : Method} {c : Code} {R : Room} {res : ((Unit ⊕ Nat) × St)} (hX : XK E) (hR : 11 ≤ R.frames ∧ 246 ≤ R.locals) (X : MX E p s m args meth c cX6_expectWord 2 none RX6 "expectWord") (XH : MH c []) (N : Nat) : ∀ (x0 : Nat) (x1 : Nat) (σ : St) (H : Heap) (locs : List Loc) (cells slots : Nat) (ls : Array Slot), WI E R s σ H locs cells slots → lv_has ls 2 [(0, .ref x0), (1, .ref x1)] → fX6_expectWord N E.2.2.2.1 σ x0 x1 = some res → W p l e R s m args below meth c H locs cells slots (vx_MQ below (QS E R.cells R.slots (sv (fun v => none) res.1) res.2) (XS E R.cells R.slots (sx res.1) res.2) args s R.cells R.slots (fr E)) (F0 m 0 ls []) := by
  intro x0 x1 σ H locs cells slots ls I hl hf
  obtain ⟨⟨hx, hb, hml, hown, hts⟩, -⟩ := id X
  unfold fX6_expectWord at hf
  refine lv_aload_n hx hb dX6_expectWord_0 rfl (lv_at hl 0 rfl) ?_
  refine lv_aload_n hx hb dX6_expectWord_1 rfl (lv_at hl 1 rfl) ?_
  obtain ⟨u_1, eu_1, hf⟩ := ob hf
  obtain ⟨⟨v_2, σ_3⟩, ev_2, hf⟩ := ob hf
  refine cg_V (vw := (RX6, TX6, 8)) (ci := 5) (r := (some (.int v_2))) (σ' := σ_3) (rs := [.int v_2]) (rest := []) (As := [.ref x1]) X I eu_1 rfl (mX6_accept hX ev_2) lvX6_97 hdX6_97 ⟨Nat.le_trans (Nat.le_of_ble_eq_true rfl) hR.1, Nat.le_trans (Nat.le_of_ble_eq_true rfl) hR.2⟩ rfl hl.1 rfl (Nat.le_of_ble_eq_true rfl) rfl dX6_expectWord_2 (fun H locs cells slots I => ?_)
  refine lv_if_ne (tgt := 13) hx hb dX6_expectWord_5 (by decide) (fun c_5 => ?_) (fun c_5 => ?_)
  · have hf := im c_5 hf
    cases os hf
    exact x_ret (r_vret X I dX6_expectWord_13)
  · have hf := ip c_5 hf
    refine lv_aload_n hx hb dX6_expectWord_8 rfl (lv_at hl 0 rfl) ?_
    obtain ⟨u_4, eu_4, hf⟩ := ob hf
    obtain ⟨⟨v_5, σ_6⟩, ev_5, hf⟩ := ob hf
    refine cg_V (vw := (RX6, TX6, 8)) (ci := 5) (r := (some (.ref v_5))) (σ' := σ_6) (rs := [.ref v_5]) (rest := []) (As := []) X I eu_4 rfl (mX6_wrong hX ev_5) lvX6_93 hdX6_93 ⟨Nat.le_trans (Nat.le_of_ble_eq_true rfl) hR.1, Nat.le_trans (Nat.le_of_ble_eq_true rfl) hR.2⟩ rfl hl.1 rfl (Nat.le_of_ble_eq_true rfl) rfl dX6_expectWord_9 (fun H locs cells slots I => ?_)
    obtain ⟨u_7, eu_7, hf⟩ := ob hf
    cases os hf
    exact x_athrow X XH rfl I eu_7 dX6_expectWord_12
theorem mX6_expectWord {E : EV} {l : Launch} {N : Nat} {σ : St} {x0 : Nat} {x1 : Nat} {res : ((Unit ⊕ Nat) × St)} (hX : XK E) (hf : fX6_expectWord N E.2.2.2.1 σ x0 x1 = some res) : CX E l yX6_expectWord (ws_ yX6_expectWord cX6_expectWord 2 none) 11 246 [.ref x0, .ref x1] σ (sv (fun v => none) res.1) (sx res.1) res.2 := by
  refine CX.of hX.1 (by decide) rfl rfl (Nat.le_of_ble_eq_true rfl) ?_
  intro p e s m below meth c X XH I ls hl
  exact wX6_expectWord_0 hX ⟨Nat.le_refl _, Nat.le_refl _⟩ X XH N _ _ _ _ _ _ _ _ I hl hf
/-! SharedTaxis$RangeException.<init>(I)V imp=True fuel=False kap=True rt=None thr=False -/
theorem lvX9_1 : GoodIn lw_all (ws_ yX7_init cX7_init 2 none) ∧ Cond.initialized yX7_init.cls ∈ lw_all ∧ Cond.methodLink RX9 1 yX7_init ∈ lw_all ∧ Cond.instanceMethod yX7_init ∈ lw_all ∧ yX7_init.name = "<init>" := ⟨lw_meth q1385, q140, q1419, q1384, rfl⟩
theorem hdX9_1 : yX7_init.cls ≠ "java/lang/invoke/MethodHandle" ∧ yX7_init.cls ≠ "java/lang/invoke/VarHandle" ∧ (parseMethodDescriptor yX7_init.desc).map (fun d => d.parameters.length) = some 1 := by decide +kernel
def fX9_init (κ : Nat → Nat) (σ : St) (x0 : Nat) (x1 : Int32) : Option St := (fX7_init κ σ x0 x1).bind fun σ_2 : St => some σ_2
theorem wX9_init_0 {E : EV} {l : Launch} {p : Program} {e : Env} {s : State} {m : MethodId} {args : Array Value} {below : List Frame} {meth : Method} {c : Code} {R : Room} {res : St} (hX : XK E) (hR : 4 ≤ R.frames ∧ 89 ≤ R.locals) (X : MX E p s m args meth c cX9_init 2 none RX9 "<init>") : ∀ (x0 : Nat) (x1 : Int32) (σ : St) (H : Heap) (locs : List Loc) (cells slots : Nat) (ls : Array Slot), WI E R s σ H locs cells slots → lv_has ls 2 [(0, .ref x0), (1, .int x1)] → fX9_init E.2.2.2.1 σ x0 x1 = some res → W p l e R s m args below meth c H locs cells slots (MQ below (Qd E R.cells R.slots none res) args s R.cells R.slots (fr E)) (F0 m 0 ls []) := by
  intro x0 x1 σ H locs cells slots ls I hl hf
  obtain ⟨⟨hx, hb, hml, hown, hts⟩, -⟩ := id X
  unfold fX9_init at hf
  refine lv_aload_n hx hb dX9_init_0 rfl (lv_at hl 0 rfl) ?_
  refine lv_iload_n hx hb dX9_init_1 rfl (lv_at hl 1 rfl) ?_
  obtain ⟨σ_2, ev_1, hf⟩ := ob hf
  refine cm_I (σ' := σ_2) (rs := []) (rest := []) (As := [.int x1]) X I (mX7_init hX ev_1) lvX9_1 hdX9_1 ⟨Nat.le_trans (Nat.le_of_ble_eq_true rfl) hR.1, Nat.le_trans (Nat.le_of_ble_eq_true rfl) hR.2⟩ rfl hl.1 rfl (Nat.le_of_ble_eq_true rfl) rfl dX9_init_2 (fun H locs cells slots I => ?_)
  cases os hf
  exact r_vret X I dX9_init_5
theorem mX9_init {E : EV} {l : Launch} {σ : St} {x0 : Nat} {x1 : Int32} {res : St} (hX : XK E) (hf : fX9_init E.2.2.2.1 σ x0 x1 = some res) : CM E l yX9_init (ws_ yX9_init cX9_init 2 none) 4 89 [.ref x0, .int x1] σ none res := by
  refine CM.of hX.1 (by decide) rfl rfl (Nat.le_of_ble_eq_true rfl) ?_
  intro p e s m below meth c X I ls hl
  exact wX9_init_0 hX ⟨Nat.le_refl _, Nat.le_refl _⟩ X _ _ _ _ _ _ _ _ I hl hf
/-! SharedTaxis$Scanner.look(II)I imp=True fuel=False kap=True rt=I thr=True -/
theorem noX6_100 : NO RX6 100 7 7 [.int 0, .null, .null, .null, .null, .null, .int 0] := ⟨RX9, TX9, tyX9, rfl, in_X9, tyX9_ok, by decide, q1407, q1408, q142⟩
theorem lvX6_102 : GoodIn lw_all (ws_ yX9_init cX9_init 2 none) ∧ Cond.initialized yX9_init.cls ∈ lw_all ∧ Cond.methodLink RX6 102 yX9_init ∈ lw_all ∧ Cond.instanceMethod yX9_init ∈ lw_all ∧ yX9_init.name = "<init>" := ⟨lw_meth q1418, q142, q1416, q1417, rfl⟩
theorem hdX6_102 : yX9_init.cls ≠ "java/lang/invoke/MethodHandle" ∧ yX9_init.cls ≠ "java/lang/invoke/VarHandle" ∧ (parseMethodDescriptor yX9_init.desc).map (fun d => d.parameters.length) = some 1 := by decide +kernel
theorem gfX6_50 : ∀ q ∈ ([(5, 6)] : List (Nat × Nat)), GF RX6 50 q := List.forall_mem_cons.mpr ⟨⟨RX6, TX6, 8, _, rfl, in_X6, by decide, q1311, Or.inl rfl⟩, fun _ h => by cases h⟩
def fX6_look_29 (κ : Nat → Nat) (x0 : Nat) (σ : St) : Option ((Int32 ⊕ Nat) × St) := (nH σ 7 (.inr (7, [.int 0, .null, .null, .null, .null, .null, .int 0]))).bind fun (q_1a, q_1s) => (gI q_1s x0 [(5, 4)]).bind fun v_2 : Int32 => (fX9_init κ q_1s q_1a v_2).bind fun σ_4 : St => (isX σ_4 q_1a).bind fun u_5 : Unit => some (.inr q_1a, σ_4)
def fX6_look (κ : Nat → Nat) (σ : St) (x0 : Nat) (x1 : Int32) (x2 : Int32) : Option ((Int32 ⊕ Nat) × St) := (gI σ x0 [(5, 3)]).bind fun v_6 : Int32 => if v_6 = (2 : Int32) then (gI σ x0 [(5, 6)]).bind fun v_7 : Int32 => if v_7 < x1 then fX6_look_29 κ x0 σ else (gI σ x0 [(5, 6)]).bind fun v_8 : Int32 => if v_8 ≤ x2 then (gI σ x0 [(5, 6)]).bind fun v_9 : Int32 => some (.inl v_9, σ) else fX6_look_29 κ x0 σ else (isC σ x0 5).bind fun u_10 : Unit => (fX6_wrong κ σ x0).bind fun (v_11, σ_12) => (isX σ_12 v_11).bind fun u_13 : Unit => some (.inr v_11, σ_12)
theorem wX6_look_29 {E : EV} {l : Launch} {p : Program} {e : Env} {s : State} {m : MethodId} {args : Array Value} {below : List Frame} {meth : Method} {c : Code} {R : Room} {res : ((Int32 ⊕ Nat) × St)} (hX : XK E) (hR : 6 ≤ R.frames ∧ 130 ≤ R.locals) (X : MX E p s m args meth c cX6_look 3 (some .int) RX6 "look") (XH : MH c []) : ∀ (x0 : Nat) (σ : St) (H : Heap) (locs : List Loc) (cells slots : Nat) (ls : Array Slot), WI E R s σ H locs cells slots → lv_has ls 3 [(0, .ref x0)] → fX6_look_29 E.2.2.2.1 x0 σ = some res → W p l e R s m args below meth c H locs cells slots (vx_MQ below (QS E R.cells R.slots (sv (fun v => (some (.int v))) res.1) res.2) (XS E R.cells R.slots (sx res.1) res.2) args s R.cells R.slots (fr E)) (F0 m 29 ls []) := by
  intro x0 σ H locs cells slots ls I hl hf
  obtain ⟨⟨hx, hb, hml, hown, hts⟩, -⟩ := id X
  unfold fX6_look_29 at hf
  obtain ⟨⟨q_1a, q_1s⟩, eq_1, hf⟩ := ob hf
  refine g_new X I noX6_100 eq_1 dX6_look_29 (fun H locs cells slots I => ?_)
  refine lv_dup hx hb dX6_look_32 rfl ?_
  refine lv_aload_n hx hb dX6_look_33 rfl (lv_at hl 0 rfl) ?_
  obtain ⟨v_2, ev_2, hf⟩ := ob hf
  refine g_get X I gfX6_32 (gI_in ev_2) dX6_look_34 ?_
  obtain ⟨σ_4, ev_3, hf⟩ := ob hf
  refine cm_I (σ' := σ_4) (rs := [.ref q_1a]) (rest := [.ref q_1a]) (As := [.int v_2]) X I (mX9_init hX ev_3) lvX6_102 hdX6_102 ⟨Nat.le_trans (Nat.le_of_ble_eq_true rfl) hR.1, Nat.le_trans (Nat.le_of_ble_eq_true rfl) hR.2⟩ rfl hl.1 rfl (Nat.le_of_ble_eq_true rfl) rfl dX6_look_37 (fun H locs cells slots I => ?_)
  obtain ⟨u_5, eu_5, hf⟩ := ob hf
  cases os hf
  exact x_athrow X XH rfl I eu_5 dX6_look_40
theorem wX6_look_0 {E : EV} {l : Launch} {p : Program} {e : Env} {s : State} {m : MethodId} {args : Array Value} {below : List Frame} {meth : Method} {c : Code} {R : Room} {res : ((Int32 ⊕ Nat) × St)} (hX : XK E) (hR : 6 ≤ R.frames ∧ 130 ≤ R.locals) (X : MX E p s m args meth c cX6_look 3 (some .int) RX6 "look") (XH : MH c []) : ∀ (x0 : Nat) (x1 : Int32) (x2 : Int32) (σ : St) (H : Heap) (locs : List Loc) (cells slots : Nat) (ls : Array Slot), WI E R s σ H locs cells slots → lv_has ls 3 [(0, .ref x0), (1, .int x1), (2, .int x2)] → fX6_look E.2.2.2.1 σ x0 x1 x2 = some res → W p l e R s m args below meth c H locs cells slots (vx_MQ below (QS E R.cells R.slots (sv (fun v => (some (.int v))) res.1) res.2) (XS E R.cells R.slots (sx res.1) res.2) args s R.cells R.slots (fr E)) (F0 m 0 ls []) := by
  intro x0 x1 x2 σ H locs cells slots ls I hl hf
  obtain ⟨⟨hx, hb, hml, hown, hts⟩, -⟩ := id X
  unfold fX6_look at hf
  refine lv_aload_n hx hb dX6_look_0 rfl (lv_at hl 0 rfl) ?_
  obtain ⟨v_6, ev_6, hf⟩ := ob hf
  refine g_get X I gfX6_35 (gI_in ev_6) dX6_look_1 ?_
  refine lv_iconst (v := 2) hx hb dX6_look_4 (by decide) ?_
  refine lv_icmp_eq (tgt := 13) hx hb dX6_look_5 (by decide) (fun c_5 => ?_) (fun c_5 => ?_)
  · have hf := ip c_5 hf
    refine lv_aload_n hx hb dX6_look_13 rfl (lv_at hl 0 rfl) ?_
    obtain ⟨v_7, ev_7, hf⟩ := ob hf
    refine g_get X I gfX6_50 (gI_in ev_7) dX6_look_14 ?_
    refine lv_iload_n hx hb dX6_look_17 rfl (lv_at hl 1 rfl) ?_
    refine lv_icmp_lt (tgt := 29) hx hb dX6_look_18 (by decide) (fun c_18 => ?_) (fun c_18 => ?_)
    · have hf := ip c_18 hf
      exact wX6_look_29 hX hR X XH x0 σ _ _ _ _ _ I (lv_sub hl [0] rfl) hf
    · have hf := im c_18 hf
      refine lv_aload_n hx hb dX6_look_21 rfl (lv_at hl 0 rfl) ?_
      obtain ⟨v_8, ev_8, hf⟩ := ob hf
      refine g_get X I gfX6_50 (gI_in ev_8) dX6_look_22 ?_
      refine lv_iload_n hx hb dX6_look_25 rfl (lv_at hl 2 rfl) ?_
      refine lv_icmp_le (tgt := 41) hx hb dX6_look_26 (by decide) (fun c_26 => ?_) (fun c_26 => ?_)
      · have hf := ip c_26 hf
        refine lv_aload_n hx hb dX6_look_41 rfl (lv_at hl 0 rfl) ?_
        obtain ⟨v_9, ev_9, hf⟩ := ob hf
        refine g_get X I gfX6_50 (gI_in ev_9) dX6_look_42 ?_
        cases os hf
        exact x_ret (r_iret X I dX6_look_45)
      · have hf := im c_26 hf
        exact wX6_look_29 hX hR X XH x0 σ _ _ _ _ _ I (lv_sub hl [0] rfl) hf
  · have hf := im c_5 hf
    refine lv_aload_n hx hb dX6_look_8 rfl (lv_at hl 0 rfl) ?_
    obtain ⟨u_10, eu_10, hf⟩ := ob hf
    obtain ⟨⟨v_11, σ_12⟩, ev_11, hf⟩ := ob hf
    refine cg_V (vw := (RX6, TX6, 8)) (ci := 5) (r := (some (.ref v_11))) (σ' := σ_12) (rs := [.ref v_11]) (rest := []) (As := []) X I eu_10 rfl (mX6_wrong hX ev_11) lvX6_93 hdX6_93 ⟨Nat.le_trans (Nat.le_of_ble_eq_true rfl) hR.1, Nat.le_trans (Nat.le_of_ble_eq_true rfl) hR.2⟩ rfl hl.1 rfl (Nat.le_of_ble_eq_true rfl) rfl dX6_look_9 (fun H locs cells slots I => ?_)
    obtain ⟨u_13, eu_13, hf⟩ := ob hf
    cases os hf
    exact x_athrow X XH rfl I eu_13 dX6_look_12
theorem mX6_look {E : EV} {l : Launch} {σ : St} {x0 : Nat} {x1 : Int32} {x2 : Int32} {res : ((Int32 ⊕ Nat) × St)} (hX : XK E) (hf : fX6_look E.2.2.2.1 σ x0 x1 x2 = some res) : CX E l yX6_look (ws_ yX6_look cX6_look 3 (some .int)) 6 130 [.ref x0, .int x1, .int x2] σ (sv (fun v => (some (.int v))) res.1) (sx res.1) res.2 := by
  refine CX.of hX.1 (by decide) rfl rfl (Nat.le_of_ble_eq_true rfl) ?_
  intro p e s m below meth c X XH I ls hl
  exact wX6_look_0 hX ⟨Nat.le_refl _, Nat.le_refl _⟩ X XH _ _ _ _ _ _ _ _ _ I hl hf
/-! SharedTaxis$Scanner.number(II)I imp=True fuel=True kap=True rt=I thr=True -/
theorem lvX6_103 : GoodIn lw_all (wsV RX6 103 RX6 yX6_look (ws_ yX6_look cX6_look 3 (some .int))) := lw_V q1403 q1404 q1405 q126 q1406
theorem hdX6_103 : yX6_look.cls = RX6 ∧ yX6_look.cls ≠ "java/lang/invoke/MethodHandle" ∧ yX6_look.cls ≠ "java/lang/invoke/VarHandle" ∧ (parseMethodDescriptor yX6_look.desc).map (fun d => d.parameters.length) = some 2 := by decide +kernel
def fX6_number (N : Nat) (κ : Nat → Nat) (σ : St) (x0 : Nat) (x1 : Int32) (x2 : Int32) : Option ((Int32 ⊕ Nat) × St) := (isC σ x0 5).bind fun u_1 : Unit => (fX6_look κ σ x0 x1 x2).bind fun (v_2, σ_3) => se v_2 (fun v_4 => (isC σ_3 x0 5).bind fun u_6 : Unit => (fX6_advance N κ σ_3 x0).bind fun σ_8 : St => some (.inl v_4, σ_8)) (fun q_5 => (isX σ_3 q_5).bind fun uq_5 : Unit => some (.inr q_5, σ_3))
theorem wX6_number_0 {E : EV} {l : Launch} {p : Program} {e : Env} {s : State} {m : MethodId} {args : Array Value} {below : List Frame} {meth : Method} {c : Code} {R : Room} {res : ((Int32 ⊕ Nat) × St)} (hX : XK E) (hR : 10 ≤ R.frames ∧ 224 ≤ R.locals) (X : MX E p s m args meth c cX6_number 4 (some .int) RX6 "number") (XH : MH c []) (N : Nat) : ∀ (x0 : Nat) (x1 : Int32) (x2 : Int32) (σ : St) (H : Heap) (locs : List Loc) (cells slots : Nat) (ls : Array Slot), WI E R s σ H locs cells slots → lv_has ls 4 [(0, .ref x0), (1, .int x1), (2, .int x2)] → fX6_number N E.2.2.2.1 σ x0 x1 x2 = some res → W p l e R s m args below meth c H locs cells slots (vx_MQ below (QS E R.cells R.slots (sv (fun v => (some (.int v))) res.1) res.2) (XS E R.cells R.slots (sx res.1) res.2) args s R.cells R.slots (fr E)) (F0 m 0 ls []) := by
  intro x0 x1 x2 σ H locs cells slots ls I hl hf
  obtain ⟨⟨hx, hb, hml, hown, hts⟩, -⟩ := id X
  unfold fX6_number at hf
  refine lv_aload_n hx hb dX6_number_0 rfl (lv_at hl 0 rfl) ?_
  refine lv_iload_n hx hb dX6_number_1 rfl (lv_at hl 1 rfl) ?_
  refine lv_iload_n hx hb dX6_number_2 rfl (lv_at hl 2 rfl) ?_
  obtain ⟨u_1, eu_1, hf⟩ := ob hf
  obtain ⟨⟨v_2, σ_3⟩, ev_2, hf⟩ := ob hf
  have hgv_2 := hf
  rcases v_2 with v_4 | q_5
  · have hf := se_l hgv_2
    refine cx_ret (r := (some (.int v_4))) (rs := [.int v_4]) I (xr_V (vw := (RX6, TX6, 8)) (ci := 5) (σ' := σ_3) (rest := []) (As := [.int x1, .int x2]) X I eu_1 rfl (mX6_look hX ev_2) lvX6_103 hdX6_103 ⟨Nat.le_trans (Nat.le_of_ble_eq_true rfl) hR.1, Nat.le_trans (Nat.le_of_ble_eq_true rfl) hR.2⟩ rfl hl.1 rfl (Nat.le_of_ble_eq_true rfl) dX6_number_3) rfl (fun H locs cells slots I => ?_)
    refine lv_istore_n (lv' := [(3, .int v_4), (0, .ref x0), (1, .int x1), (2, .int x2)]) hx hb dX6_number_6 rfl hl (by decide) rfl (fun ls hl => ?_)
    refine lv_aload_n hx hb dX6_number_7 rfl (lv_at hl 1 rfl) ?_
    obtain ⟨u_6, eu_6, hf⟩ := ob hf
    obtain ⟨σ_8, ev_7, hf⟩ := ob hf
    refine cg_V (vw := (RX6, TX6, 8)) (ci := 5) (r := none) (σ' := σ_8) (rs := []) (rest := []) (As := []) X I eu_6 rfl (mX6_advance hX ev_7) lvX6_26 hdX6_26 ⟨Nat.le_trans (Nat.le_of_ble_eq_true rfl) hR.1, Nat.le_trans (Nat.le_of_ble_eq_true rfl) hR.2⟩ rfl hl.1 rfl (Nat.le_of_ble_eq_true rfl) rfl dX6_number_8 (fun H locs cells slots I => ?_)
    refine lv_iload_n hx hb dX6_number_11 rfl (lv_at hl 0 rfl) ?_
    cases os hf
    exact x_ret (r_iret X I dX6_number_12)
  · have hf := se_r hgv_2
    obtain ⟨uq_5, eq_5, hf⟩ := ob hf
    cases os hf
    refine cx_thr I (xr_V (vw := (RX6, TX6, 8)) (ci := 5) (σ' := σ_3) (rest := []) (As := [.int x1, .int x2]) X I eu_1 rfl (mX6_look hX ev_2) lvX6_103 hdX6_103 ⟨Nat.le_trans (Nat.le_of_ble_eq_true rfl) hR.1, Nat.le_trans (Nat.le_of_ble_eq_true rfl) hR.2⟩ rfl hl.1 rfl (Nat.le_of_ble_eq_true rfl) dX6_number_3) (fun H locs cells slots I => ?_)
    exact x_out X XH rfl I eq_5
theorem mX6_number {E : EV} {l : Launch} {N : Nat} {σ : St} {x0 : Nat} {x1 : Int32} {x2 : Int32} {res : ((Int32 ⊕ Nat) × St)} (hX : XK E) (hf : fX6_number N E.2.2.2.1 σ x0 x1 x2 = some res) : CX E l yX6_number (ws_ yX6_number cX6_number 4 (some .int)) 10 224 [.ref x0, .int x1, .int x2] σ (sv (fun v => (some (.int v))) res.1) (sx res.1) res.2 := by
  refine CX.of hX.1 (by decide) rfl rfl (Nat.le_of_ble_eq_true rfl) ?_
  intro p e s m below meth c X XH I ls hl
  exact wX6_number_0 hX ⟨Nat.le_refl _, Nat.le_refl _⟩ X XH N _ _ _ _ _ _ _ _ _ I hl hf
/-! SharedTaxis$Town.<init>(I)V imp=True fuel=True kap=False rt=None thr=False -/
theorem gfX3_17 : ∀ q ∈ ([(2, 1)] : List (Nat × Nat)), GF RX3 17 q := List.forall_mem_cons.mpr ⟨⟨RX3, TX3, 3, _, rfl, in_X3, by decide, q185, Or.inl rfl⟩, fun _ h => by cases h⟩
theorem pfX3_9 : ∀ q ∈ ([(2, 0)] : List (Nat × Nat)), PI RX3 9 .int q := List.forall_mem_cons.mpr ⟨⟨RX3, TX3, 3, tyX3, rfl, in_X3, by decide, q182, rfl, tyX3_ok, nmX3, rfl, rfl⟩, fun _ h => by cases h⟩
theorem pfX3_17 : ∀ q ∈ ([(2, 1)] : List (Nat × Nat)), PI RX3 17 (.array (.array .int)) q := List.forall_mem_cons.mpr ⟨⟨RX3, TX3, 3, tyX3, rfl, in_X3, by decide, q185, rfl, tyX3_ok, nmX3, rfl, rfl⟩, fun _ h => by cases h⟩
def fX3_init_50 (N : Nat) (r21 : Nat → Int32 → Int32 → St → Option St) (r28 : Nat → Int32 → Int32 → Int32 → St → Option St) (x0 : Nat) (x1 : Int32) (x2 : Int32) (x3 : Int32) (y0 : Option Nat) (y1 : Int32) (y2 : Int32) (σ : St) : Option St := (y0).bind fun a_1 : Nat => (sI σ a_1 0 y1 y2).bind fun σ_2 : St => lt (x3 + 1) fun x3_3 : Int32 => r28 x0 x1 x2 x3_3 σ_2
def fX3_init_28 (N : Nat) (r21 : Nat → Int32 → Int32 → St → Option St) : Nat → Nat → Int32 → Int32 → Int32 → St → Option St
  | 0, _, _, _, _, _ => none
  | n + 1, x0, x1, x2, x3, σ => if x1 ≤ x3 then lt (x2 + 1) fun x2_4 : Int32 => r21 x0 x1 x2_4 σ else (gR σ x0 [(2, 1)]).bind fun v_5 : Option Nat => (v_5).bind fun a_6 : Nat => (aR σ a_6 3 x2).bind fun v_7 : Option Nat => if x2 = x3 then fX3_init_50 N r21 (fX3_init_28 N r21 n) x0 x1 x2 x3 v_7 x3 (0 : Int32) σ else fX3_init_50 N r21 (fX3_init_28 N r21 n) x0 x1 x2 x3 v_7 x3 (-1 : Int32) σ
def fX3_init_21 (N : Nat) : Nat → Nat → Int32 → Int32 → St → Option St
  | 0, _, _, _, _ => none
  | n + 1, x0, x1, x2, σ => if x1 ≤ x2 then some σ else fX3_init_28 N (fX3_init_21 N n) N x0 x1 x2 (0 : Int32) σ
def fX3_init (N : Nat) (σ : St) (x0 : Nat) (x1 : Int32) : Option St := (pV σ x0 [(2, 0)] (.int x1)).bind fun σ_8 : St => (an x1).bind fun k_9 : Nat => (an x1).bind fun k_10 : Nat => (nM σ_8 k_9 k_10).bind fun (q_11a, q_11s) => (pV q_11s x0 [(2, 1)] (.ref q_11a)).bind fun σ_12 : St => fX3_init_21 N N x0 x1 (0 : Int32) σ_12
theorem wX3_init_50 {E : EV} {l : Launch} {p : Program} {e : Env} {s : State} {m : MethodId} {args : Array Value} {below : List Frame} {meth : Method} {c : Code} {R : Room} {res : St} (hX : XK E) (hR : 1 ≤ R.frames ∧ 20 ≤ R.locals) (X : MX E p s m args meth c cX3_init 4 none RX3 "<init>") (N : Nat) (r21 : Nat → Int32 → Int32 → St → Option St) (hr21 : ∀ (x0 : Nat) (x1 : Int32) (x2 : Int32) (σ : St) (H : Heap) (locs : List Loc) (cells slots : Nat) (ls : Array Slot), WI E R s σ H locs cells slots → lv_has ls 4 [(0, .ref x0), (1, .int x1), (2, .int x2)] → r21 x0 x1 x2 σ = some res → W p l e R s m args below meth c H locs cells slots (MQ below (Qd E R.cells R.slots none res) args s R.cells R.slots (fr E)) (F0 m 21 ls [])) (r28 : Nat → Int32 → Int32 → Int32 → St → Option St) (hr28 : ∀ (x0 : Nat) (x1 : Int32) (x2 : Int32) (x3 : Int32) (σ : St) (H : Heap) (locs : List Loc) (cells slots : Nat) (ls : Array Slot), WI E R s σ H locs cells slots → lv_has ls 4 [(0, .ref x0), (1, .int x1), (2, .int x2), (3, .int x3)] → r28 x0 x1 x2 x3 σ = some res → W p l e R s m args below meth c H locs cells slots (MQ below (Qd E R.cells R.slots none res) args s R.cells R.slots (fr E)) (F0 m 28 ls [])) : ∀ (x0 : Nat) (x1 : Int32) (x2 : Int32) (x3 : Int32) (y0 : Option Nat) (y1 : Int32) (y2 : Int32) (σ : St) (H : Heap) (locs : List Loc) (cells slots : Nat) (ls : Array Slot), WI E R s σ H locs cells slots → lv_has ls 4 [(0, .ref x0), (1, .int x1), (2, .int x2), (3, .int x3)] → fX3_init_50 N r21 r28 x0 x1 x2 x3 y0 y1 y2 σ = some res → W p l e R s m args below meth c H locs cells slots (MQ below (Qd E R.cells R.slots none res) args s R.cells R.slots (fr E)) (F0 m 50 ls [.int y2, .int y1, va_rf y0]) := by
  intro x0 x1 x2 x3 y0 y1 y2 σ H locs cells slots ls I hl hf
  obtain ⟨⟨hx, hb, hml, hown, hts⟩, -⟩ := id X
  unfold fX3_init_50 at hf
  obtain ⟨a_1, ea_1, hga_1⟩ := ob hf
  have hla_1 := hl
  have Ia_1 := I
  subst ea_1
  have hf := hga_1
  have hl := hla_1
  have I := Ia_1
  obtain ⟨σ_2, eσ_2, hf⟩ := ob hf
  refine g_iast X I eσ_2 dX3_init_50 (fun H locs I => ?_)
  obtain ⟨x3_3, ex3_3, hf⟩ := ol hf
  refine lv_iinc (v := x3_3) (lv' := [(3, .int x3_3), (0, .ref x0), (1, .int x1), (2, .int x2)]) hx hb dX3_init_51 hl (k := 3) rfl ex3_3 (by decide) rfl (fun ls hl => ?_)
  refine lv_goto (tgt := 28) hx hb dX3_init_54 (by decide) ?_
  exact hr28 x0 x1 x2 x3_3 σ_2 _ _ _ _ _ I (lv_sub hl [1, 2, 3, 0] rfl) hf
theorem wX3_init_28 {E : EV} {l : Launch} {p : Program} {e : Env} {s : State} {m : MethodId} {args : Array Value} {below : List Frame} {meth : Method} {c : Code} {R : Room} {res : St} (hX : XK E) (hR : 1 ≤ R.frames ∧ 20 ≤ R.locals) (X : MX E p s m args meth c cX3_init 4 none RX3 "<init>") (N : Nat) (r21 : Nat → Int32 → Int32 → St → Option St) (hr21 : ∀ (x0 : Nat) (x1 : Int32) (x2 : Int32) (σ : St) (H : Heap) (locs : List Loc) (cells slots : Nat) (ls : Array Slot), WI E R s σ H locs cells slots → lv_has ls 4 [(0, .ref x0), (1, .int x1), (2, .int x2)] → r21 x0 x1 x2 σ = some res → W p l e R s m args below meth c H locs cells slots (MQ below (Qd E R.cells R.slots none res) args s R.cells R.slots (fr E)) (F0 m 21 ls [])) : ∀ (n : Nat) (x0 : Nat) (x1 : Int32) (x2 : Int32) (x3 : Int32) (σ : St) (H : Heap) (locs : List Loc) (cells slots : Nat) (ls : Array Slot), WI E R s σ H locs cells slots → lv_has ls 4 [(0, .ref x0), (1, .int x1), (2, .int x2), (3, .int x3)] → fX3_init_28 N r21 n x0 x1 x2 x3 σ = some res → W p l e R s m args below meth c H locs cells slots (MQ below (Qd E R.cells R.slots none res) args s R.cells R.slots (fr E)) (F0 m 28 ls []) := by
  intro n
  induction n with
  | zero => intro x0 x1 x2 x3 σ H locs cells slots ls I hl hf; exact nomatch (show none = some res from hf)
  | succ n ih =>
    intro x0 x1 x2 x3 σ H locs cells slots ls I hl hf
    obtain ⟨⟨hx, hb, hml, hown, hts⟩, -⟩ := id X
    rw [fX3_init_28.eq_2] at hf
    refine lv_iload_n hx hb dX3_init_28 rfl (lv_at hl 3 rfl) ?_
    refine lv_iload_n hx hb dX3_init_29 rfl (lv_at hl 1 rfl) ?_
    refine lv_icmp_ge (tgt := 57) hx hb dX3_init_30 (by decide) (fun c_30 => ?_) (fun c_30 => ?_)
    · have hf := ip c_30 hf
      obtain ⟨x2_4, ex2_4, hf⟩ := ol hf
      refine lv_iinc (v := x2_4) (lv' := [(2, .int x2_4), (0, .ref x0), (1, .int x1), (3, .int x3)]) hx hb dX3_init_57 hl (k := 2) rfl ex2_4 (by decide) rfl (fun ls hl => ?_)
      refine lv_goto (tgt := 21) hx hb dX3_init_60 (by decide) ?_
      exact hr21 x0 x1 x2_4 σ _ _ _ _ _ I (lv_sub hl [1, 2, 0] rfl) hf
    · have hf := im c_30 hf
      refine lv_aload_n hx hb dX3_init_33 rfl (lv_at hl 0 rfl) ?_
      obtain ⟨v_5, ev_5, hf⟩ := ob hf
      refine g_get X I gfX3_17 (gR_in ev_5) dX3_init_34 ?_
      refine lv_iload_n hx hb dX3_init_37 rfl (lv_at hl 2 rfl) ?_
      obtain ⟨a_6, ea_6, hga_6⟩ := ob hf
      have hla_6 := hl
      have Ia_6 := I
      subst ea_6
      have hf := hga_6
      have hl := hla_6
      have I := Ia_6
      obtain ⟨v_7, ev_7, hf⟩ := ob hf
      refine g_aald X I (by decide) rfl ev_7 dX3_init_38 ?_
      refine lv_iload_n hx hb dX3_init_39 rfl (lv_at hl 3 rfl) ?_
      refine lv_iload_n hx hb dX3_init_40 rfl (lv_at hl 2 rfl) ?_
      refine lv_iload_n hx hb dX3_init_41 rfl (lv_at hl 3 rfl) ?_
      refine lv_icmp_ne (tgt := 49) hx hb dX3_init_42 (by decide) (fun c_42 => ?_) (fun c_42 => ?_)
      · have hf := im c_42 hf
        refine lv_iconst (v := (-1)) hx hb dX3_init_49 (by decide) ?_
        exact wX3_init_50 hX hR X N r21 hr21 (fX3_init_28 N r21 n) ih x0 x1 x2 x3 v_7 x3 (-1 : Int32) σ _ _ _ _ _ I (lv_sub hl [0, 1, 2, 3] rfl) hf
      · have hf := ip c_42 hf
        refine lv_iconst (v := 0) hx hb dX3_init_45 (by decide) ?_
        refine lv_goto (tgt := 50) hx hb dX3_init_46 (by decide) ?_
        exact wX3_init_50 hX hR X N r21 hr21 (fX3_init_28 N r21 n) ih x0 x1 x2 x3 v_7 x3 (0 : Int32) σ _ _ _ _ _ I (lv_sub hl [0, 1, 2, 3] rfl) hf
theorem wX3_init_21 {E : EV} {l : Launch} {p : Program} {e : Env} {s : State} {m : MethodId} {args : Array Value} {below : List Frame} {meth : Method} {c : Code} {R : Room} {res : St} (hX : XK E) (hR : 1 ≤ R.frames ∧ 20 ≤ R.locals) (X : MX E p s m args meth c cX3_init 4 none RX3 "<init>") (N : Nat) : ∀ (n : Nat) (x0 : Nat) (x1 : Int32) (x2 : Int32) (σ : St) (H : Heap) (locs : List Loc) (cells slots : Nat) (ls : Array Slot), WI E R s σ H locs cells slots → lv_has ls 4 [(0, .ref x0), (1, .int x1), (2, .int x2)] → fX3_init_21 N n x0 x1 x2 σ = some res → W p l e R s m args below meth c H locs cells slots (MQ below (Qd E R.cells R.slots none res) args s R.cells R.slots (fr E)) (F0 m 21 ls []) := by
  intro n
  induction n with
  | zero => intro x0 x1 x2 σ H locs cells slots ls I hl hf; exact nomatch (show none = some res from hf)
  | succ n ih =>
    intro x0 x1 x2 σ H locs cells slots ls I hl hf
    obtain ⟨⟨hx, hb, hml, hown, hts⟩, -⟩ := id X
    rw [fX3_init_21.eq_2] at hf
    refine lv_iload_n hx hb dX3_init_21 rfl (lv_at hl 2 rfl) ?_
    refine lv_iload_n hx hb dX3_init_22 rfl (lv_at hl 1 rfl) ?_
    refine lv_icmp_ge (tgt := 63) hx hb dX3_init_23 (by decide) (fun c_23 => ?_) (fun c_23 => ?_)
    · have hf := ip c_23 hf
      cases os hf
      exact r_vret X I dX3_init_63
    · have hf := im c_23 hf
      refine lv_iconst (v := 0) hx hb dX3_init_26 (by decide) ?_
      refine lv_istore_n (lv' := [(3, .int (0 : Int32)), (0, .ref x0), (1, .int x1), (2, .int x2)]) hx hb dX3_init_27 rfl hl (by decide) rfl (fun ls hl => ?_)
      exact wX3_init_28 hX hR X N (fX3_init_21 N n) ih N x0 x1 x2 (0 : Int32) σ _ _ _ _ _ I (lv_sub hl [1, 2, 3, 0] rfl) hf
theorem wX3_init_0 {E : EV} {l : Launch} {p : Program} {e : Env} {s : State} {m : MethodId} {args : Array Value} {below : List Frame} {meth : Method} {c : Code} {R : Room} {res : St} (hX : XK E) (hR : 1 ≤ R.frames ∧ 20 ≤ R.locals) (X : MX E p s m args meth c cX3_init 4 none RX3 "<init>") (N : Nat) : ∀ (x0 : Nat) (x1 : Int32) (σ : St) (H : Heap) (locs : List Loc) (cells slots : Nat) (ls : Array Slot), WI E R s σ H locs cells slots → lv_has ls 4 [(0, .ref x0), (1, .int x1)] → fX3_init N σ x0 x1 = some res → W p l e R s m args below meth c H locs cells slots (MQ below (Qd E R.cells R.slots none res) args s R.cells R.slots (fr E)) (F0 m 0 ls []) := by
  intro x0 x1 σ H locs cells slots ls I hl hf
  obtain ⟨⟨hx, hb, hml, hown, hts⟩, -⟩ := id X
  unfold fX3_init at hf
  refine lv_aload_n hx hb dX3_init_0 rfl (lv_at hl 0 rfl) ?_
  refine g_objInit X ⟨Nat.le_trans (Nat.le_of_ble_eq_true rfl) hR.1, Nat.le_trans (Nat.le_of_ble_eq_true rfl) hR.2⟩ q179 hl.1 (Nat.le_of_ble_eq_true rfl) dX3_init_1 ?_
  refine lv_aload_n hx hb dX3_init_4 rfl (lv_at hl 0 rfl) ?_
  refine lv_iload_n hx hb dX3_init_5 rfl (lv_at hl 1 rfl) ?_
  obtain ⟨σ_8, eσ_8, hf⟩ := ob hf
  refine g_putI X I pfX3_9 rfl rfl eσ_8 dX3_init_6 (fun H locs I => ?_)
  refine lv_aload_n hx hb dX3_init_9 rfl (lv_at hl 0 rfl) ?_
  refine lv_iload_n hx hb dX3_init_10 rfl (lv_at hl 1 rfl) ?_
  refine lv_iload_n hx hb dX3_init_11 rfl (lv_at hl 1 rfl) ?_
  obtain ⟨k_9, ek_9, hf⟩ := ob hf
  obtain ⟨k_10, ek_10, hf⟩ := ob hf
  obtain ⟨⟨q_11a, q_11s⟩, eq_11, hf⟩ := ob hf
  refine g_multi hX X I q180 ek_9 ek_10 eq_11 dX3_init_12 (fun H locs cells slots I => ?_)
  obtain ⟨σ_12, eσ_12, hf⟩ := ob hf
  refine g_putI X I pfX3_17 rfl rfl eσ_12 dX3_init_16 (fun H locs I => ?_)
  refine lv_iconst (v := 0) hx hb dX3_init_19 (by decide) ?_
  refine lv_istore_n (lv' := [(2, .int (0 : Int32)), (0, .ref x0), (1, .int x1)]) hx hb dX3_init_20 rfl hl (by decide) rfl (fun ls hl => ?_)
  exact wX3_init_21 hX hR X N N x0 x1 (0 : Int32) σ_12 _ _ _ _ _ I (lv_sub hl [1, 2, 0] rfl) hf
theorem mX3_init {E : EV} {l : Launch} {N : Nat} {σ : St} {x0 : Nat} {x1 : Int32} {res : St} (hX : XK E) (hf : fX3_init N σ x0 x1 = some res) : CM E l yX3_init (ws_ yX3_init cX3_init 4 none) 1 20 [.ref x0, .int x1] σ none res := by
  refine CM.of hX.1 (by decide) rfl rfl (Nat.le_of_ble_eq_true rfl) ?_
  intro p e s m below meth c X I ls hl
  exact wX3_init_0 hX ⟨Nat.le_refl _, Nat.le_refl _⟩ X N _ _ _ _ _ _ _ _ I hl hf
/-! SharedTaxis$Scanner.isAt(C)Z imp=False fuel=False kap=False rt=I thr=False -/
def fX6_isAt (σ : St) (x0 : Nat) (x1 : Int32) : Option Int32 := (gI σ x0 [(5, 3)]).bind fun v_1 : Int32 => if v_1 = (3 : Int32) then (gR σ x0 [(5, 0)]).bind fun v_2 : Option Nat => (gI σ x0 [(5, 4)]).bind fun v_3 : Int32 => (v_2).bind fun a_4 : Nat => (aI σ a_4 1 v_3).bind fun v_5 : Int32 => if v_5 = x1 then some (1 : Int32) else some (0 : Int32) else some (0 : Int32)
theorem wX6_isAt_0 {E : EV} {l : Launch} {p : Program} {e : Env} {s : State} {m : MethodId} {args : Array Value} {below : List Frame} {meth : Method} {c : Code} {R : Room} {σ : St} {res : Int32} (hX : XK E) (hR : 0 ≤ R.frames ∧ 0 ≤ R.locals) (X : MX E p s m args meth c cX6_isAt 2 (some .boolean) RX6 "isAt") : ∀ (x0 : Nat) (x1 : Int32) (H : Heap) (locs : List Loc) (cells slots : Nat) (ls : Array Slot), WI E R s σ H locs cells slots → lv_has ls 2 [(0, .ref x0), (1, .int x1)] → fX6_isAt σ x0 x1 = some res → W p l e R s m args below meth c H locs cells slots (MQ below (Qd E R.cells R.slots (some (.int res)) σ) args s R.cells R.slots (fr E)) (F0 m 0 ls []) := by
  intro x0 x1 H locs cells slots ls I hl hf
  obtain ⟨⟨hx, hb, hml, hown, hts⟩, -⟩ := id X
  unfold fX6_isAt at hf
  refine lv_aload_n hx hb dX6_isAt_0 rfl (lv_at hl 0 rfl) ?_
  obtain ⟨v_1, ev_1, hf⟩ := ob hf
  refine g_get X I gfX6_35 (gI_in ev_1) dX6_isAt_1 ?_
  refine lv_iconst (v := 3) hx hb dX6_isAt_4 (by decide) ?_
  refine lv_icmp_ne (tgt := 25) hx hb dX6_isAt_5 (by decide) (fun c_5 => ?_) (fun c_5 => ?_)
  · have hf := im c_5 hf
    refine lv_iconst (v := 0) hx hb dX6_isAt_25 (by decide) ?_
    cases os hf
    exact r_zret X I (Or.inl rfl) dX6_isAt_26
  · have hf := ip c_5 hf
    refine lv_aload_n hx hb dX6_isAt_8 rfl (lv_at hl 0 rfl) ?_
    obtain ⟨v_2, ev_2, hf⟩ := ob hf
    refine g_get X I gfX6_15 (gR_in ev_2) dX6_isAt_9 ?_
    refine lv_aload_n hx hb dX6_isAt_12 rfl (lv_at hl 0 rfl) ?_
    obtain ⟨v_3, ev_3, hf⟩ := ob hf
    refine g_get X I gfX6_32 (gI_in ev_3) dX6_isAt_13 ?_
    obtain ⟨a_4, ea_4, hga_4⟩ := ob hf
    have hla_4 := hl
    have Ia_4 := I
    subst ea_4
    have hf := hga_4
    have hl := hla_4
    have I := Ia_4
    obtain ⟨v_5, ev_5, hf⟩ := ob hf
    refine g_bald X I ev_5 dX6_isAt_16 ?_
    refine lv_iload_n hx hb dX6_isAt_17 rfl (lv_at hl 1 rfl) ?_
    refine lv_icmp_ne (tgt := 25) hx hb dX6_isAt_18 (by decide) (fun c_18 => ?_) (fun c_18 => ?_)
    · have hf := im c_18 hf
      refine lv_iconst (v := 0) hx hb dX6_isAt_25 (by decide) ?_
      cases os hf
      exact r_zret X I (Or.inl rfl) dX6_isAt_26
    · have hf := ip c_18 hf
      refine lv_iconst (v := 1) hx hb dX6_isAt_21 (by decide) ?_
      refine lv_goto (tgt := 26) hx hb dX6_isAt_22 (by decide) ?_
      cases os hf
      exact r_zret X I (Or.inr rfl) dX6_isAt_26
theorem mX6_isAt {E : EV} {l : Launch} {σ : St} {x0 : Nat} {x1 : Int32} {res : Int32} (hX : XK E) (hf : fX6_isAt σ x0 x1 = some res) : CM E l yX6_isAt (ws_ yX6_isAt cX6_isAt 2 (some .boolean)) 0 0 [.ref x0, .int x1] σ (some (.int res)) σ := by
  refine CM.of hX.1 (by decide) rfl rfl (Nat.le_of_ble_eq_true rfl) ?_
  intro p e s m below meth c X I ls hl
  exact wX6_isAt_0 hX ⟨Nat.le_refl _, Nat.le_refl _⟩ X _ _ _ _ _ _ _ I hl hf
/-! SharedTaxis$Scanner.expect(C)V imp=True fuel=True kap=True rt=None thr=True -/
theorem lvX6_89 : GoodIn lw_all (wsV RX6 89 RX6 yX6_isAt (ws_ yX6_isAt cX6_isAt 2 (some .boolean))) := lw_V q1428 q1429 q1430 q126 q1431
theorem hdX6_89 : yX6_isAt.cls = RX6 ∧ yX6_isAt.cls ≠ "java/lang/invoke/MethodHandle" ∧ yX6_isAt.cls ≠ "java/lang/invoke/VarHandle" ∧ (parseMethodDescriptor yX6_isAt.desc).map (fun d => d.parameters.length) = some 1 := by decide +kernel
def fX6_expect (N : Nat) (κ : Nat → Nat) (σ : St) (x0 : Nat) (x1 : Int32) : Option ((Unit ⊕ Nat) × St) := (isC σ x0 5).bind fun u_1 : Unit => (fX6_isAt σ x0 x1).bind fun v_2 : Int32 => if v_2 = 0 then (isC σ x0 5).bind fun u_7 : Unit => (fX6_wrong κ σ x0).bind fun (v_8, σ_9) => (isX σ_9 v_8).bind fun u_10 : Unit => some (.inr v_8, σ_9) else (isC σ x0 5).bind fun u_4 : Unit => (fX6_advance N κ σ x0).bind fun σ_6 : St => some (.inl (), σ_6)
theorem wX6_expect_0 {E : EV} {l : Launch} {p : Program} {e : Env} {s : State} {m : MethodId} {args : Array Value} {below : List Frame} {meth : Method} {c : Code} {R : Room} {res : ((Unit ⊕ Nat) × St)} (hX : XK E) (hR : 10 ≤ R.frames ∧ 224 ≤ R.locals) (X : MX E p s m args meth c cX6_expect 2 none RX6 "expect") (XH : MH c []) (N : Nat) : ∀ (x0 : Nat) (x1 : Int32) (σ : St) (H : Heap) (locs : List Loc) (cells slots : Nat) (ls : Array Slot), WI E R s σ H locs cells slots → lv_has ls 2 [(0, .ref x0), (1, .int x1)] → fX6_expect N E.2.2.2.1 σ x0 x1 = some res → W p l e R s m args below meth c H locs cells slots (vx_MQ below (QS E R.cells R.slots (sv (fun v => none) res.1) res.2) (XS E R.cells R.slots (sx res.1) res.2) args s R.cells R.slots (fr E)) (F0 m 0 ls []) := by
  intro x0 x1 σ H locs cells slots ls I hl hf
  obtain ⟨⟨hx, hb, hml, hown, hts⟩, -⟩ := id X
  unfold fX6_expect at hf
  refine lv_aload_n hx hb dX6_expect_0 rfl (lv_at hl 0 rfl) ?_
  refine lv_iload_n hx hb dX6_expect_1 rfl (lv_at hl 1 rfl) ?_
  obtain ⟨u_1, eu_1, hf⟩ := ob hf
  obtain ⟨v_2, ev_2, hf⟩ := ob hf
  refine cg_V (vw := (RX6, TX6, 8)) (ci := 5) (r := (some (.int v_2))) (σ' := σ) (rs := [.int v_2]) (rest := []) (As := [.int x1]) X I eu_1 rfl (mX6_isAt hX ev_2) lvX6_89 hdX6_89 ⟨Nat.le_trans (Nat.le_of_ble_eq_true rfl) hR.1, Nat.le_trans (Nat.le_of_ble_eq_true rfl) hR.2⟩ rfl hl.1 rfl (Nat.le_of_ble_eq_true rfl) rfl dX6_expect_2 (fun H locs cells slots I => ?_)
  refine lv_if_ne (tgt := 13) hx hb dX6_expect_5 (by decide) (fun c_5 => ?_) (fun c_5 => ?_)
  · have hf := im c_5 hf
    refine lv_aload_n hx hb dX6_expect_13 rfl (lv_at hl 0 rfl) ?_
    obtain ⟨u_4, eu_4, hf⟩ := ob hf
    obtain ⟨σ_6, ev_5, hf⟩ := ob hf
    refine cg_V (vw := (RX6, TX6, 8)) (ci := 5) (r := none) (σ' := σ_6) (rs := []) (rest := []) (As := []) X I eu_4 rfl (mX6_advance hX ev_5) lvX6_26 hdX6_26 ⟨Nat.le_trans (Nat.le_of_ble_eq_true rfl) hR.1, Nat.le_trans (Nat.le_of_ble_eq_true rfl) hR.2⟩ rfl hl.1 rfl (Nat.le_of_ble_eq_true rfl) rfl dX6_expect_14 (fun H locs cells slots I => ?_)
    cases os hf
    exact x_ret (r_vret X I dX6_expect_17)
  · have hf := ip c_5 hf
    refine lv_aload_n hx hb dX6_expect_8 rfl (lv_at hl 0 rfl) ?_
    obtain ⟨u_7, eu_7, hf⟩ := ob hf
    obtain ⟨⟨v_8, σ_9⟩, ev_8, hf⟩ := ob hf
    refine cg_V (vw := (RX6, TX6, 8)) (ci := 5) (r := (some (.ref v_8))) (σ' := σ_9) (rs := [.ref v_8]) (rest := []) (As := []) X I eu_7 rfl (mX6_wrong hX ev_8) lvX6_93 hdX6_93 ⟨Nat.le_trans (Nat.le_of_ble_eq_true rfl) hR.1, Nat.le_trans (Nat.le_of_ble_eq_true rfl) hR.2⟩ rfl hl.1 rfl (Nat.le_of_ble_eq_true rfl) rfl dX6_expect_9 (fun H locs cells slots I => ?_)
    obtain ⟨u_10, eu_10, hf⟩ := ob hf
    cases os hf
    exact x_athrow X XH rfl I eu_10 dX6_expect_12
theorem mX6_expect {E : EV} {l : Launch} {N : Nat} {σ : St} {x0 : Nat} {x1 : Int32} {res : ((Unit ⊕ Nat) × St)} (hX : XK E) (hf : fX6_expect N E.2.2.2.1 σ x0 x1 = some res) : CX E l yX6_expect (ws_ yX6_expect cX6_expect 2 none) 10 224 [.ref x0, .int x1] σ (sv (fun v => none) res.1) (sx res.1) res.2 := by
  refine CX.of hX.1 (by decide) rfl rfl (Nat.le_of_ble_eq_true rfl) ?_
  intro p e s m below meth c X XH I ls hl
  exact wX6_expect_0 hX ⟨Nat.le_refl _, Nat.le_refl _⟩ X XH N _ _ _ _ _ _ _ _ I hl hf
/-! java/util/AbstractCollection.<init>()V imp=False fuel=False kap=False rt=None thr=False -/
def fJ0_init (σ : St) (x0 : Nat) : Option Unit := some ()
theorem wJ0_init_0 {E : EV} {l : Launch} {p : Program} {e : Env} {s : State} {m : MethodId} {args : Array Value} {below : List Frame} {meth : Method} {c : Code} {R : Room} {σ : St} {res : Unit} (hX : XK E) (hR : 1 ≤ R.frames ∧ 20 ≤ R.locals) (X : MX E p s m args meth c cJ0_init 1 none RJ0 "<init>") : ∀ (x0 : Nat) (H : Heap) (locs : List Loc) (cells slots : Nat) (ls : Array Slot), WI E R s σ H locs cells slots → lv_has ls 1 [(0, .ref x0)] → fJ0_init σ x0 = some res → W p l e R s m args below meth c H locs cells slots (MQ below (Qd E R.cells R.slots none σ) args s R.cells R.slots (fr E)) (F0 m 0 ls []) := by
  intro x0 H locs cells slots ls I hl hf
  obtain ⟨⟨hx, hb, hml, hown, hts⟩, -⟩ := id X
  unfold fJ0_init at hf
  refine lv_aload_n hx hb dJ0_init_0 rfl (lv_at hl 0 rfl) ?_
  refine g_objInit X ⟨Nat.le_trans (Nat.le_of_ble_eq_true rfl) hR.1, Nat.le_trans (Nat.le_of_ble_eq_true rfl) hR.2⟩ q214 hl.1 (Nat.le_of_ble_eq_true rfl) dJ0_init_1 ?_
  cases os hf
  exact r_vret X I dJ0_init_4
theorem mJ0_init {E : EV} {l : Launch} {σ : St} {x0 : Nat} {res : Unit} (hX : XK E) (hf : fJ0_init σ x0 = some res) : CM E l yJ0_init (ws_ yJ0_init cJ0_init 1 none) 1 20 [.ref x0] σ none σ := by
  refine CM.of hX.1 (by decide) rfl rfl (Nat.le_of_ble_eq_true rfl) ?_
  intro p e s m below meth c X I ls hl
  exact wJ0_init_0 hX ⟨Nat.le_refl _, Nat.le_refl _⟩ X _ _ _ _ _ _ I hl hf
/-! java/util/AbstractList.<init>()V imp=True fuel=False kap=False rt=None thr=False -/
theorem lvJ1_1 : GoodIn lw_all (ws_ yJ0_init cJ0_init 1 none) ∧ Cond.initialized yJ0_init.cls ∈ lw_all ∧ Cond.methodLink RJ1 1 yJ0_init ∈ lw_all ∧ Cond.instanceMethod yJ0_init ∈ lw_all ∧ yJ0_init.name = "<init>" := ⟨lw_meth q213, q116, q211, q212, rfl⟩
theorem hdJ1_1 : yJ0_init.cls ≠ "java/lang/invoke/MethodHandle" ∧ yJ0_init.cls ≠ "java/lang/invoke/VarHandle" ∧ (parseMethodDescriptor yJ0_init.desc).map (fun d => d.parameters.length) = some 0 := by decide +kernel
theorem pfJ1_7 : ∀ q ∈ ([(21, 0)] : List (Nat × Nat)), PF RJ1 7 .int q := List.forall_mem_cons.mpr ⟨⟨RJ2, TJ2, 3, _, tyJ2, rfl, in_J2, by decide, q221, Or.inl rfl, tyJ2_ok, nmJ2, rfl, rfl⟩, fun _ h => by cases h⟩
def fJ1_init (σ : St) (x0 : Nat) : Option St := (fJ0_init σ x0).bind fun v_1 : Unit => (pV σ x0 [(21, 0)] (.int (0 : Int32))).bind fun σ_3 : St => some σ_3
theorem wJ1_init_0 {E : EV} {l : Launch} {p : Program} {e : Env} {s : State} {m : MethodId} {args : Array Value} {below : List Frame} {meth : Method} {c : Code} {R : Room} {res : St} (hX : XK E) (hR : 2 ≤ R.frames ∧ 40 ≤ R.locals) (X : MX E p s m args meth c cJ1_init 1 none RJ1 "<init>") : ∀ (x0 : Nat) (σ : St) (H : Heap) (locs : List Loc) (cells slots : Nat) (ls : Array Slot), WI E R s σ H locs cells slots → lv_has ls 1 [(0, .ref x0)] → fJ1_init σ x0 = some res → W p l e R s m args below meth c H locs cells slots (MQ below (Qd E R.cells R.slots none res) args s R.cells R.slots (fr E)) (F0 m 0 ls []) := by
  intro x0 σ H locs cells slots ls I hl hf
  obtain ⟨⟨hx, hb, hml, hown, hts⟩, -⟩ := id X
  unfold fJ1_init at hf
  refine lv_aload_n hx hb dJ1_init_0 rfl (lv_at hl 0 rfl) ?_
  obtain ⟨v_1, ev_1, hf⟩ := ob hf
  refine cm_I (σ' := σ) (rs := []) (rest := []) (As := []) X I (mJ0_init hX ev_1) lvJ1_1 hdJ1_1 ⟨Nat.le_trans (Nat.le_of_ble_eq_true rfl) hR.1, Nat.le_trans (Nat.le_of_ble_eq_true rfl) hR.2⟩ rfl hl.1 rfl (Nat.le_of_ble_eq_true rfl) rfl dJ1_init_1 (fun H locs cells slots I => ?_)
  refine lv_aload_n hx hb dJ1_init_4 rfl (lv_at hl 0 rfl) ?_
  refine lv_iconst (v := 0) hx hb dJ1_init_5 (by decide) ?_
  obtain ⟨σ_3, eσ_3, hf⟩ := ob hf
  refine g_put X I pfJ1_7 rfl rfl eσ_3 dJ1_init_6 (fun H locs I => ?_)
  cases os hf
  exact r_vret X I dJ1_init_9
theorem mJ1_init {E : EV} {l : Launch} {σ : St} {x0 : Nat} {res : St} (hX : XK E) (hf : fJ1_init σ x0 = some res) : CM E l yJ1_init (ws_ yJ1_init cJ1_init 1 none) 2 40 [.ref x0] σ none res := by
  refine CM.of hX.1 (by decide) rfl rfl (Nat.le_of_ble_eq_true rfl) ?_
  intro p e s m below meth c X I ls hl
  exact wJ1_init_0 hX ⟨Nat.le_refl _, Nat.le_refl _⟩ X _ _ _ _ _ _ _ I hl hf
/-! java/util/ArrayList.<init>()V imp=True fuel=False kap=True rt=None thr=False -/
theorem lvJ2_1 : GoodIn lw_all (ws_ yJ1_init cJ1_init 1 none) ∧ Cond.initialized yJ1_init.cls ∈ lw_all ∧ Cond.methodLink RJ2 1 yJ1_init ∈ lw_all ∧ Cond.instanceMethod yJ1_init ∈ lw_all ∧ yJ1_init.name = "<init>" := ⟨lw_meth q210, q117, q208, q209, rfl⟩
theorem hdJ2_1 : yJ1_init.cls ≠ "java/lang/invoke/MethodHandle" ∧ yJ1_init.cls ≠ "java/lang/invoke/VarHandle" ∧ (parseMethodDescriptor yJ1_init.desc).map (fun d => d.parameters.length) = some 0 := by decide +kernel
theorem pfJ2_9 : ∀ q ∈ ([(21, 1)] : List (Nat × Nat)), PF RJ2 9 (.array (.object "java/lang/Object")) q := List.forall_mem_cons.mpr ⟨⟨RJ2, TJ2, 3, _, tyJ2, rfl, in_J2, by decide, q217, Or.inl rfl, tyJ2_ok, nmJ2, rfl, rfl⟩, fun _ h => by cases h⟩
def fJ2_init (κ : Nat → Nat) (σ : St) (x0 : Nat) : Option St := (fJ1_init σ x0).bind fun σ_2 : St => (pV σ_2 x0 [(21, 1)] (.ref (κ 0))).bind fun σ_3 : St => some σ_3
theorem wJ2_init_0 {E : EV} {l : Launch} {p : Program} {e : Env} {s : State} {m : MethodId} {args : Array Value} {below : List Frame} {meth : Method} {c : Code} {R : Room} {res : St} (hX : XK E) (hR : 3 ≤ R.frames ∧ 60 ≤ R.locals) (X : MX E p s m args meth c cJ2_init 1 none RJ2 "<init>") : ∀ (x0 : Nat) (σ : St) (H : Heap) (locs : List Loc) (cells slots : Nat) (ls : Array Slot), WI E R s σ H locs cells slots → lv_has ls 1 [(0, .ref x0)] → fJ2_init E.2.2.2.1 σ x0 = some res → W p l e R s m args below meth c H locs cells slots (MQ below (Qd E R.cells R.slots none res) args s R.cells R.slots (fr E)) (F0 m 0 ls []) := by
  intro x0 σ H locs cells slots ls I hl hf
  obtain ⟨⟨hx, hb, hml, hown, hts⟩, -⟩ := id X
  unfold fJ2_init at hf
  refine lv_aload_n hx hb dJ2_init_0 rfl (lv_at hl 0 rfl) ?_
  obtain ⟨σ_2, ev_1, hf⟩ := ob hf
  refine cm_I (σ' := σ_2) (rs := []) (rest := []) (As := []) X I (mJ1_init hX ev_1) lvJ2_1 hdJ2_1 ⟨Nat.le_trans (Nat.le_of_ble_eq_true rfl) hR.1, Nat.le_trans (Nat.le_of_ble_eq_true rfl) hR.2⟩ rfl hl.1 rfl (Nat.le_of_ble_eq_true rfl) rfl dJ2_init_1 (fun H locs cells slots I => ?_)
  refine lv_aload_n hx hb dJ2_init_4 rfl (lv_at hl 0 rfl) ?_
  refine g_gets (ref := "java/util/ArrayList") (w := .ref (E.2.2.2.1 0)) hX X I (List.mem_of_getElem? (i := 1) rfl) rfl q215 dJ2_init_5 ?_
  obtain ⟨σ_3, eσ_3, hf⟩ := ob hf
  refine g_put X I pfJ2_9 rfl rfl eσ_3 dJ2_init_8 (fun H locs I => ?_)
  cases os hf
  exact r_vret X I dJ2_init_11
theorem mJ2_init {E : EV} {l : Launch} {σ : St} {x0 : Nat} {res : St} (hX : XK E) (hf : fJ2_init E.2.2.2.1 σ x0 = some res) : CM E l yJ2_init (ws_ yJ2_init cJ2_init 1 none) 3 60 [.ref x0] σ none res := by
  refine CM.of hX.1 (by decide) rfl rfl (Nat.le_of_ble_eq_true rfl) ?_
  intro p e s m below meth c X I ls hl
  exact wJ2_init_0 hX ⟨Nat.le_refl _, Nat.le_refl _⟩ X _ _ _ _ _ _ _ I hl hf
/-! SharedTaxis$State.<init>(LSharedTaxis$Town;)V imp=True fuel=False kap=True rt=None thr=False -/
theorem pfX2_9 : ∀ q ∈ ([(1, 1)] : List (Nat × Nat)), PI RX2 9 (.array .int) q := List.forall_mem_cons.mpr ⟨⟨RX2, TX2, 7, tyX2, rfl, in_X2, by decide, q235, rfl, tyX2_ok, nmX2, rfl, rfl⟩, fun _ h => by cases h⟩
theorem noX2_15 : NO RX2 15 21 3 [.int 0, .null, .int 0] := ⟨RJ2, TJ2, tyJ2, rfl, in_J2, tyJ2_ok, by decide, q203, q204, q118⟩
theorem lvX2_17 : GoodIn lw_all (ws_ yJ2_init cJ2_init 1 none) ∧ Cond.initialized yJ2_init.cls ∈ lw_all ∧ Cond.methodLink RX2 17 yJ2_init ∈ lw_all ∧ Cond.instanceMethod yJ2_init ∈ lw_all ∧ yJ2_init.name = "<init>" := ⟨lw_meth q207, q118, q205, q206, rfl⟩
theorem hdX2_17 : yJ2_init.cls ≠ "java/lang/invoke/MethodHandle" ∧ yJ2_init.cls ≠ "java/lang/invoke/VarHandle" ∧ (parseMethodDescriptor yJ2_init.desc).map (fun d => d.parameters.length) = some 0 := by decide +kernel
theorem pfX2_18 : ∀ q ∈ ([(1, 5)] : List (Nat × Nat)), PI RX2 18 (.object "java/util/List") q := List.forall_mem_cons.mpr ⟨⟨RX2, TX2, 7, tyX2, rfl, in_X2, by decide, q253, rfl, tyX2_ok, nmX2, rfl, rfl⟩, fun _ h => by cases h⟩
theorem pfX2_22 : ∀ q ∈ ([(1, 6)] : List (Nat × Nat)), PI RX2 22 (.object "java/util/List") q := List.forall_mem_cons.mpr ⟨⟨RX2, TX2, 7, tyX2, rfl, in_X2, by decide, q258, rfl, tyX2_ok, nmX2, rfl, rfl⟩, fun _ h => by cases h⟩
theorem pfX2_25 : ∀ q ∈ ([(1, 0)] : List (Nat × Nat)), PI RX2 25 (.object "SharedTaxis$Town") q := List.forall_mem_cons.mpr ⟨⟨RX2, TX2, 7, tyX2, rfl, in_X2, by decide, q232, rfl, tyX2_ok, nmX2, rfl, rfl⟩, fun _ h => by cases h⟩
def fX2_init (κ : Nat → Nat) (σ : St) (x0 : Nat) (x1 : Nat) : Option St := (an (10 : Int32)).bind fun k_1 : Nat => (nH σ k_1 (.inl (0, z0 0 k_1))).bind fun (q_2a, q_2s) => (sI q_2s q_2a 0 (0 : Int32) (15 : Int32)).bind fun σ_3 : St => (sI σ_3 q_2a 0 (1 : Int32) (1 : Int32)).bind fun σ_4 : St => (sI σ_4 q_2a 0 (2 : Int32) (5 : Int32)).bind fun σ_5 : St => (sI σ_5 q_2a 0 (3 : Int32) (3 : Int32)).bind fun σ_6 : St => (sI σ_6 q_2a 0 (4 : Int32) (0 : Int32)).bind fun σ_7 : St => (sI σ_7 q_2a 0 (5 : Int32) (240 : Int32)).bind fun σ_8 : St => (sI σ_8 q_2a 0 (6 : Int32) (30 : Int32)).bind fun σ_9 : St => (sI σ_9 q_2a 0 (7 : Int32) (0 : Int32)).bind fun σ_10 : St => (sI σ_10 q_2a 0 (8 : Int32) (0 : Int32)).bind fun σ_11 : St => (sI σ_11 q_2a 0 (9 : Int32) (0 : Int32)).bind fun σ_12 : St => (pV σ_12 x0 [(1, 1)] (.ref q_2a)).bind fun σ_13 : St => (nH σ_13 3 (.inr (21, [.int 0, .null, .int 0]))).bind fun (q_14a, q_14s) => (fJ2_init κ q_14s q_14a).bind fun σ_16 : St => (pV σ_16 x0 [(1, 5)] (.ref q_14a)).bind fun σ_17 : St => (nH σ_17 3 (.inr (21, [.int 0, .null, .int 0]))).bind fun (q_18a, q_18s) => (fJ2_init κ q_18s q_18a).bind fun σ_20 : St => (pV σ_20 x0 [(1, 6)] (.ref q_18a)).bind fun σ_21 : St => (pV σ_21 x0 [(1, 0)] (.ref x1)).bind fun σ_22 : St => some σ_22
theorem wX2_init_0 {E : EV} {l : Launch} {p : Program} {e : Env} {s : State} {m : MethodId} {args : Array Value} {below : List Frame} {meth : Method} {c : Code} {R : Room} {res : St} (hX : XK E) (hR : 4 ≤ R.frames ∧ 80 ≤ R.locals) (X : MX E p s m args meth c cX2_init 2 none RX2 "<init>") : ∀ (x0 : Nat) (x1 : Nat) (σ : St) (H : Heap) (locs : List Loc) (cells slots : Nat) (ls : Array Slot), WI E R s σ H locs cells slots → lv_has ls 2 [(0, .ref x0), (1, .ref x1)] → fX2_init E.2.2.2.1 σ x0 x1 = some res → W p l e R s m args below meth c H locs cells slots (MQ below (Qd E R.cells R.slots none res) args s R.cells R.slots (fr E)) (F0 m 0 ls []) := by
  intro x0 x1 σ H locs cells slots ls I hl hf
  obtain ⟨⟨hx, hb, hml, hown, hts⟩, -⟩ := id X
  unfold fX2_init at hf
  refine lv_aload_n hx hb dX2_init_0 rfl (lv_at hl 0 rfl) ?_
  refine g_objInit X ⟨Nat.le_trans (Nat.le_of_ble_eq_true rfl) hR.1, Nat.le_trans (Nat.le_of_ble_eq_true rfl) hR.2⟩ q202 hl.1 (Nat.le_of_ble_eq_true rfl) dX2_init_1 ?_
  refine lv_aload_n hx hb dX2_init_4 rfl (lv_at hl 0 rfl) ?_
  refine lv_bipush (v := 10) hx hb dX2_init_5 (by decide) ?_
  obtain ⟨k_1, ek_1, hf⟩ := ob hf
  obtain ⟨⟨q_2a, q_2s⟩, eq_2, hf⟩ := ob hf
  refine g_newa (atype := .int) (t := 0) X I (by decide) rfl q198 ek_1 eq_2 dX2_init_7 (fun H locs cells slots I => ?_)
  refine lv_dup hx hb dX2_init_9 rfl ?_
  refine lv_iconst (v := 0) hx hb dX2_init_10 (by decide) ?_
  refine lv_bipush (v := 15) hx hb dX2_init_11 (by decide) ?_
  obtain ⟨σ_3, eσ_3, hf⟩ := ob hf
  refine g_iast X I eσ_3 dX2_init_13 (fun H locs I => ?_)
  refine lv_dup hx hb dX2_init_14 rfl ?_
  refine lv_iconst (v := 1) hx hb dX2_init_15 (by decide) ?_
  refine lv_iconst (v := 1) hx hb dX2_init_16 (by decide) ?_
  obtain ⟨σ_4, eσ_4, hf⟩ := ob hf
  refine g_iast X I eσ_4 dX2_init_17 (fun H locs I => ?_)
  refine lv_dup hx hb dX2_init_18 rfl ?_
  refine lv_iconst (v := 2) hx hb dX2_init_19 (by decide) ?_
  refine lv_iconst (v := 5) hx hb dX2_init_20 (by decide) ?_
  obtain ⟨σ_5, eσ_5, hf⟩ := ob hf
  refine g_iast X I eσ_5 dX2_init_21 (fun H locs I => ?_)
  refine lv_dup hx hb dX2_init_22 rfl ?_
  refine lv_iconst (v := 3) hx hb dX2_init_23 (by decide) ?_
  refine lv_iconst (v := 3) hx hb dX2_init_24 (by decide) ?_
  obtain ⟨σ_6, eσ_6, hf⟩ := ob hf
  refine g_iast X I eσ_6 dX2_init_25 (fun H locs I => ?_)
  refine lv_dup hx hb dX2_init_26 rfl ?_
  refine lv_iconst (v := 4) hx hb dX2_init_27 (by decide) ?_
  refine lv_iconst (v := 0) hx hb dX2_init_28 (by decide) ?_
  obtain ⟨σ_7, eσ_7, hf⟩ := ob hf
  refine g_iast X I eσ_7 dX2_init_29 (fun H locs I => ?_)
  refine lv_dup hx hb dX2_init_30 rfl ?_
  refine lv_iconst (v := 5) hx hb dX2_init_31 (by decide) ?_
  refine lv_sipush (v := 240) hx hb dX2_init_32 (by decide) ?_
  obtain ⟨σ_8, eσ_8, hf⟩ := ob hf
  refine g_iast X I eσ_8 dX2_init_35 (fun H locs I => ?_)
  refine lv_dup hx hb dX2_init_36 rfl ?_
  refine lv_bipush (v := 6) hx hb dX2_init_37 (by decide) ?_
  refine lv_bipush (v := 30) hx hb dX2_init_39 (by decide) ?_
  obtain ⟨σ_9, eσ_9, hf⟩ := ob hf
  refine g_iast X I eσ_9 dX2_init_41 (fun H locs I => ?_)
  refine lv_dup hx hb dX2_init_42 rfl ?_
  refine lv_bipush (v := 7) hx hb dX2_init_43 (by decide) ?_
  refine lv_iconst (v := 0) hx hb dX2_init_45 (by decide) ?_
  obtain ⟨σ_10, eσ_10, hf⟩ := ob hf
  refine g_iast X I eσ_10 dX2_init_46 (fun H locs I => ?_)
  refine lv_dup hx hb dX2_init_47 rfl ?_
  refine lv_bipush (v := 8) hx hb dX2_init_48 (by decide) ?_
  refine lv_iconst (v := 0) hx hb dX2_init_50 (by decide) ?_
  obtain ⟨σ_11, eσ_11, hf⟩ := ob hf
  refine g_iast X I eσ_11 dX2_init_51 (fun H locs I => ?_)
  refine lv_dup hx hb dX2_init_52 rfl ?_
  refine lv_bipush (v := 9) hx hb dX2_init_53 (by decide) ?_
  refine lv_iconst (v := 0) hx hb dX2_init_55 (by decide) ?_
  obtain ⟨σ_12, eσ_12, hf⟩ := ob hf
  refine g_iast X I eσ_12 dX2_init_56 (fun H locs I => ?_)
  obtain ⟨σ_13, eσ_13, hf⟩ := ob hf
  refine g_putI X I pfX2_9 rfl rfl eσ_13 dX2_init_57 (fun H locs I => ?_)
  refine lv_aload_n hx hb dX2_init_60 rfl (lv_at hl 0 rfl) ?_
  obtain ⟨⟨q_14a, q_14s⟩, eq_14, hf⟩ := ob hf
  refine g_new X I noX2_15 eq_14 dX2_init_61 (fun H locs cells slots I => ?_)
  refine lv_dup hx hb dX2_init_64 rfl ?_
  obtain ⟨σ_16, ev_15, hf⟩ := ob hf
  refine cm_I (σ' := σ_16) (rs := [.ref q_14a, .ref x0]) (rest := [.ref q_14a, .ref x0]) (As := []) X I (mJ2_init hX ev_15) lvX2_17 hdX2_17 ⟨Nat.le_trans (Nat.le_of_ble_eq_true rfl) hR.1, Nat.le_trans (Nat.le_of_ble_eq_true rfl) hR.2⟩ rfl hl.1 rfl (Nat.le_of_ble_eq_true rfl) rfl dX2_init_65 (fun H locs cells slots I => ?_)
  obtain ⟨σ_17, eσ_17, hf⟩ := ob hf
  refine g_putI X I pfX2_18 rfl rfl eσ_17 dX2_init_68 (fun H locs I => ?_)
  refine lv_aload_n hx hb dX2_init_71 rfl (lv_at hl 0 rfl) ?_
  obtain ⟨⟨q_18a, q_18s⟩, eq_18, hf⟩ := ob hf
  refine g_new X I noX2_15 eq_18 dX2_init_72 (fun H locs cells slots I => ?_)
  refine lv_dup hx hb dX2_init_75 rfl ?_
  obtain ⟨σ_20, ev_19, hf⟩ := ob hf
  refine cm_I (σ' := σ_20) (rs := [.ref q_18a, .ref x0]) (rest := [.ref q_18a, .ref x0]) (As := []) X I (mJ2_init hX ev_19) lvX2_17 hdX2_17 ⟨Nat.le_trans (Nat.le_of_ble_eq_true rfl) hR.1, Nat.le_trans (Nat.le_of_ble_eq_true rfl) hR.2⟩ rfl hl.1 rfl (Nat.le_of_ble_eq_true rfl) rfl dX2_init_76 (fun H locs cells slots I => ?_)
  obtain ⟨σ_21, eσ_21, hf⟩ := ob hf
  refine g_putI X I pfX2_22 rfl rfl eσ_21 dX2_init_79 (fun H locs I => ?_)
  refine lv_aload_n hx hb dX2_init_82 rfl (lv_at hl 0 rfl) ?_
  refine lv_aload_n hx hb dX2_init_83 rfl (lv_at hl 1 rfl) ?_
  obtain ⟨σ_22, eσ_22, hf⟩ := ob hf
  refine g_putI X I pfX2_25 rfl rfl eσ_22 dX2_init_84 (fun H locs I => ?_)
  cases os hf
  exact r_vret X I dX2_init_87
theorem mX2_init {E : EV} {l : Launch} {σ : St} {x0 : Nat} {x1 : Nat} {res : St} (hX : XK E) (hf : fX2_init E.2.2.2.1 σ x0 x1 = some res) : CM E l yX2_init (ws_ yX2_init cX2_init 2 none) 4 80 [.ref x0, .ref x1] σ none res := by
  refine CM.of hX.1 (by decide) rfl rfl (Nat.le_of_ble_eq_true rfl) ?_
  intro p e s m below meth c X I ls hl
  exact wX2_init_0 hX ⟨Nat.le_refl _, Nat.le_refl _⟩ X _ _ _ _ _ _ _ _ I hl hf
/-! java/util/ArrayList.size()I imp=False fuel=False kap=False rt=I thr=False -/
theorem gfJ2_48 : ∀ q ∈ ([(21, 2)] : List (Nat × Nat)), GF RJ2 48 q := List.forall_mem_cons.mpr ⟨⟨RJ2, TJ2, 3, _, rfl, in_J2, by decide, q220, Or.inl rfl⟩, fun _ h => by cases h⟩
def fJ2_size (σ : St) (x0 : Nat) : Option Int32 := (gI σ x0 [(21, 2)]).bind fun v_1 : Int32 => some v_1
theorem wJ2_size_0 {E : EV} {l : Launch} {p : Program} {e : Env} {s : State} {m : MethodId} {args : Array Value} {below : List Frame} {meth : Method} {c : Code} {R : Room} {σ : St} {res : Int32} (hX : XK E) (hR : 0 ≤ R.frames ∧ 0 ≤ R.locals) (X : MX E p s m args meth c cJ2_size 1 (some .int) RJ2 "size") : ∀ (x0 : Nat) (H : Heap) (locs : List Loc) (cells slots : Nat) (ls : Array Slot), WI E R s σ H locs cells slots → lv_has ls 1 [(0, .ref x0)] → fJ2_size σ x0 = some res → W p l e R s m args below meth c H locs cells slots (MQ below (Qd E R.cells R.slots (some (.int res)) σ) args s R.cells R.slots (fr E)) (F0 m 0 ls []) := by
  intro x0 H locs cells slots ls I hl hf
  obtain ⟨⟨hx, hb, hml, hown, hts⟩, -⟩ := id X
  unfold fJ2_size at hf
  refine lv_aload_n hx hb dJ2_size_0 rfl (lv_at hl 0 rfl) ?_
  obtain ⟨v_1, ev_1, hf⟩ := ob hf
  refine g_get X I gfJ2_48 (gI_in ev_1) dJ2_size_1 ?_
  cases os hf
  exact r_iret X I dJ2_size_4
theorem mJ2_size {E : EV} {l : Launch} {σ : St} {x0 : Nat} {res : Int32} (hX : XK E) (hf : fJ2_size σ x0 = some res) : CM E l yJ2_size (ws_ yJ2_size cJ2_size 1 (some .int)) 0 0 [.ref x0] σ (some (.int res)) σ := by
  refine CM.of hX.1 (by decide) rfl rfl (Nat.le_of_ble_eq_true rfl) ?_
  intro p e s m below meth c X I ls hl
  exact wJ2_size_0 hX ⟨Nat.le_refl _, Nat.le_refl _⟩ X _ _ _ _ _ _ I hl hf
/-! SharedTaxis$LimitException.<init>(I)V imp=True fuel=False kap=True rt=None thr=False -/
theorem lvX10_1 : GoodIn lw_all (ws_ yX7_init cX7_init 2 none) ∧ Cond.initialized yX7_init.cls ∈ lw_all ∧ Cond.methodLink RX10 1 yX7_init ∈ lw_all ∧ Cond.instanceMethod yX7_init ∈ lw_all ∧ yX7_init.name = "<init>" := ⟨lw_meth q1385, q140, q1458, q1384, rfl⟩
theorem hdX10_1 : yX7_init.cls ≠ "java/lang/invoke/MethodHandle" ∧ yX7_init.cls ≠ "java/lang/invoke/VarHandle" ∧ (parseMethodDescriptor yX7_init.desc).map (fun d => d.parameters.length) = some 1 := by decide +kernel
def fX10_init (κ : Nat → Nat) (σ : St) (x0 : Nat) (x1 : Int32) : Option St := (fX7_init κ σ x0 x1).bind fun σ_2 : St => some σ_2
theorem wX10_init_0 {E : EV} {l : Launch} {p : Program} {e : Env} {s : State} {m : MethodId} {args : Array Value} {below : List Frame} {meth : Method} {c : Code} {R : Room} {res : St} (hX : XK E) (hR : 4 ≤ R.frames ∧ 89 ≤ R.locals) (X : MX E p s m args meth c cX10_init 2 none RX10 "<init>") : ∀ (x0 : Nat) (x1 : Int32) (σ : St) (H : Heap) (locs : List Loc) (cells slots : Nat) (ls : Array Slot), WI E R s σ H locs cells slots → lv_has ls 2 [(0, .ref x0), (1, .int x1)] → fX10_init E.2.2.2.1 σ x0 x1 = some res → W p l e R s m args below meth c H locs cells slots (MQ below (Qd E R.cells R.slots none res) args s R.cells R.slots (fr E)) (F0 m 0 ls []) := by
  intro x0 x1 σ H locs cells slots ls I hl hf
  obtain ⟨⟨hx, hb, hml, hown, hts⟩, -⟩ := id X
  unfold fX10_init at hf
  refine lv_aload_n hx hb dX10_init_0 rfl (lv_at hl 0 rfl) ?_
  refine lv_iload_n hx hb dX10_init_1 rfl (lv_at hl 1 rfl) ?_
  obtain ⟨σ_2, ev_1, hf⟩ := ob hf
  refine cm_I (σ' := σ_2) (rs := []) (rest := []) (As := [.int x1]) X I (mX7_init hX ev_1) lvX10_1 hdX10_1 ⟨Nat.le_trans (Nat.le_of_ble_eq_true rfl) hR.1, Nat.le_trans (Nat.le_of_ble_eq_true rfl) hR.2⟩ rfl hl.1 rfl (Nat.le_of_ble_eq_true rfl) rfl dX10_init_2 (fun H locs cells slots I => ?_)
  cases os hf
  exact r_vret X I dX10_init_5
theorem mX10_init {E : EV} {l : Launch} {σ : St} {x0 : Nat} {x1 : Int32} {res : St} (hX : XK E) (hf : fX10_init E.2.2.2.1 σ x0 x1 = some res) : CM E l yX10_init (ws_ yX10_init cX10_init 2 none) 4 89 [.ref x0, .int x1] σ none res := by
  refine CM.of hX.1 (by decide) rfl rfl (Nat.le_of_ble_eq_true rfl) ?_
  intro p e s m below meth c X I ls hl
  exact wX10_init_0 hX ⟨Nat.le_refl _, Nat.le_refl _⟩ X _ _ _ _ _ _ _ _ I hl hf
/-! SharedTaxis$Reader.zone()I imp=True fuel=True kap=True rt=I thr=True -/
theorem gfX5_9 : ∀ q ∈ ([(4, 0)] : List (Nat × Nat)), GF RX5 9 q := List.forall_mem_cons.mpr ⟨⟨RX5, TX5, 2, _, rfl, in_X5, by decide, q1335, Or.inl rfl⟩, fun _ h => by cases h⟩
theorem gfX5_15 : ∀ q ∈ ([(4, 1)] : List (Nat × Nat)), GF RX5 15 q := List.forall_mem_cons.mpr ⟨⟨RX5, TX5, 2, _, rfl, in_X5, by decide, q1336, Or.inl rfl⟩, fun _ h => by cases h⟩
theorem gfX5_19 : ∀ q ∈ ([(2, 0)] : List (Nat × Nat)), GN RX5 19 q := List.forall_mem_cons.mpr ⟨⟨RX3, TX3, 3, _, rfl, in_X3, by decide, q183⟩, fun _ h => by cases h⟩
theorem lvX5_25 : GoodIn lw_all (wsV RX5 25 RX6 yX6_number (ws_ yX6_number cX6_number 4 (some .int))) := lw_V q1399 q1400 q1401 q126 q1402
theorem hdX5_25 : yX6_number.cls = RX6 ∧ yX6_number.cls ≠ "java/lang/invoke/MethodHandle" ∧ yX6_number.cls ≠ "java/lang/invoke/VarHandle" ∧ (parseMethodDescriptor yX6_number.desc).map (fun d => d.parameters.length) = some 2 := by decide +kernel
def fX5_zone (N : Nat) (κ : Nat → Nat) (σ : St) (x0 : Nat) : Option ((Int32 ⊕ Nat) × St) := (gR σ x0 [(4, 0)]).bind fun v_1 : Option Nat => (gR σ x0 [(4, 1)]).bind fun v_2 : Option Nat => (v_2).bind fun a_3 : Nat => (gI σ a_3 [(2, 0)]).bind fun v_4 : Int32 => (v_1).bind fun a_5 : Nat => (isC σ a_5 5).bind fun u_6 : Unit => (fX6_number N κ σ a_5 (0 : Int32) (v_4 - (1 : Int32))).bind fun (v_7, σ_8) => se v_7 (fun v_9 => some (.inl v_9, σ_8)) (fun q_10 => (isX σ_8 q_10).bind fun uq_10 : Unit => some (.inr q_10, σ_8))
theorem wX5_zone_0 {E : EV} {l : Launch} {p : Program} {e : Env} {s : State} {m : MethodId} {args : Array Value} {below : List Frame} {meth : Method} {c : Code} {R : Room} {res : ((Int32 ⊕ Nat) × St)} (hX : XK E) (hR : 11 ≤ R.frames ∧ 247 ≤ R.locals) (X : MX E p s m args meth c cX5_zone 1 (some .int) RX5 "zone") (XH : MH c []) (N : Nat) : ∀ (x0 : Nat) (σ : St) (H : Heap) (locs : List Loc) (cells slots : Nat) (ls : Array Slot), WI E R s σ H locs cells slots → lv_has ls 1 [(0, .ref x0)] → fX5_zone N E.2.2.2.1 σ x0 = some res → W p l e R s m args below meth c H locs cells slots (vx_MQ below (QS E R.cells R.slots (sv (fun v => (some (.int v))) res.1) res.2) (XS E R.cells R.slots (sx res.1) res.2) args s R.cells R.slots (fr E)) (F0 m 0 ls []) := by
  intro x0 σ H locs cells slots ls I hl hf
  obtain ⟨⟨hx, hb, hml, hown, hts⟩, -⟩ := id X
  unfold fX5_zone at hf
  refine lv_aload_n hx hb dX5_zone_0 rfl (lv_at hl 0 rfl) ?_
  obtain ⟨v_1, ev_1, hf⟩ := ob hf
  refine g_get X I gfX5_9 (gR_in ev_1) dX5_zone_1 ?_
  refine lv_iconst (v := 0) hx hb dX5_zone_4 (by decide) ?_
  refine lv_aload_n hx hb dX5_zone_5 rfl (lv_at hl 0 rfl) ?_
  obtain ⟨v_2, ev_2, hf⟩ := ob hf
  refine g_get X I gfX5_15 (gR_in ev_2) dX5_zone_6 ?_
  obtain ⟨a_3, ea_3, hga_3⟩ := ob hf
  have hla_3 := hl
  have Ia_3 := I
  subst ea_3
  have hf := hga_3
  have hl := hla_3
  have I := Ia_3
  obtain ⟨v_4, ev_4, hf⟩ := ob hf
  refine g_getN hX X I gfX5_19 (gI_in ev_4) dX5_zone_9 ?_
  refine lv_iconst (v := 1) hx hb dX5_zone_12 (by decide) ?_
  refine lv_isub hx hb dX5_zone_13 ?_
  obtain ⟨a_5, ea_5, hga_5⟩ := ob hf
  have hla_5 := hl
  have Ia_5 := I
  subst ea_5
  have hf := hga_5
  have hl := hla_5
  have I := Ia_5
  obtain ⟨u_6, eu_6, hf⟩ := ob hf
  obtain ⟨⟨v_7, σ_8⟩, ev_7, hf⟩ := ob hf
  have hgv_7 := hf
  rcases v_7 with v_9 | q_10
  · have hf := se_l hgv_7
    refine cx_ret (r := (some (.int v_9))) (rs := [.int v_9]) I (xr_V (vw := (RX6, TX6, 8)) (ci := 5) (σ' := σ_8) (rest := []) (As := [.int (0 : Int32), .int (v_4 - (1 : Int32))]) X I eu_6 rfl (mX6_number hX ev_7) lvX5_25 hdX5_25 ⟨Nat.le_trans (Nat.le_of_ble_eq_true rfl) hR.1, Nat.le_trans (Nat.le_of_ble_eq_true rfl) hR.2⟩ rfl hl.1 rfl (Nat.le_of_ble_eq_true rfl) dX5_zone_14) rfl (fun H locs cells slots I => ?_)
    cases os hf
    exact x_ret (r_iret X I dX5_zone_17)
  · have hf := se_r hgv_7
    obtain ⟨uq_10, eq_10, hf⟩ := ob hf
    cases os hf
    refine cx_thr I (xr_V (vw := (RX6, TX6, 8)) (ci := 5) (σ' := σ_8) (rest := []) (As := [.int (0 : Int32), .int (v_4 - (1 : Int32))]) X I eu_6 rfl (mX6_number hX ev_7) lvX5_25 hdX5_25 ⟨Nat.le_trans (Nat.le_of_ble_eq_true rfl) hR.1, Nat.le_trans (Nat.le_of_ble_eq_true rfl) hR.2⟩ rfl hl.1 rfl (Nat.le_of_ble_eq_true rfl) dX5_zone_14) (fun H locs cells slots I => ?_)
    exact x_out X XH rfl I eq_10
theorem mX5_zone {E : EV} {l : Launch} {N : Nat} {σ : St} {x0 : Nat} {res : ((Int32 ⊕ Nat) × St)} (hX : XK E) (hf : fX5_zone N E.2.2.2.1 σ x0 = some res) : CX E l yX5_zone (ws_ yX5_zone cX5_zone 1 (some .int)) 11 247 [.ref x0] σ (sv (fun v => (some (.int v))) res.1) (sx res.1) res.2 := by
  refine CX.of hX.1 (by decide) rfl rfl (Nat.le_of_ble_eq_true rfl) ?_
  intro p e s m below meth c X XH I ls hl
  exact wX5_zone_0 hX ⟨Nat.le_refl _, Nat.le_refl _⟩ X XH N _ _ _ _ _ _ _ I hl hf
/-! SharedTaxis$ClashException.<init>(I)V imp=True fuel=False kap=True rt=None thr=False -/
theorem lvX11_1 : GoodIn lw_all (ws_ yX7_init cX7_init 2 none) ∧ Cond.initialized yX7_init.cls ∈ lw_all ∧ Cond.methodLink RX11 1 yX7_init ∈ lw_all ∧ Cond.instanceMethod yX7_init ∈ lw_all ∧ yX7_init.name = "<init>" := ⟨lw_meth q1385, q140, q1484, q1384, rfl⟩
theorem hdX11_1 : yX7_init.cls ≠ "java/lang/invoke/MethodHandle" ∧ yX7_init.cls ≠ "java/lang/invoke/VarHandle" ∧ (parseMethodDescriptor yX7_init.desc).map (fun d => d.parameters.length) = some 1 := by decide +kernel
def fX11_init (κ : Nat → Nat) (σ : St) (x0 : Nat) (x1 : Int32) : Option St := (fX7_init κ σ x0 x1).bind fun σ_2 : St => some σ_2
theorem wX11_init_0 {E : EV} {l : Launch} {p : Program} {e : Env} {s : State} {m : MethodId} {args : Array Value} {below : List Frame} {meth : Method} {c : Code} {R : Room} {res : St} (hX : XK E) (hR : 4 ≤ R.frames ∧ 89 ≤ R.locals) (X : MX E p s m args meth c cX11_init 2 none RX11 "<init>") : ∀ (x0 : Nat) (x1 : Int32) (σ : St) (H : Heap) (locs : List Loc) (cells slots : Nat) (ls : Array Slot), WI E R s σ H locs cells slots → lv_has ls 2 [(0, .ref x0), (1, .int x1)] → fX11_init E.2.2.2.1 σ x0 x1 = some res → W p l e R s m args below meth c H locs cells slots (MQ below (Qd E R.cells R.slots none res) args s R.cells R.slots (fr E)) (F0 m 0 ls []) := by
  intro x0 x1 σ H locs cells slots ls I hl hf
  obtain ⟨⟨hx, hb, hml, hown, hts⟩, -⟩ := id X
  unfold fX11_init at hf
  refine lv_aload_n hx hb dX11_init_0 rfl (lv_at hl 0 rfl) ?_
  refine lv_iload_n hx hb dX11_init_1 rfl (lv_at hl 1 rfl) ?_
  obtain ⟨σ_2, ev_1, hf⟩ := ob hf
  refine cm_I (σ' := σ_2) (rs := []) (rest := []) (As := [.int x1]) X I (mX7_init hX ev_1) lvX11_1 hdX11_1 ⟨Nat.le_trans (Nat.le_of_ble_eq_true rfl) hR.1, Nat.le_trans (Nat.le_of_ble_eq_true rfl) hR.2⟩ rfl hl.1 rfl (Nat.le_of_ble_eq_true rfl) rfl dX11_init_2 (fun H locs cells slots I => ?_)
  cases os hf
  exact r_vret X I dX11_init_5
theorem mX11_init {E : EV} {l : Launch} {σ : St} {x0 : Nat} {x1 : Int32} {res : St} (hX : XK E) (hf : fX11_init E.2.2.2.1 σ x0 x1 = some res) : CM E l yX11_init (ws_ yX11_init cX11_init 2 none) 4 89 [.ref x0, .int x1] σ none res := by
  refine CM.of hX.1 (by decide) rfl rfl (Nat.le_of_ble_eq_true rfl) ?_
  intro p e s m below meth c X I ls hl
  exact wX11_init_0 hX ⟨Nat.le_refl _, Nat.le_refl _⟩ X _ _ _ _ _ _ _ _ I hl hf
/-! SharedTaxis$Reader.clash(Z)V imp=True fuel=False kap=True rt=None thr=True -/
theorem noX5_31 : NO RX5 31 9 7 [.int 0, .null, .null, .null, .null, .null, .int 0] := ⟨RX11, TX11, tyX11, rfl, in_X11, tyX11_ok, by decide, q1472, q1473, q144⟩
theorem gfX5_33 : ∀ q ∈ ([(5, 4)] : List (Nat × Nat)), GN RX5 33 q := List.forall_mem_cons.mpr ⟨⟨RX6, TX6, 8, _, rfl, in_X6, by decide, q1308⟩, fun _ h => by cases h⟩
theorem lvX5_36 : GoodIn lw_all (ws_ yX11_init cX11_init 2 none) ∧ Cond.initialized yX11_init.cls ∈ lw_all ∧ Cond.methodLink RX5 36 yX11_init ∈ lw_all ∧ Cond.instanceMethod yX11_init ∈ lw_all ∧ yX11_init.name = "<init>" := ⟨lw_meth q1483, q144, q1481, q1482, rfl⟩
theorem hdX5_36 : yX11_init.cls ≠ "java/lang/invoke/MethodHandle" ∧ yX11_init.cls ≠ "java/lang/invoke/VarHandle" ∧ (parseMethodDescriptor yX11_init.desc).map (fun d => d.parameters.length) = some 1 := by decide +kernel
def fX5_clash (κ : Nat → Nat) (σ : St) (x0 : Nat) (x1 : Int32) : Option ((Unit ⊕ Nat) × St) := if x1 = 0 then some (.inl (), σ) else (nH σ 7 (.inr (9, [.int 0, .null, .null, .null, .null, .null, .int 0]))).bind fun (q_1a, q_1s) => (gR q_1s x0 [(4, 0)]).bind fun v_2 : Option Nat => (v_2).bind fun a_3 : Nat => (gI q_1s a_3 [(5, 4)]).bind fun v_4 : Int32 => (fX11_init κ q_1s q_1a v_4).bind fun σ_6 : St => (isX σ_6 q_1a).bind fun u_7 : Unit => some (.inr q_1a, σ_6)
theorem wX5_clash_0 {E : EV} {l : Launch} {p : Program} {e : Env} {s : State} {m : MethodId} {args : Array Value} {below : List Frame} {meth : Method} {c : Code} {R : Room} {res : ((Unit ⊕ Nat) × St)} (hX : XK E) (hR : 5 ≤ R.frames ∧ 110 ≤ R.locals) (X : MX E p s m args meth c cX5_clash 2 none RX5 "clash") (XH : MH c []) : ∀ (x0 : Nat) (x1 : Int32) (σ : St) (H : Heap) (locs : List Loc) (cells slots : Nat) (ls : Array Slot), WI E R s σ H locs cells slots → lv_has ls 2 [(0, .ref x0), (1, .int x1)] → fX5_clash E.2.2.2.1 σ x0 x1 = some res → W p l e R s m args below meth c H locs cells slots (vx_MQ below (QS E R.cells R.slots (sv (fun v => none) res.1) res.2) (XS E R.cells R.slots (sx res.1) res.2) args s R.cells R.slots (fr E)) (F0 m 0 ls []) := by
  intro x0 x1 σ H locs cells slots ls I hl hf
  obtain ⟨⟨hx, hb, hml, hown, hts⟩, -⟩ := id X
  unfold fX5_clash at hf
  refine lv_iload_n hx hb dX5_clash_0 rfl (lv_at hl 1 rfl) ?_
  refine lv_if_eq (tgt := 19) hx hb dX5_clash_1 (by decide) (fun c_1 => ?_) (fun c_1 => ?_)
  · have hf := ip c_1 hf
    cases os hf
    exact x_ret (r_vret X I dX5_clash_19)
  · have hf := im c_1 hf
    obtain ⟨⟨q_1a, q_1s⟩, eq_1, hf⟩ := ob hf
    refine g_new X I noX5_31 eq_1 dX5_clash_4 (fun H locs cells slots I => ?_)
    refine lv_dup hx hb dX5_clash_7 rfl ?_
    refine lv_aload_n hx hb dX5_clash_8 rfl (lv_at hl 0 rfl) ?_
    obtain ⟨v_2, ev_2, hf⟩ := ob hf
    refine g_get X I gfX5_9 (gR_in ev_2) dX5_clash_9 ?_
    obtain ⟨a_3, ea_3, hga_3⟩ := ob hf
    have hla_3 := hl
    have Ia_3 := I
    subst ea_3
    have hf := hga_3
    have hl := hla_3
    have I := Ia_3
    obtain ⟨v_4, ev_4, hf⟩ := ob hf
    refine g_getN hX X I gfX5_33 (gI_in ev_4) dX5_clash_12 ?_
    obtain ⟨σ_6, ev_5, hf⟩ := ob hf
    refine cm_I (σ' := σ_6) (rs := [.ref q_1a]) (rest := [.ref q_1a]) (As := [.int v_4]) X I (mX11_init hX ev_5) lvX5_36 hdX5_36 ⟨Nat.le_trans (Nat.le_of_ble_eq_true rfl) hR.1, Nat.le_trans (Nat.le_of_ble_eq_true rfl) hR.2⟩ rfl hl.1 rfl (Nat.le_of_ble_eq_true rfl) rfl dX5_clash_15 (fun H locs cells slots I => ?_)
    obtain ⟨u_7, eu_7, hf⟩ := ob hf
    cases os hf
    exact x_athrow X XH rfl I eu_7 dX5_clash_18
theorem mX5_clash {E : EV} {l : Launch} {σ : St} {x0 : Nat} {x1 : Int32} {res : ((Unit ⊕ Nat) × St)} (hX : XK E) (hf : fX5_clash E.2.2.2.1 σ x0 x1 = some res) : CX E l yX5_clash (ws_ yX5_clash cX5_clash 2 none) 5 110 [.ref x0, .int x1] σ (sv (fun v => none) res.1) (sx res.1) res.2 := by
  refine CX.of hX.1 (by decide) rfl rfl (Nat.le_of_ble_eq_true rfl) ?_
  intro p e s m below meth c X XH I ls hl
  exact wX5_clash_0 hX ⟨Nat.le_refl _, Nat.le_refl _⟩ X XH _ _ _ _ _ _ _ _ I hl hf
/-! SharedTaxis$Taxi.<init>(IIII)V imp=True fuel=False kap=True rt=None thr=False -/
theorem pfX12_9 : ∀ q ∈ ([(10, 6)] : List (Nat × Nat)), PF RX12 9 .int q := List.forall_mem_cons.mpr ⟨⟨RX12, TX12, 15, _, tyX12, rfl, in_X12, by decide, q925, Or.inl rfl, tyX12_ok, nmX12, rfl, rfl⟩, fun _ h => by cases h⟩
theorem noX12_15 : NO RX12 15 21 3 [.int 0, .null, .int 0] := ⟨RJ2, TJ2, tyJ2, rfl, in_J2, tyJ2_ok, by decide, q903, q204, q118⟩
theorem lvX12_17 : GoodIn lw_all (ws_ yJ2_init cJ2_init 1 none) ∧ Cond.initialized yJ2_init.cls ∈ lw_all ∧ Cond.methodLink RX12 17 yJ2_init ∈ lw_all ∧ Cond.instanceMethod yJ2_init ∈ lw_all ∧ yJ2_init.name = "<init>" := ⟨lw_meth q207, q118, q904, q206, rfl⟩
theorem hdX12_17 : yJ2_init.cls ≠ "java/lang/invoke/MethodHandle" ∧ yJ2_init.cls ≠ "java/lang/invoke/VarHandle" ∧ (parseMethodDescriptor yJ2_init.desc).map (fun d => d.parameters.length) = some 0 := by decide +kernel
theorem pfX12_18 : ∀ q ∈ ([(10, 7)] : List (Nat × Nat)), PI RX12 18 (.object "java/util/List") q := List.forall_mem_cons.mpr ⟨⟨RX12, TX12, 15, tyX12, rfl, in_X12, by decide, q930, rfl, tyX12_ok, nmX12, rfl, rfl⟩, fun _ h => by cases h⟩
theorem pfX12_22 : ∀ q ∈ ([(10, 8)] : List (Nat × Nat)), PI RX12 22 (.object "java/util/List") q := List.forall_mem_cons.mpr ⟨⟨RX12, TX12, 15, tyX12, rfl, in_X12, by decide, q935, rfl, tyX12_ok, nmX12, rfl, rfl⟩, fun _ h => by cases h⟩
theorem pfX12_25 : ∀ q ∈ ([(10, 0)] : List (Nat × Nat)), PI RX12 25 .int q := List.forall_mem_cons.mpr ⟨⟨RX12, TX12, 15, tyX12, rfl, in_X12, by decide, q905, rfl, tyX12_ok, nmX12, rfl, rfl⟩, fun _ h => by cases h⟩
theorem pfX12_28 : ∀ q ∈ ([(10, 2)] : List (Nat × Nat)), PF RX12 28 .int q := List.forall_mem_cons.mpr ⟨⟨RX12, TX12, 15, _, tyX12, rfl, in_X12, by decide, q910, Or.inl rfl, tyX12_ok, nmX12, rfl, rfl⟩, fun _ h => by cases h⟩
theorem pfX12_31 : ∀ q ∈ ([(10, 1)] : List (Nat × Nat)), PI RX12 31 .int q := List.forall_mem_cons.mpr ⟨⟨RX12, TX12, 15, tyX12, rfl, in_X12, by decide, q908, rfl, tyX12_ok, nmX12, rfl, rfl⟩, fun _ h => by cases h⟩
theorem pfX12_34 : ∀ q ∈ ([(10, 4)] : List (Nat × Nat)), PF RX12 34 .int q := List.forall_mem_cons.mpr ⟨⟨RX12, TX12, 15, _, tyX12, rfl, in_X12, by decide, q918, Or.inl rfl, tyX12_ok, nmX12, rfl, rfl⟩, fun _ h => by cases h⟩
theorem pfX12_37 : ∀ q ∈ ([(10, 3)] : List (Nat × Nat)), PF RX12 37 .int q := List.forall_mem_cons.mpr ⟨⟨RX12, TX12, 15, _, tyX12, rfl, in_X12, by decide, q914, Or.inl rfl, tyX12_ok, nmX12, rfl, rfl⟩, fun _ h => by cases h⟩
def fX12_init_2 (κ : Nat → Nat) (σ : St) (x0 : Nat) (x1 : Int32) (x2 : Int32) (x3 : Int32) (x4 : Int32) : Option St := (pV σ x0 [(10, 6)] (.int (-1 : Int32))).bind fun σ_1 : St => (nH σ_1 3 (.inr (21, [.int 0, .null, .int 0]))).bind fun (q_2a, q_2s) => (fJ2_init κ q_2s q_2a).bind fun σ_4 : St => (pV σ_4 x0 [(10, 7)] (.ref q_2a)).bind fun σ_5 : St => (nH σ_5 3 (.inr (21, [.int 0, .null, .int 0]))).bind fun (q_6a, q_6s) => (fJ2_init κ q_6s q_6a).bind fun σ_8 : St => (pV σ_8 x0 [(10, 8)] (.ref q_6a)).bind fun σ_9 : St => (pV σ_9 x0 [(10, 0)] (.int x1)).bind fun σ_10 : St => (pV σ_10 x0 [(10, 2)] (.int x2)).bind fun σ_11 : St => (pV σ_11 x0 [(10, 1)] (.int x3)).bind fun σ_12 : St => (pV σ_12 x0 [(10, 4)] (.int x4)).bind fun σ_13 : St => (pV σ_13 x0 [(10, 3)] (.int x3)).bind fun σ_14 : St => some σ_14
theorem wX12_init_2_0 {E : EV} {l : Launch} {p : Program} {e : Env} {s : State} {m : MethodId} {args : Array Value} {below : List Frame} {meth : Method} {c : Code} {R : Room} {res : St} (hX : XK E) (hR : 4 ≤ R.frames ∧ 80 ≤ R.locals) (X : MX E p s m args meth c cX12_init_2 5 none RX12 "<init>") : ∀ (x0 : Nat) (x1 : Int32) (x2 : Int32) (x3 : Int32) (x4 : Int32) (σ : St) (H : Heap) (locs : List Loc) (cells slots : Nat) (ls : Array Slot), WI E R s σ H locs cells slots → lv_has ls 5 [(0, .ref x0), (1, .int x1), (2, .int x2), (3, .int x3), (4, .int x4)] → fX12_init_2 E.2.2.2.1 σ x0 x1 x2 x3 x4 = some res → W p l e R s m args below meth c H locs cells slots (MQ below (Qd E R.cells R.slots none res) args s R.cells R.slots (fr E)) (F0 m 0 ls []) := by
  intro x0 x1 x2 x3 x4 σ H locs cells slots ls I hl hf
  obtain ⟨⟨hx, hb, hml, hown, hts⟩, -⟩ := id X
  unfold fX12_init_2 at hf
  refine lv_aload_n hx hb dX12_init_2_0 rfl (lv_at hl 0 rfl) ?_
  refine g_objInit X ⟨Nat.le_trans (Nat.le_of_ble_eq_true rfl) hR.1, Nat.le_trans (Nat.le_of_ble_eq_true rfl) hR.2⟩ q902 hl.1 (Nat.le_of_ble_eq_true rfl) dX12_init_2_1 ?_
  refine lv_aload_n hx hb dX12_init_2_4 rfl (lv_at hl 0 rfl) ?_
  refine lv_iconst (v := (-1)) hx hb dX12_init_2_5 (by decide) ?_
  obtain ⟨σ_1, eσ_1, hf⟩ := ob hf
  refine g_put X I pfX12_9 rfl rfl eσ_1 dX12_init_2_6 (fun H locs I => ?_)
  refine lv_aload_n hx hb dX12_init_2_9 rfl (lv_at hl 0 rfl) ?_
  obtain ⟨⟨q_2a, q_2s⟩, eq_2, hf⟩ := ob hf
  refine g_new X I noX12_15 eq_2 dX12_init_2_10 (fun H locs cells slots I => ?_)
  refine lv_dup hx hb dX12_init_2_13 rfl ?_
  obtain ⟨σ_4, ev_3, hf⟩ := ob hf
  refine cm_I (σ' := σ_4) (rs := [.ref q_2a, .ref x0]) (rest := [.ref q_2a, .ref x0]) (As := []) X I (mJ2_init hX ev_3) lvX12_17 hdX12_17 ⟨Nat.le_trans (Nat.le_of_ble_eq_true rfl) hR.1, Nat.le_trans (Nat.le_of_ble_eq_true rfl) hR.2⟩ rfl hl.1 rfl (Nat.le_of_ble_eq_true rfl) rfl dX12_init_2_14 (fun H locs cells slots I => ?_)
  obtain ⟨σ_5, eσ_5, hf⟩ := ob hf
  refine g_putI X I pfX12_18 rfl rfl eσ_5 dX12_init_2_17 (fun H locs I => ?_)
  refine lv_aload_n hx hb dX12_init_2_20 rfl (lv_at hl 0 rfl) ?_
  obtain ⟨⟨q_6a, q_6s⟩, eq_6, hf⟩ := ob hf
  refine g_new X I noX12_15 eq_6 dX12_init_2_21 (fun H locs cells slots I => ?_)
  refine lv_dup hx hb dX12_init_2_24 rfl ?_
  obtain ⟨σ_8, ev_7, hf⟩ := ob hf
  refine cm_I (σ' := σ_8) (rs := [.ref q_6a, .ref x0]) (rest := [.ref q_6a, .ref x0]) (As := []) X I (mJ2_init hX ev_7) lvX12_17 hdX12_17 ⟨Nat.le_trans (Nat.le_of_ble_eq_true rfl) hR.1, Nat.le_trans (Nat.le_of_ble_eq_true rfl) hR.2⟩ rfl hl.1 rfl (Nat.le_of_ble_eq_true rfl) rfl dX12_init_2_25 (fun H locs cells slots I => ?_)
  obtain ⟨σ_9, eσ_9, hf⟩ := ob hf
  refine g_putI X I pfX12_22 rfl rfl eσ_9 dX12_init_2_28 (fun H locs I => ?_)
  refine lv_aload_n hx hb dX12_init_2_31 rfl (lv_at hl 0 rfl) ?_
  refine lv_iload_n hx hb dX12_init_2_32 rfl (lv_at hl 1 rfl) ?_
  obtain ⟨σ_10, eσ_10, hf⟩ := ob hf
  refine g_putI X I pfX12_25 rfl rfl eσ_10 dX12_init_2_33 (fun H locs I => ?_)
  refine lv_aload_n hx hb dX12_init_2_36 rfl (lv_at hl 0 rfl) ?_
  refine lv_iload_n hx hb dX12_init_2_37 rfl (lv_at hl 2 rfl) ?_
  obtain ⟨σ_11, eσ_11, hf⟩ := ob hf
  refine g_put X I pfX12_28 rfl rfl eσ_11 dX12_init_2_38 (fun H locs I => ?_)
  refine lv_aload_n hx hb dX12_init_2_41 rfl (lv_at hl 0 rfl) ?_
  refine lv_iload_n hx hb dX12_init_2_42 rfl (lv_at hl 3 rfl) ?_
  obtain ⟨σ_12, eσ_12, hf⟩ := ob hf
  refine g_putI X I pfX12_31 rfl rfl eσ_12 dX12_init_2_43 (fun H locs I => ?_)
  refine lv_aload_n hx hb dX12_init_2_46 rfl (lv_at hl 0 rfl) ?_
  refine lv_iload hx hb dX12_init_2_47 (lv_at hl 4 rfl) ?_
  obtain ⟨σ_13, eσ_13, hf⟩ := ob hf
  refine g_put X I pfX12_34 rfl rfl eσ_13 dX12_init_2_49 (fun H locs I => ?_)
  refine lv_aload_n hx hb dX12_init_2_52 rfl (lv_at hl 0 rfl) ?_
  refine lv_iload_n hx hb dX12_init_2_53 rfl (lv_at hl 3 rfl) ?_
  obtain ⟨σ_14, eσ_14, hf⟩ := ob hf
  refine g_put X I pfX12_37 rfl rfl eσ_14 dX12_init_2_54 (fun H locs I => ?_)
  cases os hf
  exact r_vret X I dX12_init_2_57
theorem mX12_init_2 {E : EV} {l : Launch} {σ : St} {x0 : Nat} {x1 : Int32} {x2 : Int32} {x3 : Int32} {x4 : Int32} {res : St} (hX : XK E) (hf : fX12_init_2 E.2.2.2.1 σ x0 x1 x2 x3 x4 = some res) : CM E l yX12_init_2 (ws_ yX12_init_2 cX12_init_2 5 none) 4 80 [.ref x0, .int x1, .int x2, .int x3, .int x4] σ none res := by
  refine CM.of hX.1 (by decide) rfl rfl (Nat.le_of_ble_eq_true rfl) ?_
  intro p e s m below meth c X I ls hl
  exact wX12_init_2_0 hX ⟨Nat.le_refl _, Nat.le_refl _⟩ X _ _ _ _ _ _ _ _ _ _ _ I hl hf
/-! java/util/Arrays.copyOf([Ljava/lang/Object;ILjava/lang/Class;)[Ljava/lang/Object; imp=True fuel=False kap=True rt=N thr=False -/
def fJ14_copyOf_3_24 (κ : Nat → Nat) (x0 : Nat) (x1 : Int32) (y0 : Nat) (σ : St) : Option (Nat × St) := (aL σ x0).bind fun v_1 : Int32 => (cpR σ x0 3 (0 : Int32) y0 (0 : Int32) (if x1 < v_1 then x1 else v_1)).bind fun σ_2 : St => some ((y0), σ_2)
def fJ14_copyOf_3 (κ : Nat → Nat) (σ : St) (x0 : Nat) (x1 : Int32) (x2 : Nat) : Option (Nat × St) := if (some x2) = (some (κ 10)) then (an x1).bind fun k_3 : Nat => (nH σ k_3 (.inl (3, k_3, .inr (.inr (.inr (.inr fun _ => none)))))).bind fun (q_4a, q_4s) => fJ14_copyOf_3_24 κ x0 x1 q_4a q_4s else none
theorem wJ14_copyOf_3_24 {E : EV} {l : Launch} {p : Program} {e : Env} {s : State} {m : MethodId} {args : Array Value} {below : List Frame} {meth : Method} {c : Code} {R : Room} {res : (Nat × St)} (hX : XK E) (hR : 1 ≤ R.frames ∧ 40 ≤ R.locals) (X : MX E p s m args meth c cJ14_copyOf_3 4 (some (.array (.object "java/lang/Object"))) RJ14 "copyOf") : ∀ (x0 : Nat) (x1 : Int32) (y0 : Nat) (σ : St) (H : Heap) (locs : List Loc) (cells slots : Nat) (ls : Array Slot), WI E R s σ H locs cells slots → lv_has ls 4 [(0, .ref x0), (1, .int x1)] → fJ14_copyOf_3_24 E.2.2.2.1 x0 x1 y0 σ = some res → W p l e R s m args below meth c H locs cells slots (MQ below (Qd E R.cells R.slots (some (.ref res.1)) res.2) args s R.cells R.slots (fr E)) (F0 m 24 ls [.ref y0]) := by
  intro x0 x1 y0 σ H locs cells slots ls I hl hf
  obtain ⟨⟨hx, hb, hml, hown, hts⟩, -⟩ := id X
  unfold fJ14_copyOf_3_24 at hf
  refine lv_astore_n (lv' := [(3, .ref y0), (0, .ref x0), (1, .int x1)]) hx hb dJ14_copyOf_3_24 rfl hl (by decide) rfl (fun ls hl => ?_)
  refine lv_aload_n hx hb dJ14_copyOf_3_25 rfl (lv_at hl 1 rfl) ?_
  refine lv_iconst (v := 0) hx hb dJ14_copyOf_3_26 (by decide) ?_
  refine lv_aload_n hx hb dJ14_copyOf_3_27 rfl (lv_at hl 0 rfl) ?_
  refine lv_iconst (v := 0) hx hb dJ14_copyOf_3_28 (by decide) ?_
  refine lv_aload_n hx hb dJ14_copyOf_3_29 rfl (lv_at hl 1 rfl) ?_
  obtain ⟨v_1, ev_1, hf⟩ := ob hf
  refine g_alen X I ev_1 dJ14_copyOf_3_30 ?_
  refine lv_iload_n hx hb dJ14_copyOf_3_31 rfl (lv_at hl 2 rfl) ?_
  refine g_mmin X I ⟨Nat.le_trans (Nat.le_of_ble_eq_true rfl) hR.1, Nat.le_trans (Nat.le_of_ble_eq_true rfl) hR.2⟩ q579 hl.1 (Nat.le_of_ble_eq_true rfl) dJ14_copyOf_3_32 ?_
  obtain ⟨σ_2, eσ_2, hf⟩ := ob hf
  refine g_copyR hX X I (by decide) q582 eσ_2 hl.1 ⟨Nat.le_trans (Nat.le_of_ble_eq_true rfl) hR.1, Nat.le_trans (Nat.le_of_ble_eq_true rfl) hR.2⟩ (Nat.le_of_ble_eq_true rfl) dJ14_copyOf_3_35 (fun H locs I => ?_)
  refine lv_aload_n hx hb dJ14_copyOf_3_38 rfl (lv_at hl 0 rfl) ?_
  cases os hf
  exact r_aret X I (Or.inr ⟨_, rfl⟩) (Or.inr ⟨_, rfl⟩) dJ14_copyOf_3_39
theorem wJ14_copyOf_3_0 {E : EV} {l : Launch} {p : Program} {e : Env} {s : State} {m : MethodId} {args : Array Value} {below : List Frame} {meth : Method} {c : Code} {R : Room} {res : (Nat × St)} (hX : XK E) (hR : 1 ≤ R.frames ∧ 40 ≤ R.locals) (X : MX E p s m args meth c cJ14_copyOf_3 4 (some (.array (.object "java/lang/Object"))) RJ14 "copyOf") : ∀ (x0 : Nat) (x1 : Int32) (x2 : Nat) (σ : St) (H : Heap) (locs : List Loc) (cells slots : Nat) (ls : Array Slot), WI E R s σ H locs cells slots → lv_has ls 4 [(0, .ref x0), (1, .int x1), (2, .ref x2)] → fJ14_copyOf_3 E.2.2.2.1 σ x0 x1 x2 = some res → W p l e R s m args below meth c H locs cells slots (MQ below (Qd E R.cells R.slots (some (.ref res.1)) res.2) args s R.cells R.slots (fr E)) (F0 m 0 ls []) := by
  intro x0 x1 x2 σ H locs cells slots ls I hl hf
  obtain ⟨⟨hx, hb, hml, hown, hts⟩, -⟩ := id X
  unfold fJ14_copyOf_3 at hf
  refine lv_aload_n hx hb dJ14_copyOf_3_0 rfl (lv_at hl 2 rfl) ?_
  refine g_ldcM (k := 10) hX X q1013 (List.mem_of_getElem? (i := 0) rfl) dJ14_copyOf_3_1 ?_
  refine lv_acmp_ne (rx := (some x2)) (ry := (some (E.2.2.2.1 10))) (tgt := 13) hx hb dJ14_copyOf_3_3 (by decide) (fun c_3 => ?_) (fun c_3 => ?_)
  · have hf := im c_3 hf
    refine lv_aload_n hx hb dJ14_copyOf_3_13 rfl (lv_at hl 2 rfl) ?_
    exact nomatch hf
  · have hf := ip c_3 hf
    refine lv_iload_n hx hb dJ14_copyOf_3_6 rfl (lv_at hl 1 rfl) ?_
    obtain ⟨k_3, ek_3, hf⟩ := ob hf
    obtain ⟨⟨q_4a, q_4s⟩, eq_4, hf⟩ := ob hf
    refine g_anew (t := 3) hX X I (by decide) q1014 ek_3 eq_4 dJ14_copyOf_3_7 (fun H locs cells slots I => ?_)
    refine lv_goto (tgt := 24) hx hb dJ14_copyOf_3_10 (by decide) ?_
    exact wJ14_copyOf_3_24 hX hR X x0 x1 q_4a q_4s _ _ _ _ _ I (lv_sub hl [0, 1] rfl) hf
theorem mJ14_copyOf_3 {E : EV} {l : Launch} {σ : St} {x0 : Nat} {x1 : Int32} {x2 : Nat} {res : (Nat × St)} (hX : XK E) (hf : fJ14_copyOf_3 E.2.2.2.1 σ x0 x1 x2 = some res) : CM E l yJ14_copyOf_3 (ws_ yJ14_copyOf_3 cJ14_copyOf_3 4 (some (.array (.object "java/lang/Object")))) 1 40 [.ref x0, .int x1, .ref x2] σ (some (.ref res.1)) res.2 := by
  refine CM.of hX.1 (by decide) rfl rfl (Nat.le_of_ble_eq_true rfl) ?_
  intro p e s m below meth c X I ls hl
  exact wJ14_copyOf_3_0 hX ⟨Nat.le_refl _, Nat.le_refl _⟩ X _ _ _ _ _ _ _ _ _ I hl hf
/-! java/util/Arrays.copyOf([Ljava/lang/Object;I)[Ljava/lang/Object; imp=True fuel=False kap=True rt=N thr=False -/
theorem lvJ14_300 : GoodIn lw_all (va_wsS RJ14 300 yJ14_copyOf_3 (ws_ yJ14_copyOf_3 cJ14_copyOf_3 4 (some (.array (.object "java/lang/Object"))))) := lw_S q1063 q1064 q133 q1065
theorem hdJ14_300 : yJ14_copyOf_3.cls ≠ "java/lang/invoke/MethodHandle" ∧ yJ14_copyOf_3.cls ≠ "java/lang/invoke/VarHandle" ∧ (parseMethodDescriptor yJ14_copyOf_3.desc).map (fun d => d.parameters.length) = some 3 := by decide +kernel
def fJ14_copyOf_2 (κ : Nat → Nat) (σ : St) (x0 : Nat) (x1 : Int32) : Option (Nat × St) := (isA σ x0 3).bind fun u_1 : Unit => (fJ14_copyOf_3 κ σ x0 x1 (κ 10)).bind fun (v_2, σ_3) => some ((v_2), σ_3)
theorem wJ14_copyOf_2_0 {E : EV} {l : Launch} {p : Program} {e : Env} {s : State} {m : MethodId} {args : Array Value} {below : List Frame} {meth : Method} {c : Code} {R : Room} {res : (Nat × St)} (hX : XK E) (hR : 2 ≤ R.frames ∧ 63 ≤ R.locals) (X : MX E p s m args meth c cJ14_copyOf_2 2 (some (.array (.object "java/lang/Object"))) RJ14 "copyOf") : ∀ (x0 : Nat) (x1 : Int32) (σ : St) (H : Heap) (locs : List Loc) (cells slots : Nat) (ls : Array Slot), WI E R s σ H locs cells slots → lv_has ls 2 [(0, .ref x0), (1, .int x1)] → fJ14_copyOf_2 E.2.2.2.1 σ x0 x1 = some res → W p l e R s m args below meth c H locs cells slots (MQ below (Qd E R.cells R.slots (some (.ref res.1)) res.2) args s R.cells R.slots (fr E)) (F0 m 0 ls []) := by
  intro x0 x1 σ H locs cells slots ls I hl hf
  obtain ⟨⟨hx, hb, hml, hown, hts⟩, -⟩ := id X
  unfold fJ14_copyOf_2 at hf
  refine lv_aload_n hx hb dJ14_copyOf_2_0 rfl (lv_at hl 0 rfl) ?_
  refine lv_iload_n hx hb dJ14_copyOf_2_1 rfl (lv_at hl 1 rfl) ?_
  refine lv_aload_n hx hb dJ14_copyOf_2_2 rfl (lv_at hl 0 rfl) ?_
  obtain ⟨u_1, eu_1, hf⟩ := ob hf
  refine g_getCA hX X I q1025 eu_1 hl.1 ⟨Nat.le_trans (Nat.le_of_ble_eq_true rfl) hR.1, Nat.le_trans (Nat.le_of_ble_eq_true rfl) hR.2⟩ (Nat.le_of_ble_eq_true rfl) dJ14_copyOf_2_3 ?_
  obtain ⟨⟨v_2, σ_3⟩, ev_2, hf⟩ := ob hf
  refine cg_S (r := (some (.ref v_2))) (σ' := σ_3) (rs := [.ref v_2]) (rest := []) (As := [.ref x0, .int x1, .ref (E.2.2.2.1 10)]) X I (mJ14_copyOf_3 hX ev_2) lvJ14_300 hdJ14_300 ⟨Nat.le_trans (Nat.le_of_ble_eq_true rfl) hR.1, Nat.le_trans (Nat.le_of_ble_eq_true rfl) hR.2⟩ rfl hl.1 rfl (Nat.le_of_ble_eq_true rfl) rfl dJ14_copyOf_2_6 (fun H locs cells slots I => ?_)
  cases os hf
  exact r_aret X I (Or.inr ⟨_, rfl⟩) (Or.inr ⟨_, rfl⟩) dJ14_copyOf_2_9
theorem mJ14_copyOf_2 {E : EV} {l : Launch} {σ : St} {x0 : Nat} {x1 : Int32} {res : (Nat × St)} (hX : XK E) (hf : fJ14_copyOf_2 E.2.2.2.1 σ x0 x1 = some res) : CM E l yJ14_copyOf_2 (ws_ yJ14_copyOf_2 cJ14_copyOf_2 2 (some (.array (.object "java/lang/Object")))) 2 63 [.ref x0, .int x1] σ (some (.ref res.1)) res.2 := by
  refine CM.of hX.1 (by decide) rfl rfl (Nat.le_of_ble_eq_true rfl) ?_
  intro p e s m below meth c X I ls hl
  exact wJ14_copyOf_2_0 hX ⟨Nat.le_refl _, Nat.le_refl _⟩ X _ _ _ _ _ _ _ _ I hl hf
/-! java/util/ArrayList.grow(I)[Ljava/lang/Object; imp=True fuel=False kap=True rt=N thr=False -/
theorem lvJ2_73 : GoodIn lw_all (va_wsS RJ2 73 yJ12_newLength (ws_ yJ12_newLength cJ12_newLength 4 (some .int))) := lw_S q1070 q559 q131 q560
theorem hdJ2_73 : yJ12_newLength.cls ≠ "java/lang/invoke/MethodHandle" ∧ yJ12_newLength.cls ≠ "java/lang/invoke/VarHandle" ∧ (parseMethodDescriptor yJ12_newLength.desc).map (fun d => d.parameters.length) = some 3 := by decide +kernel
theorem gfJ2_9 : ∀ q ∈ ([(21, 1)] : List (Nat × Nat)), GF RJ2 9 q := List.forall_mem_cons.mpr ⟨⟨RJ2, TJ2, 3, _, rfl, in_J2, by decide, q217, Or.inl rfl⟩, fun _ h => by cases h⟩
theorem lvJ2_66 : GoodIn lw_all (va_wsS RJ2 66 yJ14_copyOf_2 (ws_ yJ14_copyOf_2 cJ14_copyOf_2 2 (some (.array (.object "java/lang/Object"))))) := lw_S q1022 q1023 q133 q1024
theorem hdJ2_66 : yJ14_copyOf_2.cls ≠ "java/lang/invoke/MethodHandle" ∧ yJ14_copyOf_2.cls ≠ "java/lang/invoke/VarHandle" ∧ (parseMethodDescriptor yJ14_copyOf_2.desc).map (fun d => d.parameters.length) = some 2 := by decide +kernel
def fJ2_grow_20 (κ : Nat → Nat) (x0 : Nat) (x1 : Int32) (x2 : Int32) (σ : St) : Option (Nat × St) := (fJ12_newLength σ x2 (x1 - x2) (x2 >>> ((1 : Int32) &&& 31))).bind fun v_1 : Int32 => (gR σ x0 [(21, 1)]).bind fun v_3 : Option Nat => (v_3).bind fun a_4 : Nat => (fJ14_copyOf_2 κ σ a_4 v_1).bind fun (v_5, σ_6) => (pV σ_6 x0 [(21, 1)] (.ref v_5)).bind fun σ_7 : St => some ((v_5), σ_7)
def fJ2_grow (κ : Nat → Nat) (σ : St) (x0 : Nat) (x1 : Int32) : Option (Nat × St) := (gR σ x0 [(21, 1)]).bind fun v_8 : Option Nat => (v_8).bind fun a_9 : Nat => (aL σ a_9).bind fun v_10 : Int32 => if 0 < v_10 then fJ2_grow_20 κ x0 x1 v_10 σ else (gR σ x0 [(21, 1)]).bind fun v_11 : Option Nat => if v_11 = (some (κ 0)) then (an (if (10 : Int32) < x1 then x1 else (10 : Int32))).bind fun k_12 : Nat => (nH σ k_12 (.inl (3, k_12, .inr (.inr (.inr (.inr fun _ => none)))))).bind fun (q_13a, q_13s) => (pV q_13s x0 [(21, 1)] (.ref q_13a)).bind fun σ_14 : St => some ((q_13a), σ_14) else fJ2_grow_20 κ x0 x1 v_10 σ
theorem wJ2_grow_20 {E : EV} {l : Launch} {p : Program} {e : Env} {s : State} {m : MethodId} {args : Array Value} {below : List Frame} {meth : Method} {c : Code} {R : Room} {res : (Nat × St)} (hX : XK E) (hR : 3 ≤ R.frames ∧ 84 ≤ R.locals) (X : MX E p s m args meth c cJ2_grow 4 (some (.array (.object "java/lang/Object"))) RJ2 "grow") : ∀ (x0 : Nat) (x1 : Int32) (x2 : Int32) (σ : St) (H : Heap) (locs : List Loc) (cells slots : Nat) (ls : Array Slot), WI E R s σ H locs cells slots → lv_has ls 4 [(0, .ref x0), (1, .int x1), (2, .int x2)] → fJ2_grow_20 E.2.2.2.1 x0 x1 x2 σ = some res → W p l e R s m args below meth c H locs cells slots (MQ below (Qd E R.cells R.slots (some (.ref res.1)) res.2) args s R.cells R.slots (fr E)) (F0 m 20 ls []) := by
  intro x0 x1 x2 σ H locs cells slots ls I hl hf
  obtain ⟨⟨hx, hb, hml, hown, hts⟩, -⟩ := id X
  unfold fJ2_grow_20 at hf
  refine lv_iload_n hx hb dJ2_grow_20 rfl (lv_at hl 2 rfl) ?_
  refine lv_iload_n hx hb dJ2_grow_21 rfl (lv_at hl 1 rfl) ?_
  refine lv_iload_n hx hb dJ2_grow_22 rfl (lv_at hl 2 rfl) ?_
  refine lv_isub hx hb dJ2_grow_23 ?_
  refine lv_iload_n hx hb dJ2_grow_24 rfl (lv_at hl 2 rfl) ?_
  refine lv_iconst (v := 1) hx hb dJ2_grow_25 (by decide) ?_
  refine lv_ishr hx hb dJ2_grow_26 ?_
  obtain ⟨v_1, ev_1, hf⟩ := ob hf
  refine cg_S (r := (some (.int v_1))) (σ' := σ) (rs := [.int v_1]) (rest := []) (As := [.int x2, .int (x1 - x2), .int (x2 >>> ((1 : Int32) &&& 31))]) X I (mJ12_newLength hX ev_1) lvJ2_73 hdJ2_73 ⟨Nat.le_trans (Nat.le_of_ble_eq_true rfl) hR.1, Nat.le_trans (Nat.le_of_ble_eq_true rfl) hR.2⟩ rfl hl.1 rfl (Nat.le_of_ble_eq_true rfl) rfl dJ2_grow_27 (fun H locs cells slots I => ?_)
  refine lv_istore_n (lv' := [(3, .int v_1), (0, .ref x0), (1, .int x1), (2, .int x2)]) hx hb dJ2_grow_30 rfl hl (by decide) rfl (fun ls hl => ?_)
  refine lv_aload_n hx hb dJ2_grow_31 rfl (lv_at hl 1 rfl) ?_
  refine lv_aload_n hx hb dJ2_grow_32 rfl (lv_at hl 1 rfl) ?_
  obtain ⟨v_3, ev_3, hf⟩ := ob hf
  refine g_get X I gfJ2_9 (gR_in ev_3) dJ2_grow_33 ?_
  refine lv_iload_n hx hb dJ2_grow_36 rfl (lv_at hl 0 rfl) ?_
  obtain ⟨a_4, ea_4, hga_4⟩ := ob hf
  have hla_4 := hl
  have Ia_4 := I
  subst ea_4
  have hf := hga_4
  have hl := hla_4
  have I := Ia_4
  obtain ⟨⟨v_5, σ_6⟩, ev_5, hf⟩ := ob hf
  refine cg_S (r := (some (.ref v_5))) (σ' := σ_6) (rs := [.ref v_5, .ref x0]) (rest := [.ref x0]) (As := [.ref a_4, .int v_1]) X I (mJ14_copyOf_2 hX ev_5) lvJ2_66 hdJ2_66 ⟨Nat.le_trans (Nat.le_of_ble_eq_true rfl) hR.1, Nat.le_trans (Nat.le_of_ble_eq_true rfl) hR.2⟩ rfl hl.1 rfl (Nat.le_of_ble_eq_true rfl) rfl dJ2_grow_37 (fun H locs cells slots I => ?_)
  refine lv_dup_x1 hx hb dJ2_grow_40 rfl rfl ?_
  obtain ⟨σ_7, eσ_7, hf⟩ := ob hf
  refine g_put X I pfJ2_9 rfl rfl eσ_7 dJ2_grow_41 (fun H locs I => ?_)
  cases os hf
  exact r_aret X I (Or.inr ⟨_, rfl⟩) (Or.inr ⟨_, rfl⟩) dJ2_grow_44
theorem wJ2_grow_0 {E : EV} {l : Launch} {p : Program} {e : Env} {s : State} {m : MethodId} {args : Array Value} {below : List Frame} {meth : Method} {c : Code} {R : Room} {res : (Nat × St)} (hX : XK E) (hR : 3 ≤ R.frames ∧ 84 ≤ R.locals) (X : MX E p s m args meth c cJ2_grow 4 (some (.array (.object "java/lang/Object"))) RJ2 "grow") : ∀ (x0 : Nat) (x1 : Int32) (σ : St) (H : Heap) (locs : List Loc) (cells slots : Nat) (ls : Array Slot), WI E R s σ H locs cells slots → lv_has ls 4 [(0, .ref x0), (1, .int x1)] → fJ2_grow E.2.2.2.1 σ x0 x1 = some res → W p l e R s m args below meth c H locs cells slots (MQ below (Qd E R.cells R.slots (some (.ref res.1)) res.2) args s R.cells R.slots (fr E)) (F0 m 0 ls []) := by
  intro x0 x1 σ H locs cells slots ls I hl hf
  obtain ⟨⟨hx, hb, hml, hown, hts⟩, -⟩ := id X
  unfold fJ2_grow at hf
  refine lv_aload_n hx hb dJ2_grow_0 rfl (lv_at hl 0 rfl) ?_
  obtain ⟨v_8, ev_8, hf⟩ := ob hf
  refine g_get X I gfJ2_9 (gR_in ev_8) dJ2_grow_1 ?_
  obtain ⟨a_9, ea_9, hga_9⟩ := ob hf
  have hla_9 := hl
  have Ia_9 := I
  subst ea_9
  have hf := hga_9
  have hl := hla_9
  have I := Ia_9
  obtain ⟨v_10, ev_10, hf⟩ := ob hf
  refine g_alen X I ev_10 dJ2_grow_4 ?_
  refine lv_istore_n (lv' := [(2, .int v_10), (0, .ref x0), (1, .int x1)]) hx hb dJ2_grow_5 rfl hl (by decide) rfl (fun ls hl => ?_)
  refine lv_iload_n hx hb dJ2_grow_6 rfl (lv_at hl 0 rfl) ?_
  refine lv_if_gt (tgt := 20) hx hb dJ2_grow_7 (by decide) (fun c_7 => ?_) (fun c_7 => ?_)
  · have hf := ip c_7 hf
    exact wJ2_grow_20 hX hR X x0 x1 v_10 σ _ _ _ _ _ I (lv_sub hl [1, 2, 0] rfl) hf
  · have hf := im c_7 hf
    refine lv_aload_n hx hb dJ2_grow_10 rfl (lv_at hl 1 rfl) ?_
    obtain ⟨v_11, ev_11, hf⟩ := ob hf
    refine g_get X I gfJ2_9 (gR_in ev_11) dJ2_grow_11 ?_
    refine g_gets (ref := "java/util/ArrayList") (w := .ref (E.2.2.2.1 0)) hX X I (List.mem_of_getElem? (i := 1) rfl) rfl q215 dJ2_grow_14 ?_
    refine lv_acmp_eq (rx := v_11) (ry := (some (E.2.2.2.1 0))) (tgt := 45) hx hb dJ2_grow_17 (by decide) (fun c_17 => ?_) (fun c_17 => ?_)
    · have hf := ip c_17 hf
      refine lv_aload_n hx hb dJ2_grow_45 rfl (lv_at hl 1 rfl) ?_
      refine lv_bipush (v := 10) hx hb dJ2_grow_46 (by decide) ?_
      refine lv_iload_n hx hb dJ2_grow_48 rfl (lv_at hl 2 rfl) ?_
      refine g_mmax X I ⟨Nat.le_trans (Nat.le_of_ble_eq_true rfl) hR.1, Nat.le_trans (Nat.le_of_ble_eq_true rfl) hR.2⟩ q1071 hl.1 (Nat.le_of_ble_eq_true rfl) dJ2_grow_49 ?_
      obtain ⟨k_12, ek_12, hf⟩ := ob hf
      obtain ⟨⟨q_13a, q_13s⟩, eq_13, hf⟩ := ob hf
      refine g_anew (t := 3) hX X I (by decide) q1072 ek_12 eq_13 dJ2_grow_52 (fun H locs cells slots I => ?_)
      refine lv_dup_x1 hx hb dJ2_grow_55 rfl rfl ?_
      obtain ⟨σ_14, eσ_14, hf⟩ := ob hf
      refine g_put X I pfJ2_9 rfl rfl eσ_14 dJ2_grow_56 (fun H locs I => ?_)
      cases os hf
      exact r_aret X I (Or.inr ⟨_, rfl⟩) (Or.inr ⟨_, rfl⟩) dJ2_grow_59
    · have hf := im c_17 hf
      exact wJ2_grow_20 hX hR X x0 x1 v_10 σ _ _ _ _ _ I (lv_sub hl [1, 2, 0] rfl) hf
theorem mJ2_grow {E : EV} {l : Launch} {σ : St} {x0 : Nat} {x1 : Int32} {res : (Nat × St)} (hX : XK E) (hf : fJ2_grow E.2.2.2.1 σ x0 x1 = some res) : CM E l yJ2_grow (ws_ yJ2_grow cJ2_grow 4 (some (.array (.object "java/lang/Object")))) 3 84 [.ref x0, .int x1] σ (some (.ref res.1)) res.2 := by
  refine CM.of hX.1 (by decide) rfl rfl (Nat.le_of_ble_eq_true rfl) ?_
  intro p e s m below meth c X I ls hl
  exact wJ2_grow_0 hX ⟨Nat.le_refl _, Nat.le_refl _⟩ X _ _ _ _ _ _ _ _ I hl hf
/-! java/util/ArrayList.grow()[Ljava/lang/Object; imp=True fuel=False kap=True rt=N thr=False -/
theorem lvJ2_69 : GoodIn lw_all (wsV RJ2 69 RJ2 yJ2_grow (ws_ yJ2_grow cJ2_grow 4 (some (.array (.object "java/lang/Object"))))) := lw_V q1066 q1068 qs3 q118 q1069
theorem hdJ2_69 : yJ2_grow.cls = RJ2 ∧ yJ2_grow.cls ≠ "java/lang/invoke/MethodHandle" ∧ yJ2_grow.cls ≠ "java/lang/invoke/VarHandle" ∧ (parseMethodDescriptor yJ2_grow.desc).map (fun d => d.parameters.length) = some 1 := by decide +kernel
def fJ2_grow_2 (κ : Nat → Nat) (σ : St) (x0 : Nat) : Option (Nat × St) := (gI σ x0 [(21, 2)]).bind fun v_1 : Int32 => (isC σ x0 21).bind fun u_2 : Unit => (fJ2_grow κ σ x0 (v_1 + (1 : Int32))).bind fun (v_3, σ_4) => some ((v_3), σ_4)
theorem wJ2_grow_2_0 {E : EV} {l : Launch} {p : Program} {e : Env} {s : State} {m : MethodId} {args : Array Value} {below : List Frame} {meth : Method} {c : Code} {R : Room} {res : (Nat × St)} (hX : XK E) (hR : 4 ≤ R.frames ∧ 107 ≤ R.locals) (X : MX E p s m args meth c cJ2_grow_2 1 (some (.array (.object "java/lang/Object"))) RJ2 "grow") : ∀ (x0 : Nat) (σ : St) (H : Heap) (locs : List Loc) (cells slots : Nat) (ls : Array Slot), WI E R s σ H locs cells slots → lv_has ls 1 [(0, .ref x0)] → fJ2_grow_2 E.2.2.2.1 σ x0 = some res → W p l e R s m args below meth c H locs cells slots (MQ below (Qd E R.cells R.slots (some (.ref res.1)) res.2) args s R.cells R.slots (fr E)) (F0 m 0 ls []) := by
  intro x0 σ H locs cells slots ls I hl hf
  obtain ⟨⟨hx, hb, hml, hown, hts⟩, -⟩ := id X
  unfold fJ2_grow_2 at hf
  refine lv_aload_n hx hb dJ2_grow_2_0 rfl (lv_at hl 0 rfl) ?_
  refine lv_aload_n hx hb dJ2_grow_2_1 rfl (lv_at hl 0 rfl) ?_
  obtain ⟨v_1, ev_1, hf⟩ := ob hf
  refine g_get X I gfJ2_48 (gI_in ev_1) dJ2_grow_2_2 ?_
  refine lv_iconst (v := 1) hx hb dJ2_grow_2_5 (by decide) ?_
  refine lv_iadd hx hb dJ2_grow_2_6 ?_
  obtain ⟨u_2, eu_2, hf⟩ := ob hf
  obtain ⟨⟨v_3, σ_4⟩, ev_3, hf⟩ := ob hf
  refine cg_V (vw := (RJ2, TJ2, 3)) (ci := 21) (r := (some (.ref v_3))) (σ' := σ_4) (rs := [.ref v_3]) (rest := []) (As := [.int (v_1 + (1 : Int32))]) X I eu_2 rfl (mJ2_grow hX ev_3) lvJ2_69 hdJ2_69 ⟨Nat.le_trans (Nat.le_of_ble_eq_true rfl) hR.1, Nat.le_trans (Nat.le_of_ble_eq_true rfl) hR.2⟩ rfl hl.1 rfl (Nat.le_of_ble_eq_true rfl) rfl dJ2_grow_2_7 (fun H locs cells slots I => ?_)
  cases os hf
  exact r_aret X I (Or.inr ⟨_, rfl⟩) (Or.inr ⟨_, rfl⟩) dJ2_grow_2_10
theorem mJ2_grow_2 {E : EV} {l : Launch} {σ : St} {x0 : Nat} {res : (Nat × St)} (hX : XK E) (hf : fJ2_grow_2 E.2.2.2.1 σ x0 = some res) : CM E l yJ2_grow_2 (ws_ yJ2_grow_2 cJ2_grow_2 1 (some (.array (.object "java/lang/Object")))) 4 107 [.ref x0] σ (some (.ref res.1)) res.2 := by
  refine CM.of hX.1 (by decide) rfl rfl (Nat.le_of_ble_eq_true rfl) ?_
  intro p e s m below meth c X I ls hl
  exact wJ2_grow_2_0 hX ⟨Nat.le_refl _, Nat.le_refl _⟩ X _ _ _ _ _ _ _ I hl hf
/-! java/util/ArrayList.add(Ljava/lang/Object;[Ljava/lang/Object;I)V imp=True fuel=False kap=True rt=None thr=False -/
theorem pfJ2_48 : ∀ q ∈ ([(21, 2)] : List (Nat × Nat)), PF RJ2 48 .int q := List.forall_mem_cons.mpr ⟨⟨RJ2, TJ2, 3, _, tyJ2, rfl, in_J2, by decide, q220, Or.inl rfl, tyJ2_ok, nmJ2, rfl, rfl⟩, fun _ h => by cases h⟩
theorem lvJ2_129 : GoodIn lw_all (wsV RJ2 129 RJ2 yJ2_grow_2 (ws_ yJ2_grow_2 cJ2_grow_2 1 (some (.array (.object "java/lang/Object"))))) := lw_V q1087 q1089 qs5 q118 q1090
theorem hdJ2_129 : yJ2_grow_2.cls = RJ2 ∧ yJ2_grow_2.cls ≠ "java/lang/invoke/MethodHandle" ∧ yJ2_grow_2.cls ≠ "java/lang/invoke/VarHandle" ∧ (parseMethodDescriptor yJ2_grow_2.desc).map (fun d => d.parameters.length) = some 0 := by decide +kernel
def fJ2_add_2_11 (κ : Nat → Nat) (x0 : Nat) (x1 : Nat) (x2 : Nat) (x3 : Int32) (σ : St) : Option St := (sR σ x2 3 x3 (some x1)).bind fun σ_1 : St => (pV σ_1 x0 [(21, 2)] (.int (x3 + (1 : Int32)))).bind fun σ_2 : St => some σ_2
def fJ2_add_2 (κ : Nat → Nat) (σ : St) (x0 : Nat) (x1 : Nat) (x2 : Nat) (x3 : Int32) : Option St := (aL σ x2).bind fun v_3 : Int32 => if x3 = v_3 then (isC σ x0 21).bind fun u_4 : Unit => (fJ2_grow_2 κ σ x0).bind fun (v_5, σ_6) => fJ2_add_2_11 κ x0 x1 v_5 x3 σ_6 else fJ2_add_2_11 κ x0 x1 x2 x3 σ
theorem wJ2_add_2_11 {E : EV} {l : Launch} {p : Program} {e : Env} {s : State} {m : MethodId} {args : Array Value} {below : List Frame} {meth : Method} {c : Code} {R : Room} {res : St} (hX : XK E) (hR : 5 ≤ R.frames ∧ 127 ≤ R.locals) (X : MX E p s m args meth c cJ2_add_2 4 none RJ2 "add") : ∀ (x0 : Nat) (x1 : Nat) (x2 : Nat) (x3 : Int32) (σ : St) (H : Heap) (locs : List Loc) (cells slots : Nat) (ls : Array Slot), WI E R s σ H locs cells slots → lv_has ls 4 [(0, .ref x0), (1, .ref x1), (2, .ref x2), (3, .int x3)] → fJ2_add_2_11 E.2.2.2.1 x0 x1 x2 x3 σ = some res → W p l e R s m args below meth c H locs cells slots (MQ below (Qd E R.cells R.slots none res) args s R.cells R.slots (fr E)) (F0 m 11 ls []) := by
  intro x0 x1 x2 x3 σ H locs cells slots ls I hl hf
  obtain ⟨⟨hx, hb, hml, hown, hts⟩, -⟩ := id X
  unfold fJ2_add_2_11 at hf
  refine lv_aload_n hx hb dJ2_add_2_11 rfl (lv_at hl 2 rfl) ?_
  refine lv_iload_n hx hb dJ2_add_2_12 rfl (lv_at hl 3 rfl) ?_
  refine lv_aload_n hx hb dJ2_add_2_13 rfl (lv_at hl 1 rfl) ?_
  obtain ⟨σ_1, eσ_1, hf⟩ := ob hf
  refine g_aast (v := (some x1)) hX X I (by decide) eσ_1 dJ2_add_2_14 (fun H locs I => ?_)
  refine lv_aload_n hx hb dJ2_add_2_15 rfl (lv_at hl 0 rfl) ?_
  refine lv_iload_n hx hb dJ2_add_2_16 rfl (lv_at hl 3 rfl) ?_
  refine lv_iconst (v := 1) hx hb dJ2_add_2_17 (by decide) ?_
  refine lv_iadd hx hb dJ2_add_2_18 ?_
  obtain ⟨σ_2, eσ_2, hf⟩ := ob hf
  refine g_put X I pfJ2_48 rfl rfl eσ_2 dJ2_add_2_19 (fun H locs I => ?_)
  cases os hf
  exact r_vret X I dJ2_add_2_22
theorem wJ2_add_2_0 {E : EV} {l : Launch} {p : Program} {e : Env} {s : State} {m : MethodId} {args : Array Value} {below : List Frame} {meth : Method} {c : Code} {R : Room} {res : St} (hX : XK E) (hR : 5 ≤ R.frames ∧ 127 ≤ R.locals) (X : MX E p s m args meth c cJ2_add_2 4 none RJ2 "add") : ∀ (x0 : Nat) (x1 : Nat) (x2 : Nat) (x3 : Int32) (σ : St) (H : Heap) (locs : List Loc) (cells slots : Nat) (ls : Array Slot), WI E R s σ H locs cells slots → lv_has ls 4 [(0, .ref x0), (1, .ref x1), (2, .ref x2), (3, .int x3)] → fJ2_add_2 E.2.2.2.1 σ x0 x1 x2 x3 = some res → W p l e R s m args below meth c H locs cells slots (MQ below (Qd E R.cells R.slots none res) args s R.cells R.slots (fr E)) (F0 m 0 ls []) := by
  intro x0 x1 x2 x3 σ H locs cells slots ls I hl hf
  obtain ⟨⟨hx, hb, hml, hown, hts⟩, -⟩ := id X
  unfold fJ2_add_2 at hf
  refine lv_iload_n hx hb dJ2_add_2_0 rfl (lv_at hl 3 rfl) ?_
  refine lv_aload_n hx hb dJ2_add_2_1 rfl (lv_at hl 2 rfl) ?_
  obtain ⟨v_3, ev_3, hf⟩ := ob hf
  refine g_alen X I ev_3 dJ2_add_2_2 ?_
  refine lv_icmp_ne (tgt := 11) hx hb dJ2_add_2_3 (by decide) (fun c_3 => ?_) (fun c_3 => ?_)
  · have hf := im c_3 hf
    exact wJ2_add_2_11 hX hR X x0 x1 x2 x3 σ _ _ _ _ _ I (lv_sub hl [0, 1, 2, 3] rfl) hf
  · have hf := ip c_3 hf
    refine lv_aload_n hx hb dJ2_add_2_6 rfl (lv_at hl 0 rfl) ?_
    obtain ⟨u_4, eu_4, hf⟩ := ob hf
    obtain ⟨⟨v_5, σ_6⟩, ev_5, hf⟩ := ob hf
    refine cg_V (vw := (RJ2, TJ2, 3)) (ci := 21) (r := (some (.ref v_5))) (σ' := σ_6) (rs := [.ref v_5]) (rest := []) (As := []) X I eu_4 rfl (mJ2_grow_2 hX ev_5) lvJ2_129 hdJ2_129 ⟨Nat.le_trans (Nat.le_of_ble_eq_true rfl) hR.1, Nat.le_trans (Nat.le_of_ble_eq_true rfl) hR.2⟩ rfl hl.1 rfl (Nat.le_of_ble_eq_true rfl) rfl dJ2_add_2_7 (fun H locs cells slots I => ?_)
    refine lv_astore_n (lv' := [(2, .ref v_5), (0, .ref x0), (1, .ref x1), (3, .int x3)]) hx hb dJ2_add_2_10 rfl hl (by decide) rfl (fun ls hl => ?_)
    exact wJ2_add_2_11 hX hR X x0 x1 v_5 x3 σ_6 _ _ _ _ _ I (lv_sub hl [1, 2, 0, 3] rfl) hf
theorem mJ2_add_2 {E : EV} {l : Launch} {σ : St} {x0 : Nat} {x1 : Nat} {x2 : Nat} {x3 : Int32} {res : St} (hX : XK E) (hf : fJ2_add_2 E.2.2.2.1 σ x0 x1 x2 x3 = some res) : CM E l yJ2_add_2 (ws_ yJ2_add_2 cJ2_add_2 4 none) 5 127 [.ref x0, .ref x1, .ref x2, .int x3] σ none res := by
  refine CM.of hX.1 (by decide) rfl rfl (Nat.le_of_ble_eq_true rfl) ?_
  intro p e s m below meth c X I ls hl
  exact wJ2_add_2_0 hX ⟨Nat.le_refl _, Nat.le_refl _⟩ X _ _ _ _ _ _ _ _ _ _ I hl hf
/-! java/util/ArrayList.add(Ljava/lang/Object;)Z imp=True fuel=False kap=True rt=I thr=False -/
theorem gfJ2_63 : ∀ q ∈ ([(21, 0)] : List (Nat × Nat)), GF RJ2 63 q := List.forall_mem_cons.mpr ⟨⟨RJ2, TJ2, 3, _, rfl, in_J2, by decide, q224, Or.inr q223⟩, fun _ h => by cases h⟩
theorem pfJ2_63 : ∀ q ∈ ([(21, 0)] : List (Nat × Nat)), PF RJ2 63 .int q := List.forall_mem_cons.mpr ⟨⟨RJ2, TJ2, 3, _, tyJ2, rfl, in_J2, by decide, q224, Or.inr q223, tyJ2_ok, nmJ2, rfl, rfl⟩, fun _ h => by cases h⟩
theorem lvJ2_131 : GoodIn lw_all (wsV RJ2 131 RJ2 yJ2_add_2 (ws_ yJ2_add_2 cJ2_add_2 4 none)) := lw_V q1083 q1085 qs4 q118 q1086
theorem hdJ2_131 : yJ2_add_2.cls = RJ2 ∧ yJ2_add_2.cls ≠ "java/lang/invoke/MethodHandle" ∧ yJ2_add_2.cls ≠ "java/lang/invoke/VarHandle" ∧ (parseMethodDescriptor yJ2_add_2.desc).map (fun d => d.parameters.length) = some 3 := by decide +kernel
def fJ2_add (κ : Nat → Nat) (σ : St) (x0 : Nat) (x1 : Nat) : Option (Int32 × St) := (gI σ x0 [(21, 0)]).bind fun v_1 : Int32 => (pV σ x0 [(21, 0)] (.int (v_1 + (1 : Int32)))).bind fun σ_2 : St => (gR σ_2 x0 [(21, 1)]).bind fun v_3 : Option Nat => (gI σ_2 x0 [(21, 2)]).bind fun v_4 : Int32 => (v_3).bind fun a_5 : Nat => (isC σ_2 x0 21).bind fun u_6 : Unit => (fJ2_add_2 κ σ_2 x0 x1 a_5 v_4).bind fun σ_8 : St => some ((1 : Int32), σ_8)
theorem wJ2_add_0 {E : EV} {l : Launch} {p : Program} {e : Env} {s : State} {m : MethodId} {args : Array Value} {below : List Frame} {meth : Method} {c : Code} {R : Room} {res : (Int32 × St)} (hX : XK E) (hR : 6 ≤ R.frames ∧ 150 ≤ R.locals) (X : MX E p s m args meth c cJ2_add 2 (some .boolean) RJ2 "add") : ∀ (x0 : Nat) (x1 : Nat) (σ : St) (H : Heap) (locs : List Loc) (cells slots : Nat) (ls : Array Slot), WI E R s σ H locs cells slots → lv_has ls 2 [(0, .ref x0), (1, .ref x1)] → fJ2_add E.2.2.2.1 σ x0 x1 = some res → W p l e R s m args below meth c H locs cells slots (MQ below (Qd E R.cells R.slots (some (.int res.1)) res.2) args s R.cells R.slots (fr E)) (F0 m 0 ls []) := by
  intro x0 x1 σ H locs cells slots ls I hl hf
  obtain ⟨⟨hx, hb, hml, hown, hts⟩, -⟩ := id X
  unfold fJ2_add at hf
  refine lv_aload_n hx hb dJ2_add_0 rfl (lv_at hl 0 rfl) ?_
  refine lv_dup hx hb dJ2_add_1 rfl ?_
  obtain ⟨v_1, ev_1, hf⟩ := ob hf
  refine g_get X I gfJ2_63 (gI_in ev_1) dJ2_add_2 ?_
  refine lv_iconst (v := 1) hx hb dJ2_add_5 (by decide) ?_
  refine lv_iadd hx hb dJ2_add_6 ?_
  obtain ⟨σ_2, eσ_2, hf⟩ := ob hf
  refine g_put X I pfJ2_63 rfl rfl eσ_2 dJ2_add_7 (fun H locs I => ?_)
  refine lv_aload_n hx hb dJ2_add_10 rfl (lv_at hl 0 rfl) ?_
  refine lv_aload_n hx hb dJ2_add_11 rfl (lv_at hl 1 rfl) ?_
  refine lv_aload_n hx hb dJ2_add_12 rfl (lv_at hl 0 rfl) ?_
  obtain ⟨v_3, ev_3, hf⟩ := ob hf
  refine g_get X I gfJ2_9 (gR_in ev_3) dJ2_add_13 ?_
  refine lv_aload_n hx hb dJ2_add_16 rfl (lv_at hl 0 rfl) ?_
  obtain ⟨v_4, ev_4, hf⟩ := ob hf
  refine g_get X I gfJ2_48 (gI_in ev_4) dJ2_add_17 ?_
  obtain ⟨a_5, ea_5, hga_5⟩ := ob hf
  have hla_5 := hl
  have Ia_5 := I
  subst ea_5
  have hf := hga_5
  have hl := hla_5
  have I := Ia_5
  obtain ⟨u_6, eu_6, hf⟩ := ob hf
  obtain ⟨σ_8, ev_7, hf⟩ := ob hf
  refine cg_V (vw := (RJ2, TJ2, 3)) (ci := 21) (r := none) (σ' := σ_8) (rs := []) (rest := []) (As := [.ref x1, .ref a_5, .int v_4]) X I eu_6 rfl (mJ2_add_2 hX ev_7) lvJ2_131 hdJ2_131 ⟨Nat.le_trans (Nat.le_of_ble_eq_true rfl) hR.1, Nat.le_trans (Nat.le_of_ble_eq_true rfl) hR.2⟩ rfl hl.1 rfl (Nat.le_of_ble_eq_true rfl) rfl dJ2_add_20 (fun H locs cells slots I => ?_)
  refine lv_iconst (v := 1) hx hb dJ2_add_23 (by decide) ?_
  cases os hf
  exact r_zret X I (Or.inr rfl) dJ2_add_24
theorem mJ2_add {E : EV} {l : Launch} {σ : St} {x0 : Nat} {x1 : Nat} {res : (Int32 × St)} (hX : XK E) (hf : fJ2_add E.2.2.2.1 σ x0 x1 = some res) : CM E l yJ2_add (ws_ yJ2_add cJ2_add 2 (some .boolean)) 6 150 [.ref x0, .ref x1] σ (some (.int res.1)) res.2 := by
  refine CM.of hX.1 (by decide) rfl rfl (Nat.le_of_ble_eq_true rfl) ?_
  intro p e s m below meth c X I ls hl
  exact wJ2_add_0 hX ⟨Nat.le_refl _, Nat.le_refl _⟩ X _ _ _ _ _ _ _ _ I hl hf
/-! SharedTaxis$Reader.taxi(LSharedTaxis$State;)V imp=True fuel=True kap=True rt=None thr=True -/
theorem lvX5_50 : GoodIn lw_all (wsV RX5 50 RX5 yX5_clash (ws_ yX5_clash cX5_clash 2 none)) := lw_V q1468 q1470 qs12 q125 q1471
theorem hdX5_50 : yX5_clash.cls = RX5 ∧ yX5_clash.cls ≠ "java/lang/invoke/MethodHandle" ∧ yX5_clash.cls ≠ "java/lang/invoke/VarHandle" ∧ (parseMethodDescriptor yX5_clash.desc).map (fun d => d.parameters.length) = some 1 := by decide +kernel
theorem lvX5_54 : GoodIn lw_all (wsV RX5 54 RX6 yX6_advance (ws_ yX6_advance cX6_advance 1 none)) := lw_V q1462 q1222 q1223 q126 q1224
theorem hdX5_54 : yX6_advance.cls = RX6 ∧ yX6_advance.cls ≠ "java/lang/invoke/MethodHandle" ∧ yX6_advance.cls ≠ "java/lang/invoke/VarHandle" ∧ (parseMethodDescriptor yX6_advance.desc).map (fun d => d.parameters.length) = some 0 := by decide +kernel
theorem gfX5_61 : ∀ q ∈ ([(1, 5)] : List (Nat × Nat)), GN RX5 61 q := List.forall_mem_cons.mpr ⟨⟨RX2, TX2, 7, _, rfl, in_X2, by decide, q254⟩, fun _ h => by cases h⟩
theorem noX5_75 : NO RX5 75 10 15 [.int 0, .int 0, .int 0, .int 0, .int 0, .int 0, .int 0, .null, .null, .int 0, .int 0, .int 0, .int 0, .int 0, .int 0] := ⟨RX12, TX12, tyX12, rfl, in_X12, tyX12_ok, by decide, q1488, q895, q145⟩
theorem lvX5_77 : GoodIn lw_all (ws_ yX12_init_2 cX12_init_2 5 none) ∧ Cond.initialized yX12_init_2.cls ∈ lw_all ∧ Cond.methodLink RX5 77 yX12_init_2 ∈ lw_all ∧ Cond.instanceMethod yX12_init_2 ∈ lw_all ∧ yX12_init_2.name = "<init>" := ⟨lw_meth q901, q145, q1489, q900, rfl⟩
theorem hdX5_77 : yX12_init_2.cls ≠ "java/lang/invoke/MethodHandle" ∧ yX12_init_2.cls ≠ "java/lang/invoke/VarHandle" ∧ (parseMethodDescriptor yX12_init_2.desc).map (fun d => d.parameters.length) = some 4 := by decide +kernel
theorem lvX5_80_J2 : GoodIn lw_all (va_wsF RX5 80 RJ2 ⟨"java/util/List", "add", "(Ljava/lang/Object;)Z"⟩ yJ2_add (ws_ yJ2_add cJ2_add 2 (some .boolean))) ∧ (RJ2, ⟨"java/util/List", "add", "(Ljava/lang/Object;)Z"⟩, yJ2_add) ∈ FWL := ⟨lw_good (List.forall_mem_cons.mpr ⟨q1491, List.forall_mem_cons.mpr ⟨q1078, List.forall_mem_cons.mpr ⟨q1080, List.forall_mem_cons.mpr ⟨q118, fun w h => (lw_meth q1082 w h).1⟩⟩⟩⟩), List.mem_of_getElem? (i := 7) rfl⟩
theorem hdX5_80_J2 : (⟨"java/util/List", "add", "(Ljava/lang/Object;)Z"⟩ : MethodName).cls ≠ "java/lang/invoke/MethodHandle" ∧ (⟨"java/util/List", "add", "(Ljava/lang/Object;)Z"⟩ : MethodName).cls ≠ "java/lang/invoke/VarHandle" ∧ (parseMethodDescriptor (⟨"java/util/List", "add", "(Ljava/lang/Object;)Z"⟩ : MethodName).desc).map (fun d => d.parameters.length) = some 1 := by decide +kernel
theorem lvX5_67_J2 : GoodIn lw_all (va_wsF RX5 67 RJ2 ⟨"java/util/List", "size", "()I"⟩ yJ2_size (ws_ yJ2_size cJ2_size 1 (some .int))) ∧ (RJ2, ⟨"java/util/List", "size", "()I"⟩, yJ2_size) ∈ FWL := ⟨lw_good (List.forall_mem_cons.mpr ⟨q1445, List.forall_mem_cons.mpr ⟨q381, List.forall_mem_cons.mpr ⟨q383, List.forall_mem_cons.mpr ⟨q118, fun w h => (lw_meth q385 w h).1⟩⟩⟩⟩), List.mem_of_getElem? (i := 16) rfl⟩
theorem hdX5_67_J2 : (⟨"java/util/List", "size", "()I"⟩ : MethodName).cls ≠ "java/lang/invoke/MethodHandle" ∧ (⟨"java/util/List", "size", "()I"⟩ : MethodName).cls ≠ "java/lang/invoke/VarHandle" ∧ (parseMethodDescriptor (⟨"java/util/List", "size", "()I"⟩ : MethodName).desc).map (fun d => d.parameters.length) = some 0 := by decide +kernel
theorem lvX5_39 : GoodIn lw_all (wsV RX5 39 RX5 yX5_zone (ws_ yX5_zone cX5_zone 1 (some .int))) := lw_V q1463 q1465 qs11 q125 q1466
theorem hdX5_39 : yX5_zone.cls = RX5 ∧ yX5_zone.cls ≠ "java/lang/invoke/MethodHandle" ∧ yX5_zone.cls ≠ "java/lang/invoke/VarHandle" ∧ (parseMethodDescriptor yX5_zone.desc).map (fun d => d.parameters.length) = some 0 := by decide +kernel
theorem lvX5_43 : GoodIn lw_all (wsV RX5 43 RX6 yX6_look (ws_ yX6_look cX6_look 3 (some .int))) := lw_V q1467 q1404 q1405 q126 q1406
theorem hdX5_43 : yX6_look.cls = RX6 ∧ yX6_look.cls ≠ "java/lang/invoke/MethodHandle" ∧ yX6_look.cls ≠ "java/lang/invoke/VarHandle" ∧ (parseMethodDescriptor yX6_look.desc).map (fun d => d.parameters.length) = some 2 := by decide +kernel
theorem noX5_72 : NO RX5 72 8 7 [.int 0, .null, .null, .null, .null, .null, .int 0] := ⟨RX10, TX10, tyX10, rfl, in_X10, tyX10_ok, by decide, q1446, q1447, q143⟩
theorem lvX5_74 : GoodIn lw_all (ws_ yX10_init cX10_init 2 none) ∧ Cond.initialized yX10_init.cls ∈ lw_all ∧ Cond.methodLink RX5 74 yX10_init ∈ lw_all ∧ Cond.instanceMethod yX10_init ∈ lw_all ∧ yX10_init.name = "<init>" := ⟨lw_meth q1457, q143, q1455, q1456, rfl⟩
theorem hdX5_74 : yX10_init.cls ≠ "java/lang/invoke/MethodHandle" ∧ yX10_init.cls ≠ "java/lang/invoke/VarHandle" ∧ (parseMethodDescriptor yX10_init.desc).map (fun d => d.parameters.length) = some 1 := by decide +kernel
def fX5_taxi_90 (N : Nat) (κ : Nat → Nat) (x0 : Nat) (x1 : Nat) (x2 : Int32) (x3 : Int32) (x4 : Int32) (x5 : Int32) (y0 : Nat) (y1 : Int32) (σ : St) : Option ((Unit ⊕ Nat) × St) := (isC σ y0 4).bind fun u_1 : Unit => (fX5_clash κ σ y0 y1).bind fun (v_2, σ_3) => se v_2 (fun v_4 => (gR σ_3 x0 [(4, 0)]).bind fun v_6 : Option Nat => (v_6).bind fun a_7 : Nat => (isC σ_3 a_7 5).bind fun u_8 : Unit => (fX6_advance N κ σ_3 a_7).bind fun σ_10 : St => (gR σ_10 x1 [(1, 5)]).bind fun v_11 : Option Nat => (nH σ_10 15 (.inr (10, [.int 0, .int 0, .int 0, .int 0, .int 0, .int 0, .int 0, .null, .null, .int 0, .int 0, .int 0, .int 0, .int 0, .int 0]))).bind fun (q_12a, q_12s) => (fX12_init_2 κ q_12s q_12a x2 x3 x4 x5).bind fun σ_14 : St => (v_11).bind fun a_15 : Nat => (isC σ_14 a_15 21).bind fun u_16 : Unit => (fJ2_add κ σ_14 a_15 q_12a).bind fun (v_17, σ_18) => some (.inl (), σ_18)) (fun q_5 => (isX σ_3 q_5).bind fun uq_5 : Unit => some (.inr q_5, σ_3))
def fX5_taxi (N : Nat) (κ : Nat → Nat) (σ : St) (x0 : Nat) (x1 : Nat) : Option ((Unit ⊕ Nat) × St) := (gR σ x1 [(1, 5)]).bind fun v_19 : Option Nat => (v_19).bind fun a_20 : Nat => (isC σ a_20 21).bind fun u_21 : Unit => (fJ2_size σ a_20).bind fun v_22 : Int32 => if v_22 = (4 : Int32) then (nH σ 7 (.inr (8, [.int 0, .null, .null, .null, .null, .null, .int 0]))).bind fun (q_55a, q_55s) => (gR q_55s x0 [(4, 0)]).bind fun v_56 : Option Nat => (v_56).bind fun a_57 : Nat => (gI q_55s a_57 [(5, 4)]).bind fun v_58 : Int32 => (fX10_init κ q_55s q_55a v_58).bind fun σ_60 : St => (isX σ_60 q_55a).bind fun u_61 : Unit => some (.inr q_55a, σ_60) else (gR σ x0 [(4, 0)]).bind fun v_24 : Option Nat => (v_24).bind fun a_25 : Nat => (isC σ a_25 5).bind fun u_26 : Unit => (fX6_advance N κ σ a_25).bind fun σ_28 : St => (gR σ_28 x0 [(4, 0)]).bind fun v_29 : Option Nat => (v_29).bind fun a_30 : Nat => (isC σ_28 a_30 5).bind fun u_31 : Unit => (fX6_number N κ σ_28 a_30 (1 : Int32) (6 : Int32)).bind fun (v_32, σ_33) => se v_32 (fun v_34 => (isC σ_33 x0 4).bind fun u_36 : Unit => (fX5_zone N κ σ_33 x0).bind fun (v_37, σ_38) => se v_37 (fun v_39 => (gR σ_38 x0 [(4, 0)]).bind fun v_41 : Option Nat => (v_41).bind fun a_42 : Nat => (isC σ_38 a_42 5).bind fun u_43 : Unit => (fX6_number N κ σ_38 a_42 (0 : Int32) (2879 : Int32)).bind fun (v_44, σ_45) => se v_44 (fun v_46 => (gR σ_45 x0 [(4, 0)]).bind fun v_48 : Option Nat => (v_48).bind fun a_49 : Nat => (isC σ_45 a_49 5).bind fun u_50 : Unit => (fX6_look κ σ_45 a_49 (0 : Int32) (2879 : Int32)).bind fun (v_51, σ_52) => se v_51 (fun v_53 => if v_46 < v_53 then fX5_taxi_90 N κ x0 x1 v_34 v_39 v_46 v_53 x0 (0 : Int32) σ_52 else fX5_taxi_90 N κ x0 x1 v_34 v_39 v_46 v_53 x0 (1 : Int32) σ_52) (fun q_54 => (isX σ_52 q_54).bind fun uq_54 : Unit => some (.inr q_54, σ_52))) (fun q_47 => (isX σ_45 q_47).bind fun uq_47 : Unit => some (.inr q_47, σ_45))) (fun q_40 => (isX σ_38 q_40).bind fun uq_40 : Unit => some (.inr q_40, σ_38))) (fun q_35 => (isX σ_33 q_35).bind fun uq_35 : Unit => some (.inr q_35, σ_33))
theorem wX5_taxi_90 {E : EV} {l : Launch} {p : Program} {e : Env} {s : State} {m : MethodId} {args : Array Value} {below : List Frame} {meth : Method} {c : Code} {R : Room} {res : ((Unit ⊕ Nat) × St)} (hX : XK E) (hR : 12 ≤ R.frames ∧ 267 ≤ R.locals) (X : MX E p s m args meth c cX5_taxi 6 none RX5 "taxi") (XH : MH c []) (N : Nat) : ∀ (x0 : Nat) (x1 : Nat) (x2 : Int32) (x3 : Int32) (x4 : Int32) (x5 : Int32) (y0 : Nat) (y1 : Int32) (σ : St) (H : Heap) (locs : List Loc) (cells slots : Nat) (ls : Array Slot), WI E R s σ H locs cells slots → lv_has ls 6 [(0, .ref x0), (1, .ref x1), (2, .int x2), (3, .int x3), (4, .int x4), (5, .int x5)] → fX5_taxi_90 N E.2.2.2.1 x0 x1 x2 x3 x4 x5 y0 y1 σ = some res → W p l e R s m args below meth c H locs cells slots (vx_MQ below (QS E R.cells R.slots (sv (fun v => none) res.1) res.2) (XS E R.cells R.slots (sx res.1) res.2) args s R.cells R.slots (fr E)) (F0 m 90 ls [.int y1, .ref y0]) := by
  intro x0 x1 x2 x3 x4 x5 y0 y1 σ H locs cells slots ls I hl hf
  obtain ⟨⟨hx, hb, hml, hown, hts⟩, -⟩ := id X
  unfold fX5_taxi_90 at hf
  obtain ⟨u_1, eu_1, hf⟩ := ob hf
  obtain ⟨⟨v_2, σ_3⟩, ev_2, hf⟩ := ob hf
  have hgv_2 := hf
  rcases v_2 with v_4 | q_5
  · have hf := se_l hgv_2
    refine cx_ret (r := none) (rs := []) I (xr_V (vw := (RX5, TX5, 2)) (ci := 4) (σ' := σ_3) (rest := []) (As := [.int y1]) X I eu_1 rfl (mX5_clash hX ev_2) lvX5_50 hdX5_50 ⟨Nat.le_trans (Nat.le_of_ble_eq_true rfl) hR.1, Nat.le_trans (Nat.le_of_ble_eq_true rfl) hR.2⟩ rfl hl.1 rfl (Nat.le_of_ble_eq_true rfl) dX5_taxi_90) rfl (fun H locs cells slots I => ?_)
    refine lv_aload_n hx hb dX5_taxi_93 rfl (lv_at hl 0 rfl) ?_
    obtain ⟨v_6, ev_6, hf⟩ := ob hf
    refine g_get X I gfX5_9 (gR_in ev_6) dX5_taxi_94 ?_
    obtain ⟨a_7, ea_7, hga_7⟩ := ob hf
    have hla_7 := hl
    have Ia_7 := I
    subst ea_7
    have hf := hga_7
    have hl := hla_7
    have I := Ia_7
    obtain ⟨u_8, eu_8, hf⟩ := ob hf
    obtain ⟨σ_10, ev_9, hf⟩ := ob hf
    refine cg_V (vw := (RX6, TX6, 8)) (ci := 5) (r := none) (σ' := σ_10) (rs := []) (rest := []) (As := []) X I eu_8 rfl (mX6_advance hX ev_9) lvX5_54 hdX5_54 ⟨Nat.le_trans (Nat.le_of_ble_eq_true rfl) hR.1, Nat.le_trans (Nat.le_of_ble_eq_true rfl) hR.2⟩ rfl hl.1 rfl (Nat.le_of_ble_eq_true rfl) rfl dX5_taxi_97 (fun H locs cells slots I => ?_)
    refine lv_aload_n hx hb dX5_taxi_100 rfl (lv_at hl 1 rfl) ?_
    obtain ⟨v_11, ev_11, hf⟩ := ob hf
    refine g_getN hX X I gfX5_61 (gR_in ev_11) dX5_taxi_101 ?_
    obtain ⟨⟨q_12a, q_12s⟩, eq_12, hf⟩ := ob hf
    refine g_new X I noX5_75 eq_12 dX5_taxi_104 (fun H locs cells slots I => ?_)
    refine lv_dup hx hb dX5_taxi_107 rfl ?_
    refine lv_iload_n hx hb dX5_taxi_108 rfl (lv_at hl 2 rfl) ?_
    refine lv_iload_n hx hb dX5_taxi_109 rfl (lv_at hl 3 rfl) ?_
    refine lv_iload hx hb dX5_taxi_110 (lv_at hl 4 rfl) ?_
    refine lv_iload hx hb dX5_taxi_112 (lv_at hl 5 rfl) ?_
    obtain ⟨σ_14, ev_13, hf⟩ := ob hf
    refine cm_I (σ' := σ_14) (rs := [.ref q_12a, va_rf v_11]) (rest := [.ref q_12a, va_rf v_11]) (As := [.int x2, .int x3, .int x4, .int x5]) X I (mX12_init_2 hX ev_13) lvX5_77 hdX5_77 ⟨Nat.le_trans (Nat.le_of_ble_eq_true rfl) hR.1, Nat.le_trans (Nat.le_of_ble_eq_true rfl) hR.2⟩ rfl hl.1 rfl (by rcases v_11 with _ | _ <;> exact (Nat.le_of_ble_eq_true rfl)) rfl dX5_taxi_114 (fun H locs cells slots I => ?_)
    obtain ⟨a_15, ea_15, hga_15⟩ := ob hf
    have hla_15 := hl
    have Ia_15 := I
    subst ea_15
    have hf := hga_15
    have hl := hla_15
    have I := Ia_15
    obtain ⟨u_16, eu_16, hf⟩ := ob hf
    obtain ⟨⟨v_17, σ_18⟩, ev_17, hf⟩ := ob hf
    refine cg_F (vw := (RJ2, TJ2, 3)) (ci := 21) (r := (some (.int v_17))) (σ' := σ_18) (rs := [.int v_17]) (rest := []) (As := [.ref q_12a]) hX X I eu_16 rfl (mJ2_add hX ev_17) lvX5_80_J2 hdX5_80_J2 ⟨Nat.le_trans (Nat.le_of_ble_eq_true rfl) hR.1, Nat.le_trans (Nat.le_of_ble_eq_true rfl) hR.2⟩ rfl hl.1 rfl (Nat.le_of_ble_eq_true rfl) rfl dX5_taxi_117 (fun H locs cells slots I => ?_)
    refine lv_pop hx hb dX5_taxi_122 rfl ?_
    cases os hf
    exact x_ret (r_vret X I dX5_taxi_123)
  · have hf := se_r hgv_2
    obtain ⟨uq_5, eq_5, hf⟩ := ob hf
    cases os hf
    refine cx_thr I (xr_V (vw := (RX5, TX5, 2)) (ci := 4) (σ' := σ_3) (rest := []) (As := [.int y1]) X I eu_1 rfl (mX5_clash hX ev_2) lvX5_50 hdX5_50 ⟨Nat.le_trans (Nat.le_of_ble_eq_true rfl) hR.1, Nat.le_trans (Nat.le_of_ble_eq_true rfl) hR.2⟩ rfl hl.1 rfl (Nat.le_of_ble_eq_true rfl) dX5_taxi_90) (fun H locs cells slots I => ?_)
    exact x_out X XH rfl I eq_5
theorem wX5_taxi_0 {E : EV} {l : Launch} {p : Program} {e : Env} {s : State} {m : MethodId} {args : Array Value} {below : List Frame} {meth : Method} {c : Code} {R : Room} {res : ((Unit ⊕ Nat) × St)} (hX : XK E) (hR : 12 ≤ R.frames ∧ 267 ≤ R.locals) (X : MX E p s m args meth c cX5_taxi 6 none RX5 "taxi") (XH : MH c []) (N : Nat) : ∀ (x0 : Nat) (x1 : Nat) (σ : St) (H : Heap) (locs : List Loc) (cells slots : Nat) (ls : Array Slot), WI E R s σ H locs cells slots → lv_has ls 6 [(0, .ref x0), (1, .ref x1)] → fX5_taxi N E.2.2.2.1 σ x0 x1 = some res → W p l e R s m args below meth c H locs cells slots (vx_MQ below (QS E R.cells R.slots (sv (fun v => none) res.1) res.2) (XS E R.cells R.slots (sx res.1) res.2) args s R.cells R.slots (fr E)) (F0 m 0 ls []) := by
  intro x0 x1 σ H locs cells slots ls I hl hf
  obtain ⟨⟨hx, hb, hml, hown, hts⟩, -⟩ := id X
  unfold fX5_taxi at hf
  refine lv_aload_n hx hb dX5_taxi_0 rfl (lv_at hl 1 rfl) ?_
  obtain ⟨v_19, ev_19, hf⟩ := ob hf
  refine g_getN hX X I gfX5_61 (gR_in ev_19) dX5_taxi_1 ?_
  obtain ⟨a_20, ea_20, hga_20⟩ := ob hf
  have hla_20 := hl
  have Ia_20 := I
  subst ea_20
  have hf := hga_20
  have hl := hla_20
  have I := Ia_20
  obtain ⟨u_21, eu_21, hf⟩ := ob hf
  obtain ⟨v_22, ev_22, hf⟩ := ob hf
  refine cg_F (vw := (RJ2, TJ2, 3)) (ci := 21) (r := (some (.int v_22))) (σ' := σ) (rs := [.int v_22]) (rest := []) (As := []) hX X I eu_21 rfl (mJ2_size hX ev_22) lvX5_67_J2 hdX5_67_J2 ⟨Nat.le_trans (Nat.le_of_ble_eq_true rfl) hR.1, Nat.le_trans (Nat.le_of_ble_eq_true rfl) hR.2⟩ rfl hl.1 rfl (Nat.le_of_ble_eq_true rfl) rfl dX5_taxi_4 (fun H locs cells slots I => ?_)
  refine lv_iconst (v := 4) hx hb dX5_taxi_9 (by decide) ?_
  refine lv_icmp_ne (tgt := 28) hx hb dX5_taxi_10 (by decide) (fun c_10 => ?_) (fun c_10 => ?_)
  · have hf := im c_10 hf
    refine lv_aload_n hx hb dX5_taxi_28 rfl (lv_at hl 0 rfl) ?_
    obtain ⟨v_24, ev_24, hf⟩ := ob hf
    refine g_get X I gfX5_9 (gR_in ev_24) dX5_taxi_29 ?_
    obtain ⟨a_25, ea_25, hga_25⟩ := ob hf
    have hla_25 := hl
    have Ia_25 := I
    subst ea_25
    have hf := hga_25
    have hl := hla_25
    have I := Ia_25
    obtain ⟨u_26, eu_26, hf⟩ := ob hf
    obtain ⟨σ_28, ev_27, hf⟩ := ob hf
    refine cg_V (vw := (RX6, TX6, 8)) (ci := 5) (r := none) (σ' := σ_28) (rs := []) (rest := []) (As := []) X I eu_26 rfl (mX6_advance hX ev_27) lvX5_54 hdX5_54 ⟨Nat.le_trans (Nat.le_of_ble_eq_true rfl) hR.1, Nat.le_trans (Nat.le_of_ble_eq_true rfl) hR.2⟩ rfl hl.1 rfl (Nat.le_of_ble_eq_true rfl) rfl dX5_taxi_32 (fun H locs cells slots I => ?_)
    refine lv_aload_n hx hb dX5_taxi_35 rfl (lv_at hl 0 rfl) ?_
    obtain ⟨v_29, ev_29, hf⟩ := ob hf
    refine g_get X I gfX5_9 (gR_in ev_29) dX5_taxi_36 ?_
    refine lv_iconst (v := 1) hx hb dX5_taxi_39 (by decide) ?_
    refine lv_bipush (v := 6) hx hb dX5_taxi_40 (by decide) ?_
    obtain ⟨a_30, ea_30, hga_30⟩ := ob hf
    have hla_30 := hl
    have Ia_30 := I
    subst ea_30
    have hf := hga_30
    have hl := hla_30
    have I := Ia_30
    obtain ⟨u_31, eu_31, hf⟩ := ob hf
    obtain ⟨⟨v_32, σ_33⟩, ev_32, hf⟩ := ob hf
    have hgv_32 := hf
    rcases v_32 with v_34 | q_35
    · have hf := se_l hgv_32
      refine cx_ret (r := (some (.int v_34))) (rs := [.int v_34]) I (xr_V (vw := (RX6, TX6, 8)) (ci := 5) (σ' := σ_33) (rest := []) (As := [.int (1 : Int32), .int (6 : Int32)]) X I eu_31 rfl (mX6_number hX ev_32) lvX5_25 hdX5_25 ⟨Nat.le_trans (Nat.le_of_ble_eq_true rfl) hR.1, Nat.le_trans (Nat.le_of_ble_eq_true rfl) hR.2⟩ rfl hl.1 rfl (Nat.le_of_ble_eq_true rfl) dX5_taxi_42) rfl (fun H locs cells slots I => ?_)
      refine lv_istore_n (lv' := [(2, .int v_34), (0, .ref x0), (1, .ref x1)]) hx hb dX5_taxi_45 rfl hl (by decide) rfl (fun ls hl => ?_)
      refine lv_aload_n hx hb dX5_taxi_46 rfl (lv_at hl 1 rfl) ?_
      obtain ⟨u_36, eu_36, hf⟩ := ob hf
      obtain ⟨⟨v_37, σ_38⟩, ev_37, hf⟩ := ob hf
      have hgv_37 := hf
      rcases v_37 with v_39 | q_40
      · have hf := se_l hgv_37
        refine cx_ret (r := (some (.int v_39))) (rs := [.int v_39]) I (xr_V (vw := (RX5, TX5, 2)) (ci := 4) (σ' := σ_38) (rest := []) (As := []) X I eu_36 rfl (mX5_zone hX ev_37) lvX5_39 hdX5_39 ⟨Nat.le_trans (Nat.le_of_ble_eq_true rfl) hR.1, Nat.le_trans (Nat.le_of_ble_eq_true rfl) hR.2⟩ rfl hl.1 rfl (Nat.le_of_ble_eq_true rfl) dX5_taxi_47) rfl (fun H locs cells slots I => ?_)
        refine lv_istore_n (lv' := [(3, .int v_39), (2, .int v_34), (0, .ref x0), (1, .ref x1)]) hx hb dX5_taxi_50 rfl hl (by decide) rfl (fun ls hl => ?_)
        refine lv_aload_n hx hb dX5_taxi_51 rfl (lv_at hl 2 rfl) ?_
        obtain ⟨v_41, ev_41, hf⟩ := ob hf
        refine g_get X I gfX5_9 (gR_in ev_41) dX5_taxi_52 ?_
        refine lv_iconst (v := 0) hx hb dX5_taxi_55 (by decide) ?_
        refine lv_sipush (v := 2879) hx hb dX5_taxi_56 (by decide) ?_
        obtain ⟨a_42, ea_42, hga_42⟩ := ob hf
        have hla_42 := hl
        have Ia_42 := I
        subst ea_42
        have hf := hga_42
        have hl := hla_42
        have I := Ia_42
        obtain ⟨u_43, eu_43, hf⟩ := ob hf
        obtain ⟨⟨v_44, σ_45⟩, ev_44, hf⟩ := ob hf
        have hgv_44 := hf
        rcases v_44 with v_46 | q_47
        · have hf := se_l hgv_44
          refine cx_ret (r := (some (.int v_46))) (rs := [.int v_46]) I (xr_V (vw := (RX6, TX6, 8)) (ci := 5) (σ' := σ_45) (rest := []) (As := [.int (0 : Int32), .int (2879 : Int32)]) X I eu_43 rfl (mX6_number hX ev_44) lvX5_25 hdX5_25 ⟨Nat.le_trans (Nat.le_of_ble_eq_true rfl) hR.1, Nat.le_trans (Nat.le_of_ble_eq_true rfl) hR.2⟩ rfl hl.1 rfl (Nat.le_of_ble_eq_true rfl) dX5_taxi_59) rfl (fun H locs cells slots I => ?_)
          refine lv_istore (lv' := [(4, .int v_46), (3, .int v_39), (2, .int v_34), (0, .ref x0), (1, .ref x1)]) hx hb dX5_taxi_62 hl (by decide) rfl (fun ls hl => ?_)
          refine lv_aload_n hx hb dX5_taxi_64 rfl (lv_at hl 3 rfl) ?_
          obtain ⟨v_48, ev_48, hf⟩ := ob hf
          refine g_get X I gfX5_9 (gR_in ev_48) dX5_taxi_65 ?_
          refine lv_iconst (v := 0) hx hb dX5_taxi_68 (by decide) ?_
          refine lv_sipush (v := 2879) hx hb dX5_taxi_69 (by decide) ?_
          obtain ⟨a_49, ea_49, hga_49⟩ := ob hf
          have hla_49 := hl
          have Ia_49 := I
          subst ea_49
          have hf := hga_49
          have hl := hla_49
          have I := Ia_49
          obtain ⟨u_50, eu_50, hf⟩ := ob hf
          obtain ⟨⟨v_51, σ_52⟩, ev_51, hf⟩ := ob hf
          have hgv_51 := hf
          rcases v_51 with v_53 | q_54
          · have hf := se_l hgv_51
            refine cx_ret (r := (some (.int v_53))) (rs := [.int v_53]) I (xr_V (vw := (RX6, TX6, 8)) (ci := 5) (σ' := σ_52) (rest := []) (As := [.int (0 : Int32), .int (2879 : Int32)]) X I eu_50 rfl (mX6_look hX ev_51) lvX5_43 hdX5_43 ⟨Nat.le_trans (Nat.le_of_ble_eq_true rfl) hR.1, Nat.le_trans (Nat.le_of_ble_eq_true rfl) hR.2⟩ rfl hl.1 rfl (Nat.le_of_ble_eq_true rfl) dX5_taxi_72) rfl (fun H locs cells slots I => ?_)
            refine lv_istore (lv' := [(5, .int v_53), (4, .int v_46), (3, .int v_39), (2, .int v_34), (0, .ref x0), (1, .ref x1)]) hx hb dX5_taxi_75 hl (by decide) rfl (fun ls hl => ?_)
            refine lv_aload_n hx hb dX5_taxi_77 rfl (lv_at hl 4 rfl) ?_
            refine lv_iload hx hb dX5_taxi_78 (lv_at hl 0 rfl) ?_
            refine lv_iload hx hb dX5_taxi_80 (lv_at hl 1 rfl) ?_
            refine lv_icmp_gt (tgt := 89) hx hb dX5_taxi_82 (by decide) (fun c_82 => ?_) (fun c_82 => ?_)
            · have hf := ip c_82 hf
              refine lv_iconst (v := 0) hx hb dX5_taxi_89 (by decide) ?_
              exact wX5_taxi_90 hX hR X XH N x0 x1 v_34 v_39 v_46 v_53 x0 (0 : Int32) σ_52 _ _ _ _ _ I (lv_sub hl [4, 5, 3, 2, 1, 0] rfl) hf
            · have hf := im c_82 hf
              refine lv_iconst (v := 1) hx hb dX5_taxi_85 (by decide) ?_
              refine lv_goto (tgt := 90) hx hb dX5_taxi_86 (by decide) ?_
              exact wX5_taxi_90 hX hR X XH N x0 x1 v_34 v_39 v_46 v_53 x0 (1 : Int32) σ_52 _ _ _ _ _ I (lv_sub hl [4, 5, 3, 2, 1, 0] rfl) hf
          · have hf := se_r hgv_51
            obtain ⟨uq_54, eq_54, hf⟩ := ob hf
            cases os hf
            refine cx_thr I (xr_V (vw := (RX6, TX6, 8)) (ci := 5) (σ' := σ_52) (rest := []) (As := [.int (0 : Int32), .int (2879 : Int32)]) X I eu_50 rfl (mX6_look hX ev_51) lvX5_43 hdX5_43 ⟨Nat.le_trans (Nat.le_of_ble_eq_true rfl) hR.1, Nat.le_trans (Nat.le_of_ble_eq_true rfl) hR.2⟩ rfl hl.1 rfl (Nat.le_of_ble_eq_true rfl) dX5_taxi_72) (fun H locs cells slots I => ?_)
            exact x_out X XH rfl I eq_54
        · have hf := se_r hgv_44
          obtain ⟨uq_47, eq_47, hf⟩ := ob hf
          cases os hf
          refine cx_thr I (xr_V (vw := (RX6, TX6, 8)) (ci := 5) (σ' := σ_45) (rest := []) (As := [.int (0 : Int32), .int (2879 : Int32)]) X I eu_43 rfl (mX6_number hX ev_44) lvX5_25 hdX5_25 ⟨Nat.le_trans (Nat.le_of_ble_eq_true rfl) hR.1, Nat.le_trans (Nat.le_of_ble_eq_true rfl) hR.2⟩ rfl hl.1 rfl (Nat.le_of_ble_eq_true rfl) dX5_taxi_59) (fun H locs cells slots I => ?_)
          exact x_out X XH rfl I eq_47
      · have hf := se_r hgv_37
        obtain ⟨uq_40, eq_40, hf⟩ := ob hf
        cases os hf
        refine cx_thr I (xr_V (vw := (RX5, TX5, 2)) (ci := 4) (σ' := σ_38) (rest := []) (As := []) X I eu_36 rfl (mX5_zone hX ev_37) lvX5_39 hdX5_39 ⟨Nat.le_trans (Nat.le_of_ble_eq_true rfl) hR.1, Nat.le_trans (Nat.le_of_ble_eq_true rfl) hR.2⟩ rfl hl.1 rfl (Nat.le_of_ble_eq_true rfl) dX5_taxi_47) (fun H locs cells slots I => ?_)
        exact x_out X XH rfl I eq_40
    · have hf := se_r hgv_32
      obtain ⟨uq_35, eq_35, hf⟩ := ob hf
      cases os hf
      refine cx_thr I (xr_V (vw := (RX6, TX6, 8)) (ci := 5) (σ' := σ_33) (rest := []) (As := [.int (1 : Int32), .int (6 : Int32)]) X I eu_31 rfl (mX6_number hX ev_32) lvX5_25 hdX5_25 ⟨Nat.le_trans (Nat.le_of_ble_eq_true rfl) hR.1, Nat.le_trans (Nat.le_of_ble_eq_true rfl) hR.2⟩ rfl hl.1 rfl (Nat.le_of_ble_eq_true rfl) dX5_taxi_42) (fun H locs cells slots I => ?_)
      exact x_out X XH rfl I eq_35
  · have hf := ip c_10 hf
    obtain ⟨⟨q_55a, q_55s⟩, eq_55, hf⟩ := ob hf
    refine g_new X I noX5_72 eq_55 dX5_taxi_13 (fun H locs cells slots I => ?_)
    refine lv_dup hx hb dX5_taxi_16 rfl ?_
    refine lv_aload_n hx hb dX5_taxi_17 rfl (lv_at hl 0 rfl) ?_
    obtain ⟨v_56, ev_56, hf⟩ := ob hf
    refine g_get X I gfX5_9 (gR_in ev_56) dX5_taxi_18 ?_
    obtain ⟨a_57, ea_57, hga_57⟩ := ob hf
    have hla_57 := hl
    have Ia_57 := I
    subst ea_57
    have hf := hga_57
    have hl := hla_57
    have I := Ia_57
    obtain ⟨v_58, ev_58, hf⟩ := ob hf
    refine g_getN hX X I gfX5_33 (gI_in ev_58) dX5_taxi_21 ?_
    obtain ⟨σ_60, ev_59, hf⟩ := ob hf
    refine cm_I (σ' := σ_60) (rs := [.ref q_55a]) (rest := [.ref q_55a]) (As := [.int v_58]) X I (mX10_init hX ev_59) lvX5_74 hdX5_74 ⟨Nat.le_trans (Nat.le_of_ble_eq_true rfl) hR.1, Nat.le_trans (Nat.le_of_ble_eq_true rfl) hR.2⟩ rfl hl.1 rfl (Nat.le_of_ble_eq_true rfl) rfl dX5_taxi_24 (fun H locs cells slots I => ?_)
    obtain ⟨u_61, eu_61, hf⟩ := ob hf
    cases os hf
    exact x_athrow X XH rfl I eu_61 dX5_taxi_27
theorem mX5_taxi {E : EV} {l : Launch} {N : Nat} {σ : St} {x0 : Nat} {x1 : Nat} {res : ((Unit ⊕ Nat) × St)} (hX : XK E) (hf : fX5_taxi N E.2.2.2.1 σ x0 x1 = some res) : CX E l yX5_taxi (ws_ yX5_taxi cX5_taxi 6 none) 12 267 [.ref x0, .ref x1] σ (sv (fun v => none) res.1) (sx res.1) res.2 := by
  refine CX.of hX.1 (by decide) rfl rfl (Nat.le_of_ble_eq_true rfl) ?_
  intro p e s m below meth c X XH I ls hl
  exact wX5_taxi_0 hX ⟨Nat.le_refl _, Nat.le_refl _⟩ X XH N _ _ _ _ _ _ _ _ I hl hf
/-! SharedTaxis$Town.hasRoad(II)Z imp=False fuel=False kap=False rt=I thr=False -/
def fX3_hasRoad (σ : St) (x0 : Nat) (x1 : Int32) (x2 : Int32) : Option Int32 := (gR σ x0 [(2, 1)]).bind fun v_1 : Option Nat => (v_1).bind fun a_2 : Nat => (aR σ a_2 3 x1).bind fun v_3 : Option Nat => (v_3).bind fun a_4 : Nat => (aI σ a_4 0 x2).bind fun v_5 : Int32 => if v_5 = (-1 : Int32) then some (0 : Int32) else some (1 : Int32)
theorem wX3_hasRoad_0 {E : EV} {l : Launch} {p : Program} {e : Env} {s : State} {m : MethodId} {args : Array Value} {below : List Frame} {meth : Method} {c : Code} {R : Room} {σ : St} {res : Int32} (hX : XK E) (hR : 0 ≤ R.frames ∧ 0 ≤ R.locals) (X : MX E p s m args meth c cX3_hasRoad 3 (some .boolean) RX3 "hasRoad") : ∀ (x0 : Nat) (x1 : Int32) (x2 : Int32) (H : Heap) (locs : List Loc) (cells slots : Nat) (ls : Array Slot), WI E R s σ H locs cells slots → lv_has ls 3 [(0, .ref x0), (1, .int x1), (2, .int x2)] → fX3_hasRoad σ x0 x1 x2 = some res → W p l e R s m args below meth c H locs cells slots (MQ below (Qd E R.cells R.slots (some (.int res)) σ) args s R.cells R.slots (fr E)) (F0 m 0 ls []) := by
  intro x0 x1 x2 H locs cells slots ls I hl hf
  obtain ⟨⟨hx, hb, hml, hown, hts⟩, -⟩ := id X
  unfold fX3_hasRoad at hf
  refine lv_aload_n hx hb dX3_hasRoad_0 rfl (lv_at hl 0 rfl) ?_
  obtain ⟨v_1, ev_1, hf⟩ := ob hf
  refine g_get X I gfX3_17 (gR_in ev_1) dX3_hasRoad_1 ?_
  refine lv_iload_n hx hb dX3_hasRoad_4 rfl (lv_at hl 1 rfl) ?_
  obtain ⟨a_2, ea_2, hga_2⟩ := ob hf
  have hla_2 := hl
  have Ia_2 := I
  subst ea_2
  have hf := hga_2
  have hl := hla_2
  have I := Ia_2
  obtain ⟨v_3, ev_3, hf⟩ := ob hf
  refine g_aald X I (by decide) rfl ev_3 dX3_hasRoad_5 ?_
  refine lv_iload_n hx hb dX3_hasRoad_6 rfl (lv_at hl 2 rfl) ?_
  obtain ⟨a_4, ea_4, hga_4⟩ := ob hf
  have hla_4 := hl
  have Ia_4 := I
  subst ea_4
  have hf := hga_4
  have hl := hla_4
  have I := Ia_4
  obtain ⟨v_5, ev_5, hf⟩ := ob hf
  refine g_iald X I ev_5 dX3_hasRoad_7 ?_
  refine lv_iconst (v := (-1)) hx hb dX3_hasRoad_8 (by decide) ?_
  refine lv_icmp_eq (tgt := 16) hx hb dX3_hasRoad_9 (by decide) (fun c_9 => ?_) (fun c_9 => ?_)
  · have hf := ip c_9 hf
    refine lv_iconst (v := 0) hx hb dX3_hasRoad_16 (by decide) ?_
    cases os hf
    exact r_zret X I (Or.inl rfl) dX3_hasRoad_17
  · have hf := im c_9 hf
    refine lv_iconst (v := 1) hx hb dX3_hasRoad_12 (by decide) ?_
    refine lv_goto (tgt := 17) hx hb dX3_hasRoad_13 (by decide) ?_
    cases os hf
    exact r_zret X I (Or.inr rfl) dX3_hasRoad_17
theorem mX3_hasRoad {E : EV} {l : Launch} {σ : St} {x0 : Nat} {x1 : Int32} {x2 : Int32} {res : Int32} (hX : XK E) (hf : fX3_hasRoad σ x0 x1 x2 = some res) : CM E l yX3_hasRoad (ws_ yX3_hasRoad cX3_hasRoad 3 (some .boolean)) 0 0 [.ref x0, .int x1, .int x2] σ (some (.int res)) σ := by
  refine CM.of hX.1 (by decide) rfl rfl (Nat.le_of_ble_eq_true rfl) ?_
  intro p e s m below meth c X I ls hl
  exact wX3_hasRoad_0 hX ⟨Nat.le_refl _, Nat.le_refl _⟩ X _ _ _ _ _ _ _ _ I hl hf
/-! SharedTaxis$Town.add(III)V imp=True fuel=False kap=False rt=None thr=False -/
theorem gfX3_20 : ∀ q ∈ ([(2, 2)] : List (Nat × Nat)), GF RX3 20 q := List.forall_mem_cons.mpr ⟨⟨RX3, TX3, 3, _, rfl, in_X3, by decide, q188, Or.inl rfl⟩, fun _ h => by cases h⟩
theorem pfX3_20 : ∀ q ∈ ([(2, 2)] : List (Nat × Nat)), PF RX3 20 .int q := List.forall_mem_cons.mpr ⟨⟨RX3, TX3, 3, _, tyX3, rfl, in_X3, by decide, q188, Or.inl rfl, tyX3_ok, nmX3, rfl, rfl⟩, fun _ h => by cases h⟩
def fX3_add (σ : St) (x0 : Nat) (x1 : Int32) (x2 : Int32) (x3 : Int32) : Option St := (gR σ x0 [(2, 1)]).bind fun v_1 : Option Nat => (v_1).bind fun a_2 : Nat => (aR σ a_2 3 x1).bind fun v_3 : Option Nat => (v_3).bind fun a_4 : Nat => (sI σ a_4 0 x2 x3).bind fun σ_5 : St => (gR σ_5 x0 [(2, 1)]).bind fun v_6 : Option Nat => (v_6).bind fun a_7 : Nat => (aR σ_5 a_7 3 x2).bind fun v_8 : Option Nat => (v_8).bind fun a_9 : Nat => (sI σ_5 a_9 0 x1 x3).bind fun σ_10 : St => (gI σ_10 x0 [(2, 2)]).bind fun v_11 : Int32 => (pV σ_10 x0 [(2, 2)] (.int (v_11 + (1 : Int32)))).bind fun σ_12 : St => some σ_12
theorem wX3_add_0 {E : EV} {l : Launch} {p : Program} {e : Env} {s : State} {m : MethodId} {args : Array Value} {below : List Frame} {meth : Method} {c : Code} {R : Room} {res : St} (hX : XK E) (hR : 0 ≤ R.frames ∧ 0 ≤ R.locals) (X : MX E p s m args meth c cX3_add 4 none RX3 "add") : ∀ (x0 : Nat) (x1 : Int32) (x2 : Int32) (x3 : Int32) (σ : St) (H : Heap) (locs : List Loc) (cells slots : Nat) (ls : Array Slot), WI E R s σ H locs cells slots → lv_has ls 4 [(0, .ref x0), (1, .int x1), (2, .int x2), (3, .int x3)] → fX3_add σ x0 x1 x2 x3 = some res → W p l e R s m args below meth c H locs cells slots (MQ below (Qd E R.cells R.slots none res) args s R.cells R.slots (fr E)) (F0 m 0 ls []) := by
  intro x0 x1 x2 x3 σ H locs cells slots ls I hl hf
  obtain ⟨⟨hx, hb, hml, hown, hts⟩, -⟩ := id X
  unfold fX3_add at hf
  refine lv_aload_n hx hb dX3_add_0 rfl (lv_at hl 0 rfl) ?_
  obtain ⟨v_1, ev_1, hf⟩ := ob hf
  refine g_get X I gfX3_17 (gR_in ev_1) dX3_add_1 ?_
  refine lv_iload_n hx hb dX3_add_4 rfl (lv_at hl 1 rfl) ?_
  obtain ⟨a_2, ea_2, hga_2⟩ := ob hf
  have hla_2 := hl
  have Ia_2 := I
  subst ea_2
  have hf := hga_2
  have hl := hla_2
  have I := Ia_2
  obtain ⟨v_3, ev_3, hf⟩ := ob hf
  refine g_aald X I (by decide) rfl ev_3 dX3_add_5 ?_
  refine lv_iload_n hx hb dX3_add_6 rfl (lv_at hl 2 rfl) ?_
  refine lv_iload_n hx hb dX3_add_7 rfl (lv_at hl 3 rfl) ?_
  obtain ⟨a_4, ea_4, hga_4⟩ := ob hf
  have hla_4 := hl
  have Ia_4 := I
  subst ea_4
  have hf := hga_4
  have hl := hla_4
  have I := Ia_4
  obtain ⟨σ_5, eσ_5, hf⟩ := ob hf
  refine g_iast X I eσ_5 dX3_add_8 (fun H locs I => ?_)
  refine lv_aload_n hx hb dX3_add_9 rfl (lv_at hl 0 rfl) ?_
  obtain ⟨v_6, ev_6, hf⟩ := ob hf
  refine g_get X I gfX3_17 (gR_in ev_6) dX3_add_10 ?_
  refine lv_iload_n hx hb dX3_add_13 rfl (lv_at hl 2 rfl) ?_
  obtain ⟨a_7, ea_7, hga_7⟩ := ob hf
  have hla_7 := hl
  have Ia_7 := I
  subst ea_7
  have hf := hga_7
  have hl := hla_7
  have I := Ia_7
  obtain ⟨v_8, ev_8, hf⟩ := ob hf
  refine g_aald X I (by decide) rfl ev_8 dX3_add_14 ?_
  refine lv_iload_n hx hb dX3_add_15 rfl (lv_at hl 1 rfl) ?_
  refine lv_iload_n hx hb dX3_add_16 rfl (lv_at hl 3 rfl) ?_
  obtain ⟨a_9, ea_9, hga_9⟩ := ob hf
  have hla_9 := hl
  have Ia_9 := I
  subst ea_9
  have hf := hga_9
  have hl := hla_9
  have I := Ia_9
  obtain ⟨σ_10, eσ_10, hf⟩ := ob hf
  refine g_iast X I eσ_10 dX3_add_17 (fun H locs I => ?_)
  refine lv_aload_n hx hb dX3_add_18 rfl (lv_at hl 0 rfl) ?_
  refine lv_dup hx hb dX3_add_19 rfl ?_
  obtain ⟨v_11, ev_11, hf⟩ := ob hf
  refine g_get X I gfX3_20 (gI_in ev_11) dX3_add_20 ?_
  refine lv_iconst (v := 1) hx hb dX3_add_23 (by decide) ?_
  refine lv_iadd hx hb dX3_add_24 ?_
  obtain ⟨σ_12, eσ_12, hf⟩ := ob hf
  refine g_put X I pfX3_20 rfl rfl eσ_12 dX3_add_25 (fun H locs I => ?_)
  cases os hf
  exact r_vret X I dX3_add_28
theorem mX3_add {E : EV} {l : Launch} {σ : St} {x0 : Nat} {x1 : Int32} {x2 : Int32} {x3 : Int32} {res : St} (hX : XK E) (hf : fX3_add σ x0 x1 x2 x3 = some res) : CM E l yX3_add (ws_ yX3_add cX3_add 4 none) 0 0 [.ref x0, .int x1, .int x2, .int x3] σ none res := by
  refine CM.of hX.1 (by decide) rfl rfl (Nat.le_of_ble_eq_true rfl) ?_
  intro p e s m below meth c X I ls hl
  exact wX3_add_0 hX ⟨Nat.le_refl _, Nat.le_refl _⟩ X _ _ _ _ _ _ _ _ _ _ I hl hf
/-! SharedTaxis$Reader.road()V imp=True fuel=True kap=True rt=None thr=True -/
theorem lvX5_57 : GoodIn lw_all (wsV RX5 57 RX3 yX3_add (ws_ yX3_add cX3_add 4 none)) := lw_V q1502 q1503 q1504 q115 q1505
theorem hdX5_57 : yX3_add.cls = RX3 ∧ yX3_add.cls ≠ "java/lang/invoke/MethodHandle" ∧ yX3_add.cls ≠ "java/lang/invoke/VarHandle" ∧ (parseMethodDescriptor yX3_add.desc).map (fun d => d.parameters.length) = some 3 := by decide +kernel
theorem lvX5_46 : GoodIn lw_all (wsV RX5 46 RX3 yX3_hasRoad (ws_ yX3_hasRoad cX3_hasRoad 3 (some .boolean))) := lw_V q1498 q1499 q1500 q115 q1501
theorem hdX5_46 : yX3_hasRoad.cls = RX3 ∧ yX3_hasRoad.cls ≠ "java/lang/invoke/MethodHandle" ∧ yX3_hasRoad.cls ≠ "java/lang/invoke/VarHandle" ∧ (parseMethodDescriptor yX3_hasRoad.desc).map (fun d => d.parameters.length) = some 2 := by decide +kernel
def fX5_road_46 (N : Nat) (κ : Nat → Nat) (x0 : Nat) (x1 : Int32) (x2 : Int32) (y0 : Nat) (y1 : Int32) (σ : St) : Option ((Unit ⊕ Nat) × St) := (isC σ y0 4).bind fun u_1 : Unit => (fX5_clash κ σ y0 y1).bind fun (v_2, σ_3) => se v_2 (fun v_4 => (gR σ_3 x0 [(4, 0)]).bind fun v_6 : Option Nat => (v_6).bind fun a_7 : Nat => (isC σ_3 a_7 5).bind fun u_8 : Unit => (fX6_advance N κ σ_3 a_7).bind fun σ_10 : St => (gR σ_10 x0 [(4, 1)]).bind fun v_11 : Option Nat => (gR σ_10 x0 [(4, 0)]).bind fun v_12 : Option Nat => (v_12).bind fun a_13 : Nat => (isC σ_10 a_13 5).bind fun u_14 : Unit => (fX6_number N κ σ_10 a_13 (1 : Int32) (99 : Int32)).bind fun (v_15, σ_16) => se v_15 (fun v_17 => (v_11).bind fun a_19 : Nat => (isC σ_16 a_19 2).bind fun u_20 : Unit => (fX3_add σ_16 a_19 x1 x2 v_17).bind fun σ_22 : St => some (.inl (), σ_22)) (fun q_18 => (isX σ_16 q_18).bind fun uq_18 : Unit => some (.inr q_18, σ_16))) (fun q_5 => (isX σ_3 q_5).bind fun uq_5 : Unit => some (.inr q_5, σ_3))
def fX5_road_41 (N : Nat) (κ : Nat → Nat) (x0 : Nat) (x1 : Int32) (x2 : Int32) (y0 : Nat) (σ : St) : Option ((Unit ⊕ Nat) × St) := fX5_road_46 N κ x0 x1 x2 y0 (1 : Int32) σ
def fX5_road (N : Nat) (κ : Nat → Nat) (σ : St) (x0 : Nat) : Option ((Unit ⊕ Nat) × St) := (isC σ x0 4).bind fun u_23 : Unit => (fX5_zone N κ σ x0).bind fun (v_24, σ_25) => se v_24 (fun v_26 => (gR σ_25 x0 [(4, 0)]).bind fun v_28 : Option Nat => (gR σ_25 x0 [(4, 1)]).bind fun v_29 : Option Nat => (v_29).bind fun a_30 : Nat => (gI σ_25 a_30 [(2, 0)]).bind fun v_31 : Int32 => (v_28).bind fun a_32 : Nat => (isC σ_25 a_32 5).bind fun u_33 : Unit => (fX6_look κ σ_25 a_32 (0 : Int32) (v_31 - (1 : Int32))).bind fun (v_34, σ_35) => se v_34 (fun v_36 => if v_26 = v_36 then fX5_road_41 N κ x0 v_26 v_36 x0 σ_35 else (gR σ_35 x0 [(4, 1)]).bind fun v_38 : Option Nat => (v_38).bind fun a_39 : Nat => (isC σ_35 a_39 2).bind fun u_40 : Unit => (fX3_hasRoad σ_35 a_39 v_26 v_36).bind fun v_41 : Int32 => if v_41 = 0 then fX5_road_46 N κ x0 v_26 v_36 x0 (0 : Int32) σ_35 else fX5_road_41 N κ x0 v_26 v_36 x0 σ_35) (fun q_37 => (isX σ_35 q_37).bind fun uq_37 : Unit => some (.inr q_37, σ_35))) (fun q_27 => (isX σ_25 q_27).bind fun uq_27 : Unit => some (.inr q_27, σ_25))
theorem wX5_road_46 {E : EV} {l : Launch} {p : Program} {e : Env} {s : State} {m : MethodId} {args : Array Value} {below : List Frame} {meth : Method} {c : Code} {R : Room} {res : ((Unit ⊕ Nat) × St)} (hX : XK E) (hR : 12 ≤ R.frames ∧ 267 ≤ R.locals) (X : MX E p s m args meth c cX5_road 3 none RX5 "road") (XH : MH c []) (N : Nat) : ∀ (x0 : Nat) (x1 : Int32) (x2 : Int32) (y0 : Nat) (y1 : Int32) (σ : St) (H : Heap) (locs : List Loc) (cells slots : Nat) (ls : Array Slot), WI E R s σ H locs cells slots → lv_has ls 3 [(0, .ref x0), (1, .int x1), (2, .int x2)] → fX5_road_46 N E.2.2.2.1 x0 x1 x2 y0 y1 σ = some res → W p l e R s m args below meth c H locs cells slots (vx_MQ below (QS E R.cells R.slots (sv (fun v => none) res.1) res.2) (XS E R.cells R.slots (sx res.1) res.2) args s R.cells R.slots (fr E)) (F0 m 46 ls [.int y1, .ref y0]) := by
  intro x0 x1 x2 y0 y1 σ H locs cells slots ls I hl hf
  obtain ⟨⟨hx, hb, hml, hown, hts⟩, -⟩ := id X
  unfold fX5_road_46 at hf
  obtain ⟨u_1, eu_1, hf⟩ := ob hf
  obtain ⟨⟨v_2, σ_3⟩, ev_2, hf⟩ := ob hf
  have hgv_2 := hf
  rcases v_2 with v_4 | q_5
  · have hf := se_l hgv_2
    refine cx_ret (r := none) (rs := []) I (xr_V (vw := (RX5, TX5, 2)) (ci := 4) (σ' := σ_3) (rest := []) (As := [.int y1]) X I eu_1 rfl (mX5_clash hX ev_2) lvX5_50 hdX5_50 ⟨Nat.le_trans (Nat.le_of_ble_eq_true rfl) hR.1, Nat.le_trans (Nat.le_of_ble_eq_true rfl) hR.2⟩ rfl hl.1 rfl (Nat.le_of_ble_eq_true rfl) dX5_road_46) rfl (fun H locs cells slots I => ?_)
    refine lv_aload_n hx hb dX5_road_49 rfl (lv_at hl 0 rfl) ?_
    obtain ⟨v_6, ev_6, hf⟩ := ob hf
    refine g_get X I gfX5_9 (gR_in ev_6) dX5_road_50 ?_
    obtain ⟨a_7, ea_7, hga_7⟩ := ob hf
    have hla_7 := hl
    have Ia_7 := I
    subst ea_7
    have hf := hga_7
    have hl := hla_7
    have I := Ia_7
    obtain ⟨u_8, eu_8, hf⟩ := ob hf
    obtain ⟨σ_10, ev_9, hf⟩ := ob hf
    refine cg_V (vw := (RX6, TX6, 8)) (ci := 5) (r := none) (σ' := σ_10) (rs := []) (rest := []) (As := []) X I eu_8 rfl (mX6_advance hX ev_9) lvX5_54 hdX5_54 ⟨Nat.le_trans (Nat.le_of_ble_eq_true rfl) hR.1, Nat.le_trans (Nat.le_of_ble_eq_true rfl) hR.2⟩ rfl hl.1 rfl (Nat.le_of_ble_eq_true rfl) rfl dX5_road_53 (fun H locs cells slots I => ?_)
    refine lv_aload_n hx hb dX5_road_56 rfl (lv_at hl 0 rfl) ?_
    obtain ⟨v_11, ev_11, hf⟩ := ob hf
    refine g_get X I gfX5_15 (gR_in ev_11) dX5_road_57 ?_
    refine lv_iload_n hx hb dX5_road_60 rfl (lv_at hl 1 rfl) ?_
    refine lv_iload_n hx hb dX5_road_61 rfl (lv_at hl 2 rfl) ?_
    refine lv_aload_n hx hb dX5_road_62 rfl (lv_at hl 0 rfl) ?_
    obtain ⟨v_12, ev_12, hf⟩ := ob hf
    refine g_get X I gfX5_9 (gR_in ev_12) dX5_road_63 ?_
    refine lv_iconst (v := 1) hx hb dX5_road_66 (by decide) ?_
    refine lv_bipush (v := 99) hx hb dX5_road_67 (by decide) ?_
    obtain ⟨a_13, ea_13, hga_13⟩ := ob hf
    have hla_13 := hl
    have Ia_13 := I
    subst ea_13
    have hf := hga_13
    have hl := hla_13
    have I := Ia_13
    obtain ⟨u_14, eu_14, hf⟩ := ob hf
    obtain ⟨⟨v_15, σ_16⟩, ev_15, hf⟩ := ob hf
    have hgv_15 := hf
    rcases v_15 with v_17 | q_18
    · have hf := se_l hgv_15
      refine cx_ret (r := (some (.int v_17))) (rs := [.int v_17, .int x2, .int x1, va_rf v_11]) I (xr_V (vw := (RX6, TX6, 8)) (ci := 5) (σ' := σ_16) (rest := [.int x2, .int x1, va_rf v_11]) (As := [.int (1 : Int32), .int (99 : Int32)]) X I eu_14 rfl (mX6_number hX ev_15) lvX5_25 hdX5_25 ⟨Nat.le_trans (Nat.le_of_ble_eq_true rfl) hR.1, Nat.le_trans (Nat.le_of_ble_eq_true rfl) hR.2⟩ rfl hl.1 rfl (by rcases v_11 with _ | _ <;> exact (Nat.le_of_ble_eq_true rfl)) dX5_road_69) rfl (fun H locs cells slots I => ?_)
      obtain ⟨a_19, ea_19, hga_19⟩ := ob hf
      have hla_19 := hl
      have Ia_19 := I
      subst ea_19
      have hf := hga_19
      have hl := hla_19
      have I := Ia_19
      obtain ⟨u_20, eu_20, hf⟩ := ob hf
      obtain ⟨σ_22, ev_21, hf⟩ := ob hf
      refine cg_V (vw := (RX3, TX3, 3)) (ci := 2) (r := none) (σ' := σ_22) (rs := []) (rest := []) (As := [.int x1, .int x2, .int v_17]) X I eu_20 rfl (mX3_add hX ev_21) lvX5_57 hdX5_57 ⟨Nat.le_trans (Nat.le_of_ble_eq_true rfl) hR.1, Nat.le_trans (Nat.le_of_ble_eq_true rfl) hR.2⟩ rfl hl.1 rfl (Nat.le_of_ble_eq_true rfl) rfl dX5_road_72 (fun H locs cells slots I => ?_)
      cases os hf
      exact x_ret (r_vret X I dX5_road_75)
    · have hf := se_r hgv_15
      obtain ⟨uq_18, eq_18, hf⟩ := ob hf
      cases os hf
      refine cx_thr I (xr_V (vw := (RX6, TX6, 8)) (ci := 5) (σ' := σ_16) (rest := [.int x2, .int x1, va_rf v_11]) (As := [.int (1 : Int32), .int (99 : Int32)]) X I eu_14 rfl (mX6_number hX ev_15) lvX5_25 hdX5_25 ⟨Nat.le_trans (Nat.le_of_ble_eq_true rfl) hR.1, Nat.le_trans (Nat.le_of_ble_eq_true rfl) hR.2⟩ rfl hl.1 rfl (by rcases v_11 with _ | _ <;> exact (Nat.le_of_ble_eq_true rfl)) dX5_road_69) (fun H locs cells slots I => ?_)
      exact x_out X XH rfl I eq_18
  · have hf := se_r hgv_2
    obtain ⟨uq_5, eq_5, hf⟩ := ob hf
    cases os hf
    refine cx_thr I (xr_V (vw := (RX5, TX5, 2)) (ci := 4) (σ' := σ_3) (rest := []) (As := [.int y1]) X I eu_1 rfl (mX5_clash hX ev_2) lvX5_50 hdX5_50 ⟨Nat.le_trans (Nat.le_of_ble_eq_true rfl) hR.1, Nat.le_trans (Nat.le_of_ble_eq_true rfl) hR.2⟩ rfl hl.1 rfl (Nat.le_of_ble_eq_true rfl) dX5_road_46) (fun H locs cells slots I => ?_)
    exact x_out X XH rfl I eq_5
theorem wX5_road_41 {E : EV} {l : Launch} {p : Program} {e : Env} {s : State} {m : MethodId} {args : Array Value} {below : List Frame} {meth : Method} {c : Code} {R : Room} {res : ((Unit ⊕ Nat) × St)} (hX : XK E) (hR : 12 ≤ R.frames ∧ 267 ≤ R.locals) (X : MX E p s m args meth c cX5_road 3 none RX5 "road") (XH : MH c []) (N : Nat) : ∀ (x0 : Nat) (x1 : Int32) (x2 : Int32) (y0 : Nat) (σ : St) (H : Heap) (locs : List Loc) (cells slots : Nat) (ls : Array Slot), WI E R s σ H locs cells slots → lv_has ls 3 [(0, .ref x0), (1, .int x1), (2, .int x2)] → fX5_road_41 N E.2.2.2.1 x0 x1 x2 y0 σ = some res → W p l e R s m args below meth c H locs cells slots (vx_MQ below (QS E R.cells R.slots (sv (fun v => none) res.1) res.2) (XS E R.cells R.slots (sx res.1) res.2) args s R.cells R.slots (fr E)) (F0 m 41 ls [.ref y0]) := by
  intro x0 x1 x2 y0 σ H locs cells slots ls I hl hf
  obtain ⟨⟨hx, hb, hml, hown, hts⟩, -⟩ := id X
  unfold fX5_road_41 at hf
  refine lv_iconst (v := 1) hx hb dX5_road_41 (by decide) ?_
  refine lv_goto (tgt := 46) hx hb dX5_road_42 (by decide) ?_
  exact wX5_road_46 hX hR X XH N x0 x1 x2 y0 (1 : Int32) σ _ _ _ _ _ I (lv_sub hl [0, 1, 2] rfl) hf
theorem wX5_road_0 {E : EV} {l : Launch} {p : Program} {e : Env} {s : State} {m : MethodId} {args : Array Value} {below : List Frame} {meth : Method} {c : Code} {R : Room} {res : ((Unit ⊕ Nat) × St)} (hX : XK E) (hR : 12 ≤ R.frames ∧ 267 ≤ R.locals) (X : MX E p s m args meth c cX5_road 3 none RX5 "road") (XH : MH c []) (N : Nat) : ∀ (x0 : Nat) (σ : St) (H : Heap) (locs : List Loc) (cells slots : Nat) (ls : Array Slot), WI E R s σ H locs cells slots → lv_has ls 3 [(0, .ref x0)] → fX5_road N E.2.2.2.1 σ x0 = some res → W p l e R s m args below meth c H locs cells slots (vx_MQ below (QS E R.cells R.slots (sv (fun v => none) res.1) res.2) (XS E R.cells R.slots (sx res.1) res.2) args s R.cells R.slots (fr E)) (F0 m 0 ls []) := by
  intro x0 σ H locs cells slots ls I hl hf
  obtain ⟨⟨hx, hb, hml, hown, hts⟩, -⟩ := id X
  unfold fX5_road at hf
  refine lv_aload_n hx hb dX5_road_0 rfl (lv_at hl 0 rfl) ?_
  obtain ⟨u_23, eu_23, hf⟩ := ob hf
  obtain ⟨⟨v_24, σ_25⟩, ev_24, hf⟩ := ob hf
  have hgv_24 := hf
  rcases v_24 with v_26 | q_27
  · have hf := se_l hgv_24
    refine cx_ret (r := (some (.int v_26))) (rs := [.int v_26]) I (xr_V (vw := (RX5, TX5, 2)) (ci := 4) (σ' := σ_25) (rest := []) (As := []) X I eu_23 rfl (mX5_zone hX ev_24) lvX5_39 hdX5_39 ⟨Nat.le_trans (Nat.le_of_ble_eq_true rfl) hR.1, Nat.le_trans (Nat.le_of_ble_eq_true rfl) hR.2⟩ rfl hl.1 rfl (Nat.le_of_ble_eq_true rfl) dX5_road_1) rfl (fun H locs cells slots I => ?_)
    refine lv_istore_n (lv' := [(1, .int v_26), (0, .ref x0)]) hx hb dX5_road_4 rfl hl (by decide) rfl (fun ls hl => ?_)
    refine lv_aload_n hx hb dX5_road_5 rfl (lv_at hl 1 rfl) ?_
    obtain ⟨v_28, ev_28, hf⟩ := ob hf
    refine g_get X I gfX5_9 (gR_in ev_28) dX5_road_6 ?_
    refine lv_iconst (v := 0) hx hb dX5_road_9 (by decide) ?_
    refine lv_aload_n hx hb dX5_road_10 rfl (lv_at hl 1 rfl) ?_
    obtain ⟨v_29, ev_29, hf⟩ := ob hf
    refine g_get X I gfX5_15 (gR_in ev_29) dX5_road_11 ?_
    obtain ⟨a_30, ea_30, hga_30⟩ := ob hf
    have hla_30 := hl
    have Ia_30 := I
    subst ea_30
    have hf := hga_30
    have hl := hla_30
    have I := Ia_30
    obtain ⟨v_31, ev_31, hf⟩ := ob hf
    refine g_getN hX X I gfX5_19 (gI_in ev_31) dX5_road_14 ?_
    refine lv_iconst (v := 1) hx hb dX5_road_17 (by decide) ?_
    refine lv_isub hx hb dX5_road_18 ?_
    obtain ⟨a_32, ea_32, hga_32⟩ := ob hf
    have hla_32 := hl
    have Ia_32 := I
    subst ea_32
    have hf := hga_32
    have hl := hla_32
    have I := Ia_32
    obtain ⟨u_33, eu_33, hf⟩ := ob hf
    obtain ⟨⟨v_34, σ_35⟩, ev_34, hf⟩ := ob hf
    have hgv_34 := hf
    rcases v_34 with v_36 | q_37
    · have hf := se_l hgv_34
      refine cx_ret (r := (some (.int v_36))) (rs := [.int v_36]) I (xr_V (vw := (RX6, TX6, 8)) (ci := 5) (σ' := σ_35) (rest := []) (As := [.int (0 : Int32), .int (v_31 - (1 : Int32))]) X I eu_33 rfl (mX6_look hX ev_34) lvX5_43 hdX5_43 ⟨Nat.le_trans (Nat.le_of_ble_eq_true rfl) hR.1, Nat.le_trans (Nat.le_of_ble_eq_true rfl) hR.2⟩ rfl hl.1 rfl (Nat.le_of_ble_eq_true rfl) dX5_road_19) rfl (fun H locs cells slots I => ?_)
      refine lv_istore_n (lv' := [(2, .int v_36), (1, .int v_26), (0, .ref x0)]) hx hb dX5_road_22 rfl hl (by decide) rfl (fun ls hl => ?_)
      refine lv_aload_n hx hb dX5_road_23 rfl (lv_at hl 2 rfl) ?_
      refine lv_iload_n hx hb dX5_road_24 rfl (lv_at hl 1 rfl) ?_
      refine lv_iload_n hx hb dX5_road_25 rfl (lv_at hl 0 rfl) ?_
      refine lv_icmp_eq (tgt := 41) hx hb dX5_road_26 (by decide) (fun c_26 => ?_) (fun c_26 => ?_)
      · have hf := ip c_26 hf
        exact wX5_road_41 hX hR X XH N x0 v_26 v_36 x0 σ_35 _ _ _ _ _ I (lv_sub hl [2, 1, 0] rfl) hf
      · have hf := im c_26 hf
        refine lv_aload_n hx hb dX5_road_29 rfl (lv_at hl 2 rfl) ?_
        obtain ⟨v_38, ev_38, hf⟩ := ob hf
        refine g_get X I gfX5_15 (gR_in ev_38) dX5_road_30 ?_
        refine lv_iload_n hx hb dX5_road_33 rfl (lv_at hl 1 rfl) ?_
        refine lv_iload_n hx hb dX5_road_34 rfl (lv_at hl 0 rfl) ?_
        obtain ⟨a_39, ea_39, hga_39⟩ := ob hf
        have hla_39 := hl
        have Ia_39 := I
        subst ea_39
        have hf := hga_39
        have hl := hla_39
        have I := Ia_39
        obtain ⟨u_40, eu_40, hf⟩ := ob hf
        obtain ⟨v_41, ev_41, hf⟩ := ob hf
        refine cg_V (vw := (RX3, TX3, 3)) (ci := 2) (r := (some (.int v_41))) (σ' := σ_35) (rs := [.int v_41, .ref x0]) (rest := [.ref x0]) (As := [.int v_26, .int v_36]) X I eu_40 rfl (mX3_hasRoad hX ev_41) lvX5_46 hdX5_46 ⟨Nat.le_trans (Nat.le_of_ble_eq_true rfl) hR.1, Nat.le_trans (Nat.le_of_ble_eq_true rfl) hR.2⟩ rfl hl.1 rfl (Nat.le_of_ble_eq_true rfl) rfl dX5_road_35 (fun H locs cells slots I => ?_)
        refine lv_if_eq (tgt := 45) hx hb dX5_road_38 (by decide) (fun c_38 => ?_) (fun c_38 => ?_)
        · have hf := ip c_38 hf
          refine lv_iconst (v := 0) hx hb dX5_road_45 (by decide) ?_
          exact wX5_road_46 hX hR X XH N x0 v_26 v_36 x0 (0 : Int32) σ_35 _ _ _ _ _ I (lv_sub hl [2, 1, 0] rfl) hf
        · have hf := im c_38 hf
          exact wX5_road_41 hX hR X XH N x0 v_26 v_36 x0 σ_35 _ _ _ _ _ I (lv_sub hl [2, 1, 0] rfl) hf
    · have hf := se_r hgv_34
      obtain ⟨uq_37, eq_37, hf⟩ := ob hf
      cases os hf
      refine cx_thr I (xr_V (vw := (RX6, TX6, 8)) (ci := 5) (σ' := σ_35) (rest := []) (As := [.int (0 : Int32), .int (v_31 - (1 : Int32))]) X I eu_33 rfl (mX6_look hX ev_34) lvX5_43 hdX5_43 ⟨Nat.le_trans (Nat.le_of_ble_eq_true rfl) hR.1, Nat.le_trans (Nat.le_of_ble_eq_true rfl) hR.2⟩ rfl hl.1 rfl (Nat.le_of_ble_eq_true rfl) dX5_road_19) (fun H locs cells slots I => ?_)
      exact x_out X XH rfl I eq_37
  · have hf := se_r hgv_24
    obtain ⟨uq_27, eq_27, hf⟩ := ob hf
    cases os hf
    refine cx_thr I (xr_V (vw := (RX5, TX5, 2)) (ci := 4) (σ' := σ_25) (rest := []) (As := []) X I eu_23 rfl (mX5_zone hX ev_24) lvX5_39 hdX5_39 ⟨Nat.le_trans (Nat.le_of_ble_eq_true rfl) hR.1, Nat.le_trans (Nat.le_of_ble_eq_true rfl) hR.2⟩ rfl hl.1 rfl (Nat.le_of_ble_eq_true rfl) dX5_road_1) (fun H locs cells slots I => ?_)
    exact x_out X XH rfl I eq_27
theorem mX5_road {E : EV} {l : Launch} {N : Nat} {σ : St} {x0 : Nat} {res : ((Unit ⊕ Nat) × St)} (hX : XK E) (hf : fX5_road N E.2.2.2.1 σ x0 = some res) : CX E l yX5_road (ws_ yX5_road cX5_road 3 none) 12 267 [.ref x0] σ (sv (fun v => none) res.1) (sx res.1) res.2 := by
  refine CX.of hX.1 (by decide) rfl rfl (Nat.le_of_ble_eq_true rfl) ?_
  intro p e s m below meth c X XH I ls hl
  exact wX5_road_0 hX ⟨Nat.le_refl _, Nat.le_refl _⟩ X XH N _ _ _ _ _ _ _ I hl hf
/-! SharedTaxis.mostOf(I)I imp=False fuel=False kap=False rt=I thr=False -/
def fX1_mostOf (σ : St) (x0 : Int32) : Option Int32 := if x0 = 0 then some (60 : Int32) else if x0 = 1 then some (9 : Int32) else if x0 = 2 then some (60 : Int32) else if x0 = 3 then some (30 : Int32) else if x0 = 4 then some (9999 : Int32) else if x0 = 5 then some (999 : Int32) else if x0 = 6 then some (99 : Int32) else some (90 : Int32)
theorem wX1_mostOf_0 {E : EV} {l : Launch} {p : Program} {e : Env} {s : State} {m : MethodId} {args : Array Value} {below : List Frame} {meth : Method} {c : Code} {R : Room} {σ : St} {res : Int32} (hX : XK E) (hR : 0 ≤ R.frames ∧ 0 ≤ R.locals) (X : MX E p s m args meth c cX1_mostOf 1 (some .int) RX1 "mostOf") : ∀ (x0 : Int32) (H : Heap) (locs : List Loc) (cells slots : Nat) (ls : Array Slot), WI E R s σ H locs cells slots → lv_has ls 1 [(0, .int x0)] → fX1_mostOf σ x0 = some res → W p l e R s m args below meth c H locs cells slots (MQ below (Qd E R.cells R.slots (some (.int res)) σ) args s R.cells R.slots (fr E)) (F0 m 0 ls []) := by
  intro x0 H locs cells slots ls I hl hf
  obtain ⟨⟨hx, hb, hml, hown, hts⟩, -⟩ := id X
  unfold fX1_mostOf at hf
  refine lv_iload_n hx hb dX1_mostOf_0 rfl (lv_at hl 0 rfl) ?_
  by_cases c_1_0 : x0 = 0
  · have hf := ip c_1_0 hf
    refine lv_tableIn (off := 43) (tgt := 44) hx hb dX1_mostOf_1 (by rw [c_1_0]; decide) (by rw [c_1_0]; decide) (by rw [c_1_0]; rfl) (by decide) ?_
    refine lv_bipush (v := 60) hx hb dX1_mostOf_44 (by decide) ?_
    refine lv_goto (tgt := 78) hx hb dX1_mostOf_46 (by decide) ?_
    cases os hf
    exact r_iret X I dX1_mostOf_78
  · have hf := im c_1_0 hf
    by_cases c_1_1 : x0 = 1
    · have hf := ip c_1_1 hf
      refine lv_tableIn (off := 48) (tgt := 49) hx hb dX1_mostOf_1 (by rw [c_1_1]; decide) (by rw [c_1_1]; decide) (by rw [c_1_1]; rfl) (by decide) ?_
      refine lv_bipush (v := 9) hx hb dX1_mostOf_49 (by decide) ?_
      refine lv_goto (tgt := 78) hx hb dX1_mostOf_51 (by decide) ?_
      cases os hf
      exact r_iret X I dX1_mostOf_78
    · have hf := im c_1_1 hf
      by_cases c_1_2 : x0 = 2
      · have hf := ip c_1_2 hf
        refine lv_tableIn (off := 43) (tgt := 44) hx hb dX1_mostOf_1 (by rw [c_1_2]; decide) (by rw [c_1_2]; decide) (by rw [c_1_2]; rfl) (by decide) ?_
        refine lv_bipush (v := 60) hx hb dX1_mostOf_44 (by decide) ?_
        refine lv_goto (tgt := 78) hx hb dX1_mostOf_46 (by decide) ?_
        cases os hf
        exact r_iret X I dX1_mostOf_78
      · have hf := im c_1_2 hf
        by_cases c_1_3 : x0 = 3
        · have hf := ip c_1_3 hf
          refine lv_tableIn (off := 53) (tgt := 54) hx hb dX1_mostOf_1 (by rw [c_1_3]; decide) (by rw [c_1_3]; decide) (by rw [c_1_3]; rfl) (by decide) ?_
          refine lv_bipush (v := 30) hx hb dX1_mostOf_54 (by decide) ?_
          refine lv_goto (tgt := 78) hx hb dX1_mostOf_56 (by decide) ?_
          cases os hf
          exact r_iret X I dX1_mostOf_78
        · have hf := im c_1_3 hf
          by_cases c_1_4 : x0 = 4
          · have hf := ip c_1_4 hf
            refine lv_tableIn (off := 58) (tgt := 59) hx hb dX1_mostOf_1 (by rw [c_1_4]; decide) (by rw [c_1_4]; decide) (by rw [c_1_4]; rfl) (by decide) ?_
            refine lv_sipush (v := 9999) hx hb dX1_mostOf_59 (by decide) ?_
            refine lv_goto (tgt := 78) hx hb dX1_mostOf_62 (by decide) ?_
            cases os hf
            exact r_iret X I dX1_mostOf_78
          · have hf := im c_1_4 hf
            by_cases c_1_5 : x0 = 5
            · have hf := ip c_1_5 hf
              refine lv_tableIn (off := 64) (tgt := 65) hx hb dX1_mostOf_1 (by rw [c_1_5]; decide) (by rw [c_1_5]; decide) (by rw [c_1_5]; rfl) (by decide) ?_
              refine lv_sipush (v := 999) hx hb dX1_mostOf_65 (by decide) ?_
              refine lv_goto (tgt := 78) hx hb dX1_mostOf_68 (by decide) ?_
              cases os hf
              exact r_iret X I dX1_mostOf_78
            · have hf := im c_1_5 hf
              by_cases c_1_6 : x0 = 6
              · have hf := ip c_1_6 hf
                refine lv_tableIn (off := 70) (tgt := 71) hx hb dX1_mostOf_1 (by rw [c_1_6]; decide) (by rw [c_1_6]; decide) (by rw [c_1_6]; rfl) (by decide) ?_
                refine lv_bipush (v := 99) hx hb dX1_mostOf_71 (by decide) ?_
                refine lv_goto (tgt := 78) hx hb dX1_mostOf_73 (by decide) ?_
                cases os hf
                exact r_iret X I dX1_mostOf_78
              · have hf := im c_1_6 hf
                refine lv_tableOut (tgt := 76) hx hb dX1_mostOf_1 (by exact sw_out 0 6 (fun k h1 h2 => by rcases (show k = 0 ∨ k = 1 ∨ k = 2 ∨ k = 3 ∨ k = 4 ∨ k = 5 ∨ k = 6 by omega) with rfl | rfl | rfl | rfl | rfl | rfl | rfl; exact c_1_0; exact c_1_1; exact c_1_2; exact c_1_3; exact c_1_4; exact c_1_5; exact c_1_6)) (by decide) ?_
                refine lv_bipush (v := 90) hx hb dX1_mostOf_76 (by decide) ?_
                cases os hf
                exact r_iret X I dX1_mostOf_78
theorem mX1_mostOf {E : EV} {l : Launch} {σ : St} {x0 : Int32} {res : Int32} (hX : XK E) (hf : fX1_mostOf σ x0 = some res) : CM E l yX1_mostOf (ws_ yX1_mostOf cX1_mostOf 1 (some .int)) 0 0 [.int x0] σ (some (.int res)) σ := by
  refine CM.of hX.1 (by decide) rfl rfl (Nat.le_of_ble_eq_true rfl) ?_
  intro p e s m below meth c X I ls hl
  exact wX1_mostOf_0 hX ⟨Nat.le_refl _, Nat.le_refl _⟩ X _ _ _ _ _ _ I hl hf
/-! SharedTaxis.ruleName(I)Ljava/lang/String; imp=False fuel=False kap=True rt=N thr=False -/
def fX1_ruleName (κ : Nat → Nat) (σ : St) (x0 : Int32) : Option Nat := if x0 = 0 then some ((κ 100)) else if x0 = 1 then some ((κ 101)) else if x0 = 2 then some ((κ 102)) else if x0 = 3 then some ((κ 103)) else if x0 = 4 then some ((κ 104)) else if x0 = 5 then some ((κ 105)) else some ((κ 106))
theorem wX1_ruleName_0 {E : EV} {l : Launch} {p : Program} {e : Env} {s : State} {m : MethodId} {args : Array Value} {below : List Frame} {meth : Method} {c : Code} {R : Room} {σ : St} {res : Nat} (hX : XK E) (hR : 0 ≤ R.frames ∧ 0 ≤ R.locals) (X : MX E p s m args meth c cX1_ruleName 1 (some (.object "java/lang/String")) RX1 "ruleName") : ∀ (x0 : Int32) (H : Heap) (locs : List Loc) (cells slots : Nat) (ls : Array Slot), WI E R s σ H locs cells slots → lv_has ls 1 [(0, .int x0)] → fX1_ruleName E.2.2.2.1 σ x0 = some res → W p l e R s m args below meth c H locs cells slots (MQ below (Qd E R.cells R.slots (some (.ref res)) σ) args s R.cells R.slots (fr E)) (F0 m 0 ls []) := by
  intro x0 H locs cells slots ls I hl hf
  obtain ⟨⟨hx, hb, hml, hown, hts⟩, -⟩ := id X
  unfold fX1_ruleName at hf
  refine lv_iload_n hx hb dX1_ruleName_0 rfl (lv_at hl 0 rfl) ?_
  by_cases c_1_0 : x0 = 0
  · have hf := ip c_1_0 hf
    refine lv_tableIn (off := 39) (tgt := 40) hx hb dX1_ruleName_1 (by rw [c_1_0]; decide) (by rw [c_1_0]; decide) (by rw [c_1_0]; rfl) (by decide) ?_
    refine g_ldcS hX X (tx := "wait") (k := 100) (List.mem_of_getElem? (i := 0) rfl) dX1_ruleName_40 ?_
    refine lv_goto (tgt := 72) hx hb dX1_ruleName_42 (by decide) ?_
    cases os hf
    exact r_aret X I (Or.inl ⟨_, rfl⟩) (Or.inr ⟨_, rfl⟩) dX1_ruleName_72
  · have hf := im c_1_0 hf
    by_cases c_1_1 : x0 = 1
    · have hf := ip c_1_1 hf
      refine lv_tableIn (off := 44) (tgt := 45) hx hb dX1_ruleName_1 (by rw [c_1_1]; decide) (by rw [c_1_1]; decide) (by rw [c_1_1]; rfl) (by decide) ?_
      refine g_ldcS hX X (tx := "dwell") (k := 101) (List.mem_of_getElem? (i := 1) rfl) dX1_ruleName_45 ?_
      refine lv_goto (tgt := 72) hx hb dX1_ruleName_47 (by decide) ?_
      cases os hf
      exact r_aret X I (Or.inl ⟨_, rfl⟩) (Or.inr ⟨_, rfl⟩) dX1_ruleName_72
    · have hf := im c_1_1 hf
      by_cases c_1_2 : x0 = 2
      · have hf := ip c_1_2 hf
        refine lv_tableIn (off := 49) (tgt := 50) hx hb dX1_ruleName_1 (by rw [c_1_2]; decide) (by rw [c_1_2]; decide) (by rw [c_1_2]; rfl) (by decide) ?_
        refine g_ldcS hX X (tx := "offer") (k := 102) (List.mem_of_getElem? (i := 2) rfl) dX1_ruleName_50 ?_
        refine lv_goto (tgt := 72) hx hb dX1_ruleName_52 (by decide) ?_
        cases os hf
        exact r_aret X I (Or.inl ⟨_, rfl⟩) (Or.inr ⟨_, rfl⟩) dX1_ruleName_72
      · have hf := im c_1_2 hf
        by_cases c_1_3 : x0 = 3
        · have hf := ip c_1_3 hf
          refine lv_tableIn (off := 54) (tgt := 55) hx hb dX1_ruleName_1 (by rw [c_1_3]; decide) (by rw [c_1_3]; decide) (by rw [c_1_3]; rfl) (by decide) ?_
          refine g_ldcS hX X (tx := "patience") (k := 103) (List.mem_of_getElem? (i := 3) rfl) dX1_ruleName_55 ?_
          refine lv_goto (tgt := 72) hx hb dX1_ruleName_57 (by decide) ?_
          cases os hf
          exact r_aret X I (Or.inl ⟨_, rfl⟩) (Or.inr ⟨_, rfl⟩) dX1_ruleName_72
        · have hf := im c_1_3 hf
          by_cases c_1_4 : x0 = 4
          · have hf := ip c_1_4 hf
            refine lv_tableIn (off := 59) (tgt := 60) hx hb dX1_ruleName_1 (by rw [c_1_4]; decide) (by rw [c_1_4]; decide) (by rw [c_1_4]; rfl) (by decide) ?_
            refine g_ldcS hX X (tx := "fee") (k := 104) (List.mem_of_getElem? (i := 4) rfl) dX1_ruleName_60 ?_
            refine lv_goto (tgt := 72) hx hb dX1_ruleName_62 (by decide) ?_
            cases os hf
            exact r_aret X I (Or.inl ⟨_, rfl⟩) (Or.inr ⟨_, rfl⟩) dX1_ruleName_72
          · have hf := im c_1_4 hf
            by_cases c_1_5 : x0 = 5
            · have hf := ip c_1_5 hf
              refine lv_tableIn (off := 64) (tgt := 65) hx hb dX1_ruleName_1 (by rw [c_1_5]; decide) (by rw [c_1_5]; decide) (by rw [c_1_5]; rfl) (by decide) ?_
              refine g_ldcS hX X (tx := "stint") (k := 105) (List.mem_of_getElem? (i := 5) rfl) dX1_ruleName_65 ?_
              refine lv_goto (tgt := 72) hx hb dX1_ruleName_67 (by decide) ?_
              cases os hf
              exact r_aret X I (Or.inl ⟨_, rfl⟩) (Or.inr ⟨_, rfl⟩) dX1_ruleName_72
            · have hf := im c_1_5 hf
              refine lv_tableOut (tgt := 70) hx hb dX1_ruleName_1 (by exact sw_out 0 5 (fun k h1 h2 => by rcases (show k = 0 ∨ k = 1 ∨ k = 2 ∨ k = 3 ∨ k = 4 ∨ k = 5 by omega) with rfl | rfl | rfl | rfl | rfl | rfl; exact c_1_0; exact c_1_1; exact c_1_2; exact c_1_3; exact c_1_4; exact c_1_5)) (by decide) ?_
              refine g_ldcS hX X (tx := "rest") (k := 106) (List.mem_of_getElem? (i := 6) rfl) dX1_ruleName_70 ?_
              cases os hf
              exact r_aret X I (Or.inl ⟨_, rfl⟩) (Or.inr ⟨_, rfl⟩) dX1_ruleName_72
theorem mX1_ruleName {E : EV} {l : Launch} {σ : St} {x0 : Int32} {res : Nat} (hX : XK E) (hf : fX1_ruleName E.2.2.2.1 σ x0 = some res) : CM E l yX1_ruleName (ws_ yX1_ruleName cX1_ruleName 1 (some (.object "java/lang/String"))) 0 0 [.int x0] σ (some (.ref res)) σ := by
  refine CM.of hX.1 (by decide) rfl rfl (Nat.le_of_ble_eq_true rfl) ?_
  intro p e s m below meth c X I ls hl
  exact wX1_ruleName_0 hX ⟨Nat.le_refl _, Nat.le_refl _⟩ X _ _ _ _ _ _ I hl hf
/-! SharedTaxis.leastOf(I)I imp=False fuel=False kap=False rt=I thr=False -/
def fX1_leastOf (σ : St) (x0 : Int32) : Option Int32 := if x0 = (5 : Int32) then some (1 : Int32) else if x0 = (6 : Int32) then some (1 : Int32) else some (0 : Int32)
theorem wX1_leastOf_0 {E : EV} {l : Launch} {p : Program} {e : Env} {s : State} {m : MethodId} {args : Array Value} {below : List Frame} {meth : Method} {c : Code} {R : Room} {σ : St} {res : Int32} (hX : XK E) (hR : 0 ≤ R.frames ∧ 0 ≤ R.locals) (X : MX E p s m args meth c cX1_leastOf 1 (some .int) RX1 "leastOf") : ∀ (x0 : Int32) (H : Heap) (locs : List Loc) (cells slots : Nat) (ls : Array Slot), WI E R s σ H locs cells slots → lv_has ls 1 [(0, .int x0)] → fX1_leastOf σ x0 = some res → W p l e R s m args below meth c H locs cells slots (MQ below (Qd E R.cells R.slots (some (.int res)) σ) args s R.cells R.slots (fr E)) (F0 m 0 ls []) := by
  intro x0 H locs cells slots ls I hl hf
  obtain ⟨⟨hx, hb, hml, hown, hts⟩, -⟩ := id X
  unfold fX1_leastOf at hf
  refine lv_iload_n hx hb dX1_leastOf_0 rfl (lv_at hl 0 rfl) ?_
  refine lv_iconst (v := 5) hx hb dX1_leastOf_1 (by decide) ?_
  refine lv_icmp_eq (tgt := 11) hx hb dX1_leastOf_2 (by decide) (fun c_2 => ?_) (fun c_2 => ?_)
  · have hf := ip c_2 hf
    refine lv_iconst (v := 1) hx hb dX1_leastOf_11 (by decide) ?_
    refine lv_goto (tgt := 16) hx hb dX1_leastOf_12 (by decide) ?_
    cases os hf
    exact r_iret X I dX1_leastOf_16
  · have hf := im c_2 hf
    refine lv_iload_n hx hb dX1_leastOf_5 rfl (lv_at hl 0 rfl) ?_
    refine lv_bipush (v := 6) hx hb dX1_leastOf_6 (by decide) ?_
    refine lv_icmp_ne (tgt := 15) hx hb dX1_leastOf_8 (by decide) (fun c_8 => ?_) (fun c_8 => ?_)
    · have hf := im c_8 hf
      refine lv_iconst (v := 0) hx hb dX1_leastOf_15 (by decide) ?_
      cases os hf
      exact r_iret X I dX1_leastOf_16
    · have hf := ip c_8 hf
      refine lv_iconst (v := 1) hx hb dX1_leastOf_11 (by decide) ?_
      refine lv_goto (tgt := 16) hx hb dX1_leastOf_12 (by decide) ?_
      cases os hf
      exact r_iret X I dX1_leastOf_16
theorem mX1_leastOf {E : EV} {l : Launch} {σ : St} {x0 : Int32} {res : Int32} (hX : XK E) (hf : fX1_leastOf σ x0 = some res) : CM E l yX1_leastOf (ws_ yX1_leastOf cX1_leastOf 1 (some .int)) 0 0 [.int x0] σ (some (.int res)) σ := by
  refine CM.of hX.1 (by decide) rfl rfl (Nat.le_of_ble_eq_true rfl) ?_
  intro p e s m below meth c X I ls hl
  exact wX1_leastOf_0 hX ⟨Nat.le_refl _, Nat.le_refl _⟩ X _ _ _ _ _ _ I hl hf
/-! SharedTaxis$Reader.rule(LSharedTaxis$State;)V imp=True fuel=True kap=True rt=None thr=True -/
theorem lvX5_102 : GoodIn lw_all (wsV RX5 102 RX6 yX6_wrong (ws_ yX6_wrong cX6_wrong 1 (some (.object "SharedTaxis$SyntaxException")))) := lw_V q1529 q1368 q1369 q126 q1370
theorem hdX5_102 : yX6_wrong.cls = RX6 ∧ yX6_wrong.cls ≠ "java/lang/invoke/MethodHandle" ∧ yX6_wrong.cls ≠ "java/lang/invoke/VarHandle" ∧ (parseMethodDescriptor yX6_wrong.desc).map (fun d => d.parameters.length) = some 0 := by decide +kernel
theorem lvX5_83 : GoodIn lw_all (ws_ yX1_ruleName cX1_ruleName 1 (some (.object "java/lang/String"))) ∧ Cond.methodLinkNest RX5 83 yX1_ruleName "SharedTaxis" ∈ lw_tbl ∧ Cond.initialized yX1_ruleName.cls ∈ lw_all ∧ Cond.static yX1_ruleName ∈ lw_all := ⟨lw_meth q1518, q1516, q113, q1517⟩
theorem hdX5_83 : yX1_ruleName.cls ≠ "java/lang/invoke/MethodHandle" ∧ yX1_ruleName.cls ≠ "java/lang/invoke/VarHandle" ∧ (parseMethodDescriptor yX1_ruleName.desc).map (fun d => d.parameters.length) = some 1 := by decide +kernel
theorem lvX5_87 : GoodIn lw_all (wsV RX5 87 RX6 yX6_accept (ws_ yX6_accept cX6_accept 3 (some .boolean))) := lw_V q1493 q1352 q1353 q126 q1354
theorem hdX5_87 : yX6_accept.cls = RX6 ∧ yX6_accept.cls ≠ "java/lang/invoke/MethodHandle" ∧ yX6_accept.cls ≠ "java/lang/invoke/VarHandle" ∧ (parseMethodDescriptor yX6_accept.desc).map (fun d => d.parameters.length) = some 1 := by decide +kernel
theorem gfX5_91 : ∀ q ∈ ([(1, 1)] : List (Nat × Nat)), GN RX5 91 q := List.forall_mem_cons.mpr ⟨⟨RX2, TX2, 7, _, rfl, in_X2, by decide, q238⟩, fun _ h => by cases h⟩
theorem lvX5_95 : GoodIn lw_all (ws_ yX1_leastOf cX1_leastOf 1 (some .int)) ∧ Cond.methodLinkNest RX5 95 yX1_leastOf "SharedTaxis" ∈ lw_tbl ∧ Cond.initialized yX1_leastOf.cls ∈ lw_all ∧ Cond.static yX1_leastOf ∈ lw_all := ⟨lw_meth q1528, q1526, q113, q1527⟩
theorem hdX5_95 : yX1_leastOf.cls ≠ "java/lang/invoke/MethodHandle" ∧ yX1_leastOf.cls ≠ "java/lang/invoke/VarHandle" ∧ (parseMethodDescriptor yX1_leastOf.desc).map (fun d => d.parameters.length) = some 1 := by decide +kernel
theorem lvX5_99 : GoodIn lw_all (ws_ yX1_mostOf cX1_mostOf 1 (some .int)) ∧ Cond.methodLinkNest RX5 99 yX1_mostOf "SharedTaxis" ∈ lw_tbl ∧ Cond.initialized yX1_mostOf.cls ∈ lw_all ∧ Cond.static yX1_mostOf ∈ lw_all := ⟨lw_meth q1510, q1508, q113, q1509⟩
theorem hdX5_99 : yX1_mostOf.cls ≠ "java/lang/invoke/MethodHandle" ∧ yX1_mostOf.cls ≠ "java/lang/invoke/VarHandle" ∧ (parseMethodDescriptor yX1_mostOf.desc).map (fun d => d.parameters.length) = some 1 := by decide +kernel
def fX5_rule_2 (N : Nat) (κ : Nat → Nat) : Nat → Nat → Nat → Int32 → St → Option ((Unit ⊕ Nat) × St)
  | 0, _, _, _, _ => none
  | n + 1, x0, x1, x2, σ => if (7 : Int32) ≤ x2 then (gR σ x0 [(4, 0)]).bind fun v_1 : Option Nat => (v_1).bind fun a_2 : Nat => (isC σ a_2 5).bind fun u_3 : Unit => (fX6_wrong κ σ a_2).bind fun (v_4, σ_5) => (isX σ_5 v_4).bind fun u_6 : Unit => some (.inr v_4, σ_5) else (gR σ x0 [(4, 0)]).bind fun v_7 : Option Nat => (fX1_ruleName κ σ x2).bind fun v_8 : Nat => (v_7).bind fun a_10 : Nat => (isC σ a_10 5).bind fun u_11 : Unit => (fX6_accept N κ σ a_10 v_8).bind fun (v_12, σ_13) => if v_12 = 0 then lt (x2 + 1) fun x2_14 : Int32 => fX5_rule_2 N κ n x0 x1 x2_14 σ_13 else (gR σ_13 x1 [(1, 1)]).bind fun v_15 : Option Nat => (gR σ_13 x0 [(4, 0)]).bind fun v_16 : Option Nat => (fX1_leastOf σ_13 x2).bind fun v_17 : Int32 => (fX1_mostOf σ_13 x2).bind fun v_19 : Int32 => (v_16).bind fun a_21 : Nat => (isC σ_13 a_21 5).bind fun u_22 : Unit => (fX6_number N κ σ_13 a_21 v_17 v_19).bind fun (v_23, σ_24) => se v_23 (fun v_25 => (v_15).bind fun a_27 : Nat => (sI σ_24 a_27 0 x2 v_25).bind fun σ_28 : St => some (.inl (), σ_28)) (fun q_26 => (isX σ_24 q_26).bind fun uq_26 : Unit => some (.inr q_26, σ_24))
def fX5_rule (N : Nat) (κ : Nat → Nat) (σ : St) (x0 : Nat) (x1 : Nat) : Option ((Unit ⊕ Nat) × St) := fX5_rule_2 N κ N x0 x1 (0 : Int32) σ
theorem wX5_rule_2 {E : EV} {l : Launch} {p : Program} {e : Env} {s : State} {m : MethodId} {args : Array Value} {below : List Frame} {meth : Method} {c : Code} {R : Room} {res : ((Unit ⊕ Nat) × St)} (hX : XK E) (hR : 11 ≤ R.frames ∧ 247 ≤ R.locals) (X : MX E p s m args meth c cX5_rule 3 none RX5 "rule") (XH : MH c []) (N : Nat) : ∀ (n : Nat) (x0 : Nat) (x1 : Nat) (x2 : Int32) (σ : St) (H : Heap) (locs : List Loc) (cells slots : Nat) (ls : Array Slot), WI E R s σ H locs cells slots → lv_has ls 3 [(0, .ref x0), (1, .ref x1), (2, .int x2)] → fX5_rule_2 N E.2.2.2.1 n x0 x1 x2 σ = some res → W p l e R s m args below meth c H locs cells slots (vx_MQ below (QS E R.cells R.slots (sv (fun v => none) res.1) res.2) (XS E R.cells R.slots (sx res.1) res.2) args s R.cells R.slots (fr E)) (F0 m 2 ls []) := by
  intro n
  induction n with
  | zero => intro x0 x1 x2 σ H locs cells slots ls I hl hf; exact nomatch (show none = some res from hf)
  | succ n ih =>
    intro x0 x1 x2 σ H locs cells slots ls I hl hf
    obtain ⟨⟨hx, hb, hml, hown, hts⟩, -⟩ := id X
    rw [fX5_rule_2.eq_2] at hf
    refine lv_iload_n hx hb dX5_rule_2 rfl (lv_at hl 2 rfl) ?_
    refine lv_bipush (v := 7) hx hb dX5_rule_3 (by decide) ?_
    refine lv_icmp_ge (tgt := 50) hx hb dX5_rule_5 (by decide) (fun c_5 => ?_) (fun c_5 => ?_)
    · have hf := ip c_5 hf
      refine lv_aload_n hx hb dX5_rule_50 rfl (lv_at hl 0 rfl) ?_
      obtain ⟨v_1, ev_1, hf⟩ := ob hf
      refine g_get X I gfX5_9 (gR_in ev_1) dX5_rule_51 ?_
      obtain ⟨a_2, ea_2, hga_2⟩ := ob hf
      have hla_2 := hl
      have Ia_2 := I
      subst ea_2
      have hf := hga_2
      have hl := hla_2
      have I := Ia_2
      obtain ⟨u_3, eu_3, hf⟩ := ob hf
      obtain ⟨⟨v_4, σ_5⟩, ev_4, hf⟩ := ob hf
      refine cg_V (vw := (RX6, TX6, 8)) (ci := 5) (r := (some (.ref v_4))) (σ' := σ_5) (rs := [.ref v_4]) (rest := []) (As := []) X I eu_3 rfl (mX6_wrong hX ev_4) lvX5_102 hdX5_102 ⟨Nat.le_trans (Nat.le_of_ble_eq_true rfl) hR.1, Nat.le_trans (Nat.le_of_ble_eq_true rfl) hR.2⟩ rfl hl.1 rfl (Nat.le_of_ble_eq_true rfl) rfl dX5_rule_54 (fun H locs cells slots I => ?_)
      obtain ⟨u_6, eu_6, hf⟩ := ob hf
      cases os hf
      exact x_athrow X XH rfl I eu_6 dX5_rule_57
    · have hf := im c_5 hf
      refine lv_aload_n hx hb dX5_rule_8 rfl (lv_at hl 0 rfl) ?_
      obtain ⟨v_7, ev_7, hf⟩ := ob hf
      refine g_get X I gfX5_9 (gR_in ev_7) dX5_rule_9 ?_
      refine lv_iload_n hx hb dX5_rule_12 rfl (lv_at hl 2 rfl) ?_
      obtain ⟨v_8, ev_8, hf⟩ := ob hf
      refine cm_SN (r := (some (.ref v_8))) (σ' := σ) (rs := [.ref v_8, va_rf v_7]) (rest := [va_rf v_7]) (As := [.int x2]) hX X I (mX1_ruleName hX ev_8) lvX5_83 hdX5_83 ⟨Nat.le_trans (Nat.le_of_ble_eq_true rfl) hR.1, Nat.le_trans (Nat.le_of_ble_eq_true rfl) hR.2⟩ rfl hl.1 rfl (by rcases v_7 with _ | _ <;> exact (Nat.le_of_ble_eq_true rfl)) rfl dX5_rule_13 (fun H locs cells slots I => ?_)
      obtain ⟨a_10, ea_10, hga_10⟩ := ob hf
      have hla_10 := hl
      have Ia_10 := I
      subst ea_10
      have hf := hga_10
      have hl := hla_10
      have I := Ia_10
      obtain ⟨u_11, eu_11, hf⟩ := ob hf
      obtain ⟨⟨v_12, σ_13⟩, ev_12, hf⟩ := ob hf
      refine cg_V (vw := (RX6, TX6, 8)) (ci := 5) (r := (some (.int v_12))) (σ' := σ_13) (rs := [.int v_12]) (rest := []) (As := [.ref v_8]) X I eu_11 rfl (mX6_accept hX ev_12) lvX5_87 hdX5_87 ⟨Nat.le_trans (Nat.le_of_ble_eq_true rfl) hR.1, Nat.le_trans (Nat.le_of_ble_eq_true rfl) hR.2⟩ rfl hl.1 rfl (Nat.le_of_ble_eq_true rfl) rfl dX5_rule_16 (fun H locs cells slots I => ?_)
      refine lv_if_eq (tgt := 44) hx hb dX5_rule_19 (by decide) (fun c_19 => ?_) (fun c_19 => ?_)
      · have hf := ip c_19 hf
        obtain ⟨x2_14, ex2_14, hf⟩ := ol hf
        refine lv_iinc (v := x2_14) (lv' := [(2, .int x2_14), (0, .ref x0), (1, .ref x1)]) hx hb dX5_rule_44 hl (k := 2) rfl ex2_14 (by decide) rfl (fun ls hl => ?_)
        refine lv_goto (tgt := 2) hx hb dX5_rule_47 (by decide) ?_
        exact ih x0 x1 x2_14 σ_13 _ _ _ _ _ I (lv_sub hl [1, 2, 0] rfl) hf
      · have hf := im c_19 hf
        refine lv_aload_n hx hb dX5_rule_22 rfl (lv_at hl 1 rfl) ?_
        obtain ⟨v_15, ev_15, hf⟩ := ob hf
        refine g_getN hX X I gfX5_91 (gR_in ev_15) dX5_rule_23 ?_
        refine lv_iload_n hx hb dX5_rule_26 rfl (lv_at hl 2 rfl) ?_
        refine lv_aload_n hx hb dX5_rule_27 rfl (lv_at hl 0 rfl) ?_
        obtain ⟨v_16, ev_16, hf⟩ := ob hf
        refine g_get X I gfX5_9 (gR_in ev_16) dX5_rule_28 ?_
        refine lv_iload_n hx hb dX5_rule_31 rfl (lv_at hl 2 rfl) ?_
        obtain ⟨v_17, ev_17, hf⟩ := ob hf
        refine cm_SN (r := (some (.int v_17))) (σ' := σ_13) (rs := [.int v_17, va_rf v_16, .int x2, va_rf v_15]) (rest := [va_rf v_16, .int x2, va_rf v_15]) (As := [.int x2]) hX X I (mX1_leastOf hX ev_17) lvX5_95 hdX5_95 ⟨Nat.le_trans (Nat.le_of_ble_eq_true rfl) hR.1, Nat.le_trans (Nat.le_of_ble_eq_true rfl) hR.2⟩ rfl hl.1 rfl (by rcases v_15 with _ | _ <;> rcases v_16 with _ | _ <;> exact (Nat.le_of_ble_eq_true rfl)) rfl dX5_rule_32 (fun H locs cells slots I => ?_)
        refine lv_iload_n hx hb dX5_rule_35 rfl (lv_at hl 2 rfl) ?_
        obtain ⟨v_19, ev_19, hf⟩ := ob hf
        refine cm_SN (r := (some (.int v_19))) (σ' := σ_13) (rs := [.int v_19, .int v_17, va_rf v_16, .int x2, va_rf v_15]) (rest := [.int v_17, va_rf v_16, .int x2, va_rf v_15]) (As := [.int x2]) hX X I (mX1_mostOf hX ev_19) lvX5_99 hdX5_99 ⟨Nat.le_trans (Nat.le_of_ble_eq_true rfl) hR.1, Nat.le_trans (Nat.le_of_ble_eq_true rfl) hR.2⟩ rfl hl.1 rfl (by rcases v_15 with _ | _ <;> rcases v_16 with _ | _ <;> exact (Nat.le_of_ble_eq_true rfl)) rfl dX5_rule_36 (fun H locs cells slots I => ?_)
        obtain ⟨a_21, ea_21, hga_21⟩ := ob hf
        have hla_21 := hl
        have Ia_21 := I
        subst ea_21
        have hf := hga_21
        have hl := hla_21
        have I := Ia_21
        obtain ⟨u_22, eu_22, hf⟩ := ob hf
        obtain ⟨⟨v_23, σ_24⟩, ev_23, hf⟩ := ob hf
        have hgv_23 := hf
        rcases v_23 with v_25 | q_26
        · have hf := se_l hgv_23
          refine cx_ret (r := (some (.int v_25))) (rs := [.int v_25, .int x2, va_rf v_15]) I (xr_V (vw := (RX6, TX6, 8)) (ci := 5) (σ' := σ_24) (rest := [.int x2, va_rf v_15]) (As := [.int v_17, .int v_19]) X I eu_22 rfl (mX6_number hX ev_23) lvX5_25 hdX5_25 ⟨Nat.le_trans (Nat.le_of_ble_eq_true rfl) hR.1, Nat.le_trans (Nat.le_of_ble_eq_true rfl) hR.2⟩ rfl hl.1 rfl (by rcases v_15 with _ | _ <;> exact (Nat.le_of_ble_eq_true rfl)) dX5_rule_39) rfl (fun H locs cells slots I => ?_)
          obtain ⟨a_27, ea_27, hga_27⟩ := ob hf
          have hla_27 := hl
          have Ia_27 := I
          subst ea_27
          have hf := hga_27
          have hl := hla_27
          have I := Ia_27
          obtain ⟨σ_28, eσ_28, hf⟩ := ob hf
          refine g_iast X I eσ_28 dX5_rule_42 (fun H locs I => ?_)
          cases os hf
          exact x_ret (r_vret X I dX5_rule_43)
        · have hf := se_r hgv_23
          obtain ⟨uq_26, eq_26, hf⟩ := ob hf
          cases os hf
          refine cx_thr I (xr_V (vw := (RX6, TX6, 8)) (ci := 5) (σ' := σ_24) (rest := [.int x2, va_rf v_15]) (As := [.int v_17, .int v_19]) X I eu_22 rfl (mX6_number hX ev_23) lvX5_25 hdX5_25 ⟨Nat.le_trans (Nat.le_of_ble_eq_true rfl) hR.1, Nat.le_trans (Nat.le_of_ble_eq_true rfl) hR.2⟩ rfl hl.1 rfl (by rcases v_15 with _ | _ <;> exact (Nat.le_of_ble_eq_true rfl)) dX5_rule_39) (fun H locs cells slots I => ?_)
          exact x_out X XH rfl I eq_26
theorem wX5_rule_0 {E : EV} {l : Launch} {p : Program} {e : Env} {s : State} {m : MethodId} {args : Array Value} {below : List Frame} {meth : Method} {c : Code} {R : Room} {res : ((Unit ⊕ Nat) × St)} (hX : XK E) (hR : 11 ≤ R.frames ∧ 247 ≤ R.locals) (X : MX E p s m args meth c cX5_rule 3 none RX5 "rule") (XH : MH c []) (N : Nat) : ∀ (x0 : Nat) (x1 : Nat) (σ : St) (H : Heap) (locs : List Loc) (cells slots : Nat) (ls : Array Slot), WI E R s σ H locs cells slots → lv_has ls 3 [(0, .ref x0), (1, .ref x1)] → fX5_rule N E.2.2.2.1 σ x0 x1 = some res → W p l e R s m args below meth c H locs cells slots (vx_MQ below (QS E R.cells R.slots (sv (fun v => none) res.1) res.2) (XS E R.cells R.slots (sx res.1) res.2) args s R.cells R.slots (fr E)) (F0 m 0 ls []) := by
  intro x0 x1 σ H locs cells slots ls I hl hf
  obtain ⟨⟨hx, hb, hml, hown, hts⟩, -⟩ := id X
  unfold fX5_rule at hf
  refine lv_iconst (v := 0) hx hb dX5_rule_0 (by decide) ?_
  refine lv_istore_n (lv' := [(2, .int (0 : Int32)), (0, .ref x0), (1, .ref x1)]) hx hb dX5_rule_1 rfl hl (by decide) rfl (fun ls hl => ?_)
  exact wX5_rule_2 hX hR X XH N N x0 x1 (0 : Int32) σ _ _ _ _ _ I (lv_sub hl [1, 2, 0] rfl) hf
theorem mX5_rule {E : EV} {l : Launch} {N : Nat} {σ : St} {x0 : Nat} {x1 : Nat} {res : ((Unit ⊕ Nat) × St)} (hX : XK E) (hf : fX5_rule N E.2.2.2.1 σ x0 x1 = some res) : CX E l yX5_rule (ws_ yX5_rule cX5_rule 3 none) 11 247 [.ref x0, .ref x1] σ (sv (fun v => none) res.1) (sx res.1) res.2 := by
  refine CX.of hX.1 (by decide) rfl rfl (Nat.le_of_ble_eq_true rfl) ?_
  intro p e s m below meth c X XH I ls hl
  exact wX5_rule_0 hX ⟨Nat.le_refl _, Nat.le_refl _⟩ X XH N _ _ _ _ _ _ _ _ I hl hf
